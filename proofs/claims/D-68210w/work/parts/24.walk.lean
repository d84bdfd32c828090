set_option maxRecDepth 100000
theorem V.dX7_compile_0 : decode cX7_compile 0 = .ok (.aload_n 0, 1) := by decide +kernel
theorem V.dX7_compile_1 : decode cX7_compile 1 = .ok (.getfield 36, 3) := by decide +kernel
theorem V.dX7_compile_4 : decode cX7_compile 4 = .ok (.getfield 95, 3) := by decide +kernel
theorem V.dX7_compile_7 : decode cX7_compile 7 = .ok (.iload_n 1, 1) := by decide +kernel
theorem V.dX7_compile_8 : decode cX7_compile 8 = .ok (.invokevirtual 48, 3) := by decide +kernel
theorem V.dX7_compile_11 : decode cX7_compile 11 = .ok (.istore_n 2, 1) := by decide +kernel
theorem V.dX7_compile_12 : decode cX7_compile 12 = .ok (.iload_n 2, 1) := by decide +kernel
theorem V.dX7_compile_13 : decode cX7_compile 13 = .ok (.istore_n 3, 1) := by decide +kernel
theorem V.dX7_compile_14 : decode cX7_compile 14 = .ok (.aload_n 0, 1) := by decide +kernel
theorem V.dX7_compile_15 : decode cX7_compile 15 = .ok (.getfield 36, 3) := by decide +kernel
theorem V.dX7_compile_18 : decode cX7_compile 18 = .ok (.iload_n 3, 1) := by decide +kernel
theorem V.dX7_compile_19 : decode cX7_compile 19 = .ok (.invokevirtual 96, 3) := by decide +kernel
theorem V.dX7_compile_22 : decode cX7_compile 22 = .ok (.bipush 11, 2) := by decide +kernel
theorem V.dX7_compile_24 : decode cX7_compile 24 = .ok (.if_icmp .eq 9, 3) := by decide +kernel
theorem V.dX7_compile_27 : decode cX7_compile 27 = .ok (.iinc 3 1, 3) := by decide +kernel
theorem V.dX7_compile_30 : decode cX7_compile 30 = .ok (.goto (-16), 3) := by decide +kernel
theorem V.dX7_compile_33 : decode cX7_compile 33 = .ok (.aload_n 0, 1) := by decide +kernel
theorem V.dX7_compile_34 : decode cX7_compile 34 = .ok (.iload_n 3, 1) := by decide +kernel
theorem V.dX7_compile_35 : decode cX7_compile 35 = .ok (.iconst 1, 1) := by decide +kernel
theorem V.dX7_compile_36 : decode cX7_compile 36 = .ok (.iadd, 1) := by decide +kernel
theorem V.dX7_compile_37 : decode cX7_compile 37 = .ok (.invokevirtual 99, 3) := by decide +kernel
theorem V.dX7_compile_40 : decode cX7_compile 40 = .ok (.iload_n 2, 1) := by decide +kernel
theorem V.dX7_compile_41 : decode cX7_compile 41 = .ok (.istore 4, 2) := by decide +kernel
theorem V.dX7_compile_43 : decode cX7_compile 43 = .ok (.iload 4, 2) := by decide +kernel
theorem V.dX7_compile_45 : decode cX7_compile 45 = .ok (.iload_n 3, 1) := by decide +kernel
theorem V.dX7_compile_46 : decode cX7_compile 46 = .ok (.if_icmp .gt 17, 3) := by decide +kernel
theorem V.dX7_compile_49 : decode cX7_compile 49 = .ok (.aload_n 0, 1) := by decide +kernel
theorem V.dX7_compile_50 : decode cX7_compile 50 = .ok (.getfield 24, 3) := by decide +kernel
theorem V.dX7_compile_53 : decode cX7_compile 53 = .ok (.iload 4, 2) := by decide +kernel
theorem V.dX7_compile_55 : decode cX7_compile 55 = .ok (.iconst (-1), 1) := by decide +kernel
theorem V.dX7_compile_56 : decode cX7_compile 56 = .ok (.iastore, 1) := by decide +kernel
theorem V.dX7_compile_57 : decode cX7_compile 57 = .ok (.iinc 4 1, 3) := by decide +kernel
theorem V.dX7_compile_60 : decode cX7_compile 60 = .ok (.goto (-17), 3) := by decide +kernel
theorem V.dX7_compile_63 : decode cX7_compile 63 = .ok (.iload_n 2, 1) := by decide +kernel
theorem V.dX7_compile_64 : decode cX7_compile 64 = .ok (.istore 4, 2) := by decide +kernel
theorem V.dX7_compile_66 : decode cX7_compile 66 = .ok (.iload 4, 2) := by decide +kernel
theorem V.dX7_compile_68 : decode cX7_compile 68 = .ok (.iload_n 3, 1) := by decide +kernel
theorem V.dX7_compile_69 : decode cX7_compile 69 = .ok (.if_icmp .gt 56, 3) := by decide +kernel
theorem V.dX7_compile_72 : decode cX7_compile 72 = .ok (.aload_n 0, 1) := by decide +kernel
theorem V.dX7_compile_73 : decode cX7_compile 73 = .ok (.getfield 36, 3) := by decide +kernel
theorem V.dX7_compile_76 : decode cX7_compile 76 = .ok (.iload 4, 2) := by decide +kernel
theorem V.dX7_compile_78 : decode cX7_compile 78 = .ok (.invokevirtual 96, 3) := by decide +kernel
theorem V.dX7_compile_81 : decode cX7_compile 81 = .ok (.invokestatic 102, 3) := by decide +kernel
theorem V.dX7_compile_84 : decode cX7_compile 84 = .ok (.ifCond .eq 35, 3) := by decide +kernel
theorem V.dX7_compile_87 : decode cX7_compile 87 = .ok (.aload_n 0, 1) := by decide +kernel
theorem V.dX7_compile_88 : decode cX7_compile 88 = .ok (.getfield 36, 3) := by decide +kernel
theorem V.dX7_compile_91 : decode cX7_compile 91 = .ok (.iload 4, 2) := by decide +kernel
theorem V.dX7_compile_93 : decode cX7_compile 93 = .ok (.iconst 1, 1) := by decide +kernel
theorem V.dX7_compile_94 : decode cX7_compile 94 = .ok (.invokevirtual 106, 3) := by decide +kernel
theorem V.dX7_compile_97 : decode cX7_compile 97 = .ok (.iload 4, 2) := by decide +kernel
theorem V.dX7_compile_99 : decode cX7_compile 99 = .ok (.if_icmp .gt 20, 3) := by decide +kernel
theorem V.dX7_compile_102 : decode cX7_compile 102 = .ok (.aload_n 0, 1) := by decide +kernel
theorem V.dX7_compile_103 : decode cX7_compile 103 = .ok (.getfield 24, 3) := by decide +kernel
theorem V.dX7_compile_106 : decode cX7_compile 106 = .ok (.aload_n 0, 1) := by decide +kernel
theorem V.dX7_compile_107 : decode cX7_compile 107 = .ok (.getfield 36, 3) := by decide +kernel
theorem V.dX7_compile_110 : decode cX7_compile 110 = .ok (.iload 4, 2) := by decide +kernel
theorem V.dX7_compile_112 : decode cX7_compile 112 = .ok (.iconst 1, 1) := by decide +kernel
theorem V.dX7_compile_113 : decode cX7_compile 113 = .ok (.invokevirtual 106, 3) := by decide +kernel
theorem V.dX7_compile_116 : decode cX7_compile 116 = .ok (.bipush (-2), 2) := by decide +kernel
theorem V.dX7_compile_118 : decode cX7_compile 118 = .ok (.iastore, 1) := by decide +kernel
theorem V.dX7_compile_119 : decode cX7_compile 119 = .ok (.iinc 4 1, 3) := by decide +kernel
theorem V.dX7_compile_122 : decode cX7_compile 122 = .ok (.goto (-56), 3) := by decide +kernel
theorem V.dX7_compile_125 : decode cX7_compile 125 = .ok (.aload_n 0, 1) := by decide +kernel
theorem V.dX7_compile_126 : decode cX7_compile 126 = .ok (.getfield 52, 3) := by decide +kernel
theorem V.dX7_compile_129 : decode cX7_compile 129 = .ok (.istore 4, 2) := by decide +kernel
theorem V.dX7_compile_131 : decode cX7_compile 131 = .ok (.aload_n 0, 1) := by decide +kernel
theorem V.dX7_compile_132 : decode cX7_compile 132 = .ok (.aload_n 0, 1) := by decide +kernel
theorem V.dX7_compile_133 : decode cX7_compile 133 = .ok (.getfield 36, 3) := by decide +kernel
theorem V.dX7_compile_136 : decode cX7_compile 136 = .ok (.iload_n 1, 1) := by decide +kernel
theorem V.dX7_compile_137 : decode cX7_compile 137 = .ok (.invokevirtual 110, 3) := by decide +kernel
theorem V.dX7_compile_140 : decode cX7_compile 140 = .ok (.putfield 66, 3) := by decide +kernel
theorem V.dX7_compile_143 : decode cX7_compile 143 = .ok (.aload_n 0, 1) := by decide +kernel
theorem V.dX7_compile_144 : decode cX7_compile 144 = .ok (.iconst 0, 1) := by decide +kernel
theorem V.dX7_compile_145 : decode cX7_compile 145 = .ok (.putfield 72, 3) := by decide +kernel
theorem V.dX7_compile_148 : decode cX7_compile 148 = .ok (.aload_n 0, 1) := by decide +kernel
theorem V.dX7_compile_149 : decode cX7_compile 149 = .ok (.iconst 0, 1) := by decide +kernel
theorem V.dX7_compile_150 : decode cX7_compile 150 = .ok (.putfield 60, 3) := by decide +kernel
theorem V.dX7_compile_153 : decode cX7_compile 153 = .ok (.aload_n 0, 1) := by decide +kernel
theorem V.dX7_compile_154 : decode cX7_compile 154 = .ok (.iconst 1, 1) := by decide +kernel
theorem V.dX7_compile_155 : decode cX7_compile 155 = .ok (.putfield 113, 3) := by decide +kernel
theorem V.dX7_compile_158 : decode cX7_compile 158 = .ok (.iload_n 2, 1) := by decide +kernel
theorem V.dX7_compile_159 : decode cX7_compile 159 = .ok (.istore 5, 2) := by decide +kernel
theorem V.dX7_compile_161 : decode cX7_compile 161 = .ok (.iload 5, 2) := by decide +kernel
theorem V.dX7_compile_163 : decode cX7_compile 163 = .ok (.iload_n 3, 1) := by decide +kernel
theorem V.dX7_compile_164 : decode cX7_compile 164 = .ok (.if_icmp .gt 103, 3) := by decide +kernel
theorem V.dX7_compile_167 : decode cX7_compile 167 = .ok (.aload_n 0, 1) := by decide +kernel
theorem V.dX7_compile_168 : decode cX7_compile 168 = .ok (.getfield 56, 3) := by decide +kernel
theorem V.dX7_compile_171 : decode cX7_compile 171 = .ok (.ifCond .ne 96, 3) := by decide +kernel
theorem V.dX7_compile_174 : decode cX7_compile 174 = .ok (.aload_n 0, 1) := by decide +kernel
theorem V.dX7_compile_175 : decode cX7_compile 175 = .ok (.getfield 24, 3) := by decide +kernel
theorem V.dX7_compile_178 : decode cX7_compile 178 = .ok (.iload 5, 2) := by decide +kernel
theorem V.dX7_compile_180 : decode cX7_compile 180 = .ok (.iaload, 1) := by decide +kernel
theorem V.dX7_compile_181 : decode cX7_compile 181 = .ok (.ifCond .ge 22, 3) := by decide +kernel
theorem V.dX7_compile_184 : decode cX7_compile 184 = .ok (.aload_n 0, 1) := by decide +kernel
theorem V.dX7_compile_185 : decode cX7_compile 185 = .ok (.getfield 24, 3) := by decide +kernel
theorem V.dX7_compile_188 : decode cX7_compile 188 = .ok (.iload 5, 2) := by decide +kernel
theorem V.dX7_compile_190 : decode cX7_compile 190 = .ok (.iaload, 1) := by decide +kernel
theorem V.dX7_compile_191 : decode cX7_compile 191 = .ok (.bipush (-2), 2) := by decide +kernel
theorem V.dX7_compile_193 : decode cX7_compile 193 = .ok (.if_icmp .ne 38, 3) := by decide +kernel
theorem V.dX7_compile_196 : decode cX7_compile 196 = .ok (.aload_n 0, 1) := by decide +kernel
theorem V.dX7_compile_197 : decode cX7_compile 197 = .ok (.getfield 113, 3) := by decide +kernel
theorem V.dX7_compile_200 : decode cX7_compile 200 = .ok (.ifCond .eq 31, 3) := by decide +kernel
theorem V.dX7_compile_203 : decode cX7_compile 203 = .ok (.aload_n 0, 1) := by decide +kernel
theorem V.dX7_compile_204 : decode cX7_compile 204 = .ok (.aload_n 0, 1) := by decide +kernel
theorem V.dX7_compile_205 : decode cX7_compile 205 = .ok (.getfield 24, 3) := by decide +kernel
theorem V.dX7_compile_208 : decode cX7_compile 208 = .ok (.iload 5, 2) := by decide +kernel
theorem V.dX7_compile_210 : decode cX7_compile 210 = .ok (.iaload, 1) := by decide +kernel
theorem V.dX7_compile_211 : decode cX7_compile 211 = .ok (.ifCond .lt 13, 3) := by decide +kernel
theorem V.dX7_compile_214 : decode cX7_compile 214 = .ok (.aload_n 0, 1) := by decide +kernel
theorem V.dX7_compile_215 : decode cX7_compile 215 = .ok (.getfield 24, 3) := by decide +kernel
theorem V.dX7_compile_218 : decode cX7_compile 218 = .ok (.iload 5, 2) := by decide +kernel
theorem V.dX7_compile_220 : decode cX7_compile 220 = .ok (.iaload, 1) := by decide +kernel
theorem V.dX7_compile_221 : decode cX7_compile 221 = .ok (.goto 7, 3) := by decide +kernel
theorem V.dX7_compile_224 : decode cX7_compile 224 = .ok (.aload_n 0, 1) := by decide +kernel
theorem V.dX7_compile_225 : decode cX7_compile 225 = .ok (.getfield 72, 3) := by decide +kernel
theorem V.dX7_compile_228 : decode cX7_compile 228 = .ok (.invokevirtual 116, 3) := by decide +kernel
theorem V.dX7_compile_231 : decode cX7_compile 231 = .ok (.aload_n 0, 1) := by decide +kernel
theorem V.dX7_compile_232 : decode cX7_compile 232 = .ok (.getfield 27, 3) := by decide +kernel
theorem V.dX7_compile_235 : decode cX7_compile 235 = .ok (.iload 5, 2) := by decide +kernel
theorem V.dX7_compile_237 : decode cX7_compile 237 = .ok (.aload_n 0, 1) := by decide +kernel
theorem V.dX7_compile_238 : decode cX7_compile 238 = .ok (.getfield 52, 3) := by decide +kernel
theorem V.dX7_compile_241 : decode cX7_compile 241 = .ok (.iastore, 1) := by decide +kernel
theorem V.dX7_compile_242 : decode cX7_compile 242 = .ok (.aload_n 0, 1) := by decide +kernel
theorem V.dX7_compile_243 : decode cX7_compile 243 = .ok (.iload 5, 2) := by decide +kernel
theorem V.dX7_compile_245 : decode cX7_compile 245 = .ok (.putfield 119, 3) := by decide +kernel
theorem V.dX7_compile_248 : decode cX7_compile 248 = .ok (.aload_n 0, 1) := by decide +kernel
theorem V.dX7_compile_249 : decode cX7_compile 249 = .ok (.getfield 113, 3) := by decide +kernel
theorem V.dX7_compile_252 : decode cX7_compile 252 = .ok (.ifCond .eq 9, 3) := by decide +kernel
theorem V.dX7_compile_255 : decode cX7_compile 255 = .ok (.aload_n 0, 1) := by decide +kernel
theorem V.dX7_compile_256 : decode cX7_compile 256 = .ok (.iload 5, 2) := by decide +kernel
theorem V.dX7_compile_258 : decode cX7_compile 258 = .ok (.invokevirtual 122, 3) := by decide +kernel
theorem V.dX7_compile_261 : decode cX7_compile 261 = .ok (.iinc 5 1, 3) := by decide +kernel
theorem V.dX7_compile_264 : decode cX7_compile 264 = .ok (.goto (-103), 3) := by decide +kernel
theorem V.dX7_compile_267 : decode cX7_compile 267 = .ok (.iload 4, 2) := by decide +kernel
theorem V.dX7_compile_269 : decode cX7_compile 269 = .ok (.istore 5, 2) := by decide +kernel
theorem V.dX7_compile_271 : decode cX7_compile 271 = .ok (.iload 5, 2) := by decide +kernel
theorem V.dX7_compile_273 : decode cX7_compile 273 = .ok (.aload_n 0, 1) := by decide +kernel
theorem V.dX7_compile_274 : decode cX7_compile 274 = .ok (.getfield 52, 3) := by decide +kernel
theorem V.dX7_compile_277 : decode cX7_compile 277 = .ok (.if_icmp .ge 105, 3) := by decide +kernel
theorem V.dX7_compile_280 : decode cX7_compile 280 = .ok (.aload_n 0, 1) := by decide +kernel
theorem V.dX7_compile_281 : decode cX7_compile 281 = .ok (.getfield 56, 3) := by decide +kernel
theorem V.dX7_compile_284 : decode cX7_compile 284 = .ok (.ifCond .ne 98, 3) := by decide +kernel
theorem V.dX7_compile_287 : decode cX7_compile 287 = .ok (.aload_n 0, 1) := by decide +kernel
theorem V.dX7_compile_288 : decode cX7_compile 288 = .ok (.getfield 7, 3) := by decide +kernel
theorem V.dX7_compile_291 : decode cX7_compile 291 = .ok (.bipush 6, 2) := by decide +kernel
theorem V.dX7_compile_293 : decode cX7_compile 293 = .ok (.iload 5, 2) := by decide +kernel
theorem V.dX7_compile_295 : decode cX7_compile 295 = .ok (.imul, 1) := by decide +kernel
theorem V.dX7_compile_296 : decode cX7_compile 296 = .ok (.iaload, 1) := by decide +kernel
theorem V.dX7_compile_297 : decode cX7_compile 297 = .ok (.istore 6, 2) := by decide +kernel
theorem V.dX7_compile_299 : decode cX7_compile 299 = .ok (.iload 6, 2) := by decide +kernel
theorem V.dX7_compile_301 : decode cX7_compile 301 = .ok (.sipush 302, 3) := by decide +kernel
theorem V.dX7_compile_304 : decode cX7_compile 304 = .ok (.if_icmp .eq 11, 3) := by decide +kernel
theorem V.dX7_compile_307 : decode cX7_compile 307 = .ok (.iload 6, 2) := by decide +kernel
theorem V.dX7_compile_309 : decode cX7_compile 309 = .ok (.sipush 303, 3) := by decide +kernel
theorem V.dX7_compile_312 : decode cX7_compile 312 = .ok (.if_icmp .ne 64, 3) := by decide +kernel
theorem V.dX7_compile_315 : decode cX7_compile 315 = .ok (.aload_n 0, 1) := by decide +kernel
theorem V.dX7_compile_316 : decode cX7_compile 316 = .ok (.getfield 7, 3) := by decide +kernel
theorem V.dX7_compile_319 : decode cX7_compile 319 = .ok (.bipush 6, 2) := by decide +kernel
theorem V.dX7_compile_321 : decode cX7_compile 321 = .ok (.iload 5, 2) := by decide +kernel
theorem V.dX7_compile_323 : decode cX7_compile 323 = .ok (.imul, 1) := by decide +kernel
theorem V.dX7_compile_324 : decode cX7_compile 324 = .ok (.iconst 1, 1) := by decide +kernel
theorem V.dX7_compile_325 : decode cX7_compile 325 = .ok (.iadd, 1) := by decide +kernel
theorem V.dX7_compile_326 : decode cX7_compile 326 = .ok (.aload_n 0, 1) := by decide +kernel
theorem V.dX7_compile_327 : decode cX7_compile 327 = .ok (.getfield 7, 3) := by decide +kernel
theorem V.dX7_compile_330 : decode cX7_compile 330 = .ok (.bipush 6, 2) := by decide +kernel
theorem V.dX7_compile_332 : decode cX7_compile 332 = .ok (.iload 5, 2) := by decide +kernel
theorem V.dX7_compile_334 : decode cX7_compile 334 = .ok (.imul, 1) := by decide +kernel
theorem V.dX7_compile_335 : decode cX7_compile 335 = .ok (.iconst 1, 1) := by decide +kernel
theorem V.dX7_compile_336 : decode cX7_compile 336 = .ok (.iadd, 1) := by decide +kernel
theorem V.dX7_compile_337 : decode cX7_compile 337 = .ok (.iaload, 1) := by decide +kernel
theorem V.dX7_compile_338 : decode cX7_compile 338 = .ok (.ifCond .ge 20, 3) := by decide +kernel
theorem V.dX7_compile_341 : decode cX7_compile 341 = .ok (.iconst (-1), 1) := by decide +kernel
theorem V.dX7_compile_342 : decode cX7_compile 342 = .ok (.aload_n 0, 1) := by decide +kernel
theorem V.dX7_compile_343 : decode cX7_compile 343 = .ok (.getfield 7, 3) := by decide +kernel
theorem V.dX7_compile_346 : decode cX7_compile 346 = .ok (.bipush 6, 2) := by decide +kernel
theorem V.dX7_compile_348 : decode cX7_compile 348 = .ok (.iload 5, 2) := by decide +kernel
theorem V.dX7_compile_350 : decode cX7_compile 350 = .ok (.imul, 1) := by decide +kernel
theorem V.dX7_compile_351 : decode cX7_compile 351 = .ok (.iconst 1, 1) := by decide +kernel
theorem V.dX7_compile_352 : decode cX7_compile 352 = .ok (.iadd, 1) := by decide +kernel
theorem V.dX7_compile_353 : decode cX7_compile 353 = .ok (.iaload, 1) := by decide +kernel
theorem V.dX7_compile_354 : decode cX7_compile 354 = .ok (.isub, 1) := by decide +kernel
theorem V.dX7_compile_355 : decode cX7_compile 355 = .ok (.goto 20, 3) := by decide +kernel
theorem V.dX7_compile_358 : decode cX7_compile 358 = .ok (.aload_n 0, 1) := by decide +kernel
theorem V.dX7_compile_359 : decode cX7_compile 359 = .ok (.getfield 27, 3) := by decide +kernel
theorem V.dX7_compile_362 : decode cX7_compile 362 = .ok (.aload_n 0, 1) := by decide +kernel
theorem V.dX7_compile_363 : decode cX7_compile 363 = .ok (.getfield 7, 3) := by decide +kernel
theorem V.dX7_compile_366 : decode cX7_compile 366 = .ok (.bipush 6, 2) := by decide +kernel
theorem V.dX7_compile_368 : decode cX7_compile 368 = .ok (.iload 5, 2) := by decide +kernel
theorem V.dX7_compile_370 : decode cX7_compile 370 = .ok (.imul, 1) := by decide +kernel
theorem V.dX7_compile_371 : decode cX7_compile 371 = .ok (.iconst 1, 1) := by decide +kernel
theorem V.dX7_compile_372 : decode cX7_compile 372 = .ok (.iadd, 1) := by decide +kernel
theorem V.dX7_compile_373 : decode cX7_compile 373 = .ok (.iaload, 1) := by decide +kernel
theorem V.dX7_compile_374 : decode cX7_compile 374 = .ok (.iaload, 1) := by decide +kernel
theorem V.dX7_compile_375 : decode cX7_compile 375 = .ok (.iastore, 1) := by decide +kernel
theorem V.dX7_compile_376 : decode cX7_compile 376 = .ok (.iinc 5 1, 3) := by decide +kernel
theorem V.dX7_compile_379 : decode cX7_compile 379 = .ok (.goto (-108), 3) := by decide +kernel
theorem V.dX7_compile_382 : decode cX7_compile 382 = .ok (.return_, 1) := by decide +kernel
theorem V.fdX7_95 : FD RX7 95 6 3 2 := ⟨(RX6, TX6, 18), tyX6, rfl, rfl, in_X6, by decide, Or.inr ⟨_, q631⟩, rfl⟩
theorem V.mdX7_48 : MD RX7 48 yX3_at cX3_at 2 (some .int) 1 := ⟨Or.inl q2403, q363, q1411, by decide, by decide, by decide +kernel⟩
theorem V.mdX7_99 : MD RX7 99 yX7_room cX7_room 3 none 1 := ⟨Or.inl q2412, q367, q2415, by decide, by decide, by decide +kernel⟩
theorem V.mdX7_110 : MD RX7 110 yX6_localsOf cX6_localsOf 2 (some .int) 1 := ⟨Or.inl q2423, q366, q2392, by decide, by decide, by decide +kernel⟩
theorem V.fpX7_66 {nm : String} : FP RX7 nm 66 7 13 (.int) := ⟨(RX7, TX7, 17), tyX7, rfl, rfl, in_X7, by decide, tyX7_ok, nmX7, rfl, Or.inl ⟨rfl, Or.inl q706⟩⟩
theorem V.mdX7_102 : MD RX7 102 yX7_isBranch cX7_isBranch 1 (some .boolean) 1 := ⟨Or.inl q2416, q367, q2418, by decide, by decide, by decide +kernel⟩
theorem V.fdX7_27 : FD RX7 27 7 9 2 := ⟨(RX7, TX7, 17), tyX7, rfl, rfl, in_X7, by decide, Or.inl q702, rfl⟩
theorem V.fpX7_119 {nm : String} : FP RX7 nm 119 7 15 (.int) := ⟨(RX7, TX7, 17), tyX7, rfl, rfl, in_X7, by decide, tyX7_ok, nmX7, rfl, Or.inl ⟨rfl, Or.inl q708⟩⟩
theorem V.mdX7_122 : MD RX7 122 yX7_translate cX7_translate 9 none 1 := ⟨Or.inl q2448, q367, q2451, by decide, by decide, by decide +kernel⟩
theorem V.mdX7_116 : MD RX7 116 yX7_join cX7_join 3 none 1 := ⟨Or.inl q2424, q367, q2427, by decide, by decide, by decide +kernel⟩
/-! ModuleEngine$Registers.compile(I)V -/
def V.Reg_compile_p376 (rec271 : HS → Nat → Int32 → Option (Unit × HS)) (σ : HS) (x0 : Nat) (x5 : Int32) : Option (Unit × HS) :=
  bn (x5 + (1 : Int32)) fun y1 =>
  rec271 σ x0 y1
theorem V.gX7_compile_p376 {X : CX} (rec271 : HS → Nat → Int32 → Option (Unit × HS)) (hrec271 : ∀ (σ : HS) (x0 : Nat) (x5 : Int32), G X RX7 "compile" cX7_compile 7 none 10 274 enV 271 [(0, av x0), (5, iv x5)] [] σ (rec271 σ x0 x5)) (σ : HS) (x0 : Nat) (x5 : Int32) : G X RX7 "compile" cX7_compile 7 none 10 274 enV 376 [(0, av x0), (5, iv x5)] [] σ (Reg_compile_p376 rec271 σ x0 x5) := by
  unfold Reg_compile_p376
  refine g_iincB (w := 1) 1 dX7_compile_376 rfl (by decide) (by decide) (fun _ => rfl) (fun y1 => ?_)
  refine g_goto 271 dX7_compile_379 (by decide) ?_
  refine G.sub [1, 0] rfl ?_
  exact hrec271 _ _ _
def V.Reg_compile_p375 (rec271 : HS → Nat → Int32 → Option (Unit × HS)) (σ : HS) (x0 : Nat) (x5 : Int32) (s0 : Int32) (s1 : Int32) (s2 : Nat) : Option (Unit × HS) :=
  ck (tg σ s2 = 100 ∧ inb s1 (ln σ s2)) <| bn (sI σ s2 (ix s1) s0) fun σ1 =>
  Reg_compile_p376 rec271 σ1 x0 x5
theorem V.gX7_compile_p375 {X : CX} (rec271 : HS → Nat → Int32 → Option (Unit × HS)) (hrec271 : ∀ (σ : HS) (x0 : Nat) (x5 : Int32), G X RX7 "compile" cX7_compile 7 none 10 274 enV 271 [(0, av x0), (5, iv x5)] [] σ (rec271 σ x0 x5)) (σ : HS) (x0 : Nat) (x5 : Int32) (s0 : Int32) (s1 : Int32) (s2 : Nat) : G X RX7 "compile" cX7_compile 7 none 10 274 enV 375 [(0, av x0), (5, iv x5)] [iv s0, iv s1, av s2] σ (Reg_compile_p375 rec271 σ x0 x5 s0 s1 s2) := by
  unfold Reg_compile_p375
  refine g_iastore dX7_compile_375 (fun σ1 => ?_)
  exact gX7_compile_p376 rec271 hrec271 _ _ _
def V.Reg_compile_p315 (rec271 : HS → Nat → Int32 → Option (Unit × HS)) (σ : HS) (x0 : Nat) (x5 : Int32) : Option (Unit × HS) :=
  ck (tg σ x0 = 8) <|
  ck (tg σ x0 = 8) <|
  ck (tg σ (gR σ x0 2) = 100 ∧ inb (((6 : Int32) * x5) + (1 : Int32)) (ln σ (gR σ x0 2))) <|
  if 0 ≤ (gI σ (gR σ x0 2) (ix (((6 : Int32) * x5) + (1 : Int32)))) then (
    ck (tg σ x0 = 8) <|
    ck (tg σ x0 = 8) <|
    ck (tg σ (gR σ x0 2) = 100 ∧ inb (((6 : Int32) * x5) + (1 : Int32)) (ln σ (gR σ x0 2))) <|
    ck (tg σ (gR σ x0 9) = 100 ∧ inb (gI σ (gR σ x0 2) (ix (((6 : Int32) * x5) + (1 : Int32)))) (ln σ (gR σ x0 9))) <|
    Reg_compile_p375 rec271 σ x0 x5 (gI σ (gR σ x0 9) (ix (gI σ (gR σ x0 2) (ix (((6 : Int32) * x5) + (1 : Int32)))))) (((6 : Int32) * x5) + (1 : Int32)) (gR σ x0 2))
  else (
    ck (tg σ x0 = 8) <|
    ck (tg σ (gR σ x0 2) = 100 ∧ inb (((6 : Int32) * x5) + (1 : Int32)) (ln σ (gR σ x0 2))) <|
    Reg_compile_p375 rec271 σ x0 x5 ((-1 : Int32) - (gI σ (gR σ x0 2) (ix (((6 : Int32) * x5) + (1 : Int32))))) (((6 : Int32) * x5) + (1 : Int32)) (gR σ x0 2))
theorem V.gX7_compile_p315 {X : CX} (rec271 : HS → Nat → Int32 → Option (Unit × HS)) (hrec271 : ∀ (σ : HS) (x0 : Nat) (x5 : Int32), G X RX7 "compile" cX7_compile 7 none 10 274 enV 271 [(0, av x0), (5, iv x5)] [] σ (rec271 σ x0 x5)) (σ : HS) (x0 : Nat) (x5 : Int32) : G X RX7 "compile" cX7_compile 7 none 10 274 enV 315 [(0, av x0), (5, iv x5)] [] σ (Reg_compile_p315 rec271 σ x0 x5) := by
  unfold Reg_compile_p315
  refine g_aload_n 0 0 dX7_compile_315 rfl rfl ?_
  refine g_getR fdX7_7 dX7_compile_316 ?_
  refine g_bipush (v := 6) dX7_compile_319 (by decide) ?_
  refine g_iload 1 dX7_compile_321 rfl ?_
  refine g_imul dX7_compile_323 ?_
  refine g_iconst (v := 1) dX7_compile_324 (by decide) ?_
  refine g_iadd dX7_compile_325 ?_
  refine g_aload_n 0 0 dX7_compile_326 rfl rfl ?_
  refine g_getR fdX7_7 dX7_compile_327 ?_
  refine g_bipush (v := 6) dX7_compile_330 (by decide) ?_
  refine g_iload 1 dX7_compile_332 rfl ?_
  refine g_imul dX7_compile_334 ?_
  refine g_iconst (v := 1) dX7_compile_335 (by decide) ?_
  refine g_iadd dX7_compile_336 ?_
  refine g_iaload dX7_compile_337 ?_
  refine g_if_ge 358 dX7_compile_338 (by decide) ?_ ?_
  · refine g_aload_n 0 0 dX7_compile_358 rfl rfl ?_
    refine g_getR fdX7_27 dX7_compile_359 ?_
    refine g_aload_n 0 0 dX7_compile_362 rfl rfl ?_
    refine g_getR fdX7_7 dX7_compile_363 ?_
    refine g_bipush (v := 6) dX7_compile_366 (by decide) ?_
    refine g_iload 1 dX7_compile_368 rfl ?_
    refine g_imul dX7_compile_370 ?_
    refine g_iconst (v := 1) dX7_compile_371 (by decide) ?_
    refine g_iadd dX7_compile_372 ?_
    refine g_iaload dX7_compile_373 ?_
    refine g_iaload dX7_compile_374 ?_
    exact gX7_compile_p375 rec271 hrec271 _ _ _ _ _ _
  · refine g_iconst (v := (-1)) dX7_compile_341 (by decide) ?_
    refine g_aload_n 0 0 dX7_compile_342 rfl rfl ?_
    refine g_getR fdX7_7 dX7_compile_343 ?_
    refine g_bipush (v := 6) dX7_compile_346 (by decide) ?_
    refine g_iload 1 dX7_compile_348 rfl ?_
    refine g_imul dX7_compile_350 ?_
    refine g_iconst (v := 1) dX7_compile_351 (by decide) ?_
    refine g_iadd dX7_compile_352 ?_
    refine g_iaload dX7_compile_353 ?_
    refine g_isub dX7_compile_354 ?_
    refine g_goto 375 dX7_compile_355 (by decide) ?_
    exact gX7_compile_p375 rec271 hrec271 _ _ _ _ _ _
def V.Reg_compile_p271  : Nat → HS → Nat → Int32 → Option (Unit × HS)
  | 0, _, _, _ => none
  | n + 1, σ, x0, x5 =>
    ck (tg σ x0 = 8) <|
    if (gI σ x0 3) ≤ x5 then (
      some ((), σ))
    else (
      ck (tg σ x0 = 8) <|
      if (gI σ x0 7) = 0 then (
        ck (tg σ x0 = 8) <|
        ck (tg σ (gR σ x0 2) = 100 ∧ inb ((6 : Int32) * x5) (ln σ (gR σ x0 2))) <|
        bn (gI σ (gR σ x0 2) (ix ((6 : Int32) * x5))) fun y1 =>
        if y1 = (302 : Int32) then (
          Reg_compile_p315 (Reg_compile_p271 n) σ x0 x5)
        else (
          if y1 = (303 : Int32) then (
            Reg_compile_p315 (Reg_compile_p271 n) σ x0 x5)
          else (
            Reg_compile_p376 (Reg_compile_p271 n) σ x0 x5)))
      else (
        some ((), σ)))
theorem V.gX7_compile_p271 {X : CX}  : ∀ (n : Nat) (σ : HS) (x0 : Nat) (x5 : Int32), G X RX7 "compile" cX7_compile 7 none 10 274 enV 271 [(0, av x0), (5, iv x5)] [] σ (Reg_compile_p271 n σ x0 x5)
  | 0, σ, x0, x5 => by rw [Reg_compile_p271]; exact G.nul
  | n + 1, σ, x0, x5 => by
    rw [Reg_compile_p271]
    refine g_iload 1 dX7_compile_271 rfl ?_
    refine g_aload_n 0 0 dX7_compile_273 rfl rfl ?_
    refine g_getI fdX7_52 dX7_compile_274 ?_
    refine g_icmp_ge 382 dX7_compile_277 (by decide) ?_ ?_
    · exact g_return rfl dX7_compile_382
    · refine g_aload_n 0 0 dX7_compile_280 rfl rfl ?_
      refine g_getI fdX7_56 dX7_compile_281 ?_
      refine g_if_ne 382 dX7_compile_284 (by decide) ?_ ?_
      · exact g_return rfl dX7_compile_382
      · refine g_aload_n 0 0 dX7_compile_287 rfl rfl ?_
        refine g_getR fdX7_7 dX7_compile_288 ?_
        refine g_bipush (v := 6) dX7_compile_291 (by decide) ?_
        refine g_iload 1 dX7_compile_293 rfl ?_
        refine g_imul dX7_compile_295 ?_
        refine g_iaload dX7_compile_296 ?_
        refine g_nmI (fun y1 => ?_)
        refine g_istore dX7_compile_297 (by decide) rfl ?_
        refine g_iload 0 dX7_compile_299 rfl ?_
        refine g_sipush (v := 302) dX7_compile_301 (by decide) ?_
        refine g_icmp_eq 315 dX7_compile_304 (by decide) ?_ ?_
        · refine G.sub [1, 2] rfl ?_
          exact gX7_compile_p315 (Reg_compile_p271 n) (gX7_compile_p271 n) _ _ _
        · refine g_iload 0 dX7_compile_307 rfl ?_
          refine g_sipush (v := 303) dX7_compile_309 (by decide) ?_
          refine g_icmp_ne 376 dX7_compile_312 (by decide) ?_ ?_
          · refine G.sub [1, 2] rfl ?_
            exact gX7_compile_p376 (Reg_compile_p271 n) (gX7_compile_p271 n) _ _ _
          · refine G.sub [1, 2] rfl ?_
            exact gX7_compile_p315 (Reg_compile_p271 n) (gX7_compile_p271 n) _ _ _
def V.Reg_compile_p267  (σ : HS) (x0 : Nat) (x4 : Int32) : Option (Unit × HS) :=
  Reg_compile_p271 FU σ x0 x4
theorem V.gX7_compile_p267 {X : CX}  (σ : HS) (x0 : Nat) (x4 : Int32) : G X RX7 "compile" cX7_compile 7 none 10 274 enV 267 [(0, av x0), (4, iv x4)] [] σ (Reg_compile_p267 σ x0 x4) := by
  unfold Reg_compile_p267
  refine g_iload 1 dX7_compile_267 rfl ?_
  refine g_istore dX7_compile_269 (by decide) rfl ?_
  refine G.sub [1, 0] rfl ?_
  exact gX7_compile_p271 FU _ _ _
def V.Reg_compile_p261 (rec161 : HS → Nat → Int32 → Int32 → Int32 → Option (Unit × HS)) (σ : HS) (x0 : Nat) (x3 : Int32) (x4 : Int32) (x5 : Int32) : Option (Unit × HS) :=
  bn (x5 + (1 : Int32)) fun y1 =>
  rec161 σ x0 x3 x4 y1
theorem V.gX7_compile_p261 {X : CX} (rec161 : HS → Nat → Int32 → Int32 → Int32 → Option (Unit × HS)) (hrec161 : ∀ (σ : HS) (x0 : Nat) (x3 : Int32) (x4 : Int32) (x5 : Int32), G X RX7 "compile" cX7_compile 7 none 10 274 enV 161 [(0, av x0), (3, iv x3), (4, iv x4), (5, iv x5)] [] σ (rec161 σ x0 x3 x4 x5)) (σ : HS) (x0 : Nat) (x3 : Int32) (x4 : Int32) (x5 : Int32) : G X RX7 "compile" cX7_compile 7 none 10 274 enV 261 [(0, av x0), (3, iv x3), (4, iv x4), (5, iv x5)] [] σ (Reg_compile_p261 rec161 σ x0 x3 x4 x5) := by
  unfold Reg_compile_p261
  refine g_iincB (w := 1) 3 dX7_compile_261 rfl (by decide) (by decide) (fun _ => rfl) (fun y1 => ?_)
  refine g_goto 161 dX7_compile_264 (by decide) ?_
  refine G.sub [1, 2, 3, 0] rfl ?_
  exact hrec161 _ _ _ _ _
def V.Reg_compile_p231 (rec161 : HS → Nat → Int32 → Int32 → Int32 → Option (Unit × HS)) (σ : HS) (x0 : Nat) (x3 : Int32) (x4 : Int32) (x5 : Int32) : Option (Unit × HS) :=
  ck (tg σ x0 = 8) <|
  ck (tg σ x0 = 8) <|
  ck (tg σ (gR σ x0 9) = 100 ∧ inb x5 (ln σ (gR σ x0 9))) <| bn (sI σ (gR σ x0 9) (ix x5) (gI σ x0 3)) fun σ1 =>
  ck (tg σ1 x0 = 8) <| bn (sI σ1 x0 15 x5) fun σ2 =>
  ck (tg σ2 x0 = 8) <|
  if (gI σ2 x0 16) = 0 then (
    Reg_compile_p261 rec161 σ2 x0 x3 x4 x5)
  else (
    ck (tg σ2 x0 = 8) <| cl (Reg_translate σ2 x0 x5) fun _ σ3 =>
    Reg_compile_p261 rec161 σ3 x0 x3 x4 x5)
theorem V.gX7_compile_p231 {X : CX} (rec161 : HS → Nat → Int32 → Int32 → Int32 → Option (Unit × HS)) (hrec161 : ∀ (σ : HS) (x0 : Nat) (x3 : Int32) (x4 : Int32) (x5 : Int32), G X RX7 "compile" cX7_compile 7 none 10 274 enV 161 [(0, av x0), (3, iv x3), (4, iv x4), (5, iv x5)] [] σ (rec161 σ x0 x3 x4 x5)) (σ : HS) (x0 : Nat) (x3 : Int32) (x4 : Int32) (x5 : Int32) : G X RX7 "compile" cX7_compile 7 none 10 274 enV 231 [(0, av x0), (3, iv x3), (4, iv x4), (5, iv x5)] [] σ (Reg_compile_p231 rec161 σ x0 x3 x4 x5) := by
  unfold Reg_compile_p231
  refine g_aload_n 0 0 dX7_compile_231 rfl rfl ?_
  refine g_getR fdX7_27 dX7_compile_232 ?_
  refine g_iload 3 dX7_compile_235 rfl ?_
  refine g_aload_n 0 0 dX7_compile_237 rfl rfl ?_
  refine g_getI fdX7_52 dX7_compile_238 ?_
  refine g_iastore dX7_compile_241 (fun σ1 => ?_)
  refine g_aload_n 0 0 dX7_compile_242 rfl rfl ?_
  refine g_iload 3 dX7_compile_243 rfl ?_
  refine g_putI fpX7_119 dX7_compile_245 (fun σ2 => ?_)
  refine g_aload_n 0 0 dX7_compile_248 rfl rfl ?_
  refine g_getI fdX7_113 dX7_compile_249 ?_
  refine g_if_eq 261 dX7_compile_252 (by decide) ?_ ?_
  · exact gX7_compile_p261 rec161 hrec161 _ _ _ _ _
  · refine g_aload_n 0 0 dX7_compile_255 rfl rfl ?_
    refine g_iload 3 dX7_compile_256 rfl ?_
    refine g_callV (fc := fun sς => Reg_translate sς x0 x5) (ci := 7) (as := [iv x5]) rfl rfl rfl q2450 qs151 mdX7_122 (ctX7_translate x0 x5) rfl (Nat.le_of_ble_eq_true rfl) (Nat.le_of_ble_eq_true rfl) (Nat.le_of_ble_eq_true rfl) pu_V dX7_compile_258 (fun _ σ3 => ?_)
    exact gX7_compile_p261 rec161 hrec161 _ _ _ _ _
def V.Reg_compile_p228 (rec161 : HS → Nat → Int32 → Int32 → Int32 → Option (Unit × HS)) (σ : HS) (x0 : Nat) (x3 : Int32) (x4 : Int32) (x5 : Int32) (s0 : Int32) (s1 : Nat) : Option (Unit × HS) :=
  ck (tg σ s1 = 8) <| cl (Reg_join σ s1 s0) fun _ σ1 =>
  Reg_compile_p231 rec161 σ1 x0 x3 x4 x5
theorem V.gX7_compile_p228 {X : CX} (rec161 : HS → Nat → Int32 → Int32 → Int32 → Option (Unit × HS)) (hrec161 : ∀ (σ : HS) (x0 : Nat) (x3 : Int32) (x4 : Int32) (x5 : Int32), G X RX7 "compile" cX7_compile 7 none 10 274 enV 161 [(0, av x0), (3, iv x3), (4, iv x4), (5, iv x5)] [] σ (rec161 σ x0 x3 x4 x5)) (σ : HS) (x0 : Nat) (x3 : Int32) (x4 : Int32) (x5 : Int32) (s0 : Int32) (s1 : Nat) : G X RX7 "compile" cX7_compile 7 none 10 274 enV 228 [(0, av x0), (3, iv x3), (4, iv x4), (5, iv x5)] [iv s0, av s1] σ (Reg_compile_p228 rec161 σ x0 x3 x4 x5 s0 s1) := by
  unfold Reg_compile_p228
  refine g_callV (fc := fun sς => Reg_join sς s1 s0) (ci := 7) (as := [iv s0]) rfl rfl rfl q2426 qs145 mdX7_116 (ctX7_join s1 s0) rfl (Nat.le_of_ble_eq_true rfl) (Nat.le_of_ble_eq_true rfl) (Nat.le_of_ble_eq_true rfl) pu_V dX7_compile_228 (fun _ σ1 => ?_)
  exact gX7_compile_p231 rec161 hrec161 _ _ _ _ _
def V.Reg_compile_p203 (rec161 : HS → Nat → Int32 → Int32 → Int32 → Option (Unit × HS)) (σ : HS) (x0 : Nat) (x3 : Int32) (x4 : Int32) (x5 : Int32) : Option (Unit × HS) :=
  ck (tg σ x0 = 8) <|
  ck (tg σ (gR σ x0 8) = 100 ∧ inb x5 (ln σ (gR σ x0 8))) <|
  if (gI σ (gR σ x0 8) (ix x5)) < 0 then (
    ck (tg σ x0 = 8) <|
    Reg_compile_p228 rec161 σ x0 x3 x4 x5 (gI σ x0 12) x0)
  else (
    ck (tg σ x0 = 8) <|
    ck (tg σ (gR σ x0 8) = 100 ∧ inb x5 (ln σ (gR σ x0 8))) <|
    Reg_compile_p228 rec161 σ x0 x3 x4 x5 (gI σ (gR σ x0 8) (ix x5)) x0)
theorem V.gX7_compile_p203 {X : CX} (rec161 : HS → Nat → Int32 → Int32 → Int32 → Option (Unit × HS)) (hrec161 : ∀ (σ : HS) (x0 : Nat) (x3 : Int32) (x4 : Int32) (x5 : Int32), G X RX7 "compile" cX7_compile 7 none 10 274 enV 161 [(0, av x0), (3, iv x3), (4, iv x4), (5, iv x5)] [] σ (rec161 σ x0 x3 x4 x5)) (σ : HS) (x0 : Nat) (x3 : Int32) (x4 : Int32) (x5 : Int32) : G X RX7 "compile" cX7_compile 7 none 10 274 enV 203 [(0, av x0), (3, iv x3), (4, iv x4), (5, iv x5)] [] σ (Reg_compile_p203 rec161 σ x0 x3 x4 x5) := by
  unfold Reg_compile_p203
  refine g_aload_n 0 0 dX7_compile_203 rfl rfl ?_
  refine g_aload_n 0 0 dX7_compile_204 rfl rfl ?_
  refine g_getR fdX7_24 dX7_compile_205 ?_
  refine g_iload 3 dX7_compile_208 rfl ?_
  refine g_iaload dX7_compile_210 ?_
  refine g_if_lt 224 dX7_compile_211 (by decide) ?_ ?_
  · refine g_aload_n 0 0 dX7_compile_224 rfl rfl ?_
    refine g_getI fdX7_72 dX7_compile_225 ?_
    exact gX7_compile_p228 rec161 hrec161 _ _ _ _ _ _ _
  · refine g_aload_n 0 0 dX7_compile_214 rfl rfl ?_
    refine g_getR fdX7_24 dX7_compile_215 ?_
    refine g_iload 3 dX7_compile_218 rfl ?_
    refine g_iaload dX7_compile_220 ?_
    refine g_goto 228 dX7_compile_221 (by decide) ?_
    exact gX7_compile_p228 rec161 hrec161 _ _ _ _ _ _ _
def V.Reg_compile_p161  : Nat → HS → Nat → Int32 → Int32 → Int32 → Option (Unit × HS)
  | 0, _, _, _, _, _ => none
  | n + 1, σ, x0, x3, x4, x5 =>
    if x3 < x5 then (
      Reg_compile_p267 σ x0 x4)
    else (
      ck (tg σ x0 = 8) <|
      if (gI σ x0 7) = 0 then (
        ck (tg σ x0 = 8) <|
        ck (tg σ (gR σ x0 8) = 100 ∧ inb x5 (ln σ (gR σ x0 8))) <|
        if 0 ≤ (gI σ (gR σ x0 8) (ix x5)) then (
          Reg_compile_p203 (Reg_compile_p161 n) σ x0 x3 x4 x5)
        else (
          ck (tg σ x0 = 8) <|
          ck (tg σ (gR σ x0 8) = 100 ∧ inb x5 (ln σ (gR σ x0 8))) <|
          if (gI σ (gR σ x0 8) (ix x5)) = (-2 : Int32) then (
            ck (tg σ x0 = 8) <|
            if (gI σ x0 16) = 0 then (
              Reg_compile_p231 (Reg_compile_p161 n) σ x0 x3 x4 x5)
            else (
              Reg_compile_p203 (Reg_compile_p161 n) σ x0 x3 x4 x5))
          else (
            Reg_compile_p231 (Reg_compile_p161 n) σ x0 x3 x4 x5)))
      else (
        Reg_compile_p267 σ x0 x4))
theorem V.gX7_compile_p161 {X : CX}  : ∀ (n : Nat) (σ : HS) (x0 : Nat) (x3 : Int32) (x4 : Int32) (x5 : Int32), G X RX7 "compile" cX7_compile 7 none 10 274 enV 161 [(0, av x0), (3, iv x3), (4, iv x4), (5, iv x5)] [] σ (Reg_compile_p161 n σ x0 x3 x4 x5)
  | 0, σ, x0, x3, x4, x5 => by rw [Reg_compile_p161]; exact G.nul
  | n + 1, σ, x0, x3, x4, x5 => by
    rw [Reg_compile_p161]
    refine g_iload 3 dX7_compile_161 rfl ?_
    refine g_iload_n 3 1 dX7_compile_163 rfl rfl ?_
    refine g_icmp_gt 267 dX7_compile_164 (by decide) ?_ ?_
    · refine G.sub [0, 2] rfl ?_
      exact gX7_compile_p267 _ _ _
    · refine g_aload_n 0 0 dX7_compile_167 rfl rfl ?_
      refine g_getI fdX7_56 dX7_compile_168 ?_
      refine g_if_ne 267 dX7_compile_171 (by decide) ?_ ?_
      · refine G.sub [0, 2] rfl ?_
        exact gX7_compile_p267 _ _ _
      · refine g_aload_n 0 0 dX7_compile_174 rfl rfl ?_
        refine g_getR fdX7_24 dX7_compile_175 ?_
        refine g_iload 3 dX7_compile_178 rfl ?_
        refine g_iaload dX7_compile_180 ?_
        refine g_if_ge 203 dX7_compile_181 (by decide) ?_ ?_
        · exact gX7_compile_p203 (Reg_compile_p161 n) (gX7_compile_p161 n) _ _ _ _ _
        · refine g_aload_n 0 0 dX7_compile_184 rfl rfl ?_
          refine g_getR fdX7_24 dX7_compile_185 ?_
          refine g_iload 3 dX7_compile_188 rfl ?_
          refine g_iaload dX7_compile_190 ?_
          refine g_bipush (v := (-2)) dX7_compile_191 (by decide) ?_
          refine g_icmp_ne 231 dX7_compile_193 (by decide) ?_ ?_
          · exact gX7_compile_p231 (Reg_compile_p161 n) (gX7_compile_p161 n) _ _ _ _ _
          · refine g_aload_n 0 0 dX7_compile_196 rfl rfl ?_
            refine g_getI fdX7_113 dX7_compile_197 ?_
            refine g_if_eq 231 dX7_compile_200 (by decide) ?_ ?_
            · exact gX7_compile_p231 (Reg_compile_p161 n) (gX7_compile_p161 n) _ _ _ _ _
            · exact gX7_compile_p203 (Reg_compile_p161 n) (gX7_compile_p161 n) _ _ _ _ _
def V.Reg_compile_p119 (rec66 : HS → Nat → Int32 → Int32 → Int32 → Int32 → Option (Unit × HS)) (σ : HS) (x0 : Nat) (x1 : Int32) (x2 : Int32) (x3 : Int32) (x4 : Int32) : Option (Unit × HS) :=
  bn (x4 + (1 : Int32)) fun y1 =>
  rec66 σ x0 x1 x2 x3 y1
theorem V.gX7_compile_p119 {X : CX} (rec66 : HS → Nat → Int32 → Int32 → Int32 → Int32 → Option (Unit × HS)) (hrec66 : ∀ (σ : HS) (x0 : Nat) (x1 : Int32) (x2 : Int32) (x3 : Int32) (x4 : Int32), G X RX7 "compile" cX7_compile 7 none 10 274 enV 66 [(0, av x0), (1, iv x1), (2, iv x2), (3, iv x3), (4, iv x4)] [] σ (rec66 σ x0 x1 x2 x3 x4)) (σ : HS) (x0 : Nat) (x1 : Int32) (x2 : Int32) (x3 : Int32) (x4 : Int32) : G X RX7 "compile" cX7_compile 7 none 10 274 enV 119 [(0, av x0), (1, iv x1), (2, iv x2), (3, iv x3), (4, iv x4)] [] σ (Reg_compile_p119 rec66 σ x0 x1 x2 x3 x4) := by
  unfold Reg_compile_p119
  refine g_iincB (w := 1) 4 dX7_compile_119 rfl (by decide) (by decide) (fun _ => rfl) (fun y1 => ?_)
  refine g_goto 66 dX7_compile_122 (by decide) ?_
  refine G.sub [1, 2, 3, 4, 0] rfl ?_
  exact hrec66 _ _ _ _ _ _
def V.Reg_compile_p66  : Nat → HS → Nat → Int32 → Int32 → Int32 → Int32 → Option (Unit × HS)
  | 0, _, _, _, _, _, _ => none
  | n + 1, σ, x0, x1, x2, x3, x4 =>
    if x3 < x4 then (
      ck (tg σ x0 = 8) <|
      bn (gI σ x0 3) fun y1 =>
      ck (tg σ x0 = 8) <|
      ck (tg σ (gR σ x0 0) = 7) <| cl (Flt_localsOf σ (gR σ x0 0) x1) fun r3 σ2 =>
      ck (tg σ2 x0 = 8) <| bn (sI σ2 x0 13 r3) fun σ4 =>
      ck (tg σ4 x0 = 8) <| bn (sI σ4 x0 12 (0 : Int32)) fun σ5 =>
      ck (tg σ5 x0 = 8) <| bn (sI σ5 x0 14 (0 : Int32)) fun σ6 =>
      ck (tg σ6 x0 = 8) <| bn (sI σ6 x0 16 (1 : Int32)) fun σ7 =>
      Reg_compile_p161 FU σ7 x0 x3 y1 x2)
    else (
      ck (tg σ x0 = 8) <|
      ck (tg σ (gR σ x0 0) = 7) <| cl (Flt_opAt σ (gR σ x0 0) x4) fun r9 σ8 =>
      cl (Reg_isBranch σ8 r9) fun r11 σ10 =>
      if r11 = 0 then (
        Reg_compile_p119 (Reg_compile_p66 n) σ10 x0 x1 x2 x3 x4)
      else (
        ck (tg σ10 x0 = 8) <|
        ck (tg σ10 (gR σ10 x0 0) = 7) <| cl (Flt_fieldAt σ10 (gR σ10 x0 0) x4 (1 : Int32)) fun r13 σ12 =>
        if x4 < r13 then (
          Reg_compile_p119 (Reg_compile_p66 n) σ12 x0 x1 x2 x3 x4)
        else (
          ck (tg σ12 x0 = 8) <|
          ck (tg σ12 x0 = 8) <|
          ck (tg σ12 (gR σ12 x0 0) = 7) <| cl (Flt_fieldAt σ12 (gR σ12 x0 0) x4 (1 : Int32)) fun r15 σ14 =>
          ck (tg σ14 (gR σ12 x0 8) = 100 ∧ inb r15 (ln σ14 (gR σ12 x0 8))) <| bn (sI σ14 (gR σ12 x0 8) (ix r15) (-2 : Int32)) fun σ16 =>
          Reg_compile_p119 (Reg_compile_p66 n) σ16 x0 x1 x2 x3 x4)))
theorem V.gX7_compile_p66 {X : CX}  : ∀ (n : Nat) (σ : HS) (x0 : Nat) (x1 : Int32) (x2 : Int32) (x3 : Int32) (x4 : Int32), G X RX7 "compile" cX7_compile 7 none 10 274 enV 66 [(0, av x0), (1, iv x1), (2, iv x2), (3, iv x3), (4, iv x4)] [] σ (Reg_compile_p66 n σ x0 x1 x2 x3 x4)
  | 0, σ, x0, x1, x2, x3, x4 => by rw [Reg_compile_p66]; exact G.nul
  | n + 1, σ, x0, x1, x2, x3, x4 => by
    rw [Reg_compile_p66]
    refine g_iload 4 dX7_compile_66 rfl ?_
    refine g_iload_n 3 3 dX7_compile_68 rfl rfl ?_
    refine g_icmp_gt 125 dX7_compile_69 (by decide) ?_ ?_
    · refine g_aload_n 0 0 dX7_compile_125 rfl rfl ?_
      refine g_getI fdX7_52 dX7_compile_126 ?_
      refine g_nmI (fun y1 => ?_)
      refine g_istore dX7_compile_129 (by decide) rfl ?_
      refine g_aload_n 0 1 dX7_compile_131 rfl rfl ?_
      refine g_aload_n 0 1 dX7_compile_132 rfl rfl ?_
      refine g_getR fdX7_36 dX7_compile_133 ?_
      refine g_iload_n 1 2 dX7_compile_136 rfl rfl ?_
      refine g_callV (fc := fun sς => Flt_localsOf sς (gR σ x0 0) x1) (ci := 6) (as := [iv x1]) rfl rfl rfl q2390 q2391 mdX7_110 (ctX6_localsOf (gR σ x0 0) x1) rfl (Nat.le_of_ble_eq_true rfl) (Nat.le_of_ble_eq_true rfl) (Nat.le_of_ble_eq_true rfl) pu_I dX7_compile_137 (fun r3 σ2 => ?_)
      refine g_putI fpX7_66 dX7_compile_140 (fun σ4 => ?_)
      refine g_aload_n 0 1 dX7_compile_143 rfl rfl ?_
      refine g_iconst (v := 0) dX7_compile_144 (by decide) ?_
      refine g_putI fpX7_72 dX7_compile_145 (fun σ5 => ?_)
      refine g_aload_n 0 1 dX7_compile_148 rfl rfl ?_
      refine g_iconst (v := 0) dX7_compile_149 (by decide) ?_
      refine g_putI fpX7_60 dX7_compile_150 (fun σ6 => ?_)
      refine g_aload_n 0 1 dX7_compile_153 rfl rfl ?_
      refine g_iconst (v := 1) dX7_compile_154 (by decide) ?_
      refine g_putZ fpX7_113 ⟨by decide +kernel, by decide +kernel⟩ dX7_compile_155 (fun σ7 => ?_)
      refine g_iload_n 2 3 dX7_compile_158 rfl rfl ?_
      refine g_istore dX7_compile_159 (by decide) rfl ?_
      refine G.sub [2, 5, 1, 0] rfl ?_
      exact gX7_compile_p161 FU _ _ _ _ _
    · refine g_aload_n 0 0 dX7_compile_72 rfl rfl ?_
      refine g_getR fdX7_36 dX7_compile_73 ?_
      refine g_iload 4 dX7_compile_76 rfl ?_
      refine g_callV (fc := fun sς => Flt_opAt sς (gR σ x0 0) x4) (ci := 6) (as := [iv x4]) rfl rfl rfl q2409 q2410 mdX7_96 (ctX6_opAt (gR σ x0 0) x4) rfl (Nat.le_of_ble_eq_true rfl) (Nat.le_of_ble_eq_true rfl) (Nat.le_of_ble_eq_true rfl) pu_I dX7_compile_78 (fun r9 σ8 => ?_)
      refine g_callS (fc := fun sς => Reg_isBranch sς r9) (as := [iv r9]) q2417 mdX7_102 (ctX7_isBranch r9) rfl (Nat.le_of_ble_eq_true rfl) (Nat.le_of_ble_eq_true rfl) (Nat.le_of_ble_eq_true rfl) pu_I dX7_compile_81 (fun r11 σ10 => ?_)
      refine g_if_eq 119 dX7_compile_84 (by decide) ?_ ?_
      · exact gX7_compile_p119 (Reg_compile_p66 n) (gX7_compile_p66 n) _ _ _ _ _ _
      · refine g_aload_n 0 0 dX7_compile_87 rfl rfl ?_
        refine g_getR fdX7_36 dX7_compile_88 ?_
        refine g_iload 4 dX7_compile_91 rfl ?_
        refine g_iconst (v := 1) dX7_compile_93 (by decide) ?_
        refine g_callV (fc := fun sς => Flt_fieldAt sς (gR σ10 x0 0) x4 (1 : Int32)) (ci := 6) (as := [iv x4, iv (1 : Int32)]) rfl rfl rfl q2420 q2421 mdX7_106 (ctX6_fieldAt (gR σ10 x0 0) x4 (1 : Int32)) rfl (Nat.le_of_ble_eq_true rfl) (Nat.le_of_ble_eq_true rfl) (Nat.le_of_ble_eq_true rfl) pu_I dX7_compile_94 (fun r13 σ12 => ?_)
        refine g_iload 4 dX7_compile_97 rfl ?_
        refine g_icmp_gt 119 dX7_compile_99 (by decide) ?_ ?_
        · exact gX7_compile_p119 (Reg_compile_p66 n) (gX7_compile_p66 n) _ _ _ _ _ _
        · refine g_aload_n 0 0 dX7_compile_102 rfl rfl ?_
          refine g_getR fdX7_24 dX7_compile_103 ?_
          refine g_aload_n 0 0 dX7_compile_106 rfl rfl ?_
          refine g_getR fdX7_36 dX7_compile_107 ?_
          refine g_iload 4 dX7_compile_110 rfl ?_
          refine g_iconst (v := 1) dX7_compile_112 (by decide) ?_
          refine g_callV (fc := fun sς => Flt_fieldAt sς (gR σ12 x0 0) x4 (1 : Int32)) (ci := 6) (as := [iv x4, iv (1 : Int32)]) rfl rfl rfl q2420 q2421 mdX7_106 (ctX6_fieldAt (gR σ12 x0 0) x4 (1 : Int32)) rfl (Nat.le_of_ble_eq_true rfl) (Nat.le_of_ble_eq_true rfl) (Nat.le_of_ble_eq_true rfl) pu_I dX7_compile_113 (fun r15 σ14 => ?_)
          refine g_bipush (v := (-2)) dX7_compile_116 (by decide) ?_
          refine g_iastore dX7_compile_118 (fun σ16 => ?_)
          exact gX7_compile_p119 (Reg_compile_p66 n) (gX7_compile_p66 n) _ _ _ _ _ _
def V.Reg_compile_p43  : Nat → HS → Nat → Int32 → Int32 → Int32 → Int32 → Option (Unit × HS)
  | 0, _, _, _, _, _, _ => none
  | n + 1, σ, x0, x1, x2, x3, x4 =>
    if x3 < x4 then (
      Reg_compile_p66 FU σ x0 x1 x2 x3 x2)
    else (
      ck (tg σ x0 = 8) <|
      ck (tg σ (gR σ x0 8) = 100 ∧ inb x4 (ln σ (gR σ x0 8))) <| bn (sI σ (gR σ x0 8) (ix x4) (-1 : Int32)) fun σ1 =>
      bn (x4 + (1 : Int32)) fun y2 =>
      Reg_compile_p43 n σ1 x0 x1 x2 x3 y2)
theorem V.gX7_compile_p43 {X : CX}  : ∀ (n : Nat) (σ : HS) (x0 : Nat) (x1 : Int32) (x2 : Int32) (x3 : Int32) (x4 : Int32), G X RX7 "compile" cX7_compile 7 none 10 274 enV 43 [(0, av x0), (1, iv x1), (2, iv x2), (3, iv x3), (4, iv x4)] [] σ (Reg_compile_p43 n σ x0 x1 x2 x3 x4)
  | 0, σ, x0, x1, x2, x3, x4 => by rw [Reg_compile_p43]; exact G.nul
  | n + 1, σ, x0, x1, x2, x3, x4 => by
    rw [Reg_compile_p43]
    refine g_iload 4 dX7_compile_43 rfl ?_
    refine g_iload_n 3 3 dX7_compile_45 rfl rfl ?_
    refine g_icmp_gt 63 dX7_compile_46 (by decide) ?_ ?_
    · refine g_iload_n 2 2 dX7_compile_63 rfl rfl ?_
      refine g_istore dX7_compile_64 (by decide) rfl ?_
      refine G.sub [1, 2, 3, 4, 0] rfl ?_
      exact gX7_compile_p66 FU _ _ _ _ _ _
    · refine g_aload_n 0 0 dX7_compile_49 rfl rfl ?_
      refine g_getR fdX7_24 dX7_compile_50 ?_
      refine g_iload 4 dX7_compile_53 rfl ?_
      refine g_iconst (v := (-1)) dX7_compile_55 (by decide) ?_
      refine g_iastore dX7_compile_56 (fun σ1 => ?_)
      refine g_iincB (w := 1) 4 dX7_compile_57 rfl (by decide) (by decide) (fun _ => rfl) (fun y2 => ?_)
      refine g_goto 43 dX7_compile_60 (by decide) ?_
      refine G.sub [1, 2, 3, 4, 0] rfl ?_
      exact gX7_compile_p43 n _ _ _ _ _ _
def V.Reg_compile_p14  : Nat → HS → Nat → Int32 → Int32 → Int32 → Option (Unit × HS)
  | 0, _, _, _, _, _ => none
  | n + 1, σ, x0, x1, x2, x3 =>
    ck (tg σ x0 = 8) <|
    ck (tg σ (gR σ x0 0) = 7) <| cl (Flt_opAt σ (gR σ x0 0) x3) fun r2 σ1 =>
    if r2 = (11 : Int32) then (
      ck (tg σ1 x0 = 8) <| cl (Reg_room σ1 x0 (x3 + (1 : Int32))) fun _ σ3 =>
      Reg_compile_p43 FU σ3 x0 x1 x2 x3 x2)
    else (
      bn (x3 + (1 : Int32)) fun y4 =>
      Reg_compile_p14 n σ1 x0 x1 x2 y4)
theorem V.gX7_compile_p14 {X : CX}  : ∀ (n : Nat) (σ : HS) (x0 : Nat) (x1 : Int32) (x2 : Int32) (x3 : Int32), G X RX7 "compile" cX7_compile 7 none 10 274 enV 14 [(0, av x0), (1, iv x1), (2, iv x2), (3, iv x3)] [] σ (Reg_compile_p14 n σ x0 x1 x2 x3)
  | 0, σ, x0, x1, x2, x3 => by rw [Reg_compile_p14]; exact G.nul
  | n + 1, σ, x0, x1, x2, x3 => by
    rw [Reg_compile_p14]
    refine g_aload_n 0 0 dX7_compile_14 rfl rfl ?_
    refine g_getR fdX7_36 dX7_compile_15 ?_
    refine g_iload_n 3 3 dX7_compile_18 rfl rfl ?_
    refine g_callV (fc := fun sς => Flt_opAt sς (gR σ x0 0) x3) (ci := 6) (as := [iv x3]) rfl rfl rfl q2409 q2410 mdX7_96 (ctX6_opAt (gR σ x0 0) x3) rfl (Nat.le_of_ble_eq_true rfl) (Nat.le_of_ble_eq_true rfl) (Nat.le_of_ble_eq_true rfl) pu_I dX7_compile_19 (fun r2 σ1 => ?_)
    refine g_bipush (v := 11) dX7_compile_22 (by decide) ?_
    refine g_icmp_eq 33 dX7_compile_24 (by decide) ?_ ?_
    · refine g_aload_n 0 0 dX7_compile_33 rfl rfl ?_
      refine g_iload_n 3 3 dX7_compile_34 rfl rfl ?_
      refine g_iconst (v := 1) dX7_compile_35 (by decide) ?_
      refine g_iadd dX7_compile_36 ?_
      refine g_callV (fc := fun sς => Reg_room sς x0 (x3 + (1 : Int32))) (ci := 7) (as := [iv (x3 + (1 : Int32))]) rfl rfl rfl q2414 qs144 mdX7_99 (ctX7_room x0 (x3 + (1 : Int32))) rfl (Nat.le_of_ble_eq_true rfl) (Nat.le_of_ble_eq_true rfl) (Nat.le_of_ble_eq_true rfl) pu_V dX7_compile_37 (fun _ σ3 => ?_)
      refine g_iload_n 2 2 dX7_compile_40 rfl rfl ?_
      refine g_istore dX7_compile_41 (by decide) rfl ?_
      refine G.sub [1, 2, 3, 4, 0] rfl ?_
      exact gX7_compile_p43 FU _ _ _ _ _ _
    · refine g_iincB (w := 1) 3 dX7_compile_27 rfl (by decide) (by decide) (fun _ => rfl) (fun y4 => ?_)
      refine g_goto 14 dX7_compile_30 (by decide) ?_
      refine G.sub [1, 2, 3, 0] rfl ?_
      exact gX7_compile_p14 n _ _ _ _ _
def V.Reg_compile (σ : HS) (x0 : Nat) (x1 : Int32) : Option (Unit × HS) :=
  ck (tg σ x0 = 8) <|
  ck (tg σ (gR σ x0 0) = 7) <|
  ck (tg σ (gR σ (gR σ x0 0) 3) = 4) <| cl (Row_at σ (gR σ (gR σ x0 0) 3) x1) fun r2 σ1 =>
  Reg_compile_p14 FU σ1 x0 x1 r2 r2
theorem V.ctX7_compile (x0 : Nat) (x1 : Int32) : Ct yX7_compile  cX7_compile 7 none 10 274 eV [av x0, iv x1] (fun σ => Reg_compile σ x0 x1) := by
  refine Ct.of (own := RX7) (nm := "compile") (desc := "(I)V") rfl (by decide) (Nat.le_of_ble_eq_true rfl) (by decide) (fun X σ => ?_)
  show G X RX7 "compile" cX7_compile 7 none 10 274 enV 0 [(0, av x0), (1, iv x1)] [] σ (Reg_compile σ x0 x1)
  unfold Reg_compile
  refine g_aload_n 0 0 dX7_compile_0 rfl rfl ?_
  refine g_getR fdX7_36 dX7_compile_1 ?_
  refine g_getR fdX7_95 dX7_compile_4 ?_
  refine g_iload_n 1 1 dX7_compile_7 rfl rfl ?_
  refine g_callV (fc := fun sς => Row_at sς (gR σ (gR σ x0 0) 3) x1) (ci := 3) (as := [iv x1]) rfl rfl rfl q1409 q1410 mdX7_48 (ctX3_at (gR σ (gR σ x0 0) 3) x1) rfl (Nat.le_of_ble_eq_true rfl) (Nat.le_of_ble_eq_true rfl) (Nat.le_of_ble_eq_true rfl) pu_I dX7_compile_8 (fun r2 σ1 => ?_)
  refine g_istore_n 2 dX7_compile_11 rfl (by decide) rfl ?_
  refine g_iload_n 2 0 dX7_compile_12 rfl rfl ?_
  refine g_istore_n 3 dX7_compile_13 rfl (by decide) rfl ?_
  refine G.sub [2, 3, 1, 0] rfl ?_
  exact gX7_compile_p14 FU _ _ _ _ _
theorem V.dX7_need_0 : decode cX7_need 0 = .ok (.aload_n 0, 1) := by decide +kernel
theorem V.dX7_need_1 : decode cX7_need 1 = .ok (.getfield 20, 3) := by decide +kernel
theorem V.dX7_need_4 : decode cX7_need 4 = .ok (.invokevirtual 44, 3) := by decide +kernel
theorem V.dX7_need_7 : decode cX7_need 7 = .ok (.iload_n 1, 1) := by decide +kernel
theorem V.dX7_need_8 : decode cX7_need 8 = .ok (.if_icmp .gt 14, 3) := by decide +kernel
theorem V.dX7_need_11 : decode cX7_need 11 = .ok (.aload_n 0, 1) := by decide +kernel
theorem V.dX7_need_12 : decode cX7_need 12 = .ok (.getfield 20, 3) := by decide +kernel
theorem V.dX7_need_15 : decode cX7_need 15 = .ok (.iconst 0, 1) := by decide +kernel
theorem V.dX7_need_16 : decode cX7_need 16 = .ok (.invokevirtual 84, 3) := by decide +kernel
theorem V.dX7_need_19 : decode cX7_need 19 = .ok (.goto (-19), 3) := by decide +kernel
theorem V.dX7_need_22 : decode cX7_need 22 = .ok (.aload_n 0, 1) := by decide +kernel
theorem V.dX7_need_23 : decode cX7_need 23 = .ok (.getfield 20, 3) := by decide +kernel
theorem V.dX7_need_26 : decode cX7_need 26 = .ok (.iload_n 1, 1) := by decide +kernel
theorem V.dX7_need_27 : decode cX7_need 27 = .ok (.invokevirtual 48, 3) := by decide +kernel
theorem V.dX7_need_30 : decode cX7_need 30 = .ok (.ifCond .eq 4, 3) := by decide +kernel
theorem V.dX7_need_33 : decode cX7_need 33 = .ok (.return_, 1) := by decide +kernel
theorem V.dX7_need_34 : decode cX7_need 34 = .ok (.aload_n 0, 1) := by decide +kernel
theorem V.dX7_need_35 : decode cX7_need 35 = .ok (.getfield 52, 3) := by decide +kernel
theorem V.dX7_need_38 : decode cX7_need 38 = .ok (.istore_n 2, 1) := by decide +kernel
theorem V.dX7_need_39 : decode cX7_need 39 = .ok (.aload_n 0, 1) := by decide +kernel
theorem V.dX7_need_40 : decode cX7_need 40 = .ok (.iconst 0, 1) := by decide +kernel
theorem V.dX7_need_41 : decode cX7_need 41 = .ok (.putfield 56, 3) := by decide +kernel
theorem V.dX7_need_44 : decode cX7_need 44 = .ok (.aload_n 0, 1) := by decide +kernel
theorem V.dX7_need_45 : decode cX7_need 45 = .ok (.iload_n 1, 1) := by decide +kernel
theorem V.dX7_need_46 : decode cX7_need 46 = .ok (.invokevirtual 88, 3) := by decide +kernel
theorem V.dX7_need_49 : decode cX7_need 49 = .ok (.aload_n 0, 1) := by decide +kernel
theorem V.dX7_need_50 : decode cX7_need 50 = .ok (.getfield 56, 3) := by decide +kernel
theorem V.dX7_need_53 : decode cX7_need 53 = .ok (.ifCond .eq 8, 3) := by decide +kernel
theorem V.dX7_need_56 : decode cX7_need 56 = .ok (.aload_n 0, 1) := by decide +kernel
theorem V.dX7_need_57 : decode cX7_need 57 = .ok (.iload_n 2, 1) := by decide +kernel
theorem V.dX7_need_58 : decode cX7_need 58 = .ok (.putfield 52, 3) := by decide +kernel
theorem V.dX7_need_61 : decode cX7_need 61 = .ok (.aload_n 0, 1) := by decide +kernel
theorem V.dX7_need_62 : decode cX7_need 62 = .ok (.getfield 20, 3) := by decide +kernel
theorem V.dX7_need_65 : decode cX7_need 65 = .ok (.iload_n 1, 1) := by decide +kernel
theorem V.dX7_need_66 : decode cX7_need 66 = .ok (.aload_n 0, 1) := by decide +kernel
theorem V.dX7_need_67 : decode cX7_need 67 = .ok (.getfield 56, 3) := by decide +kernel
theorem V.dX7_need_70 : decode cX7_need 70 = .ok (.ifCond .eq 7, 3) := by decide +kernel
theorem V.dX7_need_73 : decode cX7_need 73 = .ok (.iconst (-1), 1) := by decide +kernel
theorem V.dX7_need_74 : decode cX7_need 74 = .ok (.goto 6, 3) := by decide +kernel
theorem V.dX7_need_77 : decode cX7_need 77 = .ok (.iload_n 2, 1) := by decide +kernel
theorem V.dX7_need_78 : decode cX7_need 78 = .ok (.iconst 1, 1) := by decide +kernel
theorem V.dX7_need_79 : decode cX7_need 79 = .ok (.iadd, 1) := by decide +kernel
theorem V.dX7_need_80 : decode cX7_need 80 = .ok (.invokevirtual 91, 3) := by decide +kernel
theorem V.dX7_need_83 : decode cX7_need 83 = .ok (.return_, 1) := by decide +kernel
theorem V.fdX7_20 : FD RX7 20 7 6 2 := ⟨(RX7, TX7, 17), tyX7, rfl, rfl, in_X7, by decide, Or.inl q699, rfl⟩
theorem V.mdX7_44 : MD RX7 44 yX3_size cX3_size 1 (some .int) 0 := ⟨Or.inl q2401, q363, q1423, by decide, by decide, by decide +kernel⟩
theorem V.mdX7_88 : MD RX7 88 yX7_compile cX7_compile 7 none 1 := ⟨Or.inl q2404, q367, q2407, by decide, by decide, by decide +kernel⟩
theorem V.mdX7_84 : MD RX7 84 yX3_add cX3_add 4 none 1 := ⟨Or.inl q2402, q363, q1407, by decide, by decide, by decide +kernel⟩
theorem V.mdX7_91 : MD RX7 91 yX3_set cX3_set 3 none 2 := ⟨Or.inl q2670, q363, q1441, by decide, by decide, by decide +kernel⟩
/-! ModuleEngine$Registers.need(I)V -/
def V.Reg_need_p80  (σ : HS) (s0 : Int32) (s1 : Int32) (s2 : Nat) : Option (Unit × HS) :=
  ck (tg σ s2 = 4) <| cl (Row_set σ s2 s1 s0) fun _ σ1 =>
  some ((), σ1)
theorem V.gX7_need_p80 {X : CX}  (σ : HS) (s0 : Int32) (s1 : Int32) (s2 : Nat) : G X RX7 "need" cX7_need 3 none 11 300 enV 80 [] [iv s0, iv s1, av s2] σ (Reg_need_p80 σ s0 s1 s2) := by
  unfold Reg_need_p80
  refine g_callV (fc := fun sς => Row_set sς s2 s1 s0) (ci := 3) (as := [iv s1, iv s0]) rfl rfl rfl q1439 q1440 mdX7_91 (ctX3_set s2 s1 s0) rfl (Nat.le_of_ble_eq_true rfl) (Nat.le_of_ble_eq_true rfl) (Nat.le_of_ble_eq_true rfl) pu_V dX7_need_80 (fun _ σ1 => ?_)
  exact g_return rfl dX7_need_83
def V.Reg_need_p61  (σ : HS) (x0 : Nat) (x1 : Int32) (x2 : Int32) : Option (Unit × HS) :=
  ck (tg σ x0 = 8) <|
  ck (tg σ x0 = 8) <|
  if (gI σ x0 7) = 0 then (
    Reg_need_p80 σ (x2 + (1 : Int32)) x1 (gR σ x0 6))
  else (
    Reg_need_p80 σ (-1 : Int32) x1 (gR σ x0 6))
theorem V.gX7_need_p61 {X : CX}  (σ : HS) (x0 : Nat) (x1 : Int32) (x2 : Int32) : G X RX7 "need" cX7_need 3 none 11 300 enV 61 [(0, av x0), (1, iv x1), (2, iv x2)] [] σ (Reg_need_p61 σ x0 x1 x2) := by
  unfold Reg_need_p61
  refine g_aload_n 0 0 dX7_need_61 rfl rfl ?_
  refine g_getR fdX7_20 dX7_need_62 ?_
  refine g_iload_n 1 1 dX7_need_65 rfl rfl ?_
  refine g_aload_n 0 0 dX7_need_66 rfl rfl ?_
  refine g_getI fdX7_56 dX7_need_67 ?_
  refine g_if_eq 77 dX7_need_70 (by decide) ?_ ?_
  · refine g_iload_n 2 2 dX7_need_77 rfl rfl ?_
    refine g_iconst (v := 1) dX7_need_78 (by decide) ?_
    refine g_iadd dX7_need_79 ?_
    refine G.sub [] rfl ?_
    exact gX7_need_p80 _ _ _ _
  · refine g_iconst (v := (-1)) dX7_need_73 (by decide) ?_
    refine g_goto 80 dX7_need_74 (by decide) ?_
    refine G.sub [] rfl ?_
    exact gX7_need_p80 _ _ _ _
def V.Reg_need_p0  : Nat → HS → Nat → Int32 → Option (Unit × HS)
  | 0, _, _, _ => none
  | n + 1, σ, x0, x1 =>
    ck (tg σ x0 = 8) <|
    ck (tg σ (gR σ x0 6) = 4) <| cl (Row_size σ (gR σ x0 6) ) fun r2 σ1 =>
    if x1 < r2 then (
      ck (tg σ1 x0 = 8) <|
      ck (tg σ1 (gR σ1 x0 6) = 4) <| cl (Row_at σ1 (gR σ1 x0 6) x1) fun r4 σ3 =>
      if r4 = 0 then (
        ck (tg σ3 x0 = 8) <|
        bn (gI σ3 x0 3) fun y5 =>
        ck (tg σ3 x0 = 8) <| bn (sI σ3 x0 7 (0 : Int32)) fun σ6 =>
        ck (tg σ6 x0 = 8) <| cl (Reg_compile σ6 x0 x1) fun _ σ7 =>
        ck (tg σ7 x0 = 8) <|
        if (gI σ7 x0 7) = 0 then (
          Reg_need_p61 σ7 x0 x1 y5)
        else (
          ck (tg σ7 x0 = 8) <| bn (sI σ7 x0 3 y5) fun σ8 =>
          Reg_need_p61 σ8 x0 x1 y5))
      else (
        some ((), σ3)))
    else (
      ck (tg σ1 x0 = 8) <|
      ck (tg σ1 (gR σ1 x0 6) = 4) <| cl (Row_add σ1 (gR σ1 x0 6) (0 : Int32)) fun _ σ9 =>
      Reg_need_p0 n σ9 x0 x1)
theorem V.gX7_need_p0 {X : CX}  : ∀ (n : Nat) (σ : HS) (x0 : Nat) (x1 : Int32), G X RX7 "need" cX7_need 3 none 11 300 enV 0 [(0, av x0), (1, iv x1)] [] σ (Reg_need_p0 n σ x0 x1)
  | 0, σ, x0, x1 => by rw [Reg_need_p0]; exact G.nul
  | n + 1, σ, x0, x1 => by
    rw [Reg_need_p0]
    refine g_aload_n 0 0 dX7_need_0 rfl rfl ?_
    refine g_getR fdX7_20 dX7_need_1 ?_
    refine g_callV (fc := fun sς => Row_size sς (gR σ x0 6) ) (ci := 3) (as := []) rfl rfl rfl q1421 q1422 mdX7_44 (ctX3_size (gR σ x0 6) ) rfl (Nat.le_of_ble_eq_true rfl) (Nat.le_of_ble_eq_true rfl) (Nat.le_of_ble_eq_true rfl) pu_I dX7_need_4 (fun r2 σ1 => ?_)
    refine g_iload_n 1 1 dX7_need_7 rfl rfl ?_
    refine g_icmp_gt 22 dX7_need_8 (by decide) ?_ ?_
    · refine g_aload_n 0 0 dX7_need_22 rfl rfl ?_
      refine g_getR fdX7_20 dX7_need_23 ?_
      refine g_iload_n 1 1 dX7_need_26 rfl rfl ?_
      refine g_callV (fc := fun sς => Row_at sς (gR σ1 x0 6) x1) (ci := 3) (as := [iv x1]) rfl rfl rfl q1409 q1410 mdX7_48 (ctX3_at (gR σ1 x0 6) x1) rfl (Nat.le_of_ble_eq_true rfl) (Nat.le_of_ble_eq_true rfl) (Nat.le_of_ble_eq_true rfl) pu_I dX7_need_27 (fun r4 σ3 => ?_)
      refine g_if_eq 34 dX7_need_30 (by decide) ?_ ?_
      · refine g_aload_n 0 0 dX7_need_34 rfl rfl ?_
        refine g_getI fdX7_52 dX7_need_35 ?_
        refine g_nmI (fun y5 => ?_)
        refine g_istore_n 2 dX7_need_38 rfl (by decide) rfl ?_
        refine g_aload_n 0 1 dX7_need_39 rfl rfl ?_
        refine g_iconst (v := 0) dX7_need_40 (by decide) ?_
        refine g_putZ fpX7_56 ⟨by decide +kernel, by decide +kernel⟩ dX7_need_41 (fun σ6 => ?_)
        refine g_aload_n 0 1 dX7_need_44 rfl rfl ?_
        refine g_iload_n 1 2 dX7_need_45 rfl rfl ?_
        refine g_callV (fc := fun sς => Reg_compile sς x0 x1) (ci := 7) (as := [iv x1]) rfl rfl rfl q2406 qs143 mdX7_88 (ctX7_compile x0 x1) rfl (Nat.le_of_ble_eq_true rfl) (Nat.le_of_ble_eq_true rfl) (Nat.le_of_ble_eq_true rfl) pu_V dX7_need_46 (fun _ σ7 => ?_)
        refine g_aload_n 0 1 dX7_need_49 rfl rfl ?_
        refine g_getI fdX7_56 dX7_need_50 ?_
        refine g_if_eq 61 dX7_need_53 (by decide) ?_ ?_
        · refine G.sub [1, 2, 0] rfl ?_
          exact gX7_need_p61 _ _ _ _
        · refine g_aload_n 0 1 dX7_need_56 rfl rfl ?_
          refine g_iload_n 2 0 dX7_need_57 rfl rfl ?_
          refine g_putI fpX7_52 dX7_need_58 (fun σ8 => ?_)
          refine G.sub [1, 2, 0] rfl ?_
          exact gX7_need_p61 _ _ _ _
      · exact g_return rfl dX7_need_33
    · refine g_aload_n 0 0 dX7_need_11 rfl rfl ?_
      refine g_getR fdX7_20 dX7_need_12 ?_
      refine g_iconst (v := 0) dX7_need_15 (by decide) ?_
      refine g_callV (fc := fun sς => Row_add sς (gR σ1 x0 6) (0 : Int32)) (ci := 3) (as := [iv (0 : Int32)]) rfl rfl rfl q1405 q1406 mdX7_84 (ctX3_add (gR σ1 x0 6) (0 : Int32)) rfl (Nat.le_of_ble_eq_true rfl) (Nat.le_of_ble_eq_true rfl) (Nat.le_of_ble_eq_true rfl) pu_V dX7_need_16 (fun _ σ9 => ?_)
      refine g_goto 0 dX7_need_19 (by decide) ?_
      exact gX7_need_p0 n _ _ _
def V.Reg_need (σ : HS) (x0 : Nat) (x1 : Int32) : Option (Unit × HS) :=
  Reg_need_p0 FU σ x0 x1
theorem V.ctX7_need (x0 : Nat) (x1 : Int32) : Ct yX7_need  cX7_need 3 none 11 300 eV [av x0, iv x1] (fun σ => Reg_need σ x0 x1) := by
  refine Ct.of (own := RX7) (nm := "need") (desc := "(I)V") rfl (by decide) (Nat.le_of_ble_eq_true rfl) (by decide) (fun X σ => ?_)
  show G X RX7 "need" cX7_need 3 none 11 300 enV 0 [(0, av x0), (1, iv x1)] [] σ (Reg_need σ x0 x1)
  unfold Reg_need
  exact gX7_need_p0 FU _ _ _
theorem V.dX7_has_0 : decode cX7_has 0 = .ok (.iload_n 1, 1) := by decide +kernel
theorem V.dX7_has_1 : decode cX7_has 1 = .ok (.aload_n 0, 1) := by decide +kernel
theorem V.dX7_has_2 : decode cX7_has 2 = .ok (.getfield 20, 3) := by decide +kernel
theorem V.dX7_has_5 : decode cX7_has 5 = .ok (.invokevirtual 44, 3) := by decide +kernel
theorem V.dX7_has_8 : decode cX7_has 8 = .ok (.if_icmp .ge 18, 3) := by decide +kernel
theorem V.dX7_has_11 : decode cX7_has 11 = .ok (.aload_n 0, 1) := by decide +kernel
theorem V.dX7_has_12 : decode cX7_has 12 = .ok (.getfield 20, 3) := by decide +kernel
theorem V.dX7_has_15 : decode cX7_has 15 = .ok (.iload_n 1, 1) := by decide +kernel
theorem V.dX7_has_16 : decode cX7_has 16 = .ok (.invokevirtual 48, 3) := by decide +kernel
theorem V.dX7_has_19 : decode cX7_has 19 = .ok (.ifCond .le 7, 3) := by decide +kernel
theorem V.dX7_has_22 : decode cX7_has 22 = .ok (.iconst 1, 1) := by decide +kernel
theorem V.dX7_has_23 : decode cX7_has 23 = .ok (.goto 4, 3) := by decide +kernel
theorem V.dX7_has_26 : decode cX7_has 26 = .ok (.iconst 0, 1) := by decide +kernel
theorem V.dX7_has_27 : decode cX7_has 27 = .ok (.ireturn, 1) := by decide +kernel
/-! ModuleEngine$Registers.has(I)Z -/
def V.Reg_has (σ : HS) (x0 : Nat) (x1 : Int32) : Option (Int32 × HS) :=
  ck (tg σ x0 = 8) <|
  ck (tg σ (gR σ x0 6) = 4) <| cl (Row_size σ (gR σ x0 6) ) fun r2 σ1 =>
  if r2 ≤ x1 then (
    some ((0 : Int32), σ1))
  else (
    ck (tg σ1 x0 = 8) <|
    ck (tg σ1 (gR σ1 x0 6) = 4) <| cl (Row_at σ1 (gR σ1 x0 6) x1) fun r4 σ3 =>
    if r4 ≤ 0 then (
      some ((0 : Int32), σ3))
    else (
      some ((1 : Int32), σ3)))
theorem V.ctX7_has (x0 : Nat) (x1 : Int32) : Ct yX7_has  cX7_has 2 (some .boolean) 1 21 eI [av x0, iv x1] (fun σ => Reg_has σ x0 x1) := by
  refine Ct.of (own := RX7) (nm := "has") (desc := "(I)Z") rfl (by decide) (Nat.le_of_ble_eq_true rfl) (by decide) (fun X σ => ?_)
  show G X RX7 "has" cX7_has 2 (some .boolean) 1 21 enI 0 [(0, av x0), (1, iv x1)] [] σ (Reg_has σ x0 x1)
  unfold Reg_has
  refine g_iload_n 1 1 dX7_has_0 rfl rfl ?_
  refine g_aload_n 0 0 dX7_has_1 rfl rfl ?_
  refine g_getR fdX7_20 dX7_has_2 ?_
  refine g_callV (fc := fun sς => Row_size sς (gR σ x0 6) ) (ci := 3) (as := []) rfl rfl rfl q1421 q1422 mdX7_44 (ctX3_size (gR σ x0 6) ) rfl (Nat.le_of_ble_eq_true rfl) (Nat.le_of_ble_eq_true rfl) (Nat.le_of_ble_eq_true rfl) pu_I dX7_has_5 (fun r2 σ1 => ?_)
  refine g_icmp_ge 26 dX7_has_8 (by decide) ?_ ?_
  · refine g_iconst (v := 0) dX7_has_26 (by decide) ?_
    exact g_zreturn rfl (by decide +kernel) dX7_has_27
  · refine g_aload_n 0 0 dX7_has_11 rfl rfl ?_
    refine g_getR fdX7_20 dX7_has_12 ?_
    refine g_iload_n 1 1 dX7_has_15 rfl rfl ?_
    refine g_callV (fc := fun sς => Row_at sς (gR σ1 x0 6) x1) (ci := 3) (as := [iv x1]) rfl rfl rfl q1409 q1410 mdX7_48 (ctX3_at (gR σ1 x0 6) x1) rfl (Nat.le_of_ble_eq_true rfl) (Nat.le_of_ble_eq_true rfl) (Nat.le_of_ble_eq_true rfl) pu_I dX7_has_16 (fun r4 σ3 => ?_)
    refine g_if_le 26 dX7_has_19 (by decide) ?_ ?_
    · refine g_iconst (v := 0) dX7_has_26 (by decide) ?_
      exact g_zreturn rfl (by decide +kernel) dX7_has_27
    · refine g_iconst (v := 1) dX7_has_22 (by decide) ?_
      refine g_goto 27 dX7_has_23 (by decide) ?_
      exact g_zreturn rfl (by decide +kernel) dX7_has_27
theorem V.dX7_startOf_0 : decode cX7_startOf 0 = .ok (.aload_n 0, 1) := by decide +kernel
theorem V.dX7_startOf_1 : decode cX7_startOf 1 = .ok (.getfield 20, 3) := by decide +kernel
theorem V.dX7_startOf_4 : decode cX7_startOf 4 = .ok (.iload_n 1, 1) := by decide +kernel
theorem V.dX7_startOf_5 : decode cX7_startOf 5 = .ok (.invokevirtual 48, 3) := by decide +kernel
theorem V.dX7_startOf_8 : decode cX7_startOf 8 = .ok (.iconst 1, 1) := by decide +kernel
theorem V.dX7_startOf_9 : decode cX7_startOf 9 = .ok (.isub, 1) := by decide +kernel
theorem V.dX7_startOf_10 : decode cX7_startOf 10 = .ok (.ireturn, 1) := by decide +kernel
/-! ModuleEngine$Registers.startOf(I)I -/
def V.Reg_startOf (σ : HS) (x0 : Nat) (x1 : Int32) : Option (Int32 × HS) :=
  ck (tg σ x0 = 8) <|
  ck (tg σ (gR σ x0 6) = 4) <| cl (Row_at σ (gR σ x0 6) x1) fun r2 σ1 =>
  some (r2 - (1 : Int32), σ1)
theorem V.ctX7_startOf (x0 : Nat) (x1 : Int32) : Ct yX7_startOf  cX7_startOf 2 (some .int) 1 21 eI [av x0, iv x1] (fun σ => Reg_startOf σ x0 x1) := by
  refine Ct.of (own := RX7) (nm := "startOf") (desc := "(I)I") rfl (by decide) (Nat.le_of_ble_eq_true rfl) (by decide) (fun X σ => ?_)
  show G X RX7 "startOf" cX7_startOf 2 (some .int) 1 21 enI 0 [(0, av x0), (1, iv x1)] [] σ (Reg_startOf σ x0 x1)
  unfold Reg_startOf
  refine g_aload_n 0 0 dX7_startOf_0 rfl rfl ?_
  refine g_getR fdX7_20 dX7_startOf_1 ?_
  refine g_iload_n 1 1 dX7_startOf_4 rfl rfl ?_
  refine g_callV (fc := fun sς => Row_at sς (gR σ x0 6) x1) (ci := 3) (as := [iv x1]) rfl rfl rfl q1409 q1410 mdX7_48 (ctX3_at (gR σ x0 6) x1) rfl (Nat.le_of_ble_eq_true rfl) (Nat.le_of_ble_eq_true rfl) (Nat.le_of_ble_eq_true rfl) pu_I dX7_startOf_5 (fun r2 σ1 => ?_)
  refine g_iconst (v := 1) dX7_startOf_8 (by decide) ?_
  refine g_isub dX7_startOf_9 ?_
  exact g_ireturn rfl dX7_startOf_10
theorem V.dX13_init_0 : decode cX13_init 0 = .ok (.aload_n 0, 1) := by decide +kernel
theorem V.dX13_init_1 : decode cX13_init 1 = .ok (.invokespecial 1, 3) := by decide +kernel
theorem V.dX13_init_4 : decode cX13_init 4 = .ok (.aload_n 0, 1) := by decide +kernel
theorem V.dX13_init_5 : decode cX13_init 5 = .ok (.bipush 16, 2) := by decide +kernel
theorem V.dX13_init_7 : decode cX13_init 7 = .ok (.anewarray 9, 3) := by decide +kernel
theorem V.dX13_init_10 : decode cX13_init 10 = .ok (.putfield 11, 3) := by decide +kernel
theorem V.dX13_init_13 : decode cX13_init 13 = .ok (.aload_n 0, 1) := by decide +kernel
theorem V.dX13_init_14 : decode cX13_init 14 = .ok (.bipush 16, 2) := by decide +kernel
theorem V.dX13_init_16 : decode cX13_init 16 = .ok (.newarray .int, 2) := by decide +kernel
theorem V.dX13_init_18 : decode cX13_init 18 = .ok (.putfield 15, 3) := by decide +kernel
theorem V.dX13_init_21 : decode cX13_init 21 = .ok (.aload_n 0, 1) := by decide +kernel
theorem V.dX13_init_22 : decode cX13_init 22 = .ok (.new 19, 3) := by decide +kernel
theorem V.dX13_init_25 : decode cX13_init 25 = .ok (.dup, 1) := by decide +kernel
theorem V.dX13_init_26 : decode cX13_init 26 = .ok (.invokespecial 21, 3) := by decide +kernel
theorem V.dX13_init_29 : decode cX13_init 29 = .ok (.putfield 22, 3) := by decide +kernel
theorem V.dX13_init_32 : decode cX13_init 32 = .ok (.aload_n 0, 1) := by decide +kernel
theorem V.dX13_init_33 : decode cX13_init 33 = .ok (.new 19, 3) := by decide +kernel
theorem V.dX13_init_36 : decode cX13_init 36 = .ok (.dup, 1) := by decide +kernel
theorem V.dX13_init_37 : decode cX13_init 37 = .ok (.invokespecial 21, 3) := by decide +kernel
theorem V.dX13_init_40 : decode cX13_init 40 = .ok (.putfield 26, 3) := by decide +kernel
theorem V.dX13_init_43 : decode cX13_init 43 = .ok (.aload_n 0, 1) := by decide +kernel
theorem V.dX13_init_44 : decode cX13_init 44 = .ok (.new 19, 3) := by decide +kernel
theorem V.dX13_init_47 : decode cX13_init 47 = .ok (.dup, 1) := by decide +kernel
theorem V.dX13_init_48 : decode cX13_init 48 = .ok (.invokespecial 21, 3) := by decide +kernel
theorem V.dX13_init_51 : decode cX13_init 51 = .ok (.putfield 29, 3) := by decide +kernel
theorem V.dX13_init_54 : decode cX13_init 54 = .ok (.aload_n 0, 1) := by decide +kernel
theorem V.dX13_init_55 : decode cX13_init 55 = .ok (.new 19, 3) := by decide +kernel
theorem V.dX13_init_58 : decode cX13_init 58 = .ok (.dup, 1) := by decide +kernel
theorem V.dX13_init_59 : decode cX13_init 59 = .ok (.invokespecial 21, 3) := by decide +kernel
theorem V.dX13_init_62 : decode cX13_init 62 = .ok (.putfield 32, 3) := by decide +kernel
theorem V.dX13_init_65 : decode cX13_init 65 = .ok (.aload_n 0, 1) := by decide +kernel
theorem V.dX13_init_66 : decode cX13_init 66 = .ok (.new 35, 3) := by decide +kernel
theorem V.dX13_init_69 : decode cX13_init 69 = .ok (.dup, 1) := by decide +kernel
theorem V.dX13_init_70 : decode cX13_init 70 = .ok (.sipush 1024, 3) := by decide +kernel
theorem V.dX13_init_73 : decode cX13_init 73 = .ok (.newarray .int, 2) := by decide +kernel
theorem V.dX13_init_75 : decode cX13_init 75 = .ok (.bipush 32, 2) := by decide +kernel
theorem V.dX13_init_77 : decode cX13_init 77 = .ok (.newarray .int, 2) := by decide +kernel
theorem V.dX13_init_79 : decode cX13_init 79 = .ok (.bipush 32, 2) := by decide +kernel
theorem V.dX13_init_81 : decode cX13_init 81 = .ok (.newarray .int, 2) := by decide +kernel
theorem V.dX13_init_83 : decode cX13_init 83 = .ok (.bipush 32, 2) := by decide +kernel
theorem V.dX13_init_85 : decode cX13_init 85 = .ok (.newarray .int, 2) := by decide +kernel
theorem V.dX13_init_87 : decode cX13_init 87 = .ok (.bipush 32, 2) := by decide +kernel
theorem V.dX13_init_89 : decode cX13_init 89 = .ok (.newarray .long, 2) := by decide +kernel
theorem V.dX13_init_91 : decode cX13_init 91 = .ok (.invokespecial 37, 3) := by decide +kernel
theorem V.dX13_init_94 : decode cX13_init 94 = .ok (.putfield 40, 3) := by decide +kernel
theorem V.dX13_init_97 : decode cX13_init 97 = .ok (.aload_n 0, 1) := by decide +kernel
theorem V.dX13_init_98 : decode cX13_init 98 = .ok (.new 44, 3) := by decide +kernel
theorem V.dX13_init_101 : decode cX13_init 101 = .ok (.dup, 1) := by decide +kernel
theorem V.dX13_init_102 : decode cX13_init 102 = .ok (.bipush 16, 2) := by decide +kernel
theorem V.dX13_init_104 : decode cX13_init 104 = .ok (.ldc 46, 2) := by decide +kernel
theorem V.dX13_init_106 : decode cX13_init 106 = .ok (.newarray .byte, 2) := by decide +kernel
theorem V.dX13_init_108 : decode cX13_init 108 = .ok (.sipush 128, 3) := by decide +kernel
theorem V.dX13_init_111 : decode cX13_init 111 = .ok (.newarray .int, 2) := by decide +kernel
theorem V.dX13_init_113 : decode cX13_init 113 = .ok (.bipush 16, 2) := by decide +kernel
theorem V.dX13_init_115 : decode cX13_init 115 = .ok (.newarray .int, 2) := by decide +kernel
theorem V.dX13_init_117 : decode cX13_init 117 = .ok (.bipush 16, 2) := by decide +kernel
theorem V.dX13_init_119 : decode cX13_init 119 = .ok (.newarray .int, 2) := by decide +kernel
theorem V.dX13_init_121 : decode cX13_init 121 = .ok (.invokespecial 47, 3) := by decide +kernel
theorem V.dX13_init_124 : decode cX13_init 124 = .ok (.putfield 50, 3) := by decide +kernel
theorem V.dX13_init_127 : decode cX13_init 127 = .ok (.aload_n 0, 1) := by decide +kernel
theorem V.dX13_init_128 : decode cX13_init 128 = .ok (.new 19, 3) := by decide +kernel
theorem V.dX13_init_131 : decode cX13_init 131 = .ok (.dup, 1) := by decide +kernel
theorem V.dX13_init_132 : decode cX13_init 132 = .ok (.invokespecial 21, 3) := by decide +kernel
theorem V.dX13_init_135 : decode cX13_init 135 = .ok (.putfield 54, 3) := by decide +kernel
theorem V.dX13_init_138 : decode cX13_init 138 = .ok (.aload_n 0, 1) := by decide +kernel
theorem V.dX13_init_139 : decode cX13_init 139 = .ok (.new 19, 3) := by decide +kernel
theorem V.dX13_init_142 : decode cX13_init 142 = .ok (.dup, 1) := by decide +kernel
theorem V.dX13_init_143 : decode cX13_init 143 = .ok (.invokespecial 21, 3) := by decide +kernel
theorem V.dX13_init_146 : decode cX13_init 146 = .ok (.putfield 57, 3) := by decide +kernel
theorem V.dX13_init_149 : decode cX13_init 149 = .ok (.aload_n 0, 1) := by decide +kernel
theorem V.dX13_init_150 : decode cX13_init 150 = .ok (.new 19, 3) := by decide +kernel
theorem V.dX13_init_153 : decode cX13_init 153 = .ok (.dup, 1) := by decide +kernel
theorem V.dX13_init_154 : decode cX13_init 154 = .ok (.invokespecial 21, 3) := by decide +kernel
theorem V.dX13_init_157 : decode cX13_init 157 = .ok (.putfield 60, 3) := by decide +kernel
theorem V.dX13_init_160 : decode cX13_init 160 = .ok (.aload_n 0, 1) := by decide +kernel
theorem V.dX13_init_161 : decode cX13_init 161 = .ok (.new 19, 3) := by decide +kernel
theorem V.dX13_init_164 : decode cX13_init 164 = .ok (.dup, 1) := by decide +kernel
theorem V.dX13_init_165 : decode cX13_init 165 = .ok (.invokespecial 21, 3) := by decide +kernel
theorem V.dX13_init_168 : decode cX13_init 168 = .ok (.putfield 63, 3) := by decide +kernel
theorem V.dX13_init_171 : decode cX13_init 171 = .ok (.aload_n 0, 1) := by decide +kernel
theorem V.dX13_init_172 : decode cX13_init 172 = .ok (.sipush 256, 3) := by decide +kernel
theorem V.dX13_init_175 : decode cX13_init 175 = .ok (.newarray .long, 2) := by decide +kernel
theorem V.dX13_init_177 : decode cX13_init 177 = .ok (.putfield 66, 3) := by decide +kernel
theorem V.dX13_init_180 : decode cX13_init 180 = .ok (.aload_n 0, 1) := by decide +kernel
theorem V.dX13_init_181 : decode cX13_init 181 = .ok (.bipush 16, 2) := by decide +kernel
theorem V.dX13_init_183 : decode cX13_init 183 = .ok (.newarray .int, 2) := by decide +kernel
theorem V.dX13_init_185 : decode cX13_init 185 = .ok (.putfield 70, 3) := by decide +kernel
theorem V.dX13_init_188 : decode cX13_init 188 = .ok (.aload_n 0, 1) := by decide +kernel
theorem V.dX13_init_189 : decode cX13_init 189 = .ok (.bipush 16, 2) := by decide +kernel
theorem V.dX13_init_191 : decode cX13_init 191 = .ok (.anewarray 19, 3) := by decide +kernel
theorem V.dX13_init_194 : decode cX13_init 194 = .ok (.putfield 73, 3) := by decide +kernel
theorem V.dX13_init_197 : decode cX13_init 197 = .ok (.aload_n 0, 1) := by decide +kernel
theorem V.dX13_init_198 : decode cX13_init 198 = .ok (.bipush 16, 2) := by decide +kernel
theorem V.dX13_init_200 : decode cX13_init 200 = .ok (.anewarray 19, 3) := by decide +kernel
theorem V.dX13_init_203 : decode cX13_init 203 = .ok (.putfield 77, 3) := by decide +kernel
theorem V.dX13_init_206 : decode cX13_init 206 = .ok (.aload_n 0, 1) := by decide +kernel
theorem V.dX13_init_207 : decode cX13_init 207 = .ok (.bipush 16, 2) := by decide +kernel
theorem V.dX13_init_209 : decode cX13_init 209 = .ok (.anewarray 19, 3) := by decide +kernel
theorem V.dX13_init_212 : decode cX13_init 212 = .ok (.putfield 80, 3) := by decide +kernel
theorem V.dX13_init_215 : decode cX13_init 215 = .ok (.aload_n 0, 1) := by decide +kernel
theorem V.dX13_init_216 : decode cX13_init 216 = .ok (.bipush 16, 2) := by decide +kernel
theorem V.dX13_init_218 : decode cX13_init 218 = .ok (.anewarray 19, 3) := by decide +kernel
theorem V.dX13_init_221 : decode cX13_init 221 = .ok (.putfield 83, 3) := by decide +kernel
theorem V.dX13_init_224 : decode cX13_init 224 = .ok (.aload_n 0, 1) := by decide +kernel
theorem V.dX13_init_225 : decode cX13_init 225 = .ok (.bipush 16, 2) := by decide +kernel
theorem V.dX13_init_227 : decode cX13_init 227 = .ok (.anewarray 19, 3) := by decide +kernel
theorem V.dX13_init_230 : decode cX13_init 230 = .ok (.putfield 86, 3) := by decide +kernel
theorem V.dX13_init_233 : decode cX13_init 233 = .ok (.aload_n 0, 1) := by decide +kernel
theorem V.dX13_init_234 : decode cX13_init 234 = .ok (.bipush 16, 2) := by decide +kernel
theorem V.dX13_init_236 : decode cX13_init 236 = .ok (.anewarray 19, 3) := by decide +kernel
theorem V.dX13_init_239 : decode cX13_init 239 = .ok (.putfield 89, 3) := by decide +kernel
theorem V.dX13_init_242 : decode cX13_init 242 = .ok (.aload_n 0, 1) := by decide +kernel
theorem V.dX13_init_243 : decode cX13_init 243 = .ok (.bipush 16, 2) := by decide +kernel
theorem V.dX13_init_245 : decode cX13_init 245 = .ok (.anewarray 19, 3) := by decide +kernel
theorem V.dX13_init_248 : decode cX13_init 248 = .ok (.putfield 92, 3) := by decide +kernel
theorem V.dX13_init_251 : decode cX13_init 251 = .ok (.aload_n 0, 1) := by decide +kernel
theorem V.dX13_init_252 : decode cX13_init 252 = .ok (.sipush 2048, 3) := by decide +kernel
theorem V.dX13_init_255 : decode cX13_init 255 = .ok (.newarray .int, 2) := by decide +kernel
theorem V.dX13_init_257 : decode cX13_init 257 = .ok (.putfield 95, 3) := by decide +kernel
theorem V.dX13_init_260 : decode cX13_init 260 = .ok (.aload_n 0, 1) := by decide +kernel
theorem V.dX13_init_261 : decode cX13_init 261 = .ok (.bipush 16, 2) := by decide +kernel
theorem V.dX13_init_263 : decode cX13_init 263 = .ok (.anewarray 98, 3) := by decide +kernel
theorem V.dX13_init_266 : decode cX13_init 266 = .ok (.putfield 100, 3) := by decide +kernel
theorem V.dX13_init_269 : decode cX13_init 269 = .ok (.aload_n 0, 1) := by decide +kernel
theorem V.dX13_init_270 : decode cX13_init 270 = .ok (.new 19, 3) := by decide +kernel
theorem V.dX13_init_273 : decode cX13_init 273 = .ok (.dup, 1) := by decide +kernel
theorem V.dX13_init_274 : decode cX13_init 274 = .ok (.invokespecial 21, 3) := by decide +kernel
theorem V.dX13_init_277 : decode cX13_init 277 = .ok (.putfield 104, 3) := by decide +kernel
theorem V.dX13_init_280 : decode cX13_init 280 = .ok (.return_, 1) := by decide +kernel
theorem V.fpX13_11 : FP RX13 "<init>" 11 13 0 (.array (.object "ModuleEngine$Module")) := ⟨(RX13, TX13, 27), tyX13, rfl, rfl, in_X13, by decide, tyX13_ok, nmX13, rfl, Or.inr ⟨rfl, rfl, rfl, q1014⟩⟩
theorem V.fpX13_15 : FP RX13 "<init>" 15 13 1 (.array .int) := ⟨(RX13, TX13, 27), tyX13, rfl, rfl, in_X13, by decide, tyX13_ok, nmX13, rfl, Or.inr ⟨rfl, rfl, rfl, q1015⟩⟩
theorem V.ndX13_19 : ND RX13 19 3 2 := ⟨(RX3, TX3, 2), tyX3, rfl, rfl, in_X3, tyX3_ok, by decide, q950, q409, q363⟩
theorem V.mdX13_21 : MD RX13 21 yX3_init cX3_init 1 none 0 := ⟨Or.inr ⟨_, q951⟩, q363, q412, by decide, by decide, by decide +kernel⟩
theorem V.fpX13_22 : FP RX13 "<init>" 22 13 3 (.object "ModuleEngine$Row") := ⟨(RX13, TX13, 27), tyX13, rfl, rfl, in_X13, by decide, tyX13_ok, nmX13, rfl, Or.inr ⟨rfl, rfl, rfl, q1019⟩⟩
theorem V.fpX13_26 : FP RX13 "<init>" 26 13 4 (.object "ModuleEngine$Row") := ⟨(RX13, TX13, 27), tyX13, rfl, rfl, in_X13, by decide, tyX13_ok, nmX13, rfl, Or.inr ⟨rfl, rfl, rfl, q1021⟩⟩
theorem V.fpX13_29 : FP RX13 "<init>" 29 13 5 (.object "ModuleEngine$Row") := ⟨(RX13, TX13, 27), tyX13, rfl, rfl, in_X13, by decide, tyX13_ok, nmX13, rfl, Or.inr ⟨rfl, rfl, rfl, q1023⟩⟩
theorem V.fpX13_32 : FP RX13 "<init>" 32 13 6 (.object "ModuleEngine$Row") := ⟨(RX13, TX13, 27), tyX13, rfl, rfl, in_X13, by decide, tyX13_ok, nmX13, rfl, Or.inr ⟨rfl, rfl, rfl, q1025⟩⟩
theorem V.ndX13_35 : ND RX13 35 14 7 := ⟨(RX14, TX14, 7), tyX14, rfl, rfl, in_X14, tyX14_ok, by decide, q952, q953, q374⟩
theorem V.mdX13_37 : MD RX13 37 yX14_init cX14_init 6 none 5 := ⟨Or.inl q954, q374, q956, by decide, by decide, by decide +kernel⟩
theorem V.fpX13_40 : FP RX13 "<init>" 40 13 7 (.object "ModuleEngine$Tables") := ⟨(RX13, TX13, 27), tyX13, rfl, rfl, in_X13, by decide, tyX13_ok, nmX13, rfl, Or.inr ⟨rfl, rfl, rfl, q1027⟩⟩
theorem V.ndX13_44 : ND RX13 44 15 8 := ⟨(RX15, TX15, 8), tyX15, rfl, rfl, in_X15, tyX15_ok, by decide, q980, q981, q375⟩
theorem V.mdX13_47 : MD RX13 47 yX15_init cX15_init 6 none 5 := ⟨Or.inl q983, q375, q985, by decide, by decide, by decide +kernel⟩
theorem V.fpX13_50 : FP RX13 "<init>" 50 13 8 (.object "ModuleEngine$Pages") := ⟨(RX13, TX13, 27), tyX13, rfl, rfl, in_X13, by decide, tyX13_ok, nmX13, rfl, Or.inr ⟨rfl, rfl, rfl, q1030⟩⟩
theorem V.fpX13_54 : FP RX13 "<init>" 54 13 9 (.object "ModuleEngine$Row") := ⟨(RX13, TX13, 27), tyX13, rfl, rfl, in_X13, by decide, tyX13_ok, nmX13, rfl, Or.inr ⟨rfl, rfl, rfl, q1033⟩⟩
theorem V.fpX13_57 : FP RX13 "<init>" 57 13 10 (.object "ModuleEngine$Row") := ⟨(RX13, TX13, 27), tyX13, rfl, rfl, in_X13, by decide, tyX13_ok, nmX13, rfl, Or.inr ⟨rfl, rfl, rfl, q1034⟩⟩
theorem V.fpX13_60 : FP RX13 "<init>" 60 13 11 (.object "ModuleEngine$Row") := ⟨(RX13, TX13, 27), tyX13, rfl, rfl, in_X13, by decide, tyX13_ok, nmX13, rfl, Or.inr ⟨rfl, rfl, rfl, q1035⟩⟩
theorem V.fpX13_63 : FP RX13 "<init>" 63 13 12 (.object "ModuleEngine$Row") := ⟨(RX13, TX13, 27), tyX13, rfl, rfl, in_X13, by decide, tyX13_ok, nmX13, rfl, Or.inr ⟨rfl, rfl, rfl, q1037⟩⟩
theorem V.fpX13_66 : FP RX13 "<init>" 66 13 13 (.array .long) := ⟨(RX13, TX13, 27), tyX13, rfl, rfl, in_X13, by decide, tyX13_ok, nmX13, rfl, Or.inr ⟨rfl, rfl, rfl, q1038⟩⟩
theorem V.fpX13_70 : FP RX13 "<init>" 70 13 14 (.array .int) := ⟨(RX13, TX13, 27), tyX13, rfl, rfl, in_X13, by decide, tyX13_ok, nmX13, rfl, Or.inr ⟨rfl, rfl, rfl, q1041⟩⟩
theorem V.fpX13_73 : FP RX13 "<init>" 73 13 15 (.array (.object "ModuleEngine$Row")) := ⟨(RX13, TX13, 27), tyX13, rfl, rfl, in_X13, by decide, tyX13_ok, nmX13, rfl, Or.inr ⟨rfl, rfl, rfl, q1042⟩⟩
theorem V.fpX13_77 : FP RX13 "<init>" 77 13 16 (.array (.object "ModuleEngine$Row")) := ⟨(RX13, TX13, 27), tyX13, rfl, rfl, in_X13, by decide, tyX13_ok, nmX13, rfl, Or.inr ⟨rfl, rfl, rfl, q1044⟩⟩
theorem V.fpX13_80 : FP RX13 "<init>" 80 13 17 (.array (.object "ModuleEngine$Row")) := ⟨(RX13, TX13, 27), tyX13, rfl, rfl, in_X13, by decide, tyX13_ok, nmX13, rfl, Or.inr ⟨rfl, rfl, rfl, q1046⟩⟩
theorem V.fpX13_83 : FP RX13 "<init>" 83 13 18 (.array (.object "ModuleEngine$Row")) := ⟨(RX13, TX13, 27), tyX13, rfl, rfl, in_X13, by decide, tyX13_ok, nmX13, rfl, Or.inr ⟨rfl, rfl, rfl, q1048⟩⟩
theorem V.fpX13_86 : FP RX13 "<init>" 86 13 19 (.array (.object "ModuleEngine$Row")) := ⟨(RX13, TX13, 27), tyX13, rfl, rfl, in_X13, by decide, tyX13_ok, nmX13, rfl, Or.inr ⟨rfl, rfl, rfl, q1050⟩⟩
theorem V.fpX13_89 : FP RX13 "<init>" 89 13 20 (.array (.object "ModuleEngine$Row")) := ⟨(RX13, TX13, 27), tyX13, rfl, rfl, in_X13, by decide, tyX13_ok, nmX13, rfl, Or.inr ⟨rfl, rfl, rfl, q1051⟩⟩
theorem V.fpX13_92 : FP RX13 "<init>" 92 13 21 (.array (.object "ModuleEngine$Row")) := ⟨(RX13, TX13, 27), tyX13, rfl, rfl, in_X13, by decide, tyX13_ok, nmX13, rfl, Or.inr ⟨rfl, rfl, rfl, q1052⟩⟩
theorem V.fpX13_95 : FP RX13 "<init>" 95 13 23 (.array .int) := ⟨(RX13, TX13, 27), tyX13, rfl, rfl, in_X13, by decide, tyX13_ok, nmX13, rfl, Or.inr ⟨rfl, rfl, rfl, q1055⟩⟩
theorem V.fpX13_100 : FP RX13 "<init>" 100 13 25 (.array (.object "ModuleEngine$Walker")) := ⟨(RX13, TX13, 27), tyX13, rfl, rfl, in_X13, by decide, tyX13_ok, nmX13, rfl, Or.inr ⟨rfl, rfl, rfl, q1057⟩⟩
theorem V.fpX13_104 : FP RX13 "<init>" 104 13 26 (.object "ModuleEngine$Row") := ⟨(RX13, TX13, 27), tyX13, rfl, rfl, in_X13, by decide, tyX13_ok, nmX13, rfl, Or.inr ⟨rfl, rfl, rfl, q1058⟩⟩
/-! ModuleEngine$Store.<init>()V -/
def V.Sto_init (σ : HS) (x0 : Nat) : Option (Unit × HS) :=
  ck (¬ x0 = 0) <|
  ck (lenok (16 : Int32)) <| newa σ 105 (16 : Int32) fun a1 σ2 =>
  ck (tg σ2 x0 = 14) <| bn (sR σ2 x0 0 a1) fun σ3 =>
  ck (lenok (16 : Int32)) <| newa σ3 100 (16 : Int32) fun a4 σ5 =>
  ck (tg σ5 x0 = 14) <| bn (sR σ5 x0 1 a4) fun σ6 =>
  newr σ6 fun a7 σ8 =>
  ck (tg σ8 x0 = 14) <| bn (sR σ8 x0 3 a7) fun σ9 =>
  newr σ9 fun a10 σ11 =>
  ck (tg σ11 x0 = 14) <| bn (sR σ11 x0 4 a10) fun σ12 =>
  newr σ12 fun a13 σ14 =>
  ck (tg σ14 x0 = 14) <| bn (sR σ14 x0 5 a13) fun σ15 =>
  newr σ15 fun a16 σ17 =>
  ck (tg σ17 x0 = 14) <| bn (sR σ17 x0 6 a16) fun σ18 =>
  newo σ18 15 7 fun a19 σ20 =>
  ck (lenok (1024 : Int32)) <| newa σ20 100 (1024 : Int32) fun a21 σ22 =>
  ck (lenok (32 : Int32)) <| newa σ22 100 (32 : Int32) fun a23 σ24 =>
  ck (lenok (32 : Int32)) <| newa σ24 100 (32 : Int32) fun a25 σ26 =>
  ck (lenok (32 : Int32)) <| newa σ26 100 (32 : Int32) fun a27 σ28 =>
  ck (lenok (32 : Int32)) <| newa σ28 101 (32 : Int32) fun a29 σ30 =>
  ck (¬ a19 = 0) <| cl (Tab_init σ30 a19 a21 a23 a25 a27 a29) fun _ σ31 =>
  ck (tg σ31 x0 = 14) <| bn (sR σ31 x0 7 a19) fun σ32 =>
  newo σ32 16 8 fun a33 σ34 =>
  ck (lenok (524288 : Int32)) <| newa σ34 102 (524288 : Int32) fun a35 σ36 =>
  ck (lenok (128 : Int32)) <| newa σ36 100 (128 : Int32) fun a37 σ38 =>
  ck (lenok (16 : Int32)) <| newa σ38 100 (16 : Int32) fun a39 σ40 =>
  ck (lenok (16 : Int32)) <| newa σ40 100 (16 : Int32) fun a41 σ42 =>
  ck (¬ a33 = 0) <| cl (Pag_init σ42 a33 (16 : Int32) a35 a37 a39 a41) fun _ σ43 =>
  ck (tg σ43 x0 = 14) <| bn (sR σ43 x0 8 a33) fun σ44 =>
  newr σ44 fun a45 σ46 =>
  ck (tg σ46 x0 = 14) <| bn (sR σ46 x0 9 a45) fun σ47 =>
  newr σ47 fun a48 σ49 =>
  ck (tg σ49 x0 = 14) <| bn (sR σ49 x0 10 a48) fun σ50 =>
  newr σ50 fun a51 σ52 =>
  ck (tg σ52 x0 = 14) <| bn (sR σ52 x0 11 a51) fun σ53 =>
  newr σ53 fun a54 σ55 =>
  ck (tg σ55 x0 = 14) <| bn (sR σ55 x0 12 a54) fun σ56 =>
  ck (lenok (256 : Int32)) <| newa σ56 101 (256 : Int32) fun a57 σ58 =>
  ck (tg σ58 x0 = 14) <| bn (sR σ58 x0 13 a57) fun σ59 =>
  ck (lenok (16 : Int32)) <| newa σ59 100 (16 : Int32) fun a60 σ61 =>
  ck (tg σ61 x0 = 14) <| bn (sR σ61 x0 14 a60) fun σ62 =>
  ck (lenok (16 : Int32)) <| newa σ62 104 (16 : Int32) fun a63 σ64 =>
  ck (tg σ64 x0 = 14) <| bn (sR σ64 x0 15 a63) fun σ65 =>
  ck (lenok (16 : Int32)) <| newa σ65 104 (16 : Int32) fun a66 σ67 =>
  ck (tg σ67 x0 = 14) <| bn (sR σ67 x0 16 a66) fun σ68 =>
  ck (lenok (16 : Int32)) <| newa σ68 104 (16 : Int32) fun a69 σ70 =>
  ck (tg σ70 x0 = 14) <| bn (sR σ70 x0 17 a69) fun σ71 =>
  ck (lenok (16 : Int32)) <| newa σ71 104 (16 : Int32) fun a72 σ73 =>
  ck (tg σ73 x0 = 14) <| bn (sR σ73 x0 18 a72) fun σ74 =>
  ck (lenok (16 : Int32)) <| newa σ74 104 (16 : Int32) fun a75 σ76 =>
  ck (tg σ76 x0 = 14) <| bn (sR σ76 x0 19 a75) fun σ77 =>
  ck (lenok (16 : Int32)) <| newa σ77 104 (16 : Int32) fun a78 σ79 =>
  ck (tg σ79 x0 = 14) <| bn (sR σ79 x0 20 a78) fun σ80 =>
  ck (lenok (16 : Int32)) <| newa σ80 104 (16 : Int32) fun a81 σ82 =>
  ck (tg σ82 x0 = 14) <| bn (sR σ82 x0 21 a81) fun σ83 =>
  ck (lenok (2048 : Int32)) <| newa σ83 100 (2048 : Int32) fun a84 σ85 =>
  ck (tg σ85 x0 = 14) <| bn (sR σ85 x0 23 a84) fun σ86 =>
  ck (lenok (16 : Int32)) <| newa σ86 106 (16 : Int32) fun a87 σ88 =>
  ck (tg σ88 x0 = 14) <| bn (sR σ88 x0 25 a87) fun σ89 =>
  newr σ89 fun a90 σ91 =>
  ck (tg σ91 x0 = 14) <| bn (sR σ91 x0 26 a90) fun σ92 =>
  some ((), σ92)
theorem V.ctX13_init (x0 : Nat) : Ct yX13_init  cX13_init 1 none 2 49 eV [av x0] (fun σ => Sto_init σ x0) := by
  refine Ct.of (own := RX13) (nm := "<init>") (desc := "()V") rfl (by decide) (Nat.le_of_ble_eq_true rfl) (by decide) (fun X σ => ?_)
  show G X RX13 "<init>" cX13_init 1 none 2 49 enV 0 [(0, av x0)] [] σ (Sto_init σ x0)
  unfold Sto_init
  refine g_aload_n 0 0 dX13_init_0 rfl rfl ?_
  refine g_objInit q947 (Nat.le_of_ble_eq_true rfl) (Nat.le_of_ble_eq_true rfl) dX13_init_1 ?_
  refine g_aload_n 0 0 dX13_init_4 rfl rfl ?_
  refine g_bipush (v := 16) dX13_init_5 (by decide) ?_
  refine g_anewarray 5 rfl q948 (by decide) dX13_init_7 (fun a1 σ2 => ?_)
  refine g_putR fpX13_11 rfl dX13_init_10 (fun σ3 => ?_)
  refine g_aload_n 0 0 dX13_init_13 rfl rfl ?_
  refine g_bipush (v := 16) dX13_init_14 (by decide) ?_
  refine g_na_int dX13_init_16 (fun a4 σ5 => ?_)
  refine g_putR fpX13_15 rfl dX13_init_18 (fun σ6 => ?_)
  refine g_aload_n 0 0 dX13_init_21 rfl rfl ?_
  refine g_newr ndX13_19 q411 mdX13_21 (Nat.le_of_ble_eq_true rfl) (Nat.le_of_ble_eq_true rfl) (Nat.le_of_ble_eq_true rfl) dX13_init_22 dX13_init_25 dX13_init_26 (fun a7 σ8 => ?_)
  refine g_putR fpX13_22 rfl dX13_init_29 (fun σ9 => ?_)
  refine g_aload_n 0 0 dX13_init_32 rfl rfl ?_
  refine g_newr ndX13_19 q411 mdX13_21 (Nat.le_of_ble_eq_true rfl) (Nat.le_of_ble_eq_true rfl) (Nat.le_of_ble_eq_true rfl) dX13_init_33 dX13_init_36 dX13_init_37 (fun a10 σ11 => ?_)
  refine g_putR fpX13_26 rfl dX13_init_40 (fun σ12 => ?_)
  refine g_aload_n 0 0 dX13_init_43 rfl rfl ?_
  refine g_newr ndX13_19 q411 mdX13_21 (Nat.le_of_ble_eq_true rfl) (Nat.le_of_ble_eq_true rfl) (Nat.le_of_ble_eq_true rfl) dX13_init_44 dX13_init_47 dX13_init_48 (fun a13 σ14 => ?_)
  refine g_putR fpX13_29 rfl dX13_init_51 (fun σ15 => ?_)
  refine g_aload_n 0 0 dX13_init_54 rfl rfl ?_
  refine g_newr ndX13_19 q411 mdX13_21 (Nat.le_of_ble_eq_true rfl) (Nat.le_of_ble_eq_true rfl) (Nat.le_of_ble_eq_true rfl) dX13_init_55 dX13_init_58 dX13_init_59 (fun a16 σ17 => ?_)
  refine g_putR fpX13_32 rfl dX13_init_62 (fun σ18 => ?_)
  refine g_aload_n 0 0 dX13_init_65 rfl rfl ?_
  refine g_newo ndX13_35 dX13_init_66 (fun a19 σ20 => ?_)
  refine g_dup dX13_init_69 rfl ?_
  refine g_sipush (v := 1024) dX13_init_70 (by decide) ?_
  refine g_na_int dX13_init_73 (fun a21 σ22 => ?_)
  refine g_bipush (v := 32) dX13_init_75 (by decide) ?_
  refine g_na_int dX13_init_77 (fun a23 σ24 => ?_)
  refine g_bipush (v := 32) dX13_init_79 (by decide) ?_
  refine g_na_int dX13_init_81 (fun a25 σ26 => ?_)
  refine g_bipush (v := 32) dX13_init_83 (by decide) ?_
  refine g_na_int dX13_init_85 (fun a27 σ28 => ?_)
  refine g_bipush (v := 32) dX13_init_87 (by decide) ?_
  refine g_na_long dX13_init_89 (fun a29 σ30 => ?_)
  refine g_callI (fc := fun sς => Tab_init sς a19 a21 a23 a25 a27 a29) (as := [av a21, av a23, av a25, av a27, av a29]) rfl q955 mdX13_37 (ctX14_init a19 a21 a23 a25 a27 a29) rfl (Nat.le_of_ble_eq_true rfl) (Nat.le_of_ble_eq_true rfl) (Nat.le_of_ble_eq_true rfl) pu_V dX13_init_91 (fun _ σ31 => ?_)
  refine g_putR fpX13_40 rfl dX13_init_94 (fun σ32 => ?_)
  refine g_aload_n 0 0 dX13_init_97 rfl rfl ?_
  refine g_newo ndX13_44 dX13_init_98 (fun a33 σ34 => ?_)
  refine g_dup dX13_init_101 rfl ?_
  refine g_bipush (v := 16) dX13_init_102 (by decide) ?_
  refine g_ldc q982 dX13_init_104 ?_
  refine g_na_byte dX13_init_106 (fun a35 σ36 => ?_)
  refine g_sipush (v := 128) dX13_init_108 (by decide) ?_
  refine g_na_int dX13_init_111 (fun a37 σ38 => ?_)
  refine g_bipush (v := 16) dX13_init_113 (by decide) ?_
  refine g_na_int dX13_init_115 (fun a39 σ40 => ?_)
  refine g_bipush (v := 16) dX13_init_117 (by decide) ?_
  refine g_na_int dX13_init_119 (fun a41 σ42 => ?_)
  refine g_callI (fc := fun sς => Pag_init sς a33 (16 : Int32) a35 a37 a39 a41) (as := [iv (16 : Int32), av a35, av a37, av a39, av a41]) rfl q984 mdX13_47 (ctX15_init a33 (16 : Int32) a35 a37 a39 a41) rfl (Nat.le_of_ble_eq_true rfl) (Nat.le_of_ble_eq_true rfl) (Nat.le_of_ble_eq_true rfl) pu_V dX13_init_121 (fun _ σ43 => ?_)
  refine g_putR fpX13_50 rfl dX13_init_124 (fun σ44 => ?_)
  refine g_aload_n 0 0 dX13_init_127 rfl rfl ?_
  refine g_newr ndX13_19 q411 mdX13_21 (Nat.le_of_ble_eq_true rfl) (Nat.le_of_ble_eq_true rfl) (Nat.le_of_ble_eq_true rfl) dX13_init_128 dX13_init_131 dX13_init_132 (fun a45 σ46 => ?_)
  refine g_putR fpX13_54 rfl dX13_init_135 (fun σ47 => ?_)
  refine g_aload_n 0 0 dX13_init_138 rfl rfl ?_
  refine g_newr ndX13_19 q411 mdX13_21 (Nat.le_of_ble_eq_true rfl) (Nat.le_of_ble_eq_true rfl) (Nat.le_of_ble_eq_true rfl) dX13_init_139 dX13_init_142 dX13_init_143 (fun a48 σ49 => ?_)
  refine g_putR fpX13_57 rfl dX13_init_146 (fun σ50 => ?_)
  refine g_aload_n 0 0 dX13_init_149 rfl rfl ?_
  refine g_newr ndX13_19 q411 mdX13_21 (Nat.le_of_ble_eq_true rfl) (Nat.le_of_ble_eq_true rfl) (Nat.le_of_ble_eq_true rfl) dX13_init_150 dX13_init_153 dX13_init_154 (fun a51 σ52 => ?_)
  refine g_putR fpX13_60 rfl dX13_init_157 (fun σ53 => ?_)
  refine g_aload_n 0 0 dX13_init_160 rfl rfl ?_
  refine g_newr ndX13_19 q411 mdX13_21 (Nat.le_of_ble_eq_true rfl) (Nat.le_of_ble_eq_true rfl) (Nat.le_of_ble_eq_true rfl) dX13_init_161 dX13_init_164 dX13_init_165 (fun a54 σ55 => ?_)
  refine g_putR fpX13_63 rfl dX13_init_168 (fun σ56 => ?_)
  refine g_aload_n 0 0 dX13_init_171 rfl rfl ?_
  refine g_sipush (v := 256) dX13_init_172 (by decide) ?_
  refine g_na_long dX13_init_175 (fun a57 σ58 => ?_)
  refine g_putR fpX13_66 rfl dX13_init_177 (fun σ59 => ?_)
  refine g_aload_n 0 0 dX13_init_180 rfl rfl ?_
  refine g_bipush (v := 16) dX13_init_181 (by decide) ?_
  refine g_na_int dX13_init_183 (fun a60 σ61 => ?_)
  refine g_putR fpX13_70 rfl dX13_init_185 (fun σ62 => ?_)
  refine g_aload_n 0 0 dX13_init_188 rfl rfl ?_
  refine g_bipush (v := 16) dX13_init_189 (by decide) ?_
  refine g_anewarray 4 rfl q950 (by decide) dX13_init_191 (fun a63 σ64 => ?_)
  refine g_putR fpX13_73 rfl dX13_init_194 (fun σ65 => ?_)
  refine g_aload_n 0 0 dX13_init_197 rfl rfl ?_
  refine g_bipush (v := 16) dX13_init_198 (by decide) ?_
  refine g_anewarray 4 rfl q950 (by decide) dX13_init_200 (fun a66 σ67 => ?_)
  refine g_putR fpX13_77 rfl dX13_init_203 (fun σ68 => ?_)
  refine g_aload_n 0 0 dX13_init_206 rfl rfl ?_
  refine g_bipush (v := 16) dX13_init_207 (by decide) ?_
  refine g_anewarray 4 rfl q950 (by decide) dX13_init_209 (fun a69 σ70 => ?_)
  refine g_putR fpX13_80 rfl dX13_init_212 (fun σ71 => ?_)
  refine g_aload_n 0 0 dX13_init_215 rfl rfl ?_
  refine g_bipush (v := 16) dX13_init_216 (by decide) ?_
  refine g_anewarray 4 rfl q950 (by decide) dX13_init_218 (fun a72 σ73 => ?_)
  refine g_putR fpX13_83 rfl dX13_init_221 (fun σ74 => ?_)
  refine g_aload_n 0 0 dX13_init_224 rfl rfl ?_
  refine g_bipush (v := 16) dX13_init_225 (by decide) ?_
  refine g_anewarray 4 rfl q950 (by decide) dX13_init_227 (fun a75 σ76 => ?_)
  refine g_putR fpX13_86 rfl dX13_init_230 (fun σ77 => ?_)
  refine g_aload_n 0 0 dX13_init_233 rfl rfl ?_
  refine g_bipush (v := 16) dX13_init_234 (by decide) ?_
  refine g_anewarray 4 rfl q950 (by decide) dX13_init_236 (fun a78 σ79 => ?_)
  refine g_putR fpX13_89 rfl dX13_init_239 (fun σ80 => ?_)
  refine g_aload_n 0 0 dX13_init_242 rfl rfl ?_
  refine g_bipush (v := 16) dX13_init_243 (by decide) ?_
  refine g_anewarray 4 rfl q950 (by decide) dX13_init_245 (fun a81 σ82 => ?_)
  refine g_putR fpX13_92 rfl dX13_init_248 (fun σ83 => ?_)
  refine g_aload_n 0 0 dX13_init_251 rfl rfl ?_
  refine g_sipush (v := 2048) dX13_init_252 (by decide) ?_
  refine g_na_int dX13_init_255 (fun a84 σ85 => ?_)
  refine g_putR fpX13_95 rfl dX13_init_257 (fun σ86 => ?_)
  refine g_aload_n 0 0 dX13_init_260 rfl rfl ?_
  refine g_bipush (v := 16) dX13_init_261 (by decide) ?_
  refine g_anewarray 6 rfl q1012 (by decide) dX13_init_263 (fun a87 σ88 => ?_)
  refine g_putR fpX13_100 rfl dX13_init_266 (fun σ89 => ?_)
  refine g_aload_n 0 0 dX13_init_269 rfl rfl ?_
  refine g_newr ndX13_19 q411 mdX13_21 (Nat.le_of_ble_eq_true rfl) (Nat.le_of_ble_eq_true rfl) (Nat.le_of_ble_eq_true rfl) dX13_init_270 dX13_init_273 dX13_init_274 (fun a90 σ91 => ?_)
  refine g_putR fpX13_104 rfl dX13_init_277 (fun σ92 => ?_)
  exact g_return rfl dX13_init_280
theorem V.dX13_add_0 : decode cX13_add 0 = .ok (.aload_n 0, 1) := by decide +kernel
theorem V.dX13_add_1 : decode cX13_add 1 = .ok (.getfield 11, 3) := by decide +kernel
theorem V.dX13_add_4 : decode cX13_add 4 = .ok (.aload_n 0, 1) := by decide +kernel
theorem V.dX13_add_5 : decode cX13_add 5 = .ok (.getfield 136, 3) := by decide +kernel
theorem V.dX13_add_8 : decode cX13_add 8 = .ok (.aload_n 1, 1) := by decide +kernel
theorem V.dX13_add_9 : decode cX13_add 9 = .ok (.aastore, 1) := by decide +kernel
theorem V.dX13_add_10 : decode cX13_add 10 = .ok (.aload_n 0, 1) := by decide +kernel
theorem V.dX13_add_11 : decode cX13_add 11 = .ok (.getfield 15, 3) := by decide +kernel
theorem V.dX13_add_14 : decode cX13_add 14 = .ok (.aload_n 0, 1) := by decide +kernel
theorem V.dX13_add_15 : decode cX13_add 15 = .ok (.getfield 136, 3) := by decide +kernel
theorem V.dX13_add_18 : decode cX13_add 18 = .ok (.iload_n 2, 1) := by decide +kernel
theorem V.dX13_add_19 : decode cX13_add 19 = .ok (.iastore, 1) := by decide +kernel
theorem V.dX13_add_20 : decode cX13_add 20 = .ok (.aload_n 0, 1) := by decide +kernel
theorem V.dX13_add_21 : decode cX13_add 21 = .ok (.getfield 100, 3) := by decide +kernel
theorem V.dX13_add_24 : decode cX13_add 24 = .ok (.aload_n 0, 1) := by decide +kernel
theorem V.dX13_add_25 : decode cX13_add 25 = .ok (.getfield 136, 3) := by decide +kernel
theorem V.dX13_add_28 : decode cX13_add 28 = .ok (.new 98, 3) := by decide +kernel
theorem V.dX13_add_31 : decode cX13_add 31 = .ok (.dup, 1) := by decide +kernel
theorem V.dX13_add_32 : decode cX13_add 32 = .ok (.invokespecial 139, 3) := by decide +kernel
theorem V.dX13_add_35 : decode cX13_add 35 = .ok (.aastore, 1) := by decide +kernel
theorem V.dX13_add_36 : decode cX13_add 36 = .ok (.aload_n 0, 1) := by decide +kernel
theorem V.dX13_add_37 : decode cX13_add 37 = .ok (.getfield 100, 3) := by decide +kernel
theorem V.dX13_add_40 : decode cX13_add 40 = .ok (.aload_n 0, 1) := by decide +kernel
theorem V.dX13_add_41 : decode cX13_add 41 = .ok (.getfield 136, 3) := by decide +kernel
theorem V.dX13_add_44 : decode cX13_add 44 = .ok (.aaload, 1) := by decide +kernel
theorem V.dX13_add_45 : decode cX13_add 45 = .ok (.aload_n 1, 1) := by decide +kernel
theorem V.dX13_add_46 : decode cX13_add 46 = .ok (.getfield 140, 3) := by decide +kernel
theorem V.dX13_add_49 : decode cX13_add 49 = .ok (.invokevirtual 144, 3) := by decide +kernel
theorem V.dX13_add_52 : decode cX13_add 52 = .ok (.aload_n 0, 1) := by decide +kernel
theorem V.dX13_add_53 : decode cX13_add 53 = .ok (.dup, 1) := by decide +kernel
theorem V.dX13_add_54 : decode cX13_add 54 = .ok (.getfield 136, 3) := by decide +kernel
theorem V.dX13_add_57 : decode cX13_add 57 = .ok (.iconst 1, 1) := by decide +kernel
theorem V.dX13_add_58 : decode cX13_add 58 = .ok (.iadd, 1) := by decide +kernel
theorem V.dX13_add_59 : decode cX13_add 59 = .ok (.putfield 136, 3) := by decide +kernel
theorem V.dX13_add_62 : decode cX13_add 62 = .ok (.return_, 1) := by decide +kernel
theorem V.fdX13_11 : FD RX13 11 13 0 2 := ⟨(RX13, TX13, 27), tyX13, rfl, rfl, in_X13, by decide, Or.inl q1014, rfl⟩
theorem V.fdX13_136 : FD RX13 136 13 2 0 := ⟨(RX13, TX13, 27), tyX13, rfl, rfl, in_X13, by decide, Or.inl q1018, rfl⟩
theorem V.fdX13_15 : FD RX13 15 13 1 2 := ⟨(RX13, TX13, 27), tyX13, rfl, rfl, in_X13, by decide, Or.inl q1015, rfl⟩
theorem V.fdX13_100 : FD RX13 100 13 25 2 := ⟨(RX13, TX13, 27), tyX13, rfl, rfl, in_X13, by decide, Or.inl q1057, rfl⟩
theorem V.ndX13_98 : ND RX13 98 12 8 := ⟨(RX12, TX12, 8), tyX12, rfl, rfl, in_X12, tyX12_ok, by decide, q1012, q872, q372⟩
theorem V.mdX13_139 : MD RX13 139 yX12_init cX12_init 1 none 0 := ⟨Or.inr ⟨_, q2144⟩, q372, q875, by decide, by decide, by decide +kernel⟩
theorem V.fdX13_140 : FD RX13 140 2 0 2 := ⟨(RX2, TX2, 21), tyX2, rfl, rfl, in_X2, by decide, Or.inr ⟨_, q427⟩, rfl⟩
theorem V.mdX13_144 : MD RX13 144 yX12_over cX12_over 2 none 1 := ⟨Or.inl q2145, q372, q1539, by decide, by decide, by decide +kernel⟩
theorem V.fpX13_136 {nm : String} : FP RX13 nm 136 13 2 (.int) := ⟨(RX13, TX13, 27), tyX13, rfl, rfl, in_X13, by decide, tyX13_ok, nmX13, rfl, Or.inl ⟨rfl, Or.inl q1018⟩⟩
/-! ModuleEngine$Store.add(LModuleEngine$Module;I)V -/
def V.Sto_add (σ : HS) (x0 : Nat) (x1 : Nat) (x2 : Int32) : Option (Unit × HS) :=
  ck (tg σ x0 = 14) <|
  ck (tg σ x0 = 14) <|
  ck (tg σ (gR σ x0 0) = 105 ∧ inb (gI σ x0 2) (ln σ (gR σ x0 0)) ∧ tg σ x1 = 3) <| bn (sR σ (gR σ x0 0) (ix (gI σ x0 2)) x1) fun σ1 =>
  ck (tg σ1 x0 = 14) <|
  ck (tg σ1 x0 = 14) <|
  ck (tg σ1 (gR σ1 x0 1) = 100 ∧ inb (gI σ1 x0 2) (ln σ1 (gR σ1 x0 1))) <| bn (sI σ1 (gR σ1 x0 1) (ix (gI σ1 x0 2)) x2) fun σ2 =>
  ck (tg σ2 x0 = 14) <|
  ck (tg σ2 x0 = 14) <|
  newo σ2 13 8 fun a3 σ4 =>
  ck (¬ a3 = 0) <| cl (Wlk_init σ4 a3 ) fun _ σ5 =>
  ck (tg σ5 (gR σ2 x0 25) = 106 ∧ inb (gI σ2 x0 2) (ln σ5 (gR σ2 x0 25)) ∧ tg σ5 a3 = 13) <| bn (sR σ5 (gR σ2 x0 25) (ix (gI σ2 x0 2)) a3) fun σ6 =>
  ck (tg σ6 x0 = 14) <|
  ck (tg σ6 x0 = 14) <|
  ck (tg σ6 (gR σ6 x0 25) = 106 ∧ inb (gI σ6 x0 2) (ln σ6 (gR σ6 x0 25))) <|
  ck (tg σ6 x1 = 3) <|
  ck (tg σ6 (gR σ6 (gR σ6 x0 25) (ix (gI σ6 x0 2))) = 13) <| cl (Wlk_over σ6 (gR σ6 (gR σ6 x0 25) (ix (gI σ6 x0 2))) (gR σ6 x1 0)) fun _ σ7 =>
  ck (tg σ7 x0 = 14) <|
  ck (tg σ7 x0 = 14) <| bn (sI σ7 x0 2 ((gI σ7 x0 2) + (1 : Int32))) fun σ8 =>
  some ((), σ8)
theorem V.ctX13_add (x0 : Nat) (x1 : Nat) (x2 : Int32) : Ct yX13_add  cX13_add 3 none 3 64 eV [av x0, av x1, iv x2] (fun σ => Sto_add σ x0 x1 x2) := by
  refine Ct.of (own := RX13) (nm := "add") (desc := "(LModuleEngine$Module;I)V") rfl (by decide) (Nat.le_of_ble_eq_true rfl) (by decide) (fun X σ => ?_)
  show G X RX13 "add" cX13_add 3 none 3 64 enV 0 [(0, av x0), (1, av x1), (2, iv x2)] [] σ (Sto_add σ x0 x1 x2)
  unfold Sto_add
  refine g_aload_n 0 0 dX13_add_0 rfl rfl ?_
  refine g_getR fdX13_11 dX13_add_1 ?_
  refine g_aload_n 0 0 dX13_add_4 rfl rfl ?_
  refine g_getI fdX13_136 dX13_add_5 ?_
  refine g_aload_n 1 1 dX13_add_8 rfl rfl ?_
  refine g_aastore 5 2 rfl rfl rfl dX13_add_9 (fun σ1 => ?_)
  refine g_aload_n 0 0 dX13_add_10 rfl rfl ?_
  refine g_getR fdX13_15 dX13_add_11 ?_
  refine g_aload_n 0 0 dX13_add_14 rfl rfl ?_
  refine g_getI fdX13_136 dX13_add_15 ?_
  refine g_iload_n 2 2 dX13_add_18 rfl rfl ?_
  refine g_iastore dX13_add_19 (fun σ2 => ?_)
  refine g_aload_n 0 0 dX13_add_20 rfl rfl ?_
  refine g_getR fdX13_100 dX13_add_21 ?_
  refine g_aload_n 0 0 dX13_add_24 rfl rfl ?_
  refine g_getI fdX13_136 dX13_add_25 ?_
  refine g_newo ndX13_98 dX13_add_28 (fun a3 σ4 => ?_)
  refine g_dup dX13_add_31 rfl ?_
  refine g_callI (fc := fun sς => Wlk_init sς a3 ) (as := []) rfl q874 mdX13_139 (ctX12_init a3 ) rfl (Nat.le_of_ble_eq_true rfl) (Nat.le_of_ble_eq_true rfl) (Nat.le_of_ble_eq_true rfl) pu_V dX13_add_32 (fun _ σ5 => ?_)
  refine g_aastore 6 12 rfl rfl rfl dX13_add_35 (fun σ6 => ?_)
  refine g_aload_n 0 0 dX13_add_36 rfl rfl ?_
  refine g_getR fdX13_100 dX13_add_37 ?_
  refine g_aload_n 0 0 dX13_add_40 rfl rfl ?_
  refine g_getI fdX13_136 dX13_add_41 ?_
  refine g_aaload 6 rfl dX13_add_44 ?_
  refine g_aload_n 1 1 dX13_add_45 rfl rfl ?_
  refine g_getR fdX13_140 dX13_add_46 ?_
  refine g_callV (fc := fun sς => Wlk_over sς (gR σ6 (gR σ6 x0 25) (ix (gI σ6 x0 2))) (gR σ6 x1 0)) (ci := 12) (as := [av (gR σ6 x1 0)]) rfl rfl rfl q1537 q1538 mdX13_144 (ctX12_over (gR σ6 (gR σ6 x0 25) (ix (gI σ6 x0 2))) (gR σ6 x1 0)) rfl (Nat.le_of_ble_eq_true rfl) (Nat.le_of_ble_eq_true rfl) (Nat.le_of_ble_eq_true rfl) pu_V dX13_add_49 (fun _ σ7 => ?_)
  refine g_aload_n 0 0 dX13_add_52 rfl rfl ?_
  refine g_dup dX13_add_53 rfl ?_
  refine g_getI fdX13_136 dX13_add_54 ?_
  refine g_iconst (v := 1) dX13_add_57 (by decide) ?_
  refine g_iadd dX13_add_58 ?_
  refine g_putI fpX13_136 dX13_add_59 (fun σ8 => ?_)
  exact g_return rfl dX13_add_62
theorem V.dX13_isInstance_0 : decode cX13_isInstance 0 = .ok (.iload_n 1, 1) := by decide +kernel
theorem V.dX13_isInstance_1 : decode cX13_isInstance 1 = .ok (.ifCond .lt 15, 3) := by decide +kernel
theorem V.dX13_isInstance_4 : decode cX13_isInstance 4 = .ok (.iload_n 1, 1) := by decide +kernel
theorem V.dX13_isInstance_5 : decode cX13_isInstance 5 = .ok (.aload_n 0, 1) := by decide +kernel
theorem V.dX13_isInstance_6 : decode cX13_isInstance 6 = .ok (.getfield 115, 3) := by decide +kernel
theorem V.dX13_isInstance_9 : decode cX13_isInstance 9 = .ok (.if_icmp .ge 7, 3) := by decide +kernel
theorem V.dX13_isInstance_12 : decode cX13_isInstance 12 = .ok (.iconst 1, 1) := by decide +kernel
theorem V.dX13_isInstance_13 : decode cX13_isInstance 13 = .ok (.goto 4, 3) := by decide +kernel
theorem V.dX13_isInstance_16 : decode cX13_isInstance 16 = .ok (.iconst 0, 1) := by decide +kernel
theorem V.dX13_isInstance_17 : decode cX13_isInstance 17 = .ok (.ireturn, 1) := by decide +kernel
theorem V.fdX13_115 : FD RX13 115 13 22 0 := ⟨(RX13, TX13, 27), tyX13, rfl, rfl, in_X13, by decide, Or.inl q1053, rfl⟩
/-! ModuleEngine$Store.isInstance(I)Z -/
def V.Sto_isInstance (σ : HS) (x0 : Nat) (x1 : Int32) : Option (Int32 × HS) :=
  if x1 < 0 then (
    some ((0 : Int32), σ))
  else (
    ck (tg σ x0 = 14) <|
    if (gI σ x0 22) ≤ x1 then (
      some ((0 : Int32), σ))
    else (
      some ((1 : Int32), σ)))
theorem V.ctX13_isInstance (x0 : Nat) (x1 : Int32) : Ct yX13_isInstance  cX13_isInstance 2 (some .boolean) 0 0 eI [av x0, iv x1] (fun σ => Sto_isInstance σ x0 x1) := by
  refine Ct.of (own := RX13) (nm := "isInstance") (desc := "(I)Z") rfl (by decide) (Nat.le_of_ble_eq_true rfl) (by decide) (fun X σ => ?_)
  show G X RX13 "isInstance" cX13_isInstance 2 (some .boolean) 0 0 enI 0 [(0, av x0), (1, iv x1)] [] σ (Sto_isInstance σ x0 x1)
  unfold Sto_isInstance
  refine g_iload_n 1 1 dX13_isInstance_0 rfl rfl ?_
  refine g_if_lt 16 dX13_isInstance_1 (by decide) ?_ ?_
  · refine g_iconst (v := 0) dX13_isInstance_16 (by decide) ?_
    exact g_zreturn rfl (by decide +kernel) dX13_isInstance_17
  · refine g_iload_n 1 1 dX13_isInstance_4 rfl rfl ?_
    refine g_aload_n 0 0 dX13_isInstance_5 rfl rfl ?_
    refine g_getI fdX13_115 dX13_isInstance_6 ?_
    refine g_icmp_ge 16 dX13_isInstance_9 (by decide) ?_ ?_
    · refine g_iconst (v := 0) dX13_isInstance_16 (by decide) ?_
      exact g_zreturn rfl (by decide +kernel) dX13_isInstance_17
    · refine g_iconst (v := 1) dX13_isInstance_12 (by decide) ?_
      refine g_goto 17 dX13_isInstance_13 (by decide) ?_
      exact g_zreturn rfl (by decide +kernel) dX13_isInstance_17
theorem V.dX13_exports_0 : decode cX13_exports 0 = .ok (.aload_n 0, 1) := by decide +kernel
theorem V.dX13_exports_1 : decode cX13_exports 1 = .ok (.getfield 11, 3) := by decide +kernel
theorem V.dX13_exports_4 : decode cX13_exports 4 = .ok (.aload_n 0, 1) := by decide +kernel
theorem V.dX13_exports_5 : decode cX13_exports 5 = .ok (.getfield 70, 3) := by decide +kernel
theorem V.dX13_exports_8 : decode cX13_exports 8 = .ok (.iload_n 1, 1) := by decide +kernel
theorem V.dX13_exports_9 : decode cX13_exports 9 = .ok (.iaload, 1) := by decide +kernel
theorem V.dX13_exports_10 : decode cX13_exports 10 = .ok (.aaload, 1) := by decide +kernel
theorem V.dX13_exports_11 : decode cX13_exports 11 = .ok (.getfield 152, 3) := by decide +kernel
theorem V.dX13_exports_14 : decode cX13_exports 14 = .ok (.invokevirtual 107, 3) := by decide +kernel
theorem V.dX13_exports_17 : decode cX13_exports 17 = .ok (.iconst 4, 1) := by decide +kernel
theorem V.dX13_exports_18 : decode cX13_exports 18 = .ok (.idiv, 1) := by decide +kernel
theorem V.dX13_exports_19 : decode cX13_exports 19 = .ok (.ireturn, 1) := by decide +kernel
theorem V.fdX13_70 : FD RX13 70 13 14 2 := ⟨(RX13, TX13, 27), tyX13, rfl, rfl, in_X13, by decide, Or.inl q1041, rfl⟩
theorem V.fdX13_152 : FD RX13 152 2 8 2 := ⟨(RX2, TX2, 21), tyX2, rfl, rfl, in_X2, by decide, Or.inr ⟨_, q454⟩, rfl⟩
theorem V.mdX13_107 : MD RX13 107 yX3_size cX3_size 1 (some .int) 0 := ⟨Or.inl q2170, q363, q1423, by decide, by decide, by decide +kernel⟩
/-! ModuleEngine$Store.exports(I)I -/
def V.Sto_exports (σ : HS) (x0 : Nat) (x1 : Int32) : Option (Int32 × HS) :=
  ck (tg σ x0 = 14) <|
  ck (tg σ x0 = 14) <|
  ck (tg σ (gR σ x0 14) = 100 ∧ inb x1 (ln σ (gR σ x0 14))) <|
  ck (tg σ (gR σ x0 0) = 105 ∧ inb (gI σ (gR σ x0 14) (ix x1)) (ln σ (gR σ x0 0))) <|
  ck (tg σ (gR σ (gR σ x0 0) (ix (gI σ (gR σ x0 14) (ix x1)))) = 3) <|
  ck (tg σ (gR σ (gR σ (gR σ x0 0) (ix (gI σ (gR σ x0 14) (ix x1)))) 8) = 4) <| cl (Row_size σ (gR σ (gR σ (gR σ x0 0) (ix (gI σ (gR σ x0 14) (ix x1)))) 8) ) fun r2 σ1 =>
  ck (¬ (4 : Int32) = 0) <|
  some (r2 / (4 : Int32), σ1)
theorem V.ctX13_exports (x0 : Nat) (x1 : Int32) : Ct yX13_exports  cX13_exports 2 (some .int) 1 20 eI [av x0, iv x1] (fun σ => Sto_exports σ x0 x1) := by
  refine Ct.of (own := RX13) (nm := "exports") (desc := "(I)I") rfl (by decide) (Nat.le_of_ble_eq_true rfl) (by decide) (fun X σ => ?_)
  show G X RX13 "exports" cX13_exports 2 (some .int) 1 20 enI 0 [(0, av x0), (1, iv x1)] [] σ (Sto_exports σ x0 x1)
  unfold Sto_exports
  refine g_aload_n 0 0 dX13_exports_0 rfl rfl ?_
  refine g_getR fdX13_11 dX13_exports_1 ?_
  refine g_aload_n 0 0 dX13_exports_4 rfl rfl ?_
  refine g_getR fdX13_70 dX13_exports_5 ?_
  refine g_iload_n 1 1 dX13_exports_8 rfl rfl ?_
  refine g_iaload dX13_exports_9 ?_
  refine g_aaload 5 rfl dX13_exports_10 ?_
  refine g_getR fdX13_152 dX13_exports_11 ?_
  refine g_callV (fc := fun sς => Row_size sς (gR σ (gR σ (gR σ x0 0) (ix (gI σ (gR σ x0 14) (ix x1)))) 8) ) (ci := 3) (as := []) rfl rfl rfl q1421 q1422 mdX13_107 (ctX3_size (gR σ (gR σ (gR σ x0 0) (ix (gI σ (gR σ x0 14) (ix x1)))) 8) ) rfl (Nat.le_of_ble_eq_true rfl) (Nat.le_of_ble_eq_true rfl) (Nat.le_of_ble_eq_true rfl) pu_I dX13_exports_14 (fun r2 σ1 => ?_)
  refine g_iconst (v := 4) dX13_exports_17 (by decide) ?_
  refine g_idiv dX13_exports_18 ?_
  exact g_ireturn rfl dX13_exports_19
theorem V.dX13_isExport_0 : decode cX13_isExport 0 = .ok (.aload_n 0, 1) := by decide +kernel
theorem V.dX13_isExport_1 : decode cX13_isExport 1 = .ok (.iload_n 1, 1) := by decide +kernel
theorem V.dX13_isExport_2 : decode cX13_isExport 2 = .ok (.invokevirtual 155, 3) := by decide +kernel
theorem V.dX13_isExport_5 : decode cX13_isExport 5 = .ok (.ifCond .eq 20, 3) := by decide +kernel
theorem V.dX13_isExport_8 : decode cX13_isExport 8 = .ok (.iload_n 2, 1) := by decide +kernel
theorem V.dX13_isExport_9 : decode cX13_isExport 9 = .ok (.ifCond .lt 16, 3) := by decide +kernel
theorem V.dX13_isExport_12 : decode cX13_isExport 12 = .ok (.iload_n 2, 1) := by decide +kernel
theorem V.dX13_isExport_13 : decode cX13_isExport 13 = .ok (.aload_n 0, 1) := by decide +kernel
theorem V.dX13_isExport_14 : decode cX13_isExport 14 = .ok (.iload_n 1, 1) := by decide +kernel
theorem V.dX13_isExport_15 : decode cX13_isExport 15 = .ok (.invokevirtual 159, 3) := by decide +kernel
theorem V.dX13_isExport_18 : decode cX13_isExport 18 = .ok (.if_icmp .ge 7, 3) := by decide +kernel
theorem V.dX13_isExport_21 : decode cX13_isExport 21 = .ok (.iconst 1, 1) := by decide +kernel
theorem V.dX13_isExport_22 : decode cX13_isExport 22 = .ok (.goto 4, 3) := by decide +kernel
theorem V.dX13_isExport_25 : decode cX13_isExport 25 = .ok (.iconst 0, 1) := by decide +kernel
theorem V.dX13_isExport_26 : decode cX13_isExport 26 = .ok (.ireturn, 1) := by decide +kernel
theorem V.mdX13_155 : MD RX13 155 yX13_isInstance cX13_isInstance 2 (some .boolean) 1 := ⟨Or.inl q2162, q373, q2165, by decide, by decide, by decide +kernel⟩
theorem V.mdX13_159 : MD RX13 159 yX13_exports cX13_exports 2 (some .int) 1 := ⟨Or.inl q2166, q373, q2169, by decide, by decide, by decide +kernel⟩
/-! ModuleEngine$Store.isExport(II)Z -/
def V.Sto_isExport (σ : HS) (x0 : Nat) (x1 : Int32) (x2 : Int32) : Option (Int32 × HS) :=
  ck (tg σ x0 = 14) <| cl (Sto_isInstance σ x0 x1) fun r2 σ1 =>
  if r2 = 0 then (
    some ((0 : Int32), σ1))
  else (
    if x2 < 0 then (
      some ((0 : Int32), σ1))
    else (
      ck (tg σ1 x0 = 14) <| cl (Sto_exports σ1 x0 x1) fun r4 σ3 =>
      if r4 ≤ x2 then (
        some ((0 : Int32), σ3))
      else (
        some ((1 : Int32), σ3))))
theorem V.ctX13_isExport (x0 : Nat) (x1 : Int32) (x2 : Int32) : Ct yX13_isExport  cX13_isExport 3 (some .boolean) 2 41 eI [av x0, iv x1, iv x2] (fun σ => Sto_isExport σ x0 x1 x2) := by
  refine Ct.of (own := RX13) (nm := "isExport") (desc := "(II)Z") rfl (by decide) (Nat.le_of_ble_eq_true rfl) (by decide) (fun X σ => ?_)
  show G X RX13 "isExport" cX13_isExport 3 (some .boolean) 2 41 enI 0 [(0, av x0), (1, iv x1), (2, iv x2)] [] σ (Sto_isExport σ x0 x1 x2)
  unfold Sto_isExport
  refine g_aload_n 0 0 dX13_isExport_0 rfl rfl ?_
  refine g_iload_n 1 1 dX13_isExport_1 rfl rfl ?_
  refine g_callV (fc := fun sς => Sto_isInstance sς x0 x1) (ci := 13) (as := [iv x1]) rfl rfl rfl q2163 q2164 mdX13_155 (ctX13_isInstance x0 x1) rfl (Nat.le_of_ble_eq_true rfl) (Nat.le_of_ble_eq_true rfl) (Nat.le_of_ble_eq_true rfl) pu_I dX13_isExport_2 (fun r2 σ1 => ?_)
  refine g_if_eq 25 dX13_isExport_5 (by decide) ?_ ?_
  · refine g_iconst (v := 0) dX13_isExport_25 (by decide) ?_
    exact g_zreturn rfl (by decide +kernel) dX13_isExport_26
  · refine g_iload_n 2 2 dX13_isExport_8 rfl rfl ?_
    refine g_if_lt 25 dX13_isExport_9 (by decide) ?_ ?_
    · refine g_iconst (v := 0) dX13_isExport_25 (by decide) ?_
      exact g_zreturn rfl (by decide +kernel) dX13_isExport_26
    · refine g_iload_n 2 2 dX13_isExport_12 rfl rfl ?_
      refine g_aload_n 0 0 dX13_isExport_13 rfl rfl ?_
      refine g_iload_n 1 1 dX13_isExport_14 rfl rfl ?_
      refine g_callV (fc := fun sς => Sto_exports sς x0 x1) (ci := 13) (as := [iv x1]) rfl rfl rfl q2167 q2168 mdX13_159 (ctX13_exports x0 x1) rfl (Nat.le_of_ble_eq_true rfl) (Nat.le_of_ble_eq_true rfl) (Nat.le_of_ble_eq_true rfl) pu_I dX13_isExport_15 (fun r4 σ3 => ?_)
      refine g_icmp_ge 25 dX13_isExport_18 (by decide) ?_ ?_
      · refine g_iconst (v := 0) dX13_isExport_25 (by decide) ?_
        exact g_zreturn rfl (by decide +kernel) dX13_isExport_26
      · refine g_iconst (v := 1) dX13_isExport_21 (by decide) ?_
        refine g_goto 26 dX13_isExport_22 (by decide) ?_
        exact g_zreturn rfl (by decide +kernel) dX13_isExport_26
theorem V.dX13_exportKind_0 : decode cX13_exportKind 0 = .ok (.aload_n 0, 1) := by decide +kernel
theorem V.dX13_exportKind_1 : decode cX13_exportKind 1 = .ok (.getfield 11, 3) := by decide +kernel
theorem V.dX13_exportKind_4 : decode cX13_exportKind 4 = .ok (.aload_n 0, 1) := by decide +kernel
theorem V.dX13_exportKind_5 : decode cX13_exportKind 5 = .ok (.getfield 70, 3) := by decide +kernel
theorem V.dX13_exportKind_8 : decode cX13_exportKind 8 = .ok (.iload_n 1, 1) := by decide +kernel
theorem V.dX13_exportKind_9 : decode cX13_exportKind 9 = .ok (.iaload, 1) := by decide +kernel
theorem V.dX13_exportKind_10 : decode cX13_exportKind 10 = .ok (.aaload, 1) := by decide +kernel
theorem V.dX13_exportKind_11 : decode cX13_exportKind 11 = .ok (.getfield 152, 3) := by decide +kernel
theorem V.dX13_exportKind_14 : decode cX13_exportKind 14 = .ok (.iconst 4, 1) := by decide +kernel
theorem V.dX13_exportKind_15 : decode cX13_exportKind 15 = .ok (.iload_n 2, 1) := by decide +kernel
theorem V.dX13_exportKind_16 : decode cX13_exportKind 16 = .ok (.imul, 1) := by decide +kernel
theorem V.dX13_exportKind_17 : decode cX13_exportKind 17 = .ok (.invokevirtual 111, 3) := by decide +kernel
theorem V.dX13_exportKind_20 : decode cX13_exportKind 20 = .ok (.ireturn, 1) := by decide +kernel
theorem V.mdX13_111 : MD RX13 111 yX3_at cX3_at 2 (some .int) 1 := ⟨Or.inl q2175, q363, q1411, by decide, by decide, by decide +kernel⟩
/-! ModuleEngine$Store.exportKind(II)I -/
def V.Sto_exportKind (σ : HS) (x0 : Nat) (x1 : Int32) (x2 : Int32) : Option (Int32 × HS) :=
  ck (tg σ x0 = 14) <|
  ck (tg σ x0 = 14) <|
  ck (tg σ (gR σ x0 14) = 100 ∧ inb x1 (ln σ (gR σ x0 14))) <|
  ck (tg σ (gR σ x0 0) = 105 ∧ inb (gI σ (gR σ x0 14) (ix x1)) (ln σ (gR σ x0 0))) <|
  ck (tg σ (gR σ (gR σ x0 0) (ix (gI σ (gR σ x0 14) (ix x1)))) = 3) <|
  ck (tg σ (gR σ (gR σ (gR σ x0 0) (ix (gI σ (gR σ x0 14) (ix x1)))) 8) = 4) <| cl (Row_at σ (gR σ (gR σ (gR σ x0 0) (ix (gI σ (gR σ x0 14) (ix x1)))) 8) ((4 : Int32) * x2)) fun r2 σ1 =>
  some (r2, σ1)
theorem V.ctX13_exportKind (x0 : Nat) (x1 : Int32) (x2 : Int32) : Ct yX13_exportKind  cX13_exportKind 3 (some .int) 1 21 eI [av x0, iv x1, iv x2] (fun σ => Sto_exportKind σ x0 x1 x2) := by
  refine Ct.of (own := RX13) (nm := "exportKind") (desc := "(II)I") rfl (by decide) (Nat.le_of_ble_eq_true rfl) (by decide) (fun X σ => ?_)
  show G X RX13 "exportKind" cX13_exportKind 3 (some .int) 1 21 enI 0 [(0, av x0), (1, iv x1), (2, iv x2)] [] σ (Sto_exportKind σ x0 x1 x2)
  unfold Sto_exportKind
  refine g_aload_n 0 0 dX13_exportKind_0 rfl rfl ?_
  refine g_getR fdX13_11 dX13_exportKind_1 ?_
  refine g_aload_n 0 0 dX13_exportKind_4 rfl rfl ?_
  refine g_getR fdX13_70 dX13_exportKind_5 ?_
  refine g_iload_n 1 1 dX13_exportKind_8 rfl rfl ?_
  refine g_iaload dX13_exportKind_9 ?_
  refine g_aaload 5 rfl dX13_exportKind_10 ?_
  refine g_getR fdX13_152 dX13_exportKind_11 ?_
  refine g_iconst (v := 4) dX13_exportKind_14 (by decide) ?_
  refine g_iload_n 2 2 dX13_exportKind_15 rfl rfl ?_
  refine g_imul dX13_exportKind_16 ?_
  refine g_callV (fc := fun sς => Row_at sς (gR σ (gR σ (gR σ x0 0) (ix (gI σ (gR σ x0 14) (ix x1)))) 8) ((4 : Int32) * x2)) (ci := 3) (as := [iv ((4 : Int32) * x2)]) rfl rfl rfl q1409 q1410 mdX13_111 (ctX3_at (gR σ (gR σ (gR σ x0 0) (ix (gI σ (gR σ x0 14) (ix x1)))) 8) ((4 : Int32) * x2)) rfl (Nat.le_of_ble_eq_true rfl) (Nat.le_of_ble_eq_true rfl) (Nat.le_of_ble_eq_true rfl) pu_I dX13_exportKind_17 (fun r2 σ1 => ?_)
  exact g_ireturn rfl dX13_exportKind_20
theorem V.dX13_exported_0 : decode cX13_exported 0 = .ok (.aload_n 0, 1) := by decide +kernel
theorem V.dX13_exported_1 : decode cX13_exported 1 = .ok (.getfield 11, 3) := by decide +kernel
theorem V.dX13_exported_4 : decode cX13_exported 4 = .ok (.aload_n 0, 1) := by decide +kernel
theorem V.dX13_exported_5 : decode cX13_exported 5 = .ok (.getfield 70, 3) := by decide +kernel
theorem V.dX13_exported_8 : decode cX13_exported 8 = .ok (.iload_n 1, 1) := by decide +kernel
theorem V.dX13_exported_9 : decode cX13_exported 9 = .ok (.iaload, 1) := by decide +kernel
theorem V.dX13_exported_10 : decode cX13_exported 10 = .ok (.aaload, 1) := by decide +kernel
theorem V.dX13_exported_11 : decode cX13_exported 11 = .ok (.getfield 152, 3) := by decide +kernel
theorem V.dX13_exported_14 : decode cX13_exported 14 = .ok (.iconst 4, 1) := by decide +kernel
theorem V.dX13_exported_15 : decode cX13_exported 15 = .ok (.iload_n 2, 1) := by decide +kernel
theorem V.dX13_exported_16 : decode cX13_exported 16 = .ok (.imul, 1) := by decide +kernel
theorem V.dX13_exported_17 : decode cX13_exported 17 = .ok (.iconst 1, 1) := by decide +kernel
theorem V.dX13_exported_18 : decode cX13_exported 18 = .ok (.iadd, 1) := by decide +kernel
theorem V.dX13_exported_19 : decode cX13_exported 19 = .ok (.invokevirtual 111, 3) := by decide +kernel
theorem V.dX13_exported_22 : decode cX13_exported 22 = .ok (.istore_n 3, 1) := by decide +kernel
theorem V.dX13_exported_23 : decode cX13_exported 23 = .ok (.aload_n 0, 1) := by decide +kernel
theorem V.dX13_exported_24 : decode cX13_exported 24 = .ok (.iload_n 1, 1) := by decide +kernel
theorem V.dX13_exported_25 : decode cX13_exported 25 = .ok (.iload_n 2, 1) := by decide +kernel
theorem V.dX13_exported_26 : decode cX13_exported 26 = .ok (.invokevirtual 161, 3) := by decide +kernel
theorem V.dX13_exported_29 : decode cX13_exported 29 = .ok (.istore 4, 2) := by decide +kernel
theorem V.dX13_exported_31 : decode cX13_exported 31 = .ok (.iload 4, 2) := by decide +kernel
theorem V.dX13_exported_33 : decode cX13_exported 33 = .ok (.ifCond .ne 12, 3) := by decide +kernel
theorem V.dX13_exported_36 : decode cX13_exported 36 = .ok (.aload_n 0, 1) := by decide +kernel
theorem V.dX13_exported_37 : decode cX13_exported 37 = .ok (.getfield 73, 3) := by decide +kernel
theorem V.dX13_exported_40 : decode cX13_exported 40 = .ok (.iload_n 1, 1) := by decide +kernel
theorem V.dX13_exported_41 : decode cX13_exported 41 = .ok (.aaload, 1) := by decide +kernel
theorem V.dX13_exported_42 : decode cX13_exported 42 = .ok (.goto 39, 3) := by decide +kernel
theorem V.dX13_exported_45 : decode cX13_exported 45 = .ok (.iload 4, 2) := by decide +kernel
theorem V.dX13_exported_47 : decode cX13_exported 47 = .ok (.iconst 1, 1) := by decide +kernel
theorem V.dX13_exported_48 : decode cX13_exported 48 = .ok (.if_icmp .ne 12, 3) := by decide +kernel
theorem V.dX13_exported_51 : decode cX13_exported 51 = .ok (.aload_n 0, 1) := by decide +kernel
theorem V.dX13_exported_52 : decode cX13_exported 52 = .ok (.getfield 77, 3) := by decide +kernel
theorem V.dX13_exported_55 : decode cX13_exported 55 = .ok (.iload_n 1, 1) := by decide +kernel
theorem V.dX13_exported_56 : decode cX13_exported 56 = .ok (.aaload, 1) := by decide +kernel
theorem V.dX13_exported_57 : decode cX13_exported 57 = .ok (.goto 24, 3) := by decide +kernel
theorem V.dX13_exported_60 : decode cX13_exported 60 = .ok (.iload 4, 2) := by decide +kernel
theorem V.dX13_exported_62 : decode cX13_exported 62 = .ok (.iconst 2, 1) := by decide +kernel
theorem V.dX13_exported_63 : decode cX13_exported 63 = .ok (.if_icmp .ne 12, 3) := by decide +kernel
theorem V.dX13_exported_66 : decode cX13_exported 66 = .ok (.aload_n 0, 1) := by decide +kernel
theorem V.dX13_exported_67 : decode cX13_exported 67 = .ok (.getfield 80, 3) := by decide +kernel
theorem V.dX13_exported_70 : decode cX13_exported 70 = .ok (.iload_n 1, 1) := by decide +kernel
theorem V.dX13_exported_71 : decode cX13_exported 71 = .ok (.aaload, 1) := by decide +kernel
theorem V.dX13_exported_72 : decode cX13_exported 72 = .ok (.goto 9, 3) := by decide +kernel
theorem V.dX13_exported_75 : decode cX13_exported 75 = .ok (.aload_n 0, 1) := by decide +kernel
theorem V.dX13_exported_76 : decode cX13_exported 76 = .ok (.getfield 83, 3) := by decide +kernel
theorem V.dX13_exported_79 : decode cX13_exported 79 = .ok (.iload_n 1, 1) := by decide +kernel
theorem V.dX13_exported_80 : decode cX13_exported 80 = .ok (.aaload, 1) := by decide +kernel
theorem V.dX13_exported_81 : decode cX13_exported 81 = .ok (.iload_n 3, 1) := by decide +kernel
theorem V.dX13_exported_82 : decode cX13_exported 82 = .ok (.invokevirtual 111, 3) := by decide +kernel
theorem V.dX13_exported_85 : decode cX13_exported 85 = .ok (.ireturn, 1) := by decide +kernel
theorem V.mdX13_161 : MD RX13 161 yX13_exportKind cX13_exportKind 3 (some .int) 2 := ⟨Or.inl q2171, q373, q2174, by decide, by decide, by decide +kernel⟩
theorem V.fdX13_83 : FD RX13 83 13 18 2 := ⟨(RX13, TX13, 27), tyX13, rfl, rfl, in_X13, by decide, Or.inl q1048, rfl⟩
theorem V.fdX13_80 : FD RX13 80 13 17 2 := ⟨(RX13, TX13, 27), tyX13, rfl, rfl, in_X13, by decide, Or.inl q1046, rfl⟩
theorem V.fdX13_77 : FD RX13 77 13 16 2 := ⟨(RX13, TX13, 27), tyX13, rfl, rfl, in_X13, by decide, Or.inl q1044, rfl⟩
theorem V.fdX13_73 : FD RX13 73 13 15 2 := ⟨(RX13, TX13, 27), tyX13, rfl, rfl, in_X13, by decide, Or.inl q1042, rfl⟩
/-! ModuleEngine$Store.exported(II)I -/
def V.Sto_exported_p81  (σ : HS) (x3 : Int32) (s0 : Nat) : Option (Int32 × HS) :=
  ck (tg σ s0 = 4) <| cl (Row_at σ s0 x3) fun r2 σ1 =>
  some (r2, σ1)
theorem V.gX13_exported_p81 {X : CX}  (σ : HS) (x3 : Int32) (s0 : Nat) : G X RX13 "exported" cX13_exported 5 (some .int) 2 43 enI 81 [(3, iv x3)] [av s0] σ (Sto_exported_p81 σ x3 s0) := by
  unfold Sto_exported_p81
  refine g_iload_n 3 0 dX13_exported_81 rfl rfl ?_
  refine g_callV (fc := fun sς => Row_at sς s0 x3) (ci := 3) (as := [iv x3]) rfl rfl rfl q1409 q1410 mdX13_111 (ctX3_at s0 x3) rfl (Nat.le_of_ble_eq_true rfl) (Nat.le_of_ble_eq_true rfl) (Nat.le_of_ble_eq_true rfl) pu_I dX13_exported_82 (fun r2 σ1 => ?_)
  exact g_ireturn rfl dX13_exported_85
def V.Sto_exported (σ : HS) (x0 : Nat) (x1 : Int32) (x2 : Int32) : Option (Int32 × HS) :=
  ck (tg σ x0 = 14) <|
  ck (tg σ x0 = 14) <|
  ck (tg σ (gR σ x0 14) = 100 ∧ inb x1 (ln σ (gR σ x0 14))) <|
  ck (tg σ (gR σ x0 0) = 105 ∧ inb (gI σ (gR σ x0 14) (ix x1)) (ln σ (gR σ x0 0))) <|
  ck (tg σ (gR σ (gR σ x0 0) (ix (gI σ (gR σ x0 14) (ix x1)))) = 3) <|
  ck (tg σ (gR σ (gR σ (gR σ x0 0) (ix (gI σ (gR σ x0 14) (ix x1)))) 8) = 4) <| cl (Row_at σ (gR σ (gR σ (gR σ x0 0) (ix (gI σ (gR σ x0 14) (ix x1)))) 8) (((4 : Int32) * x2) + (1 : Int32))) fun r2 σ1 =>
  ck (tg σ1 x0 = 14) <| cl (Sto_exportKind σ1 x0 x1 x2) fun r4 σ3 =>
  if r4 = 0 then (
    ck (tg σ3 x0 = 14) <|
    ck (tg σ3 (gR σ3 x0 15) = 104 ∧ inb x1 (ln σ3 (gR σ3 x0 15))) <|
    Sto_exported_p81 σ3 r2 (gR σ3 (gR σ3 x0 15) (ix x1)))
  else (
    if r4 = (1 : Int32) then (
      ck (tg σ3 x0 = 14) <|
      ck (tg σ3 (gR σ3 x0 16) = 104 ∧ inb x1 (ln σ3 (gR σ3 x0 16))) <|
      Sto_exported_p81 σ3 r2 (gR σ3 (gR σ3 x0 16) (ix x1)))
    else (
      if r4 = (2 : Int32) then (
        ck (tg σ3 x0 = 14) <|
        ck (tg σ3 (gR σ3 x0 17) = 104 ∧ inb x1 (ln σ3 (gR σ3 x0 17))) <|
        Sto_exported_p81 σ3 r2 (gR σ3 (gR σ3 x0 17) (ix x1)))
      else (
        ck (tg σ3 x0 = 14) <|
        ck (tg σ3 (gR σ3 x0 18) = 104 ∧ inb x1 (ln σ3 (gR σ3 x0 18))) <|
        Sto_exported_p81 σ3 r2 (gR σ3 (gR σ3 x0 18) (ix x1)))))
theorem V.ctX13_exported (x0 : Nat) (x1 : Int32) (x2 : Int32) : Ct yX13_exported  cX13_exported 5 (some .int) 2 43 eI [av x0, iv x1, iv x2] (fun σ => Sto_exported σ x0 x1 x2) := by
  refine Ct.of (own := RX13) (nm := "exported") (desc := "(II)I") rfl (by decide) (Nat.le_of_ble_eq_true rfl) (by decide) (fun X σ => ?_)
  show G X RX13 "exported" cX13_exported 5 (some .int) 2 43 enI 0 [(0, av x0), (1, iv x1), (2, iv x2)] [] σ (Sto_exported σ x0 x1 x2)
  unfold Sto_exported
  refine g_aload_n 0 0 dX13_exported_0 rfl rfl ?_
  refine g_getR fdX13_11 dX13_exported_1 ?_
  refine g_aload_n 0 0 dX13_exported_4 rfl rfl ?_
  refine g_getR fdX13_70 dX13_exported_5 ?_
  refine g_iload_n 1 1 dX13_exported_8 rfl rfl ?_
  refine g_iaload dX13_exported_9 ?_
  refine g_aaload 5 rfl dX13_exported_10 ?_
  refine g_getR fdX13_152 dX13_exported_11 ?_
  refine g_iconst (v := 4) dX13_exported_14 (by decide) ?_
  refine g_iload_n 2 2 dX13_exported_15 rfl rfl ?_
  refine g_imul dX13_exported_16 ?_
  refine g_iconst (v := 1) dX13_exported_17 (by decide) ?_
  refine g_iadd dX13_exported_18 ?_
  refine g_callV (fc := fun sς => Row_at sς (gR σ (gR σ (gR σ x0 0) (ix (gI σ (gR σ x0 14) (ix x1)))) 8) (((4 : Int32) * x2) + (1 : Int32))) (ci := 3) (as := [iv (((4 : Int32) * x2) + (1 : Int32))]) rfl rfl rfl q1409 q1410 mdX13_111 (ctX3_at (gR σ (gR σ (gR σ x0 0) (ix (gI σ (gR σ x0 14) (ix x1)))) 8) (((4 : Int32) * x2) + (1 : Int32))) rfl (Nat.le_of_ble_eq_true rfl) (Nat.le_of_ble_eq_true rfl) (Nat.le_of_ble_eq_true rfl) pu_I dX13_exported_19 (fun r2 σ1 => ?_)
  refine g_istore_n 3 dX13_exported_22 rfl (by decide) rfl ?_
  refine g_aload_n 0 1 dX13_exported_23 rfl rfl ?_
  refine g_iload_n 1 2 dX13_exported_24 rfl rfl ?_
  refine g_iload_n 2 3 dX13_exported_25 rfl rfl ?_
  refine g_callV (fc := fun sς => Sto_exportKind sς x0 x1 x2) (ci := 13) (as := [iv x1, iv x2]) rfl rfl rfl q2172 q2173 mdX13_161 (ctX13_exportKind x0 x1 x2) rfl (Nat.le_of_ble_eq_true rfl) (Nat.le_of_ble_eq_true rfl) (Nat.le_of_ble_eq_true rfl) pu_I dX13_exported_26 (fun r4 σ3 => ?_)
  refine g_istore dX13_exported_29 (by decide) rfl ?_
  refine g_iload 0 dX13_exported_31 rfl ?_
  refine g_if_ne 45 dX13_exported_33 (by decide) ?_ ?_
  · refine g_iload 0 dX13_exported_45 rfl ?_
    refine g_iconst (v := 1) dX13_exported_47 (by decide) ?_
    refine g_icmp_ne 60 dX13_exported_48 (by decide) ?_ ?_
    · refine g_iload 0 dX13_exported_60 rfl ?_
      refine g_iconst (v := 2) dX13_exported_62 (by decide) ?_
      refine g_icmp_ne 75 dX13_exported_63 (by decide) ?_ ?_
      · refine g_aload_n 0 2 dX13_exported_75 rfl rfl ?_
        refine g_getR fdX13_83 dX13_exported_76 ?_
        refine g_iload_n 1 3 dX13_exported_79 rfl rfl ?_
        refine g_aaload 4 rfl dX13_exported_80 ?_
        refine G.sub [1] rfl ?_
        exact gX13_exported_p81 _ _ _
      · refine g_aload_n 0 2 dX13_exported_66 rfl rfl ?_
        refine g_getR fdX13_80 dX13_exported_67 ?_
        refine g_iload_n 1 3 dX13_exported_70 rfl rfl ?_
        refine g_aaload 4 rfl dX13_exported_71 ?_
        refine g_goto 81 dX13_exported_72 (by decide) ?_
        refine G.sub [1] rfl ?_
        exact gX13_exported_p81 _ _ _
    · refine g_aload_n 0 2 dX13_exported_51 rfl rfl ?_
      refine g_getR fdX13_77 dX13_exported_52 ?_
      refine g_iload_n 1 3 dX13_exported_55 rfl rfl ?_
      refine g_aaload 4 rfl dX13_exported_56 ?_
      refine g_goto 81 dX13_exported_57 (by decide) ?_
      refine G.sub [1] rfl ?_
      exact gX13_exported_p81 _ _ _
  · refine g_aload_n 0 2 dX13_exported_36 rfl rfl ?_
    refine g_getR fdX13_73 dX13_exported_37 ?_
    refine g_iload_n 1 3 dX13_exported_40 rfl rfl ?_
    refine g_aaload 4 rfl dX13_exported_41 ?_
    refine g_goto 81 dX13_exported_42 (by decide) ?_
    refine G.sub [1] rfl ?_
    exact gX13_exported_p81 _ _ _
theorem V.dX13_offer_0 : decode cX13_offer 0 = .ok (.iload_n 1, 1) := by decide +kernel
theorem V.dX13_offer_1 : decode cX13_offer 1 = .ok (.iconst (-1), 1) := by decide +kernel
theorem V.dX13_offer_2 : decode cX13_offer 2 = .ok (.if_icmp .ne 17, 3) := by decide +kernel
theorem V.dX13_offer_5 : decode cX13_offer 5 = .ok (.iload_n 2, 1) := by decide +kernel
theorem V.dX13_offer_6 : decode cX13_offer 6 = .ok (.ifCond .lt 13, 3) := by decide +kernel
theorem V.dX13_offer_9 : decode cX13_offer 9 = .ok (.iload_n 2, 1) := by decide +kernel
theorem V.dX13_offer_10 : decode cX13_offer 10 = .ok (.bipush 64, 2) := by decide +kernel
theorem V.dX13_offer_12 : decode cX13_offer 12 = .ok (.if_icmp .ge 7, 3) := by decide +kernel
theorem V.dX13_offer_15 : decode cX13_offer 15 = .ok (.iconst 1, 1) := by decide +kernel
theorem V.dX13_offer_16 : decode cX13_offer 16 = .ok (.goto 4, 3) := by decide +kernel
theorem V.dX13_offer_19 : decode cX13_offer 19 = .ok (.iconst 0, 1) := by decide +kernel
theorem V.dX13_offer_20 : decode cX13_offer 20 = .ok (.istore_n 3, 1) := by decide +kernel
theorem V.dX13_offer_21 : decode cX13_offer 21 = .ok (.iload_n 3, 1) := by decide +kernel
theorem V.dX13_offer_22 : decode cX13_offer 22 = .ok (.ifCond .ne 12, 3) := by decide +kernel
theorem V.dX13_offer_25 : decode cX13_offer 25 = .ok (.aload_n 0, 1) := by decide +kernel
theorem V.dX13_offer_26 : decode cX13_offer 26 = .ok (.iload_n 1, 1) := by decide +kernel
theorem V.dX13_offer_27 : decode cX13_offer 27 = .ok (.iload_n 2, 1) := by decide +kernel
theorem V.dX13_offer_28 : decode cX13_offer 28 = .ok (.invokevirtual 164, 3) := by decide +kernel
theorem V.dX13_offer_31 : decode cX13_offer 31 = .ok (.ifCond .eq 16, 3) := by decide +kernel
theorem V.dX13_offer_34 : decode cX13_offer 34 = .ok (.aload_n 0, 1) := by decide +kernel
theorem V.dX13_offer_35 : decode cX13_offer 35 = .ok (.getfield 104, 3) := by decide +kernel
theorem V.dX13_offer_38 : decode cX13_offer 38 = .ok (.invokevirtual 107, 3) := by decide +kernel
theorem V.dX13_offer_41 : decode cX13_offer 41 = .ok (.sipush 128, 3) := by decide +kernel
theorem V.dX13_offer_44 : decode cX13_offer 44 = .ok (.if_icmp .ne 5, 3) := by decide +kernel
theorem V.dX13_offer_47 : decode cX13_offer 47 = .ok (.iconst (-1), 1) := by decide +kernel
theorem V.dX13_offer_48 : decode cX13_offer 48 = .ok (.ireturn, 1) := by decide +kernel
theorem V.dX13_offer_49 : decode cX13_offer 49 = .ok (.aload_n 0, 1) := by decide +kernel
theorem V.dX13_offer_50 : decode cX13_offer 50 = .ok (.getfield 104, 3) := by decide +kernel
theorem V.dX13_offer_53 : decode cX13_offer 53 = .ok (.iload_n 3, 1) := by decide +kernel
theorem V.dX13_offer_54 : decode cX13_offer 54 = .ok (.ifCond .eq 7, 3) := by decide +kernel
theorem V.dX13_offer_57 : decode cX13_offer 57 = .ok (.iconst (-1), 1) := by decide +kernel
theorem V.dX13_offer_58 : decode cX13_offer 58 = .ok (.goto 9, 3) := by decide +kernel
theorem V.dX13_offer_61 : decode cX13_offer 61 = .ok (.aload_n 0, 1) := by decide +kernel
theorem V.dX13_offer_62 : decode cX13_offer 62 = .ok (.iload_n 1, 1) := by decide +kernel
theorem V.dX13_offer_63 : decode cX13_offer 63 = .ok (.iload_n 2, 1) := by decide +kernel
theorem V.dX13_offer_64 : decode cX13_offer 64 = .ok (.invokevirtual 161, 3) := by decide +kernel
theorem V.dX13_offer_67 : decode cX13_offer 67 = .ok (.invokevirtual 148, 3) := by decide +kernel
theorem V.dX13_offer_70 : decode cX13_offer 70 = .ok (.aload_n 0, 1) := by decide +kernel
theorem V.dX13_offer_71 : decode cX13_offer 71 = .ok (.getfield 104, 3) := by decide +kernel
theorem V.dX13_offer_74 : decode cX13_offer 74 = .ok (.iload_n 3, 1) := by decide +kernel
theorem V.dX13_offer_75 : decode cX13_offer 75 = .ok (.ifCond .eq 7, 3) := by decide +kernel
theorem V.dX13_offer_78 : decode cX13_offer 78 = .ok (.iload_n 2, 1) := by decide +kernel
theorem V.dX13_offer_79 : decode cX13_offer 79 = .ok (.goto 9, 3) := by decide +kernel
theorem V.dX13_offer_82 : decode cX13_offer 82 = .ok (.aload_n 0, 1) := by decide +kernel
theorem V.dX13_offer_83 : decode cX13_offer 83 = .ok (.iload_n 1, 1) := by decide +kernel
theorem V.dX13_offer_84 : decode cX13_offer 84 = .ok (.iload_n 2, 1) := by decide +kernel
theorem V.dX13_offer_85 : decode cX13_offer 85 = .ok (.invokevirtual 168, 3) := by decide +kernel
theorem V.dX13_offer_88 : decode cX13_offer 88 = .ok (.invokevirtual 148, 3) := by decide +kernel
theorem V.dX13_offer_91 : decode cX13_offer 91 = .ok (.aload_n 0, 1) := by decide +kernel
theorem V.dX13_offer_92 : decode cX13_offer 92 = .ok (.getfield 104, 3) := by decide +kernel
theorem V.dX13_offer_95 : decode cX13_offer 95 = .ok (.invokevirtual 107, 3) := by decide +kernel
theorem V.dX13_offer_98 : decode cX13_offer 98 = .ok (.iconst 2, 1) := by decide +kernel
theorem V.dX13_offer_99 : decode cX13_offer 99 = .ok (.idiv, 1) := by decide +kernel
theorem V.dX13_offer_100 : decode cX13_offer 100 = .ok (.ireturn, 1) := by decide +kernel
theorem V.mdX13_164 : MD RX13 164 yX13_isExport cX13_isExport 3 (some .boolean) 2 := ⟨Or.inl q2158, q373, q2161, by decide, by decide, by decide +kernel⟩
theorem V.fdX13_104 : FD RX13 104 13 26 2 := ⟨(RX13, TX13, 27), tyX13, rfl, rfl, in_X13, by decide, Or.inl q1058, rfl⟩
theorem V.mdX13_148 : MD RX13 148 yX3_add cX3_add 4 none 1 := ⟨Or.inl q2176, q363, q1407, by decide, by decide, by decide +kernel⟩
theorem V.mdX13_168 : MD RX13 168 yX13_exported cX13_exported 5 (some .int) 2 := ⟨Or.inl q2177, q373, q2180, by decide, by decide, by decide +kernel⟩
/-! ModuleEngine$Store.offer(II)I -/
def V.Sto_offer_p88  (σ : HS) (x0 : Nat) (s0 : Int32) (s1 : Nat) : Option (Int32 × HS) :=
  ck (tg σ s1 = 4) <| cl (Row_add σ s1 s0) fun _ σ1 =>
  ck (tg σ1 x0 = 14) <|
  ck (tg σ1 (gR σ1 x0 26) = 4) <| cl (Row_size σ1 (gR σ1 x0 26) ) fun r3 σ2 =>
  ck (¬ (2 : Int32) = 0) <|
  some (r3 / (2 : Int32), σ2)
theorem V.gX13_offer_p88 {X : CX}  (σ : HS) (x0 : Nat) (s0 : Int32) (s1 : Nat) : G X RX13 "offer" cX13_offer 4 (some .int) 3 67 enI 88 [(0, av x0)] [iv s0, av s1] σ (Sto_offer_p88 σ x0 s0 s1) := by
  unfold Sto_offer_p88
  refine g_callV (fc := fun sς => Row_add sς s1 s0) (ci := 3) (as := [iv s0]) rfl rfl rfl q1405 q1406 mdX13_148 (ctX3_add s1 s0) rfl (Nat.le_of_ble_eq_true rfl) (Nat.le_of_ble_eq_true rfl) (Nat.le_of_ble_eq_true rfl) pu_V dX13_offer_88 (fun _ σ1 => ?_)
  refine g_aload_n 0 0 dX13_offer_91 rfl rfl ?_
  refine g_getR fdX13_104 dX13_offer_92 ?_
  refine g_callV (fc := fun sς => Row_size sς (gR σ1 x0 26) ) (ci := 3) (as := []) rfl rfl rfl q1421 q1422 mdX13_107 (ctX3_size (gR σ1 x0 26) ) rfl (Nat.le_of_ble_eq_true rfl) (Nat.le_of_ble_eq_true rfl) (Nat.le_of_ble_eq_true rfl) pu_I dX13_offer_95 (fun r3 σ2 => ?_)
  refine g_iconst (v := 2) dX13_offer_98 (by decide) ?_
  refine g_idiv dX13_offer_99 ?_
  exact g_ireturn rfl dX13_offer_100
def V.Sto_offer_p67  (σ : HS) (x0 : Nat) (x1 : Int32) (x2 : Int32) (x3 : Int32) (s0 : Int32) (s1 : Nat) : Option (Int32 × HS) :=
  ck (tg σ s1 = 4) <| cl (Row_add σ s1 s0) fun _ σ1 =>
  ck (tg σ1 x0 = 14) <|
  if x3 = 0 then (
    ck (tg σ1 x0 = 14) <| cl (Sto_exported σ1 x0 x1 x2) fun r3 σ2 =>
    Sto_offer_p88 σ2 x0 r3 (gR σ1 x0 26))
  else (
    Sto_offer_p88 σ1 x0 x2 (gR σ1 x0 26))
theorem V.gX13_offer_p67 {X : CX}  (σ : HS) (x0 : Nat) (x1 : Int32) (x2 : Int32) (x3 : Int32) (s0 : Int32) (s1 : Nat) : G X RX13 "offer" cX13_offer 4 (some .int) 3 67 enI 67 [(0, av x0), (1, iv x1), (2, iv x2), (3, iv x3)] [iv s0, av s1] σ (Sto_offer_p67 σ x0 x1 x2 x3 s0 s1) := by
  unfold Sto_offer_p67
  refine g_callV (fc := fun sς => Row_add sς s1 s0) (ci := 3) (as := [iv s0]) rfl rfl rfl q1405 q1406 mdX13_148 (ctX3_add s1 s0) rfl (Nat.le_of_ble_eq_true rfl) (Nat.le_of_ble_eq_true rfl) (Nat.le_of_ble_eq_true rfl) pu_V dX13_offer_67 (fun _ σ1 => ?_)
  refine g_aload_n 0 0 dX13_offer_70 rfl rfl ?_
  refine g_getR fdX13_104 dX13_offer_71 ?_
  refine g_iload_n 3 3 dX13_offer_74 rfl rfl ?_
  refine g_if_eq 82 dX13_offer_75 (by decide) ?_ ?_
  · refine g_aload_n 0 0 dX13_offer_82 rfl rfl ?_
    refine g_iload_n 1 1 dX13_offer_83 rfl rfl ?_
    refine g_iload_n 2 2 dX13_offer_84 rfl rfl ?_
    refine g_callV (fc := fun sς => Sto_exported sς x0 x1 x2) (ci := 13) (as := [iv x1, iv x2]) rfl rfl rfl q2178 q2179 mdX13_168 (ctX13_exported x0 x1 x2) rfl (Nat.le_of_ble_eq_true rfl) (Nat.le_of_ble_eq_true rfl) (Nat.le_of_ble_eq_true rfl) pu_I dX13_offer_85 (fun r3 σ2 => ?_)
    refine G.sub [0] rfl ?_
    exact gX13_offer_p88 _ _ _ _
  · refine g_iload_n 2 2 dX13_offer_78 rfl rfl ?_
    refine g_goto 88 dX13_offer_79 (by decide) ?_
    refine G.sub [0] rfl ?_
    exact gX13_offer_p88 _ _ _ _
def V.Sto_offer_p34  (σ : HS) (x0 : Nat) (x1 : Int32) (x2 : Int32) (x3 : Int32) : Option (Int32 × HS) :=
  ck (tg σ x0 = 14) <|
  ck (tg σ (gR σ x0 26) = 4) <| cl (Row_size σ (gR σ x0 26) ) fun r2 σ1 =>
  if r2 = (128 : Int32) then (
    some ((-1 : Int32), σ1))
  else (
    ck (tg σ1 x0 = 14) <|
    if x3 = 0 then (
      ck (tg σ1 x0 = 14) <| cl (Sto_exportKind σ1 x0 x1 x2) fun r4 σ3 =>
      Sto_offer_p67 σ3 x0 x1 x2 x3 r4 (gR σ1 x0 26))
    else (
      Sto_offer_p67 σ1 x0 x1 x2 x3 (-1 : Int32) (gR σ1 x0 26)))
theorem V.gX13_offer_p34 {X : CX}  (σ : HS) (x0 : Nat) (x1 : Int32) (x2 : Int32) (x3 : Int32) : G X RX13 "offer" cX13_offer 4 (some .int) 3 67 enI 34 [(0, av x0), (1, iv x1), (2, iv x2), (3, iv x3)] [] σ (Sto_offer_p34 σ x0 x1 x2 x3) := by
  unfold Sto_offer_p34
  refine g_aload_n 0 0 dX13_offer_34 rfl rfl ?_
  refine g_getR fdX13_104 dX13_offer_35 ?_
  refine g_callV (fc := fun sς => Row_size sς (gR σ x0 26) ) (ci := 3) (as := []) rfl rfl rfl q1421 q1422 mdX13_107 (ctX3_size (gR σ x0 26) ) rfl (Nat.le_of_ble_eq_true rfl) (Nat.le_of_ble_eq_true rfl) (Nat.le_of_ble_eq_true rfl) pu_I dX13_offer_38 (fun r2 σ1 => ?_)
  refine g_sipush (v := 128) dX13_offer_41 (by decide) ?_
  refine g_icmp_ne 49 dX13_offer_44 (by decide) ?_ ?_
  · refine g_aload_n 0 0 dX13_offer_49 rfl rfl ?_
    refine g_getR fdX13_104 dX13_offer_50 ?_
    refine g_iload_n 3 3 dX13_offer_53 rfl rfl ?_
    refine g_if_eq 61 dX13_offer_54 (by decide) ?_ ?_
    · refine g_aload_n 0 0 dX13_offer_61 rfl rfl ?_
      refine g_iload_n 1 1 dX13_offer_62 rfl rfl ?_
      refine g_iload_n 2 2 dX13_offer_63 rfl rfl ?_
      refine g_callV (fc := fun sς => Sto_exportKind sς x0 x1 x2) (ci := 13) (as := [iv x1, iv x2]) rfl rfl rfl q2172 q2173 mdX13_161 (ctX13_exportKind x0 x1 x2) rfl (Nat.le_of_ble_eq_true rfl) (Nat.le_of_ble_eq_true rfl) (Nat.le_of_ble_eq_true rfl) pu_I dX13_offer_64 (fun r4 σ3 => ?_)
      exact gX13_offer_p67 _ _ _ _ _ _ _
    · refine g_iconst (v := (-1)) dX13_offer_57 (by decide) ?_
      refine g_goto 67 dX13_offer_58 (by decide) ?_
      exact gX13_offer_p67 _ _ _ _ _ _ _
  · refine g_iconst (v := (-1)) dX13_offer_47 (by decide) ?_
    exact g_ireturn rfl dX13_offer_48
def V.Sto_offer_p20  (σ : HS) (x0 : Nat) (x1 : Int32) (x2 : Int32) (s0 : Int32) : Option (Int32 × HS) :=
  if s0 = 0 then (
    ck (tg σ x0 = 14) <| cl (Sto_isExport σ x0 x1 x2) fun r2 σ1 =>
    if r2 = 0 then (
      some ((-1 : Int32), σ1))
    else (
      Sto_offer_p34 σ1 x0 x1 x2 s0))
  else (
    Sto_offer_p34 σ x0 x1 x2 s0)
theorem V.gX13_offer_p20 {X : CX}  (σ : HS) (x0 : Nat) (x1 : Int32) (x2 : Int32) (s0 : Int32) : G X RX13 "offer" cX13_offer 4 (some .int) 3 67 enI 20 [(0, av x0), (1, iv x1), (2, iv x2)] [iv s0] σ (Sto_offer_p20 σ x0 x1 x2 s0) := by
  unfold Sto_offer_p20
  refine g_istore_n 3 dX13_offer_20 rfl (by decide) rfl ?_
  refine g_iload_n 3 0 dX13_offer_21 rfl rfl ?_
  refine g_if_ne 34 dX13_offer_22 (by decide) ?_ ?_
  · refine G.sub [1, 2, 3, 0] rfl ?_
    exact gX13_offer_p34 _ _ _ _ _
  · refine g_aload_n 0 1 dX13_offer_25 rfl rfl ?_
    refine g_iload_n 1 2 dX13_offer_26 rfl rfl ?_
    refine g_iload_n 2 3 dX13_offer_27 rfl rfl ?_
    refine g_callV (fc := fun sς => Sto_isExport sς x0 x1 x2) (ci := 13) (as := [iv x1, iv x2]) rfl rfl rfl q2159 q2160 mdX13_164 (ctX13_isExport x0 x1 x2) rfl (Nat.le_of_ble_eq_true rfl) (Nat.le_of_ble_eq_true rfl) (Nat.le_of_ble_eq_true rfl) pu_I dX13_offer_28 (fun r2 σ1 => ?_)
    refine g_if_eq 47 dX13_offer_31 (by decide) ?_ ?_
    · refine g_iconst (v := (-1)) dX13_offer_47 (by decide) ?_
      exact g_ireturn rfl dX13_offer_48
    · refine G.sub [1, 2, 3, 0] rfl ?_
      exact gX13_offer_p34 _ _ _ _ _
def V.Sto_offer_p19  (σ : HS) (x0 : Nat) (x1 : Int32) (x2 : Int32) : Option (Int32 × HS) :=
  Sto_offer_p20 σ x0 x1 x2 (0 : Int32)
theorem V.gX13_offer_p19 {X : CX}  (σ : HS) (x0 : Nat) (x1 : Int32) (x2 : Int32) : G X RX13 "offer" cX13_offer 4 (some .int) 3 67 enI 19 [(0, av x0), (1, iv x1), (2, iv x2)] [] σ (Sto_offer_p19 σ x0 x1 x2) := by
  unfold Sto_offer_p19
  refine g_iconst (v := 0) dX13_offer_19 (by decide) ?_
  exact gX13_offer_p20 _ _ _ _ _
def V.Sto_offer (σ : HS) (x0 : Nat) (x1 : Int32) (x2 : Int32) : Option (Int32 × HS) :=
  if x1 = (-1 : Int32) then (
    if x2 < 0 then (
      Sto_offer_p19 σ x0 x1 x2)
    else (
      if (64 : Int32) ≤ x2 then (
        Sto_offer_p19 σ x0 x1 x2)
      else (
        Sto_offer_p20 σ x0 x1 x2 (1 : Int32))))
  else (
    Sto_offer_p19 σ x0 x1 x2)
theorem V.ctX13_offer (x0 : Nat) (x1 : Int32) (x2 : Int32) : Ct yX13_offer  cX13_offer 4 (some .int) 3 67 eI [av x0, iv x1, iv x2] (fun σ => Sto_offer σ x0 x1 x2) := by
  refine Ct.of (own := RX13) (nm := "offer") (desc := "(II)I") rfl (by decide) (Nat.le_of_ble_eq_true rfl) (by decide) (fun X σ => ?_)
  show G X RX13 "offer" cX13_offer 4 (some .int) 3 67 enI 0 [(0, av x0), (1, iv x1), (2, iv x2)] [] σ (Sto_offer σ x0 x1 x2)
  unfold Sto_offer
  refine g_iload_n 1 1 dX13_offer_0 rfl rfl ?_
  refine g_iconst (v := (-1)) dX13_offer_1 (by decide) ?_
  refine g_icmp_ne 19 dX13_offer_2 (by decide) ?_ ?_
  · exact gX13_offer_p19 _ _ _ _
  · refine g_iload_n 2 2 dX13_offer_5 rfl rfl ?_
    refine g_if_lt 19 dX13_offer_6 (by decide) ?_ ?_
    · exact gX13_offer_p19 _ _ _ _
    · refine g_iload_n 2 2 dX13_offer_9 rfl rfl ?_
      refine g_bipush (v := 64) dX13_offer_10 (by decide) ?_
      refine g_icmp_ge 19 dX13_offer_12 (by decide) ?_ ?_
      · exact gX13_offer_p19 _ _ _ _
      · refine g_iconst (v := 1) dX13_offer_15 (by decide) ?_
        refine g_goto 20 dX13_offer_16 (by decide) ?_
        exact gX13_offer_p20 _ _ _ _ _
theorem V.dX13_cell_0 : decode cX13_cell 0 = .ok (.aload_n 0, 1) := by decide +kernel
theorem V.dX13_cell_1 : decode cX13_cell 1 = .ok (.getfield 171, 3) := by decide +kernel
theorem V.dX13_cell_4 : decode cX13_cell 4 = .ok (.bipush 9, 2) := by decide +kernel
theorem V.dX13_cell_6 : decode cX13_cell 6 = .ok (.iload_n 1, 1) := by decide +kernel
theorem V.dX13_cell_7 : decode cX13_cell 7 = .ok (.imul, 1) := by decide +kernel
theorem V.dX13_cell_8 : decode cX13_cell 8 = .ok (.iload_n 2, 1) := by decide +kernel
theorem V.dX13_cell_9 : decode cX13_cell 9 = .ok (.iadd, 1) := by decide +kernel
theorem V.dX13_cell_10 : decode cX13_cell 10 = .ok (.invokevirtual 111, 3) := by decide +kernel
theorem V.dX13_cell_13 : decode cX13_cell 13 = .ok (.ireturn, 1) := by decide +kernel
theorem V.fdX13_171 : FD RX13 171 2 3 2 := ⟨(RX2, TX2, 21), tyX2, rfl, rfl, in_X2, by decide, Or.inr ⟨_, q434⟩, rfl⟩
/-! ModuleEngine$Store.cell(LModuleEngine$Module;II)I -/
def V.Sto_cell (σ : HS) (x0 : Nat) (x1 : Int32) (x2 : Int32) : Option (Int32 × HS) :=
  ck (tg σ x0 = 3) <|
  ck (tg σ (gR σ x0 3) = 4) <| cl (Row_at σ (gR σ x0 3) (((9 : Int32) * x1) + x2)) fun r2 σ1 =>
  some (r2, σ1)
theorem V.ctX13_cell (x0 : Nat) (x1 : Int32) (x2 : Int32) : Ct yX13_cell  cX13_cell 3 (some .int) 1 21 eI [av x0, iv x1, iv x2] (fun σ => Sto_cell σ x0 x1 x2) := by
  refine Ct.of (own := RX13) (nm := "cell") (desc := "(LModuleEngine$Module;II)I") rfl (by decide) (Nat.le_of_ble_eq_true rfl) (by decide) (fun X σ => ?_)
  show G X RX13 "cell" cX13_cell 3 (some .int) 1 21 enI 0 [(0, av x0), (1, iv x1), (2, iv x2)] [] σ (Sto_cell σ x0 x1 x2)
  unfold Sto_cell
  refine g_aload_n 0 0 dX13_cell_0 rfl rfl ?_
  refine g_getR fdX13_171 dX13_cell_1 ?_
  refine g_bipush (v := 9) dX13_cell_4 (by decide) ?_
  refine g_iload_n 1 1 dX13_cell_6 rfl rfl ?_
  refine g_imul dX13_cell_7 ?_
  refine g_iload_n 2 2 dX13_cell_8 rfl rfl ?_
  refine g_iadd dX13_cell_9 ?_
  refine g_callV (fc := fun sς => Row_at sς (gR σ x0 3) (((9 : Int32) * x1) + x2)) (ci := 3) (as := [iv (((9 : Int32) * x1) + x2)]) rfl rfl rfl q1409 q1410 mdX13_111 (ctX3_at (gR σ x0 3) (((9 : Int32) * x1) + x2)) rfl (Nat.le_of_ble_eq_true rfl) (Nat.le_of_ble_eq_true rfl) (Nat.le_of_ble_eq_true rfl) pu_I dX13_cell_10 (fun r2 σ1 => ?_)
  exact g_ireturn rfl dX13_cell_13
theorem V.dX13_moduleOf_0 : decode cX13_moduleOf 0 = .ok (.aload_n 0, 1) := by decide +kernel
theorem V.dX13_moduleOf_1 : decode cX13_moduleOf 1 = .ok (.getfield 11, 3) := by decide +kernel
theorem V.dX13_moduleOf_4 : decode cX13_moduleOf 4 = .ok (.aload_n 0, 1) := by decide +kernel
theorem V.dX13_moduleOf_5 : decode cX13_moduleOf 5 = .ok (.getfield 22, 3) := by decide +kernel
theorem V.dX13_moduleOf_8 : decode cX13_moduleOf 8 = .ok (.iload_n 1, 1) := by decide +kernel
theorem V.dX13_moduleOf_9 : decode cX13_moduleOf 9 = .ok (.invokevirtual 111, 3) := by decide +kernel
theorem V.dX13_moduleOf_12 : decode cX13_moduleOf 12 = .ok (.aaload, 1) := by decide +kernel
theorem V.dX13_moduleOf_13 : decode cX13_moduleOf 13 = .ok (.areturn, 1) := by decide +kernel
theorem V.fdX13_22 : FD RX13 22 13 3 2 := ⟨(RX13, TX13, 27), tyX13, rfl, rfl, in_X13, by decide, Or.inl q1019, rfl⟩
/-! ModuleEngine$Store.moduleOf(I)LModuleEngine$Module; -/
def V.Sto_moduleOf (σ : HS) (x0 : Nat) (x1 : Int32) : Option (Nat × HS) :=
  ck (tg σ x0 = 14) <|
  ck (tg σ x0 = 14) <|
  ck (tg σ (gR σ x0 3) = 4) <| cl (Row_at σ (gR σ x0 3) x1) fun r2 σ1 =>
  ck (tg σ1 (gR σ x0 0) = 105 ∧ inb r2 (ln σ1 (gR σ x0 0))) <|
  some (gR σ1 (gR σ x0 0) (ix r2), σ1)
theorem V.ctX13_moduleOf (x0 : Nat) (x1 : Int32) : Ct yX13_moduleOf  cX13_moduleOf 2 (some (.object "ModuleEngine$Module")) 1 21 enR [av x0, iv x1] (fun σ => Sto_moduleOf σ x0 x1) := by
  refine Ct.of (own := RX13) (nm := "moduleOf") (desc := "(I)LModuleEngine$Module;") rfl (by decide) (Nat.le_of_ble_eq_true rfl) (by decide) (fun X σ => ?_)
  show G X RX13 "moduleOf" cX13_moduleOf 2 (some (.object "ModuleEngine$Module")) 1 21 (enR (cxz X)) 0 [(0, av x0), (1, iv x1)] [] σ (Sto_moduleOf σ x0 x1)
  unfold Sto_moduleOf
  refine g_aload_n 0 0 dX13_moduleOf_0 rfl rfl ?_
  refine g_getR fdX13_11 dX13_moduleOf_1 ?_
  refine g_aload_n 0 0 dX13_moduleOf_4 rfl rfl ?_
  refine g_getR fdX13_22 dX13_moduleOf_5 ?_
  refine g_iload_n 1 1 dX13_moduleOf_8 rfl rfl ?_
  refine g_callV (fc := fun sς => Row_at sς (gR σ x0 3) x1) (ci := 3) (as := [iv x1]) rfl rfl rfl q1409 q1410 mdX13_111 (ctX3_at (gR σ x0 3) x1) rfl (Nat.le_of_ble_eq_true rfl) (Nat.le_of_ble_eq_true rfl) (Nat.le_of_ble_eq_true rfl) pu_I dX13_moduleOf_9 (fun r2 σ1 => ?_)
  refine g_aaload 5 rfl dX13_moduleOf_12 ?_
  exact g_areturn rfl dX13_moduleOf_13
theorem V.dX13_isLike_0 : decode cX13_isLike 0 = .ok (.aload_n 0, 1) := by decide +kernel
theorem V.dX13_isLike_1 : decode cX13_isLike 1 = .ok (.iload_n 1, 1) := by decide +kernel
theorem V.dX13_isLike_2 : decode cX13_isLike 2 = .ok (.invokevirtual 123, 3) := by decide +kernel
theorem V.dX13_isLike_5 : decode cX13_isLike 5 = .ok (.aload_n 2, 1) := by decide +kernel
theorem V.dX13_isLike_6 : decode cX13_isLike 6 = .ok (.iload_n 3, 1) := by decide +kernel
theorem V.dX13_isLike_7 : decode cX13_isLike 7 = .ok (.invokevirtual 123, 3) := by decide +kernel
theorem V.dX13_isLike_10 : decode cX13_isLike 10 = .ok (.if_icmp .ne 16, 3) := by decide +kernel
theorem V.dX13_isLike_13 : decode cX13_isLike 13 = .ok (.aload_n 0, 1) := by decide +kernel
theorem V.dX13_isLike_14 : decode cX13_isLike 14 = .ok (.iload_n 1, 1) := by decide +kernel
theorem V.dX13_isLike_15 : decode cX13_isLike 15 = .ok (.invokevirtual 126, 3) := by decide +kernel
theorem V.dX13_isLike_18 : decode cX13_isLike 18 = .ok (.aload_n 2, 1) := by decide +kernel
theorem V.dX13_isLike_19 : decode cX13_isLike 19 = .ok (.iload_n 3, 1) := by decide +kernel
theorem V.dX13_isLike_20 : decode cX13_isLike 20 = .ok (.invokevirtual 126, 3) := by decide +kernel
theorem V.dX13_isLike_23 : decode cX13_isLike 23 = .ok (.if_icmp .eq 5, 3) := by decide +kernel
theorem V.dX13_isLike_26 : decode cX13_isLike 26 = .ok (.iconst 0, 1) := by decide +kernel
theorem V.dX13_isLike_27 : decode cX13_isLike 27 = .ok (.ireturn, 1) := by decide +kernel
theorem V.dX13_isLike_28 : decode cX13_isLike 28 = .ok (.iconst 0, 1) := by decide +kernel
theorem V.dX13_isLike_29 : decode cX13_isLike 29 = .ok (.istore 4, 2) := by decide +kernel
theorem V.dX13_isLike_31 : decode cX13_isLike 31 = .ok (.iload 4, 2) := by decide +kernel
theorem V.dX13_isLike_33 : decode cX13_isLike 33 = .ok (.aload_n 0, 1) := by decide +kernel
theorem V.dX13_isLike_34 : decode cX13_isLike 34 = .ok (.iload_n 1, 1) := by decide +kernel
theorem V.dX13_isLike_35 : decode cX13_isLike 35 = .ok (.invokevirtual 123, 3) := by decide +kernel
theorem V.dX13_isLike_38 : decode cX13_isLike 38 = .ok (.if_icmp .ge 28, 3) := by decide +kernel
theorem V.dX13_isLike_41 : decode cX13_isLike 41 = .ok (.aload_n 0, 1) := by decide +kernel
theorem V.dX13_isLike_42 : decode cX13_isLike 42 = .ok (.iload_n 1, 1) := by decide +kernel
theorem V.dX13_isLike_43 : decode cX13_isLike 43 = .ok (.iload 4, 2) := by decide +kernel
theorem V.dX13_isLike_45 : decode cX13_isLike 45 = .ok (.invokevirtual 129, 3) := by decide +kernel
theorem V.dX13_isLike_48 : decode cX13_isLike 48 = .ok (.aload_n 2, 1) := by decide +kernel
theorem V.dX13_isLike_49 : decode cX13_isLike 49 = .ok (.iload_n 3, 1) := by decide +kernel
theorem V.dX13_isLike_50 : decode cX13_isLike 50 = .ok (.iload 4, 2) := by decide +kernel
theorem V.dX13_isLike_52 : decode cX13_isLike 52 = .ok (.invokevirtual 129, 3) := by decide +kernel
theorem V.dX13_isLike_55 : decode cX13_isLike 55 = .ok (.if_icmp .eq 5, 3) := by decide +kernel
theorem V.dX13_isLike_58 : decode cX13_isLike 58 = .ok (.iconst 0, 1) := by decide +kernel
theorem V.dX13_isLike_59 : decode cX13_isLike 59 = .ok (.ireturn, 1) := by decide +kernel
theorem V.dX13_isLike_60 : decode cX13_isLike 60 = .ok (.iinc 4 1, 3) := by decide +kernel
theorem V.dX13_isLike_63 : decode cX13_isLike 63 = .ok (.goto (-32), 3) := by decide +kernel
theorem V.dX13_isLike_66 : decode cX13_isLike 66 = .ok (.iconst 0, 1) := by decide +kernel
theorem V.dX13_isLike_67 : decode cX13_isLike 67 = .ok (.istore 4, 2) := by decide +kernel
theorem V.dX13_isLike_69 : decode cX13_isLike 69 = .ok (.iload 4, 2) := by decide +kernel
theorem V.dX13_isLike_71 : decode cX13_isLike 71 = .ok (.aload_n 0, 1) := by decide +kernel
theorem V.dX13_isLike_72 : decode cX13_isLike 72 = .ok (.iload_n 1, 1) := by decide +kernel
theorem V.dX13_isLike_73 : decode cX13_isLike 73 = .ok (.invokevirtual 126, 3) := by decide +kernel
theorem V.dX13_isLike_76 : decode cX13_isLike 76 = .ok (.if_icmp .ge 28, 3) := by decide +kernel
theorem V.dX13_isLike_79 : decode cX13_isLike 79 = .ok (.aload_n 0, 1) := by decide +kernel
theorem V.dX13_isLike_80 : decode cX13_isLike 80 = .ok (.iload_n 1, 1) := by decide +kernel
theorem V.dX13_isLike_81 : decode cX13_isLike 81 = .ok (.iload 4, 2) := by decide +kernel
theorem V.dX13_isLike_83 : decode cX13_isLike 83 = .ok (.invokevirtual 133, 3) := by decide +kernel
theorem V.dX13_isLike_86 : decode cX13_isLike 86 = .ok (.aload_n 2, 1) := by decide +kernel
theorem V.dX13_isLike_87 : decode cX13_isLike 87 = .ok (.iload_n 3, 1) := by decide +kernel
theorem V.dX13_isLike_88 : decode cX13_isLike 88 = .ok (.iload 4, 2) := by decide +kernel
theorem V.dX13_isLike_90 : decode cX13_isLike 90 = .ok (.invokevirtual 133, 3) := by decide +kernel
theorem V.dX13_isLike_93 : decode cX13_isLike 93 = .ok (.if_icmp .eq 5, 3) := by decide +kernel
theorem V.dX13_isLike_96 : decode cX13_isLike 96 = .ok (.iconst 0, 1) := by decide +kernel
theorem V.dX13_isLike_97 : decode cX13_isLike 97 = .ok (.ireturn, 1) := by decide +kernel
theorem V.dX13_isLike_98 : decode cX13_isLike 98 = .ok (.iinc 4 1, 3) := by decide +kernel
theorem V.dX13_isLike_101 : decode cX13_isLike 101 = .ok (.goto (-32), 3) := by decide +kernel
theorem V.dX13_isLike_104 : decode cX13_isLike 104 = .ok (.iconst 1, 1) := by decide +kernel
theorem V.dX13_isLike_105 : decode cX13_isLike 105 = .ok (.ireturn, 1) := by decide +kernel
theorem V.mdX13_123 : MD RX13 123 yX2_parameters cX2_parameters 2 (some .int) 1 := ⟨Or.inl q2207, q362, q1560, by decide, by decide, by decide +kernel⟩
theorem V.mdX13_126 : MD RX13 126 yX2_results cX2_results 2 (some .int) 1 := ⟨Or.inl q2208, q362, q1565, by decide, by decide, by decide +kernel⟩
theorem V.mdX13_129 : MD RX13 129 yX2_parameter cX2_parameter 3 (some .int) 2 := ⟨Or.inl q2209, q362, q1778, by decide, by decide, by decide +kernel⟩
theorem V.mdX13_133 : MD RX13 133 yX2_result cX2_result 3 (some .int) 2 := ⟨Or.inl q2210, q362, q1901, by decide, by decide, by decide +kernel⟩
/-! ModuleEngine$Store.isLike(LModuleEngine$Module;ILModuleEngine$Module;I)Z -/
def V.Sto_isLike_p69  : Nat → HS → Nat → Int32 → Nat → Int32 → Int32 → Option (Int32 × HS)
  | 0, _, _, _, _, _, _ => none
  | n + 1, σ, x0, x1, x2, x3, x4 =>
    ck (tg σ x0 = 3) <| cl (Mod_results σ x0 x1) fun r2 σ1 =>
    if r2 ≤ x4 then (
      some ((1 : Int32), σ1))
    else (
      ck (tg σ1 x0 = 3) <| cl (Mod_result σ1 x0 x1 x4) fun r4 σ3 =>
      ck (tg σ3 x2 = 3) <| cl (Mod_result σ3 x2 x3 x4) fun r6 σ5 =>
      if r4 = r6 then (
        bn (x4 + (1 : Int32)) fun y7 =>
        Sto_isLike_p69 n σ5 x0 x1 x2 x3 y7)
      else (
        some ((0 : Int32), σ5)))
theorem V.gX13_isLike_p69 {X : CX}  : ∀ (n : Nat) (σ : HS) (x0 : Nat) (x1 : Int32) (x2 : Nat) (x3 : Int32) (x4 : Int32), G X RX13 "isLike" cX13_isLike 5 (some .boolean) 3 64 enI 69 [(0, av x0), (1, iv x1), (2, av x2), (3, iv x3), (4, iv x4)] [] σ (Sto_isLike_p69 n σ x0 x1 x2 x3 x4)
  | 0, σ, x0, x1, x2, x3, x4 => by rw [Sto_isLike_p69]; exact G.nul
  | n + 1, σ, x0, x1, x2, x3, x4 => by
    rw [Sto_isLike_p69]
    refine g_iload 4 dX13_isLike_69 rfl ?_
    refine g_aload_n 0 0 dX13_isLike_71 rfl rfl ?_
    refine g_iload_n 1 1 dX13_isLike_72 rfl rfl ?_
    refine g_callV (fc := fun sς => Mod_results sς x0 x1) (ci := 2) (as := [iv x1]) rfl rfl rfl q1563 q1564 mdX13_126 (ctX2_results x0 x1) rfl (Nat.le_of_ble_eq_true rfl) (Nat.le_of_ble_eq_true rfl) (Nat.le_of_ble_eq_true rfl) pu_I dX13_isLike_73 (fun r2 σ1 => ?_)
    refine g_icmp_ge 104 dX13_isLike_76 (by decide) ?_ ?_
    · refine g_iconst (v := 1) dX13_isLike_104 (by decide) ?_
      exact g_zreturn rfl (by decide +kernel) dX13_isLike_105
    · refine g_aload_n 0 0 dX13_isLike_79 rfl rfl ?_
      refine g_iload_n 1 1 dX13_isLike_80 rfl rfl ?_
      refine g_iload 4 dX13_isLike_81 rfl ?_
      refine g_callV (fc := fun sς => Mod_result sς x0 x1 x4) (ci := 2) (as := [iv x1, iv x4]) rfl rfl rfl q1899 q1900 mdX13_133 (ctX2_result x0 x1 x4) rfl (Nat.le_of_ble_eq_true rfl) (Nat.le_of_ble_eq_true rfl) (Nat.le_of_ble_eq_true rfl) pu_I dX13_isLike_83 (fun r4 σ3 => ?_)
      refine g_aload_n 2 2 dX13_isLike_86 rfl rfl ?_
      refine g_iload_n 3 3 dX13_isLike_87 rfl rfl ?_
      refine g_iload 4 dX13_isLike_88 rfl ?_
      refine g_callV (fc := fun sς => Mod_result sς x2 x3 x4) (ci := 2) (as := [iv x3, iv x4]) rfl rfl rfl q1899 q1900 mdX13_133 (ctX2_result x2 x3 x4) rfl (Nat.le_of_ble_eq_true rfl) (Nat.le_of_ble_eq_true rfl) (Nat.le_of_ble_eq_true rfl) pu_I dX13_isLike_90 (fun r6 σ5 => ?_)
      refine g_icmp_eq 98 dX13_isLike_93 (by decide) ?_ ?_
      · refine g_iincB (w := 1) 4 dX13_isLike_98 rfl (by decide) (by decide) (fun _ => rfl) (fun y7 => ?_)
        refine g_goto 69 dX13_isLike_101 (by decide) ?_
        refine G.sub [1, 2, 3, 4, 0] rfl ?_
        exact gX13_isLike_p69 n _ _ _ _ _ _
      · refine g_iconst (v := 0) dX13_isLike_96 (by decide) ?_
        exact g_zreturn rfl (by decide +kernel) dX13_isLike_97
def V.Sto_isLike_p31  : Nat → HS → Nat → Int32 → Nat → Int32 → Int32 → Option (Int32 × HS)
  | 0, _, _, _, _, _, _ => none
  | n + 1, σ, x0, x1, x2, x3, x4 =>
    ck (tg σ x0 = 3) <| cl (Mod_parameters σ x0 x1) fun r2 σ1 =>
    if r2 ≤ x4 then (
      Sto_isLike_p69 FU σ1 x0 x1 x2 x3 (0 : Int32))
    else (
      ck (tg σ1 x0 = 3) <| cl (Mod_parameter σ1 x0 x1 x4) fun r4 σ3 =>
      ck (tg σ3 x2 = 3) <| cl (Mod_parameter σ3 x2 x3 x4) fun r6 σ5 =>
      if r4 = r6 then (
        bn (x4 + (1 : Int32)) fun y7 =>
        Sto_isLike_p31 n σ5 x0 x1 x2 x3 y7)
      else (
        some ((0 : Int32), σ5)))
theorem V.gX13_isLike_p31 {X : CX}  : ∀ (n : Nat) (σ : HS) (x0 : Nat) (x1 : Int32) (x2 : Nat) (x3 : Int32) (x4 : Int32), G X RX13 "isLike" cX13_isLike 5 (some .boolean) 3 64 enI 31 [(0, av x0), (1, iv x1), (2, av x2), (3, iv x3), (4, iv x4)] [] σ (Sto_isLike_p31 n σ x0 x1 x2 x3 x4)
  | 0, σ, x0, x1, x2, x3, x4 => by rw [Sto_isLike_p31]; exact G.nul
  | n + 1, σ, x0, x1, x2, x3, x4 => by
    rw [Sto_isLike_p31]
    refine g_iload 4 dX13_isLike_31 rfl ?_
    refine g_aload_n 0 0 dX13_isLike_33 rfl rfl ?_
    refine g_iload_n 1 1 dX13_isLike_34 rfl rfl ?_
    refine g_callV (fc := fun sς => Mod_parameters sς x0 x1) (ci := 2) (as := [iv x1]) rfl rfl rfl q1558 q1559 mdX13_123 (ctX2_parameters x0 x1) rfl (Nat.le_of_ble_eq_true rfl) (Nat.le_of_ble_eq_true rfl) (Nat.le_of_ble_eq_true rfl) pu_I dX13_isLike_35 (fun r2 σ1 => ?_)
    refine g_icmp_ge 66 dX13_isLike_38 (by decide) ?_ ?_
    · refine g_iconst (v := 0) dX13_isLike_66 (by decide) ?_
      refine g_istore dX13_isLike_67 (by decide) rfl ?_
      refine G.sub [1, 2, 3, 4, 0] rfl ?_
      exact gX13_isLike_p69 FU _ _ _ _ _ _
    · refine g_aload_n 0 0 dX13_isLike_41 rfl rfl ?_
      refine g_iload_n 1 1 dX13_isLike_42 rfl rfl ?_
      refine g_iload 4 dX13_isLike_43 rfl ?_
      refine g_callV (fc := fun sς => Mod_parameter sς x0 x1 x4) (ci := 2) (as := [iv x1, iv x4]) rfl rfl rfl q1776 q1777 mdX13_129 (ctX2_parameter x0 x1 x4) rfl (Nat.le_of_ble_eq_true rfl) (Nat.le_of_ble_eq_true rfl) (Nat.le_of_ble_eq_true rfl) pu_I dX13_isLike_45 (fun r4 σ3 => ?_)
      refine g_aload_n 2 2 dX13_isLike_48 rfl rfl ?_
      refine g_iload_n 3 3 dX13_isLike_49 rfl rfl ?_
      refine g_iload 4 dX13_isLike_50 rfl ?_
      refine g_callV (fc := fun sς => Mod_parameter sς x2 x3 x4) (ci := 2) (as := [iv x3, iv x4]) rfl rfl rfl q1776 q1777 mdX13_129 (ctX2_parameter x2 x3 x4) rfl (Nat.le_of_ble_eq_true rfl) (Nat.le_of_ble_eq_true rfl) (Nat.le_of_ble_eq_true rfl) pu_I dX13_isLike_52 (fun r6 σ5 => ?_)
      refine g_icmp_eq 60 dX13_isLike_55 (by decide) ?_ ?_
      · refine g_iincB (w := 1) 4 dX13_isLike_60 rfl (by decide) (by decide) (fun _ => rfl) (fun y7 => ?_)
        refine g_goto 31 dX13_isLike_63 (by decide) ?_
        refine G.sub [1, 2, 3, 4, 0] rfl ?_
        exact gX13_isLike_p31 n _ _ _ _ _ _
      · refine g_iconst (v := 0) dX13_isLike_58 (by decide) ?_
        exact g_zreturn rfl (by decide +kernel) dX13_isLike_59
def V.Sto_isLike (σ : HS) (x0 : Nat) (x1 : Int32) (x2 : Nat) (x3 : Int32) : Option (Int32 × HS) :=
  ck (tg σ x0 = 3) <| cl (Mod_parameters σ x0 x1) fun r2 σ1 =>
  ck (tg σ1 x2 = 3) <| cl (Mod_parameters σ1 x2 x3) fun r4 σ3 =>
  if r2 = r4 then (
    ck (tg σ3 x0 = 3) <| cl (Mod_results σ3 x0 x1) fun r6 σ5 =>
    ck (tg σ5 x2 = 3) <| cl (Mod_results σ5 x2 x3) fun r8 σ7 =>
    if r6 = r8 then (
      Sto_isLike_p31 FU σ7 x0 x1 x2 x3 (0 : Int32))
    else (
      some ((0 : Int32), σ7)))
  else (
    some ((0 : Int32), σ3))
theorem V.ctX13_isLike (x0 : Nat) (x1 : Int32) (x2 : Nat) (x3 : Int32) : Ct yX13_isLike  cX13_isLike 5 (some .boolean) 3 64 eI [av x0, iv x1, av x2, iv x3] (fun σ => Sto_isLike σ x0 x1 x2 x3) := by
  refine Ct.of (own := RX13) (nm := "isLike") (desc := "(LModuleEngine$Module;ILModuleEngine$Module;I)Z") rfl (by decide) (Nat.le_of_ble_eq_true rfl) (by decide) (fun X σ => ?_)
  show G X RX13 "isLike" cX13_isLike 5 (some .boolean) 3 64 enI 0 [(0, av x0), (1, iv x1), (2, av x2), (3, iv x3)] [] σ (Sto_isLike σ x0 x1 x2 x3)
  unfold Sto_isLike
  refine g_aload_n 0 0 dX13_isLike_0 rfl rfl ?_
  refine g_iload_n 1 1 dX13_isLike_1 rfl rfl ?_
  refine g_callV (fc := fun sς => Mod_parameters sς x0 x1) (ci := 2) (as := [iv x1]) rfl rfl rfl q1558 q1559 mdX13_123 (ctX2_parameters x0 x1) rfl (Nat.le_of_ble_eq_true rfl) (Nat.le_of_ble_eq_true rfl) (Nat.le_of_ble_eq_true rfl) pu_I dX13_isLike_2 (fun r2 σ1 => ?_)
  refine g_aload_n 2 2 dX13_isLike_5 rfl rfl ?_
  refine g_iload_n 3 3 dX13_isLike_6 rfl rfl ?_
  refine g_callV (fc := fun sς => Mod_parameters sς x2 x3) (ci := 2) (as := [iv x3]) rfl rfl rfl q1558 q1559 mdX13_123 (ctX2_parameters x2 x3) rfl (Nat.le_of_ble_eq_true rfl) (Nat.le_of_ble_eq_true rfl) (Nat.le_of_ble_eq_true rfl) pu_I dX13_isLike_7 (fun r4 σ3 => ?_)
  refine g_icmp_ne 26 dX13_isLike_10 (by decide) ?_ ?_
  · refine g_iconst (v := 0) dX13_isLike_26 (by decide) ?_
    exact g_zreturn rfl (by decide +kernel) dX13_isLike_27
  · refine g_aload_n 0 0 dX13_isLike_13 rfl rfl ?_
    refine g_iload_n 1 1 dX13_isLike_14 rfl rfl ?_
    refine g_callV (fc := fun sς => Mod_results sς x0 x1) (ci := 2) (as := [iv x1]) rfl rfl rfl q1563 q1564 mdX13_126 (ctX2_results x0 x1) rfl (Nat.le_of_ble_eq_true rfl) (Nat.le_of_ble_eq_true rfl) (Nat.le_of_ble_eq_true rfl) pu_I dX13_isLike_15 (fun r6 σ5 => ?_)
    refine g_aload_n 2 2 dX13_isLike_18 rfl rfl ?_
    refine g_iload_n 3 3 dX13_isLike_19 rfl rfl ?_
    refine g_callV (fc := fun sς => Mod_results sς x2 x3) (ci := 2) (as := [iv x3]) rfl rfl rfl q1563 q1564 mdX13_126 (ctX2_results x2 x3) rfl (Nat.le_of_ble_eq_true rfl) (Nat.le_of_ble_eq_true rfl) (Nat.le_of_ble_eq_true rfl) pu_I dX13_isLike_20 (fun r8 σ7 => ?_)
    refine g_icmp_eq 28 dX13_isLike_23 (by decide) ?_ ?_
    · refine g_iconst (v := 0) dX13_isLike_28 (by decide) ?_
      refine g_istore dX13_isLike_29 (by decide) rfl ?_
      refine G.sub [1, 2, 3, 4, 0] rfl ?_
      exact gX13_isLike_p31 FU _ _ _ _ _ _
    · refine g_iconst (v := 0) dX13_isLike_26 (by decide) ?_
      exact g_zreturn rfl (by decide +kernel) dX13_isLike_27
theorem V.dX13_isBounded_0 : decode cX13_isBounded 0 = .ok (.aload_n 0, 1) := by decide +kernel
theorem V.dX13_isBounded_1 : decode cX13_isBounded 1 = .ok (.iload_n 1, 1) := by decide +kernel
theorem V.dX13_isBounded_2 : decode cX13_isBounded 2 = .ok (.invokevirtual 111, 3) := by decide +kernel
theorem V.dX13_isBounded_5 : decode cX13_isBounded 5 = .ok (.iconst 1, 1) := by decide +kernel
theorem V.dX13_isBounded_6 : decode cX13_isBounded 6 = .ok (.if_icmp .ne 7, 3) := by decide +kernel
theorem V.dX13_isBounded_9 : decode cX13_isBounded 9 = .ok (.iconst 1, 1) := by decide +kernel
theorem V.dX13_isBounded_10 : decode cX13_isBounded 10 = .ok (.goto 4, 3) := by decide +kernel
theorem V.dX13_isBounded_13 : decode cX13_isBounded 13 = .ok (.iconst 0, 1) := by decide +kernel
theorem V.dX13_isBounded_14 : decode cX13_isBounded 14 = .ok (.ireturn, 1) := by decide +kernel
/-! ModuleEngine$Store.isBounded(LModuleEngine$Row;I)Z -/
def V.Sto_isBounded (σ : HS) (x0 : Nat) (x1 : Int32) : Option (Int32 × HS) :=
  ck (tg σ x0 = 4) <| cl (Row_at σ x0 x1) fun r2 σ1 =>
  if r2 = (1 : Int32) then (
    some ((1 : Int32), σ1))
  else (
    some ((0 : Int32), σ1))
theorem V.ctX13_isBounded (x0 : Nat) (x1 : Int32) : Ct yX13_isBounded  cX13_isBounded 2 (some .boolean) 1 21 eI [av x0, iv x1] (fun σ => Sto_isBounded σ x0 x1) := by
  refine Ct.of (own := RX13) (nm := "isBounded") (desc := "(LModuleEngine$Row;I)Z") rfl (by decide) (Nat.le_of_ble_eq_true rfl) (by decide) (fun X σ => ?_)
  show G X RX13 "isBounded" cX13_isBounded 2 (some .boolean) 1 21 enI 0 [(0, av x0), (1, iv x1)] [] σ (Sto_isBounded σ x0 x1)
  unfold Sto_isBounded
  refine g_aload_n 0 0 dX13_isBounded_0 rfl rfl ?_
  refine g_iload_n 1 1 dX13_isBounded_1 rfl rfl ?_
  refine g_callV (fc := fun sς => Row_at sς x0 x1) (ci := 3) (as := [iv x1]) rfl rfl rfl q1409 q1410 mdX13_111 (ctX3_at x0 x1) rfl (Nat.le_of_ble_eq_true rfl) (Nat.le_of_ble_eq_true rfl) (Nat.le_of_ble_eq_true rfl) pu_I dX13_isBounded_2 (fun r2 σ1 => ?_)
  refine g_iconst (v := 1) dX13_isBounded_5 (by decide) ?_
  refine g_icmp_ne 13 dX13_isBounded_6 (by decide) ?_ ?_
  · refine g_iconst (v := 0) dX13_isBounded_13 (by decide) ?_
    exact g_zreturn rfl (by decide +kernel) dX13_isBounded_14
  · refine g_iconst (v := 1) dX13_isBounded_9 (by decide) ?_
    refine g_goto 14 dX13_isBounded_10 (by decide) ?_
    exact g_zreturn rfl (by decide +kernel) dX13_isBounded_14
theorem V.dX13_isAtLeast_0 : decode cX13_isAtLeast 0 = .ok (.lload_n 0, 1) := by decide +kernel
theorem V.dX13_isAtLeast_1 : decode cX13_isAtLeast 1 = .ok (.iload_n 2, 1) := by decide +kernel
theorem V.dX13_isAtLeast_2 : decode cX13_isAtLeast 2 = .ok (.invokestatic 174, 3) := by decide +kernel
theorem V.dX13_isAtLeast_5 : decode cX13_isAtLeast 5 = .ok (.lcmp, 1) := by decide +kernel
theorem V.dX13_isAtLeast_6 : decode cX13_isAtLeast 6 = .ok (.ifCond .lt 27, 3) := by decide +kernel
theorem V.dX13_isAtLeast_9 : decode cX13_isAtLeast 9 = .ok (.iload 7, 2) := by decide +kernel
theorem V.dX13_isAtLeast_11 : decode cX13_isAtLeast 11 = .ok (.ifCond .eq 18, 3) := by decide +kernel
theorem V.dX13_isAtLeast_14 : decode cX13_isAtLeast 14 = .ok (.iload 5, 2) := by decide +kernel
theorem V.dX13_isAtLeast_16 : decode cX13_isAtLeast 16 = .ok (.ifCond .eq 17, 3) := by decide +kernel
theorem V.dX13_isAtLeast_19 : decode cX13_isAtLeast 19 = .ok (.lload_n 3, 1) := by decide +kernel
theorem V.dX13_isAtLeast_20 : decode cX13_isAtLeast 20 = .ok (.iload 6, 2) := by decide +kernel
theorem V.dX13_isAtLeast_22 : decode cX13_isAtLeast 22 = .ok (.invokestatic 174, 3) := by decide +kernel
theorem V.dX13_isAtLeast_25 : decode cX13_isAtLeast 25 = .ok (.lcmp, 1) := by decide +kernel
theorem V.dX13_isAtLeast_26 : decode cX13_isAtLeast 26 = .ok (.ifCond .gt 7, 3) := by decide +kernel
theorem V.dX13_isAtLeast_29 : decode cX13_isAtLeast 29 = .ok (.iconst 1, 1) := by decide +kernel
theorem V.dX13_isAtLeast_30 : decode cX13_isAtLeast 30 = .ok (.goto 4, 3) := by decide +kernel
theorem V.dX13_isAtLeast_33 : decode cX13_isAtLeast 33 = .ok (.iconst 0, 1) := by decide +kernel
theorem V.dX13_isAtLeast_34 : decode cX13_isAtLeast 34 = .ok (.ireturn, 1) := by decide +kernel
theorem V.mdX13_174 : MD RX13 174 yX2_wide cX2_wide 1 (some .long) 1 := ⟨Or.inl q2229, q362, q1377, by decide, by decide, by decide +kernel⟩
/-! ModuleEngine$Store.isAtLeast(JIJZII)Z -/
def V.Sto_isAtLeast_p29  (σ : HS)  : Option (Int32 × HS) :=
  some ((1 : Int32), σ)
theorem V.gX13_isAtLeast_p29 {X : CX}  (σ : HS)  : G X RX13 "isAtLeast" cX13_isAtLeast 8 (some .boolean) 1 20 enI 29 [] [] σ (Sto_isAtLeast_p29 σ ) := by
  unfold Sto_isAtLeast_p29
  refine g_iconst (v := 1) dX13_isAtLeast_29 (by decide) ?_
  refine g_goto 34 dX13_isAtLeast_30 (by decide) ?_
  exact g_zreturn rfl (by decide +kernel) dX13_isAtLeast_34
def V.Sto_isAtLeast (σ : HS) (x0 : Int64) (x2 : Int32) (x3 : Int64) (x5 : Int32) (x6 : Int32) (x7 : Int32) : Option (Int32 × HS) :=
  cl (Mod_wide σ x2) fun r2 σ1 =>
  if x0 < r2 then (
    some ((0 : Int32), σ1))
  else (
    if x7 = 0 then (
      Sto_isAtLeast_p29 σ1)
    else (
      if x5 = 0 then (
        some ((0 : Int32), σ1))
      else (
        cl (Mod_wide σ1 x6) fun r4 σ3 =>
        if r4 < x3 then (
          some ((0 : Int32), σ3))
        else (
          Sto_isAtLeast_p29 σ3))))
theorem V.ctX13_isAtLeast (x0 : Int64) (x2 : Int32) (x3 : Int64) (x5 : Int32) (x6 : Int32) (x7 : Int32) : Ct yX13_isAtLeast  cX13_isAtLeast 8 (some .boolean) 1 20 eI [jv x0, iv x2, jv x3, iv x5, iv x6, iv x7] (fun σ => Sto_isAtLeast σ x0 x2 x3 x5 x6 x7) := by
  refine Ct.of (own := RX13) (nm := "isAtLeast") (desc := "(JIJZII)Z") rfl (by decide) (Nat.le_of_ble_eq_true rfl) (by decide) (fun X σ => ?_)
  show G X RX13 "isAtLeast" cX13_isAtLeast 8 (some .boolean) 1 20 enI 0 [(0, jv x0), (2, iv x2), (3, jv x3), (5, iv x5), (6, iv x6), (7, iv x7)] [] σ (Sto_isAtLeast σ x0 x2 x3 x5 x6 x7)
  unfold Sto_isAtLeast
  refine g_lload_n 0 0 dX13_isAtLeast_0 rfl rfl ?_
  refine g_iload_n 2 1 dX13_isAtLeast_1 rfl rfl ?_
  refine g_callS (fc := fun sς => Mod_wide sς x2) (as := [iv x2]) q1376 mdX13_174 (ctX2_wide x2) rfl (Nat.le_of_ble_eq_true rfl) (Nat.le_of_ble_eq_true rfl) (Nat.le_of_ble_eq_true rfl) pu_J dX13_isAtLeast_2 (fun r2 σ1 => ?_)
  refine g_lcmp_lt 33 dX13_isAtLeast_5 dX13_isAtLeast_6 (by decide) ?_ ?_
  · refine g_iconst (v := 0) dX13_isAtLeast_33 (by decide) ?_
    exact g_zreturn rfl (by decide +kernel) dX13_isAtLeast_34
  · refine g_iload 5 dX13_isAtLeast_9 rfl ?_
    refine g_if_eq 29 dX13_isAtLeast_11 (by decide) ?_ ?_
    · refine G.sub [] rfl ?_
      exact gX13_isAtLeast_p29 _
    · refine g_iload 3 dX13_isAtLeast_14 rfl ?_
      refine g_if_eq 33 dX13_isAtLeast_16 (by decide) ?_ ?_
      · refine g_iconst (v := 0) dX13_isAtLeast_33 (by decide) ?_
        exact g_zreturn rfl (by decide +kernel) dX13_isAtLeast_34
      · refine g_lload_n 3 2 dX13_isAtLeast_19 rfl rfl ?_
        refine g_iload 4 dX13_isAtLeast_20 rfl ?_
        refine g_callS (fc := fun sς => Mod_wide sς x6) (as := [iv x6]) q1376 mdX13_174 (ctX2_wide x6) rfl (Nat.le_of_ble_eq_true rfl) (Nat.le_of_ble_eq_true rfl) (Nat.le_of_ble_eq_true rfl) pu_J dX13_isAtLeast_22 (fun r4 σ3 => ?_)
        refine g_lcmp_gt 33 dX13_isAtLeast_25 dX13_isAtLeast_26 (by decide) ?_ ?_
        · refine g_iconst (v := 0) dX13_isAtLeast_33 (by decide) ?_
          exact g_zreturn rfl (by decide +kernel) dX13_isAtLeast_34
        · refine G.sub [] rfl ?_
          exact gX13_isAtLeast_p29 _
theorem V.dX13_fits_0 : decode cX13_fits 0 = .ok (.aload_n 1, 1) := by decide +kernel
theorem V.dX13_fits_1 : decode cX13_fits 1 = .ok (.iload_n 2, 1) := by decide +kernel
theorem V.dX13_fits_2 : decode cX13_fits 2 = .ok (.iconst 0, 1) := by decide +kernel
theorem V.dX13_fits_3 : decode cX13_fits 3 = .ok (.invokestatic 178, 3) := by decide +kernel
theorem V.dX13_fits_6 : decode cX13_fits 6 = .ok (.istore_n 3, 1) := by decide +kernel
theorem V.dX13_fits_7 : decode cX13_fits 7 = .ok (.aload_n 1, 1) := by decide +kernel
theorem V.dX13_fits_8 : decode cX13_fits 8 = .ok (.iload_n 2, 1) := by decide +kernel
theorem V.dX13_fits_9 : decode cX13_fits 9 = .ok (.iconst 1, 1) := by decide +kernel
theorem V.dX13_fits_10 : decode cX13_fits 10 = .ok (.invokestatic 178, 3) := by decide +kernel
theorem V.dX13_fits_13 : decode cX13_fits 13 = .ok (.istore 4, 2) := by decide +kernel
theorem V.dX13_fits_15 : decode cX13_fits 15 = .ok (.aload_n 0, 1) := by decide +kernel
theorem V.dX13_fits_16 : decode cX13_fits 16 = .ok (.getfield 104, 3) := by decide +kernel
theorem V.dX13_fits_19 : decode cX13_fits 19 = .ok (.iconst 2, 1) := by decide +kernel
theorem V.dX13_fits_20 : decode cX13_fits 20 = .ok (.iload_n 2, 1) := by decide +kernel
theorem V.dX13_fits_21 : decode cX13_fits 21 = .ok (.imul, 1) := by decide +kernel
theorem V.dX13_fits_22 : decode cX13_fits 22 = .ok (.invokevirtual 111, 3) := by decide +kernel
theorem V.dX13_fits_25 : decode cX13_fits 25 = .ok (.istore 5, 2) := by decide +kernel
theorem V.dX13_fits_27 : decode cX13_fits 27 = .ok (.aload_n 0, 1) := by decide +kernel
theorem V.dX13_fits_28 : decode cX13_fits 28 = .ok (.getfield 104, 3) := by decide +kernel
theorem V.dX13_fits_31 : decode cX13_fits 31 = .ok (.iconst 2, 1) := by decide +kernel
theorem V.dX13_fits_32 : decode cX13_fits 32 = .ok (.iload_n 2, 1) := by decide +kernel
theorem V.dX13_fits_33 : decode cX13_fits 33 = .ok (.imul, 1) := by decide +kernel
theorem V.dX13_fits_34 : decode cX13_fits 34 = .ok (.iconst 1, 1) := by decide +kernel
theorem V.dX13_fits_35 : decode cX13_fits 35 = .ok (.iadd, 1) := by decide +kernel
theorem V.dX13_fits_36 : decode cX13_fits 36 = .ok (.invokevirtual 111, 3) := by decide +kernel
theorem V.dX13_fits_39 : decode cX13_fits 39 = .ok (.istore 6, 2) := by decide +kernel
theorem V.dX13_fits_41 : decode cX13_fits 41 = .ok (.iload 5, 2) := by decide +kernel
theorem V.dX13_fits_43 : decode cX13_fits 43 = .ok (.iconst (-1), 1) := by decide +kernel
theorem V.dX13_fits_44 : decode cX13_fits 44 = .ok (.if_icmp .ne 13, 3) := by decide +kernel
theorem V.dX13_fits_47 : decode cX13_fits 47 = .ok (.iload_n 3, 1) := by decide +kernel
theorem V.dX13_fits_48 : decode cX13_fits 48 = .ok (.ifCond .ne 7, 3) := by decide +kernel
theorem V.dX13_fits_51 : decode cX13_fits 51 = .ok (.iconst 1, 1) := by decide +kernel
theorem V.dX13_fits_52 : decode cX13_fits 52 = .ok (.goto 4, 3) := by decide +kernel
theorem V.dX13_fits_55 : decode cX13_fits 55 = .ok (.iconst 0, 1) := by decide +kernel
theorem V.dX13_fits_56 : decode cX13_fits 56 = .ok (.ireturn, 1) := by decide +kernel
theorem V.dX13_fits_57 : decode cX13_fits 57 = .ok (.iload 5, 2) := by decide +kernel
theorem V.dX13_fits_59 : decode cX13_fits 59 = .ok (.iload_n 3, 1) := by decide +kernel
theorem V.dX13_fits_60 : decode cX13_fits 60 = .ok (.if_icmp .eq 5, 3) := by decide +kernel
theorem V.dX13_fits_63 : decode cX13_fits 63 = .ok (.iconst 0, 1) := by decide +kernel
theorem V.dX13_fits_64 : decode cX13_fits 64 = .ok (.ireturn, 1) := by decide +kernel
theorem V.dX13_fits_65 : decode cX13_fits 65 = .ok (.iload_n 3, 1) := by decide +kernel
theorem V.dX13_fits_66 : decode cX13_fits 66 = .ok (.ifCond .ne 25, 3) := by decide +kernel
theorem V.dX13_fits_69 : decode cX13_fits 69 = .ok (.aload_n 1, 1) := by decide +kernel
theorem V.dX13_fits_70 : decode cX13_fits 70 = .ok (.iload 4, 2) := by decide +kernel
theorem V.dX13_fits_72 : decode cX13_fits 72 = .ok (.aload_n 0, 1) := by decide +kernel
theorem V.dX13_fits_73 : decode cX13_fits 73 = .ok (.iload 6, 2) := by decide +kernel
theorem V.dX13_fits_75 : decode cX13_fits 75 = .ok (.invokevirtual 119, 3) := by decide +kernel
theorem V.dX13_fits_78 : decode cX13_fits 78 = .ok (.aload_n 0, 1) := by decide +kernel
theorem V.dX13_fits_79 : decode cX13_fits 79 = .ok (.getfield 26, 3) := by decide +kernel
theorem V.dX13_fits_82 : decode cX13_fits 82 = .ok (.iload 6, 2) := by decide +kernel
theorem V.dX13_fits_84 : decode cX13_fits 84 = .ok (.invokevirtual 111, 3) := by decide +kernel
theorem V.dX13_fits_87 : decode cX13_fits 87 = .ok (.invokestatic 182, 3) := by decide +kernel
theorem V.dX13_fits_90 : decode cX13_fits 90 = .ok (.ireturn, 1) := by decide +kernel
theorem V.dX13_fits_91 : decode cX13_fits 91 = .ok (.iload_n 3, 1) := by decide +kernel
theorem V.dX13_fits_92 : decode cX13_fits 92 = .ok (.iconst 3, 1) := by decide +kernel
theorem V.dX13_fits_93 : decode cX13_fits 93 = .ok (.if_icmp .ne 41, 3) := by decide +kernel
theorem V.dX13_fits_96 : decode cX13_fits 96 = .ok (.aload_n 0, 1) := by decide +kernel
theorem V.dX13_fits_97 : decode cX13_fits 97 = .ok (.getfield 60, 3) := by decide +kernel
theorem V.dX13_fits_100 : decode cX13_fits 100 = .ok (.iload 6, 2) := by decide +kernel
theorem V.dX13_fits_102 : decode cX13_fits 102 = .ok (.invokevirtual 111, 3) := by decide +kernel
theorem V.dX13_fits_105 : decode cX13_fits 105 = .ok (.iload 4, 2) := by decide +kernel
theorem V.dX13_fits_107 : decode cX13_fits 107 = .ok (.if_icmp .ne 25, 3) := by decide +kernel
theorem V.dX13_fits_110 : decode cX13_fits 110 = .ok (.aload_n 0, 1) := by decide +kernel
theorem V.dX13_fits_111 : decode cX13_fits 111 = .ok (.getfield 63, 3) := by decide +kernel
theorem V.dX13_fits_114 : decode cX13_fits 114 = .ok (.iload 6, 2) := by decide +kernel
theorem V.dX13_fits_116 : decode cX13_fits 116 = .ok (.invokevirtual 111, 3) := by decide +kernel
theorem V.dX13_fits_119 : decode cX13_fits 119 = .ok (.aload_n 1, 1) := by decide +kernel
theorem V.dX13_fits_120 : decode cX13_fits 120 = .ok (.iload_n 2, 1) := by decide +kernel
theorem V.dX13_fits_121 : decode cX13_fits 121 = .ok (.iconst 2, 1) := by decide +kernel
theorem V.dX13_fits_122 : decode cX13_fits 122 = .ok (.invokestatic 178, 3) := by decide +kernel
theorem V.dX13_fits_125 : decode cX13_fits 125 = .ok (.if_icmp .ne 7, 3) := by decide +kernel
theorem V.dX13_fits_128 : decode cX13_fits 128 = .ok (.iconst 1, 1) := by decide +kernel
theorem V.dX13_fits_129 : decode cX13_fits 129 = .ok (.goto 4, 3) := by decide +kernel
theorem V.dX13_fits_132 : decode cX13_fits 132 = .ok (.iconst 0, 1) := by decide +kernel
theorem V.dX13_fits_133 : decode cX13_fits 133 = .ok (.ireturn, 1) := by decide +kernel
theorem V.dX13_fits_134 : decode cX13_fits 134 = .ok (.aload_n 1, 1) := by decide +kernel
theorem V.dX13_fits_135 : decode cX13_fits 135 = .ok (.iload_n 2, 1) := by decide +kernel
theorem V.dX13_fits_136 : decode cX13_fits 136 = .ok (.iconst 2, 1) := by decide +kernel
theorem V.dX13_fits_137 : decode cX13_fits 137 = .ok (.invokestatic 178, 3) := by decide +kernel
theorem V.dX13_fits_140 : decode cX13_fits 140 = .ok (.istore 7, 2) := by decide +kernel
theorem V.dX13_fits_142 : decode cX13_fits 142 = .ok (.aload_n 1, 1) := by decide +kernel
theorem V.dX13_fits_143 : decode cX13_fits 143 = .ok (.iload_n 2, 1) := by decide +kernel
theorem V.dX13_fits_144 : decode cX13_fits 144 = .ok (.iconst 3, 1) := by decide +kernel
theorem V.dX13_fits_145 : decode cX13_fits 145 = .ok (.invokestatic 178, 3) := by decide +kernel
theorem V.dX13_fits_148 : decode cX13_fits 148 = .ok (.istore 8, 2) := by decide +kernel
theorem V.dX13_fits_150 : decode cX13_fits 150 = .ok (.aload_n 1, 1) := by decide +kernel
theorem V.dX13_fits_151 : decode cX13_fits 151 = .ok (.iload_n 2, 1) := by decide +kernel
theorem V.dX13_fits_152 : decode cX13_fits 152 = .ok (.iconst 4, 1) := by decide +kernel
theorem V.dX13_fits_153 : decode cX13_fits 153 = .ok (.invokestatic 178, 3) := by decide +kernel
theorem V.dX13_fits_156 : decode cX13_fits 156 = .ok (.istore 9, 2) := by decide +kernel
theorem V.dX13_fits_158 : decode cX13_fits 158 = .ok (.iload_n 3, 1) := by decide +kernel
theorem V.dX13_fits_159 : decode cX13_fits 159 = .ok (.iconst 1, 1) := by decide +kernel
theorem V.dX13_fits_160 : decode cX13_fits 160 = .ok (.if_icmp .ne 63, 3) := by decide +kernel
theorem V.dX13_fits_163 : decode cX13_fits 163 = .ok (.aload_n 0, 1) := by decide +kernel
theorem V.dX13_fits_164 : decode cX13_fits 164 = .ok (.getfield 40, 3) := by decide +kernel
theorem V.dX13_fits_167 : decode cX13_fits 167 = .ok (.iload 6, 2) := by decide +kernel
theorem V.dX13_fits_169 : decode cX13_fits 169 = .ok (.invokevirtual 186, 3) := by decide +kernel
theorem V.dX13_fits_172 : decode cX13_fits 172 = .ok (.iload 4, 2) := by decide +kernel
theorem V.dX13_fits_174 : decode cX13_fits 174 = .ok (.if_icmp .ne 47, 3) := by decide +kernel
theorem V.dX13_fits_177 : decode cX13_fits 177 = .ok (.aload_n 0, 1) := by decide +kernel
theorem V.dX13_fits_178 : decode cX13_fits 178 = .ok (.getfield 40, 3) := by decide +kernel
theorem V.dX13_fits_181 : decode cX13_fits 181 = .ok (.iload 6, 2) := by decide +kernel
theorem V.dX13_fits_183 : decode cX13_fits 183 = .ok (.invokevirtual 189, 3) := by decide +kernel
theorem V.dX13_fits_186 : decode cX13_fits 186 = .ok (.i2l, 1) := by decide +kernel
theorem V.dX13_fits_187 : decode cX13_fits 187 = .ok (.iload 7, 2) := by decide +kernel
theorem V.dX13_fits_189 : decode cX13_fits 189 = .ok (.aload_n 0, 1) := by decide +kernel
theorem V.dX13_fits_190 : decode cX13_fits 190 = .ok (.getfield 40, 3) := by decide +kernel
theorem V.dX13_fits_193 : decode cX13_fits 193 = .ok (.iload 6, 2) := by decide +kernel
theorem V.dX13_fits_195 : decode cX13_fits 195 = .ok (.invokevirtual 191, 3) := by decide +kernel
theorem V.dX13_fits_198 : decode cX13_fits 198 = .ok (.aload_n 0, 1) := by decide +kernel
theorem V.dX13_fits_199 : decode cX13_fits 199 = .ok (.getfield 54, 3) := by decide +kernel
theorem V.dX13_fits_202 : decode cX13_fits 202 = .ok (.iload 6, 2) := by decide +kernel
theorem V.dX13_fits_204 : decode cX13_fits 204 = .ok (.invokestatic 194, 3) := by decide +kernel
theorem V.dX13_fits_207 : decode cX13_fits 207 = .ok (.iload 8, 2) := by decide +kernel
theorem V.dX13_fits_209 : decode cX13_fits 209 = .ok (.iload 9, 2) := by decide +kernel
theorem V.dX13_fits_211 : decode cX13_fits 211 = .ok (.invokestatic 198, 3) := by decide +kernel
theorem V.dX13_fits_214 : decode cX13_fits 214 = .ok (.ifCond .eq 7, 3) := by decide +kernel
theorem V.dX13_fits_217 : decode cX13_fits 217 = .ok (.iconst 1, 1) := by decide +kernel
theorem V.dX13_fits_218 : decode cX13_fits 218 = .ok (.goto 4, 3) := by decide +kernel
theorem V.dX13_fits_221 : decode cX13_fits 221 = .ok (.iconst 0, 1) := by decide +kernel
theorem V.dX13_fits_222 : decode cX13_fits 222 = .ok (.ireturn, 1) := by decide +kernel
theorem V.dX13_fits_223 : decode cX13_fits 223 = .ok (.aload_n 0, 1) := by decide +kernel
theorem V.dX13_fits_224 : decode cX13_fits 224 = .ok (.getfield 50, 3) := by decide +kernel
theorem V.dX13_fits_227 : decode cX13_fits 227 = .ok (.iload 6, 2) := by decide +kernel
theorem V.dX13_fits_229 : decode cX13_fits 229 = .ok (.invokevirtual 202, 3) := by decide +kernel
theorem V.dX13_fits_232 : decode cX13_fits 232 = .ok (.i2l, 1) := by decide +kernel
theorem V.dX13_fits_233 : decode cX13_fits 233 = .ok (.iload 7, 2) := by decide +kernel
theorem V.dX13_fits_235 : decode cX13_fits 235 = .ok (.aload_n 0, 1) := by decide +kernel
theorem V.dX13_fits_236 : decode cX13_fits 236 = .ok (.getfield 50, 3) := by decide +kernel
theorem V.dX13_fits_239 : decode cX13_fits 239 = .ok (.iload 6, 2) := by decide +kernel
theorem V.dX13_fits_241 : decode cX13_fits 241 = .ok (.invokevirtual 203, 3) := by decide +kernel
theorem V.dX13_fits_244 : decode cX13_fits 244 = .ok (.i2l, 1) := by decide +kernel
theorem V.dX13_fits_245 : decode cX13_fits 245 = .ok (.aload_n 0, 1) := by decide +kernel
theorem V.dX13_fits_246 : decode cX13_fits 246 = .ok (.getfield 57, 3) := by decide +kernel
theorem V.dX13_fits_249 : decode cX13_fits 249 = .ok (.iload 6, 2) := by decide +kernel
theorem V.dX13_fits_251 : decode cX13_fits 251 = .ok (.invokestatic 194, 3) := by decide +kernel
theorem V.dX13_fits_254 : decode cX13_fits 254 = .ok (.iload 8, 2) := by decide +kernel
theorem V.dX13_fits_256 : decode cX13_fits 256 = .ok (.iload 9, 2) := by decide +kernel
theorem V.dX13_fits_258 : decode cX13_fits 258 = .ok (.invokestatic 198, 3) := by decide +kernel
theorem V.dX13_fits_261 : decode cX13_fits 261 = .ok (.ireturn, 1) := by decide +kernel
theorem V.mdX13_178 : MD RX13 178 yX13_cell cX13_cell 3 (some .int) 3 := ⟨Or.inl q2197, q373, q2199, by decide, by decide, by decide +kernel⟩
theorem V.fdX13_50 : FD RX13 50 13 8 2 := ⟨(RX13, TX13, 27), tyX13, rfl, rfl, in_X13, by decide, Or.inl q1030, rfl⟩
theorem V.mdX13_202 : MD RX13 202 yX15_size cX15_size 2 (some .int) 1 := ⟨Or.inl q2230, q375, q2233, by decide, by decide, by decide +kernel⟩
theorem V.mdX13_203 : MD RX13 203 yX15_limit cX15_limit 2 (some .int) 1 := ⟨Or.inl q2234, q375, q2237, by decide, by decide, by decide +kernel⟩
theorem V.fdX13_57 : FD RX13 57 13 10 2 := ⟨(RX13, TX13, 27), tyX13, rfl, rfl, in_X13, by decide, Or.inl q1034, rfl⟩
theorem V.mdX13_194 : MD RX13 194 yX13_isBounded cX13_isBounded 2 (some .boolean) 2 := ⟨Or.inl q2223, q373, q2225, by decide, by decide, by decide +kernel⟩
theorem V.mdX13_198 : MD RX13 198 yX13_isAtLeast cX13_isAtLeast 8 (some .boolean) 6 := ⟨Or.inl q2226, q373, q2228, by decide, by decide, by decide +kernel⟩
theorem V.fdX13_40 : FD RX13 40 13 7 2 := ⟨(RX13, TX13, 27), tyX13, rfl, rfl, in_X13, by decide, Or.inl q1027, rfl⟩
theorem V.mdX13_186 : MD RX13 186 yX14_type cX14_type 2 (some .int) 1 := ⟨Or.inl q2211, q374, q2214, by decide, by decide, by decide +kernel⟩
theorem V.mdX13_189 : MD RX13 189 yX14_size cX14_size 2 (some .int) 1 := ⟨Or.inl q2215, q374, q2218, by decide, by decide, by decide +kernel⟩
theorem V.mdX13_191 : MD RX13 191 yX14_limit cX14_limit 2 (some .long) 1 := ⟨Or.inl q2219, q374, q2222, by decide, by decide, by decide +kernel⟩
theorem V.fdX13_54 : FD RX13 54 13 9 2 := ⟨(RX13, TX13, 27), tyX13, rfl, rfl, in_X13, by decide, Or.inl q1033, rfl⟩
theorem V.fdX13_60 : FD RX13 60 13 11 2 := ⟨(RX13, TX13, 27), tyX13, rfl, rfl, in_X13, by decide, Or.inl q1035, rfl⟩
theorem V.fdX13_63 : FD RX13 63 13 12 2 := ⟨(RX13, TX13, 27), tyX13, rfl, rfl, in_X13, by decide, Or.inl q1037, rfl⟩
theorem V.mdX13_119 : MD RX13 119 yX13_moduleOf cX13_moduleOf 2 (some (.object "ModuleEngine$Module")) 1 := ⟨Or.inl q2200, q373, q2203, by decide, by decide, by decide +kernel⟩
theorem V.fdX13_26 : FD RX13 26 13 4 2 := ⟨(RX13, TX13, 27), tyX13, rfl, rfl, in_X13, by decide, Or.inl q1021, rfl⟩
theorem V.mdX13_182 : MD RX13 182 yX13_isLike cX13_isLike 5 (some .boolean) 4 := ⟨Or.inl q2204, q373, q2206, by decide, by decide, by decide +kernel⟩
/-! ModuleEngine$Store.fits(LModuleEngine$Module;I)Z -/
def V.Sto_fits (σ : HS) (x0 : Nat) (x1 : Nat) (x2 : Int32) : Option (Int32 × HS) :=
  cl (Sto_cell σ x1 x2 (0 : Int32)) fun r2 σ1 =>
  cl (Sto_cell σ1 x1 x2 (1 : Int32)) fun r4 σ3 =>
  ck (tg σ3 x0 = 14) <|
  ck (tg σ3 (gR σ3 x0 26) = 4) <| cl (Row_at σ3 (gR σ3 x0 26) ((2 : Int32) * x2)) fun r6 σ5 =>
  ck (tg σ5 x0 = 14) <|
  ck (tg σ5 (gR σ5 x0 26) = 4) <| cl (Row_at σ5 (gR σ5 x0 26) (((2 : Int32) * x2) + (1 : Int32))) fun r8 σ7 =>
  if r6 = (-1 : Int32) then (
    if r2 = 0 then (
      some ((1 : Int32), σ7))
    else (
      some ((0 : Int32), σ7)))
  else (
    if r6 = r2 then (
      if r2 = 0 then (
        ck (tg σ7 x0 = 14) <| cl (Sto_moduleOf σ7 x0 r8) fun r40 σ39 =>
        ck (tg σ39 x0 = 14) <|
        ck (tg σ39 (gR σ39 x0 4) = 4) <| cl (Row_at σ39 (gR σ39 x0 4) r8) fun r42 σ41 =>
        cl (Sto_isLike σ41 x1 r4 r40 r42) fun r44 σ43 =>
        ck (zb r44) (some (r44, σ43)))
      else (
        if r2 = (3 : Int32) then (
          ck (tg σ7 x0 = 14) <|
          ck (tg σ7 (gR σ7 x0 11) = 4) <| cl (Row_at σ7 (gR σ7 x0 11) r8) fun r34 σ33 =>
          if r34 = r4 then (
            ck (tg σ33 x0 = 14) <|
            ck (tg σ33 (gR σ33 x0 12) = 4) <| cl (Row_at σ33 (gR σ33 x0 12) r8) fun r36 σ35 =>
            cl (Sto_cell σ35 x1 x2 (2 : Int32)) fun r38 σ37 =>
            if r36 = r38 then (
              some ((1 : Int32), σ37))
            else (
              some ((0 : Int32), σ37)))
          else (
            some ((0 : Int32), σ33)))
        else (
          cl (Sto_cell σ7 x1 x2 (2 : Int32)) fun r10 σ9 =>
          cl (Sto_cell σ9 x1 x2 (3 : Int32)) fun r12 σ11 =>
          cl (Sto_cell σ11 x1 x2 (4 : Int32)) fun r14 σ13 =>
          if r2 = (1 : Int32) then (
            ck (tg σ13 x0 = 14) <|
            ck (tg σ13 (gR σ13 x0 7) = 15) <| cl (Tab_type σ13 (gR σ13 x0 7) r8) fun r24 σ23 =>
            if r24 = r4 then (
              ck (tg σ23 x0 = 14) <|
              ck (tg σ23 (gR σ23 x0 7) = 15) <| cl (Tab_size σ23 (gR σ23 x0 7) r8) fun r26 σ25 =>
              ck (tg σ25 x0 = 14) <|
              ck (tg σ25 (gR σ25 x0 7) = 15) <| cl (Tab_limit σ25 (gR σ25 x0 7) r8) fun r28 σ27 =>
              ck (tg σ27 x0 = 14) <|
              cl (Sto_isBounded σ27 (gR σ27 x0 9) r8) fun r30 σ29 =>
              cl (Sto_isAtLeast σ29 r26.toInt64 r10 r28 r30 r12 r14) fun r32 σ31 =>
              if r32 = 0 then (
                some ((0 : Int32), σ31))
              else (
                some ((1 : Int32), σ31)))
            else (
              some ((0 : Int32), σ23)))
          else (
            ck (tg σ13 x0 = 14) <|
            ck (tg σ13 (gR σ13 x0 8) = 16) <| cl (Pag_size σ13 (gR σ13 x0 8) r8) fun r16 σ15 =>
            ck (tg σ15 x0 = 14) <|
            ck (tg σ15 (gR σ15 x0 8) = 16) <| cl (Pag_limit σ15 (gR σ15 x0 8) r8) fun r18 σ17 =>
            ck (tg σ17 x0 = 14) <|
            cl (Sto_isBounded σ17 (gR σ17 x0 10) r8) fun r20 σ19 =>
            cl (Sto_isAtLeast σ19 r16.toInt64 r10 r18.toInt64 r20 r12 r14) fun r22 σ21 =>
            ck (zb r22) (some (r22, σ21))))))
    else (
      some ((0 : Int32), σ7)))
theorem V.ctX13_fits (x0 : Nat) (x1 : Nat) (x2 : Int32) : Ct yX13_fits  cX13_fits 10 (some .boolean) 4 88 eI [av x0, av x1, iv x2] (fun σ => Sto_fits σ x0 x1 x2) := by
  refine Ct.of (own := RX13) (nm := "fits") (desc := "(LModuleEngine$Module;I)Z") rfl (by decide) (Nat.le_of_ble_eq_true rfl) (by decide) (fun X σ => ?_)
  show G X RX13 "fits" cX13_fits 10 (some .boolean) 4 88 enI 0 [(0, av x0), (1, av x1), (2, iv x2)] [] σ (Sto_fits σ x0 x1 x2)
  unfold Sto_fits
  refine g_aload_n 1 1 dX13_fits_0 rfl rfl ?_
  refine g_iload_n 2 2 dX13_fits_1 rfl rfl ?_
  refine g_iconst (v := 0) dX13_fits_2 (by decide) ?_
  refine g_callS (fc := fun sς => Sto_cell sς x1 x2 (0 : Int32)) (as := [av x1, iv x2, iv (0 : Int32)]) q2198 mdX13_178 (ctX13_cell x1 x2 (0 : Int32)) rfl (Nat.le_of_ble_eq_true rfl) (Nat.le_of_ble_eq_true rfl) (Nat.le_of_ble_eq_true rfl) pu_I dX13_fits_3 (fun r2 σ1 => ?_)
  refine g_istore_n 3 dX13_fits_6 rfl (by decide) rfl ?_
  refine g_aload_n 1 2 dX13_fits_7 rfl rfl ?_
  refine g_iload_n 2 3 dX13_fits_8 rfl rfl ?_
  refine g_iconst (v := 1) dX13_fits_9 (by decide) ?_
  refine g_callS (fc := fun sς => Sto_cell sς x1 x2 (1 : Int32)) (as := [av x1, iv x2, iv (1 : Int32)]) q2198 mdX13_178 (ctX13_cell x1 x2 (1 : Int32)) rfl (Nat.le_of_ble_eq_true rfl) (Nat.le_of_ble_eq_true rfl) (Nat.le_of_ble_eq_true rfl) pu_I dX13_fits_10 (fun r4 σ3 => ?_)
  refine g_istore dX13_fits_13 (by decide) rfl ?_
  refine g_aload_n 0 2 dX13_fits_15 rfl rfl ?_
  refine g_getR fdX13_104 dX13_fits_16 ?_
  refine g_iconst (v := 2) dX13_fits_19 (by decide) ?_
  refine g_iload_n 2 4 dX13_fits_20 rfl rfl ?_
  refine g_imul dX13_fits_21 ?_
  refine g_callV (fc := fun sς => Row_at sς (gR σ3 x0 26) ((2 : Int32) * x2)) (ci := 3) (as := [iv ((2 : Int32) * x2)]) rfl rfl rfl q1409 q1410 mdX13_111 (ctX3_at (gR σ3 x0 26) ((2 : Int32) * x2)) rfl (Nat.le_of_ble_eq_true rfl) (Nat.le_of_ble_eq_true rfl) (Nat.le_of_ble_eq_true rfl) pu_I dX13_fits_22 (fun r6 σ5 => ?_)
  refine g_istore dX13_fits_25 (by decide) rfl ?_
  refine g_aload_n 0 3 dX13_fits_27 rfl rfl ?_
  refine g_getR fdX13_104 dX13_fits_28 ?_
  refine g_iconst (v := 2) dX13_fits_31 (by decide) ?_
  refine g_iload_n 2 5 dX13_fits_32 rfl rfl ?_
  refine g_imul dX13_fits_33 ?_
  refine g_iconst (v := 1) dX13_fits_34 (by decide) ?_
  refine g_iadd dX13_fits_35 ?_
  refine g_callV (fc := fun sς => Row_at sς (gR σ5 x0 26) (((2 : Int32) * x2) + (1 : Int32))) (ci := 3) (as := [iv (((2 : Int32) * x2) + (1 : Int32))]) rfl rfl rfl q1409 q1410 mdX13_111 (ctX3_at (gR σ5 x0 26) (((2 : Int32) * x2) + (1 : Int32))) rfl (Nat.le_of_ble_eq_true rfl) (Nat.le_of_ble_eq_true rfl) (Nat.le_of_ble_eq_true rfl) pu_I dX13_fits_36 (fun r8 σ7 => ?_)
  refine g_istore dX13_fits_39 (by decide) rfl ?_
  refine g_iload 1 dX13_fits_41 rfl ?_
  refine g_iconst (v := (-1)) dX13_fits_43 (by decide) ?_
  refine g_icmp_ne 57 dX13_fits_44 (by decide) ?_ ?_
  · refine g_iload 1 dX13_fits_57 rfl ?_
    refine g_iload_n 3 3 dX13_fits_59 rfl rfl ?_
    refine g_icmp_eq 65 dX13_fits_60 (by decide) ?_ ?_
    · refine g_iload_n 3 3 dX13_fits_65 rfl rfl ?_
      refine g_if_ne 91 dX13_fits_66 (by decide) ?_ ?_
      · refine g_iload_n 3 3 dX13_fits_91 rfl rfl ?_
        refine g_iconst (v := 3) dX13_fits_92 (by decide) ?_
        refine g_icmp_ne 134 dX13_fits_93 (by decide) ?_ ?_
        · refine g_aload_n 1 5 dX13_fits_134 rfl rfl ?_
          refine g_iload_n 2 6 dX13_fits_135 rfl rfl ?_
          refine g_iconst (v := 2) dX13_fits_136 (by decide) ?_
          refine g_callS (fc := fun sς => Sto_cell sς x1 x2 (2 : Int32)) (as := [av x1, iv x2, iv (2 : Int32)]) q2198 mdX13_178 (ctX13_cell x1 x2 (2 : Int32)) rfl (Nat.le_of_ble_eq_true rfl) (Nat.le_of_ble_eq_true rfl) (Nat.le_of_ble_eq_true rfl) pu_I dX13_fits_137 (fun r10 σ9 => ?_)
          refine g_istore dX13_fits_140 (by decide) rfl ?_
          refine g_aload_n 1 6 dX13_fits_142 rfl rfl ?_
          refine g_iload_n 2 7 dX13_fits_143 rfl rfl ?_
          refine g_iconst (v := 3) dX13_fits_144 (by decide) ?_
          refine g_callS (fc := fun sς => Sto_cell sς x1 x2 (3 : Int32)) (as := [av x1, iv x2, iv (3 : Int32)]) q2198 mdX13_178 (ctX13_cell x1 x2 (3 : Int32)) rfl (Nat.le_of_ble_eq_true rfl) (Nat.le_of_ble_eq_true rfl) (Nat.le_of_ble_eq_true rfl) pu_I dX13_fits_145 (fun r12 σ11 => ?_)
          refine g_istore dX13_fits_148 (by decide) rfl ?_
          refine g_aload_n 1 7 dX13_fits_150 rfl rfl ?_
          refine g_iload_n 2 8 dX13_fits_151 rfl rfl ?_
          refine g_iconst (v := 4) dX13_fits_152 (by decide) ?_
          refine g_callS (fc := fun sς => Sto_cell sς x1 x2 (4 : Int32)) (as := [av x1, iv x2, iv (4 : Int32)]) q2198 mdX13_178 (ctX13_cell x1 x2 (4 : Int32)) rfl (Nat.le_of_ble_eq_true rfl) (Nat.le_of_ble_eq_true rfl) (Nat.le_of_ble_eq_true rfl) pu_I dX13_fits_153 (fun r14 σ13 => ?_)
          refine g_istore dX13_fits_156 (by decide) rfl ?_
          refine g_iload_n 3 6 dX13_fits_158 rfl rfl ?_
          refine g_iconst (v := 1) dX13_fits_159 (by decide) ?_
          refine g_icmp_ne 223 dX13_fits_160 (by decide) ?_ ?_
          · refine g_aload_n 0 7 dX13_fits_223 rfl rfl ?_
            refine g_getR fdX13_50 dX13_fits_224 ?_
            refine g_iload 3 dX13_fits_227 rfl ?_
            refine g_callV (fc := fun sς => Pag_size sς (gR σ13 x0 8) r8) (ci := 15) (as := [iv r8]) rfl rfl rfl q2231 q2232 mdX13_202 (ctX15_size (gR σ13 x0 8) r8) rfl (Nat.le_of_ble_eq_true rfl) (Nat.le_of_ble_eq_true rfl) (Nat.le_of_ble_eq_true rfl) pu_I dX13_fits_229 (fun r16 σ15 => ?_)
            refine g_i2l dX13_fits_232 ?_
            refine g_iload 2 dX13_fits_233 rfl ?_
            refine g_aload_n 0 7 dX13_fits_235 rfl rfl ?_
            refine g_getR fdX13_50 dX13_fits_236 ?_
            refine g_iload 3 dX13_fits_239 rfl ?_
            refine g_callV (fc := fun sς => Pag_limit sς (gR σ15 x0 8) r8) (ci := 15) (as := [iv r8]) rfl rfl rfl q2235 q2236 mdX13_203 (ctX15_limit (gR σ15 x0 8) r8) rfl (Nat.le_of_ble_eq_true rfl) (Nat.le_of_ble_eq_true rfl) (Nat.le_of_ble_eq_true rfl) pu_I dX13_fits_241 (fun r18 σ17 => ?_)
            refine g_i2l dX13_fits_244 ?_
            refine g_aload_n 0 7 dX13_fits_245 rfl rfl ?_
            refine g_getR fdX13_57 dX13_fits_246 ?_
            refine g_iload 3 dX13_fits_249 rfl ?_
            refine g_callS (fc := fun sς => Sto_isBounded sς (gR σ17 x0 10) r8) (as := [av (gR σ17 x0 10), iv r8]) q2224 mdX13_194 (ctX13_isBounded (gR σ17 x0 10) r8) rfl (Nat.le_of_ble_eq_true rfl) (Nat.le_of_ble_eq_true rfl) (Nat.le_of_ble_eq_true rfl) pu_I dX13_fits_251 (fun r20 σ19 => ?_)
            refine g_iload 1 dX13_fits_254 rfl ?_
            refine g_iload 0 dX13_fits_256 rfl ?_
            refine g_callS (fc := fun sς => Sto_isAtLeast sς r16.toInt64 r10 r18.toInt64 r20 r12 r14) (as := [jv r16.toInt64, iv r10, jv r18.toInt64, iv r20, iv r12, iv r14]) q2227 mdX13_198 (ctX13_isAtLeast r16.toInt64 r10 r18.toInt64 r20 r12 r14) rfl (Nat.le_of_ble_eq_true rfl) (Nat.le_of_ble_eq_true rfl) (Nat.le_of_ble_eq_true rfl) pu_I dX13_fits_258 (fun r22 σ21 => ?_)
            exact g_zreturnc rfl dX13_fits_261
          · refine g_aload_n 0 7 dX13_fits_163 rfl rfl ?_
            refine g_getR fdX13_40 dX13_fits_164 ?_
            refine g_iload 3 dX13_fits_167 rfl ?_
            refine g_callV (fc := fun sς => Tab_type sς (gR σ13 x0 7) r8) (ci := 14) (as := [iv r8]) rfl rfl rfl q2212 q2213 mdX13_186 (ctX14_type (gR σ13 x0 7) r8) rfl (Nat.le_of_ble_eq_true rfl) (Nat.le_of_ble_eq_true rfl) (Nat.le_of_ble_eq_true rfl) pu_I dX13_fits_169 (fun r24 σ23 => ?_)
            refine g_iload 5 dX13_fits_172 rfl ?_
            refine g_icmp_ne 221 dX13_fits_174 (by decide) ?_ ?_
            · refine g_iconst (v := 0) dX13_fits_221 (by decide) ?_
              exact g_zreturn rfl (by decide +kernel) dX13_fits_222
            · refine g_aload_n 0 7 dX13_fits_177 rfl rfl ?_
              refine g_getR fdX13_40 dX13_fits_178 ?_
              refine g_iload 3 dX13_fits_181 rfl ?_
              refine g_callV (fc := fun sς => Tab_size sς (gR σ23 x0 7) r8) (ci := 14) (as := [iv r8]) rfl rfl rfl q2216 q2217 mdX13_189 (ctX14_size (gR σ23 x0 7) r8) rfl (Nat.le_of_ble_eq_true rfl) (Nat.le_of_ble_eq_true rfl) (Nat.le_of_ble_eq_true rfl) pu_I dX13_fits_183 (fun r26 σ25 => ?_)
              refine g_i2l dX13_fits_186 ?_
              refine g_iload 2 dX13_fits_187 rfl ?_
              refine g_aload_n 0 7 dX13_fits_189 rfl rfl ?_
              refine g_getR fdX13_40 dX13_fits_190 ?_
              refine g_iload 3 dX13_fits_193 rfl ?_
              refine g_callV (fc := fun sς => Tab_limit sς (gR σ25 x0 7) r8) (ci := 14) (as := [iv r8]) rfl rfl rfl q2220 q2221 mdX13_191 (ctX14_limit (gR σ25 x0 7) r8) rfl (Nat.le_of_ble_eq_true rfl) (Nat.le_of_ble_eq_true rfl) (Nat.le_of_ble_eq_true rfl) pu_J dX13_fits_195 (fun r28 σ27 => ?_)
              refine g_aload_n 0 7 dX13_fits_198 rfl rfl ?_
              refine g_getR fdX13_54 dX13_fits_199 ?_
              refine g_iload 3 dX13_fits_202 rfl ?_
              refine g_callS (fc := fun sς => Sto_isBounded sς (gR σ27 x0 9) r8) (as := [av (gR σ27 x0 9), iv r8]) q2224 mdX13_194 (ctX13_isBounded (gR σ27 x0 9) r8) rfl (Nat.le_of_ble_eq_true rfl) (Nat.le_of_ble_eq_true rfl) (Nat.le_of_ble_eq_true rfl) pu_I dX13_fits_204 (fun r30 σ29 => ?_)
              refine g_iload 1 dX13_fits_207 rfl ?_
              refine g_iload 0 dX13_fits_209 rfl ?_
              refine g_callS (fc := fun sς => Sto_isAtLeast sς r26.toInt64 r10 r28 r30 r12 r14) (as := [jv r26.toInt64, iv r10, jv r28, iv r30, iv r12, iv r14]) q2227 mdX13_198 (ctX13_isAtLeast r26.toInt64 r10 r28 r30 r12 r14) rfl (Nat.le_of_ble_eq_true rfl) (Nat.le_of_ble_eq_true rfl) (Nat.le_of_ble_eq_true rfl) pu_I dX13_fits_211 (fun r32 σ31 => ?_)
              refine g_if_eq 221 dX13_fits_214 (by decide) ?_ ?_
              · refine g_iconst (v := 0) dX13_fits_221 (by decide) ?_
                exact g_zreturn rfl (by decide +kernel) dX13_fits_222
              · refine g_iconst (v := 1) dX13_fits_217 (by decide) ?_
                refine g_goto 222 dX13_fits_218 (by decide) ?_
                exact g_zreturn rfl (by decide +kernel) dX13_fits_222
        · refine g_aload_n 0 4 dX13_fits_96 rfl rfl ?_
          refine g_getR fdX13_60 dX13_fits_97 ?_
          refine g_iload 0 dX13_fits_100 rfl ?_
          refine g_callV (fc := fun sς => Row_at sς (gR σ7 x0 11) r8) (ci := 3) (as := [iv r8]) rfl rfl rfl q1409 q1410 mdX13_111 (ctX3_at (gR σ7 x0 11) r8) rfl (Nat.le_of_ble_eq_true rfl) (Nat.le_of_ble_eq_true rfl) (Nat.le_of_ble_eq_true rfl) pu_I dX13_fits_102 (fun r34 σ33 => ?_)
          refine g_iload 2 dX13_fits_105 rfl ?_
          refine g_icmp_ne 132 dX13_fits_107 (by decide) ?_ ?_
          · refine g_iconst (v := 0) dX13_fits_132 (by decide) ?_
            exact g_zreturn rfl (by decide +kernel) dX13_fits_133
          · refine g_aload_n 0 4 dX13_fits_110 rfl rfl ?_
            refine g_getR fdX13_63 dX13_fits_111 ?_
            refine g_iload 0 dX13_fits_114 rfl ?_
            refine g_callV (fc := fun sς => Row_at sς (gR σ33 x0 12) r8) (ci := 3) (as := [iv r8]) rfl rfl rfl q1409 q1410 mdX13_111 (ctX3_at (gR σ33 x0 12) r8) rfl (Nat.le_of_ble_eq_true rfl) (Nat.le_of_ble_eq_true rfl) (Nat.le_of_ble_eq_true rfl) pu_I dX13_fits_116 (fun r36 σ35 => ?_)
            refine g_aload_n 1 5 dX13_fits_119 rfl rfl ?_
            refine g_iload_n 2 6 dX13_fits_120 rfl rfl ?_
            refine g_iconst (v := 2) dX13_fits_121 (by decide) ?_
            refine g_callS (fc := fun sς => Sto_cell sς x1 x2 (2 : Int32)) (as := [av x1, iv x2, iv (2 : Int32)]) q2198 mdX13_178 (ctX13_cell x1 x2 (2 : Int32)) rfl (Nat.le_of_ble_eq_true rfl) (Nat.le_of_ble_eq_true rfl) (Nat.le_of_ble_eq_true rfl) pu_I dX13_fits_122 (fun r38 σ37 => ?_)
            refine g_icmp_ne 132 dX13_fits_125 (by decide) ?_ ?_
            · refine g_iconst (v := 0) dX13_fits_132 (by decide) ?_
              exact g_zreturn rfl (by decide +kernel) dX13_fits_133
            · refine g_iconst (v := 1) dX13_fits_128 (by decide) ?_
              refine g_goto 133 dX13_fits_129 (by decide) ?_
              exact g_zreturn rfl (by decide +kernel) dX13_fits_133
      · refine g_aload_n 1 5 dX13_fits_69 rfl rfl ?_
        refine g_iload 2 dX13_fits_70 rfl ?_
        refine g_aload_n 0 4 dX13_fits_72 rfl rfl ?_
        refine g_iload 0 dX13_fits_73 rfl ?_
        refine g_callV (fc := fun sς => Sto_moduleOf sς x0 r8) (ci := 13) (as := [iv r8]) rfl rfl rfl q2201 q2202 mdX13_119 (ctX13_moduleOf x0 r8) rfl (Nat.le_of_ble_eq_true rfl) (Nat.le_of_ble_eq_true rfl) (Nat.le_of_ble_eq_true rfl) pu_R dX13_fits_75 (fun r40 σ39 => ?_)
        refine g_aload_n 0 4 dX13_fits_78 rfl rfl ?_
        refine g_getR fdX13_26 dX13_fits_79 ?_
        refine g_iload 0 dX13_fits_82 rfl ?_
        refine g_callV (fc := fun sς => Row_at sς (gR σ39 x0 4) r8) (ci := 3) (as := [iv r8]) rfl rfl rfl q1409 q1410 mdX13_111 (ctX3_at (gR σ39 x0 4) r8) rfl (Nat.le_of_ble_eq_true rfl) (Nat.le_of_ble_eq_true rfl) (Nat.le_of_ble_eq_true rfl) pu_I dX13_fits_84 (fun r42 σ41 => ?_)
        refine g_callS (fc := fun sς => Sto_isLike sς x1 r4 r40 r42) (as := [av x1, iv r4, av r40, iv r42]) q2205 mdX13_182 (ctX13_isLike x1 r4 r40 r42) rfl (Nat.le_of_ble_eq_true rfl) (Nat.le_of_ble_eq_true rfl) (Nat.le_of_ble_eq_true rfl) pu_I dX13_fits_87 (fun r44 σ43 => ?_)
        exact g_zreturnc rfl dX13_fits_90
    · refine g_iconst (v := 0) dX13_fits_63 (by decide) ?_
      exact g_zreturn rfl (by decide +kernel) dX13_fits_64
  · refine g_iload_n 3 3 dX13_fits_47 rfl rfl ?_
    refine g_if_ne 55 dX13_fits_48 (by decide) ?_ ?_
    · refine g_iconst (v := 0) dX13_fits_55 (by decide) ?_
      exact g_zreturn rfl (by decide +kernel) dX13_fits_56
    · refine g_iconst (v := 1) dX13_fits_51 (by decide) ?_
      refine g_goto 56 dX13_fits_52 (by decide) ?_
      exact g_zreturn rfl (by decide +kernel) dX13_fits_56
theorem V.dX13_functionCount_0 : decode cX13_functionCount 0 = .ok (.aload_n 0, 1) := by decide +kernel
theorem V.dX13_functionCount_1 : decode cX13_functionCount 1 = .ok (.getfield 22, 3) := by decide +kernel
theorem V.dX13_functionCount_4 : decode cX13_functionCount 4 = .ok (.invokevirtual 107, 3) := by decide +kernel
theorem V.dX13_functionCount_7 : decode cX13_functionCount 7 = .ok (.ireturn, 1) := by decide +kernel
/-! ModuleEngine$Store.functionCount()I -/
def V.Sto_functionCount (σ : HS) (x0 : Nat) : Option (Int32 × HS) :=
  ck (tg σ x0 = 14) <|
  ck (tg σ (gR σ x0 3) = 4) <| cl (Row_size σ (gR σ x0 3) ) fun r2 σ1 =>
  some (r2, σ1)
theorem V.ctX13_functionCount (x0 : Nat) : Ct yX13_functionCount  cX13_functionCount 1 (some .int) 1 20 eI [av x0] (fun σ => Sto_functionCount σ x0) := by
  refine Ct.of (own := RX13) (nm := "functionCount") (desc := "()I") rfl (by decide) (Nat.le_of_ble_eq_true rfl) (by decide) (fun X σ => ?_)
  show G X RX13 "functionCount" cX13_functionCount 1 (some .int) 1 20 enI 0 [(0, av x0)] [] σ (Sto_functionCount σ x0)
  unfold Sto_functionCount
  refine g_aload_n 0 0 dX13_functionCount_0 rfl rfl ?_
  refine g_getR fdX13_22 dX13_functionCount_1 ?_
  refine g_callV (fc := fun sς => Row_size sς (gR σ x0 3) ) (ci := 3) (as := []) rfl rfl rfl q1421 q1422 mdX13_107 (ctX3_size (gR σ x0 3) ) rfl (Nat.le_of_ble_eq_true rfl) (Nat.le_of_ble_eq_true rfl) (Nat.le_of_ble_eq_true rfl) pu_I dX13_functionCount_4 (fun r2 σ1 => ?_)
  exact g_ireturn rfl dX13_functionCount_7
theorem V.dX13_sum_0 : decode cX13_sum 0 = .ok (.lconst 0, 1) := by decide +kernel
theorem V.dX13_sum_1 : decode cX13_sum 1 = .ok (.lstore_n 1, 1) := by decide +kernel
theorem V.dX13_sum_2 : decode cX13_sum 2 = .ok (.iconst 0, 1) := by decide +kernel
theorem V.dX13_sum_3 : decode cX13_sum 3 = .ok (.istore_n 3, 1) := by decide +kernel
theorem V.dX13_sum_4 : decode cX13_sum 4 = .ok (.iload_n 3, 1) := by decide +kernel
theorem V.dX13_sum_5 : decode cX13_sum 5 = .ok (.aload_n 0, 1) := by decide +kernel
theorem V.dX13_sum_6 : decode cX13_sum 6 = .ok (.invokevirtual 107, 3) := by decide +kernel
theorem V.dX13_sum_9 : decode cX13_sum 9 = .ok (.if_icmp .ge 28, 3) := by decide +kernel
theorem V.dX13_sum_12 : decode cX13_sum 12 = .ok (.lload_n 1, 1) := by decide +kernel
theorem V.dX13_sum_13 : decode cX13_sum 13 = .ok (.aload_n 0, 1) := by decide +kernel
theorem V.dX13_sum_14 : decode cX13_sum 14 = .ok (.iload_n 3, 1) := by decide +kernel
theorem V.dX13_sum_15 : decode cX13_sum 15 = .ok (.iconst 1, 1) := by decide +kernel
theorem V.dX13_sum_16 : decode cX13_sum 16 = .ok (.iadd, 1) := by decide +kernel
theorem V.dX13_sum_17 : decode cX13_sum 17 = .ok (.invokevirtual 111, 3) := by decide +kernel
theorem V.dX13_sum_20 : decode cX13_sum 20 = .ok (.invokestatic 174, 3) := by decide +kernel
theorem V.dX13_sum_23 : decode cX13_sum 23 = .ok (.ladd, 1) := by decide +kernel
theorem V.dX13_sum_24 : decode cX13_sum 24 = .ok (.ldc2_w 205, 3) := by decide +kernel
theorem V.dX13_sum_27 : decode cX13_sum 27 = .ok (.invokestatic 207, 3) := by decide +kernel
theorem V.dX13_sum_30 : decode cX13_sum 30 = .ok (.lstore_n 1, 1) := by decide +kernel
theorem V.dX13_sum_31 : decode cX13_sum 31 = .ok (.iinc 3 4, 3) := by decide +kernel
theorem V.dX13_sum_34 : decode cX13_sum 34 = .ok (.goto (-30), 3) := by decide +kernel
theorem V.dX13_sum_37 : decode cX13_sum 37 = .ok (.lload_n 1, 1) := by decide +kernel
theorem V.dX13_sum_38 : decode cX13_sum 38 = .ok (.l2i, 1) := by decide +kernel
theorem V.dX13_sum_39 : decode cX13_sum 39 = .ok (.ireturn, 1) := by decide +kernel
/-! ModuleEngine$Store.sum(LModuleEngine$Row;)I -/
def V.Sto_sum_p4  : Nat → HS → Nat → Int64 → Int32 → Option (Int32 × HS)
  | 0, _, _, _, _ => none
  | n + 1, σ, x0, x1, x3 =>
    ck (tg σ x0 = 4) <| cl (Row_size σ x0 ) fun r2 σ1 =>
    if r2 ≤ x3 then (
      some (x1.toInt32, σ1))
    else (
      ck (tg σ1 x0 = 4) <| cl (Row_at σ1 x0 (x3 + (1 : Int32))) fun r4 σ3 =>
      cl (Mod_wide σ3 r4) fun r6 σ5 =>
      bn (minJ (x1 + r6) (1073741824 : Int64)) fun y7 =>
      bn (x3 + (4 : Int32)) fun y8 =>
      Sto_sum_p4 n σ5 x0 y7 y8)
theorem V.gX13_sum_p4 {X : CX}  : ∀ (n : Nat) (σ : HS) (x0 : Nat) (x1 : Int64) (x3 : Int32), G X RX13 "sum" cX13_sum 4 (some .int) 1 24 enI 4 [(0, av x0), (1, jv x1), (3, iv x3)] [] σ (Sto_sum_p4 n σ x0 x1 x3)
  | 0, σ, x0, x1, x3 => by rw [Sto_sum_p4]; exact G.nul
  | n + 1, σ, x0, x1, x3 => by
    rw [Sto_sum_p4]
    refine g_iload_n 3 2 dX13_sum_4 rfl rfl ?_
    refine g_aload_n 0 0 dX13_sum_5 rfl rfl ?_
    refine g_callV (fc := fun sς => Row_size sς x0 ) (ci := 3) (as := []) rfl rfl rfl q1421 q1422 mdX13_107 (ctX3_size x0 ) rfl (Nat.le_of_ble_eq_true rfl) (Nat.le_of_ble_eq_true rfl) (Nat.le_of_ble_eq_true rfl) pu_I dX13_sum_6 (fun r2 σ1 => ?_)
    refine g_icmp_ge 37 dX13_sum_9 (by decide) ?_ ?_
    · refine g_lload_n 1 1 dX13_sum_37 rfl rfl ?_
      refine g_l2i dX13_sum_38 ?_
      exact g_ireturn rfl dX13_sum_39
    · refine g_lload_n 1 1 dX13_sum_12 rfl rfl ?_
      refine g_aload_n 0 0 dX13_sum_13 rfl rfl ?_
      refine g_iload_n 3 2 dX13_sum_14 rfl rfl ?_
      refine g_iconst (v := 1) dX13_sum_15 (by decide) ?_
      refine g_iadd dX13_sum_16 ?_
      refine g_callV (fc := fun sς => Row_at sς x0 (x3 + (1 : Int32))) (ci := 3) (as := [iv (x3 + (1 : Int32))]) rfl rfl rfl q1409 q1410 mdX13_111 (ctX3_at x0 (x3 + (1 : Int32))) rfl (Nat.le_of_ble_eq_true rfl) (Nat.le_of_ble_eq_true rfl) (Nat.le_of_ble_eq_true rfl) pu_I dX13_sum_17 (fun r4 σ3 => ?_)
      refine g_callS (fc := fun sς => Mod_wide sς r4) (as := [iv r4]) q1376 mdX13_174 (ctX2_wide r4) rfl (Nat.le_of_ble_eq_true rfl) (Nat.le_of_ble_eq_true rfl) (Nat.le_of_ble_eq_true rfl) pu_J dX13_sum_20 (fun r6 σ5 => ?_)
      refine g_ladd dX13_sum_23 ?_
      refine g_ldc2 q2257 dX13_sum_24 ?_
      refine g_minJ q2258 (Nat.le_of_ble_eq_true rfl) (Nat.le_of_ble_eq_true rfl) dX13_sum_27 ?_
      refine g_nmJ (fun y7 => ?_)
      refine g_lstore_n 1 dX13_sum_30 rfl (by decide) rfl ?_
      refine g_iincB (w := 4) 2 dX13_sum_31 rfl (by decide) (by decide) (fun _ => rfl) (fun y8 => ?_)
      refine g_goto 4 dX13_sum_34 (by decide) ?_
      refine G.sub [2, 1, 0] rfl ?_
      exact gX13_sum_p4 n _ _ _ _
def V.Sto_sum (σ : HS) (x0 : Nat) : Option (Int32 × HS) :=
  Sto_sum_p4 FU σ x0 (0 : Int64) (0 : Int32)
theorem V.ctX13_sum (x0 : Nat) : Ct yX13_sum  cX13_sum 4 (some .int) 1 24 eI [av x0] (fun σ => Sto_sum σ x0) := by
  refine Ct.of (own := RX13) (nm := "sum") (desc := "(LModuleEngine$Row;)I") rfl (by decide) (Nat.le_of_ble_eq_true rfl) (by decide) (fun X σ => ?_)
  show G X RX13 "sum" cX13_sum 4 (some .int) 1 24 enI 0 [(0, av x0)] [] σ (Sto_sum σ x0)
  unfold Sto_sum
  refine g_lconst (v := 0) dX13_sum_0 (by decide) ?_
  refine g_lstore_n 1 dX13_sum_1 rfl (by decide) rfl ?_
  refine g_iconst (v := 0) dX13_sum_2 (by decide) ?_
  refine g_istore_n 3 dX13_sum_3 rfl (by decide) rfl ?_
  refine G.sub [2, 1, 0] rfl ?_
  exact gX13_sum_p4 FU _ _ _ _
theorem V.dX13_hasRoom_0 : decode cX13_hasRoom 0 = .ok (.iconst 0, 1) := by decide +kernel
theorem V.dX13_hasRoom_1 : decode cX13_hasRoom 1 = .ok (.istore_n 3, 1) := by decide +kernel
theorem V.dX13_hasRoom_2 : decode cX13_hasRoom 2 = .ok (.iconst 0, 1) := by decide +kernel
theorem V.dX13_hasRoom_3 : decode cX13_hasRoom 3 = .ok (.istore 4, 2) := by decide +kernel
theorem V.dX13_hasRoom_5 : decode cX13_hasRoom 5 = .ok (.iload 4, 2) := by decide +kernel
theorem V.dX13_hasRoom_7 : decode cX13_hasRoom 7 = .ok (.aload_n 1, 1) := by decide +kernel
theorem V.dX13_hasRoom_8 : decode cX13_hasRoom 8 = .ok (.getfield 213, 3) := by decide +kernel
theorem V.dX13_hasRoom_11 : decode cX13_hasRoom 11 = .ok (.invokevirtual 107, 3) := by decide +kernel
theorem V.dX13_hasRoom_14 : decode cX13_hasRoom 14 = .ok (.if_icmp .ge 23, 3) := by decide +kernel
theorem V.dX13_hasRoom_17 : decode cX13_hasRoom 17 = .ok (.iload_n 3, 1) := by decide +kernel
theorem V.dX13_hasRoom_18 : decode cX13_hasRoom 18 = .ok (.aload_n 1, 1) := by decide +kernel
theorem V.dX13_hasRoom_19 : decode cX13_hasRoom 19 = .ok (.getfield 213, 3) := by decide +kernel
theorem V.dX13_hasRoom_22 : decode cX13_hasRoom 22 = .ok (.iload 4, 2) := by decide +kernel
theorem V.dX13_hasRoom_24 : decode cX13_hasRoom 24 = .ok (.iconst 3, 1) := by decide +kernel
theorem V.dX13_hasRoom_25 : decode cX13_hasRoom 25 = .ok (.iadd, 1) := by decide +kernel
theorem V.dX13_hasRoom_26 : decode cX13_hasRoom 26 = .ok (.invokevirtual 111, 3) := by decide +kernel
theorem V.dX13_hasRoom_29 : decode cX13_hasRoom 29 = .ok (.iadd, 1) := by decide +kernel
theorem V.dX13_hasRoom_30 : decode cX13_hasRoom 30 = .ok (.istore_n 3, 1) := by decide +kernel
theorem V.dX13_hasRoom_31 : decode cX13_hasRoom 31 = .ok (.iinc 4 8, 3) := by decide +kernel
theorem V.dX13_hasRoom_34 : decode cX13_hasRoom 34 = .ok (.goto (-29), 3) := by decide +kernel
theorem V.dX13_hasRoom_37 : decode cX13_hasRoom 37 = .ok (.aload_n 0, 1) := by decide +kernel
theorem V.dX13_hasRoom_38 : decode cX13_hasRoom 38 = .ok (.invokevirtual 216, 3) := by decide +kernel
theorem V.dX13_hasRoom_41 : decode cX13_hasRoom 41 = .ok (.iload_n 2, 1) := by decide +kernel
theorem V.dX13_hasRoom_42 : decode cX13_hasRoom 42 = .ok (.iadd, 1) := by decide +kernel
theorem V.dX13_hasRoom_43 : decode cX13_hasRoom 43 = .ok (.aload_n 1, 1) := by decide +kernel
theorem V.dX13_hasRoom_44 : decode cX13_hasRoom 44 = .ok (.getfield 219, 3) := by decide +kernel
theorem V.dX13_hasRoom_47 : decode cX13_hasRoom 47 = .ok (.invokevirtual 107, 3) := by decide +kernel
theorem V.dX13_hasRoom_50 : decode cX13_hasRoom 50 = .ok (.iadd, 1) := by decide +kernel
theorem V.dX13_hasRoom_51 : decode cX13_hasRoom 51 = .ok (.sipush 512, 3) := by decide +kernel
theorem V.dX13_hasRoom_54 : decode cX13_hasRoom 54 = .ok (.if_icmp .gt 74, 3) := by decide +kernel
theorem V.dX13_hasRoom_57 : decode cX13_hasRoom 57 = .ok (.aload_n 0, 1) := by decide +kernel
theorem V.dX13_hasRoom_58 : decode cX13_hasRoom 58 = .ok (.getfield 40, 3) := by decide +kernel
theorem V.dX13_hasRoom_61 : decode cX13_hasRoom 61 = .ok (.invokevirtual 221, 3) := by decide +kernel
theorem V.dX13_hasRoom_64 : decode cX13_hasRoom 64 = .ok (.aload_n 1, 1) := by decide +kernel
theorem V.dX13_hasRoom_65 : decode cX13_hasRoom 65 = .ok (.getfield 224, 3) := by decide +kernel
theorem V.dX13_hasRoom_68 : decode cX13_hasRoom 68 = .ok (.invokevirtual 107, 3) := by decide +kernel
theorem V.dX13_hasRoom_71 : decode cX13_hasRoom 71 = .ok (.iconst 4, 1) := by decide +kernel
theorem V.dX13_hasRoom_72 : decode cX13_hasRoom 72 = .ok (.idiv, 1) := by decide +kernel
theorem V.dX13_hasRoom_73 : decode cX13_hasRoom 73 = .ok (.iadd, 1) := by decide +kernel
theorem V.dX13_hasRoom_74 : decode cX13_hasRoom 74 = .ok (.bipush 32, 2) := by decide +kernel
theorem V.dX13_hasRoom_76 : decode cX13_hasRoom 76 = .ok (.if_icmp .gt 52, 3) := by decide +kernel
theorem V.dX13_hasRoom_79 : decode cX13_hasRoom 79 = .ok (.aload_n 0, 1) := by decide +kernel
theorem V.dX13_hasRoom_80 : decode cX13_hasRoom 80 = .ok (.getfield 50, 3) := by decide +kernel
theorem V.dX13_hasRoom_83 : decode cX13_hasRoom 83 = .ok (.invokevirtual 226, 3) := by decide +kernel
theorem V.dX13_hasRoom_86 : decode cX13_hasRoom 86 = .ok (.aload_n 1, 1) := by decide +kernel
theorem V.dX13_hasRoom_87 : decode cX13_hasRoom 87 = .ok (.getfield 227, 3) := by decide +kernel
theorem V.dX13_hasRoom_90 : decode cX13_hasRoom 90 = .ok (.invokevirtual 107, 3) := by decide +kernel
theorem V.dX13_hasRoom_93 : decode cX13_hasRoom 93 = .ok (.iconst 4, 1) := by decide +kernel
theorem V.dX13_hasRoom_94 : decode cX13_hasRoom 94 = .ok (.idiv, 1) := by decide +kernel
theorem V.dX13_hasRoom_95 : decode cX13_hasRoom 95 = .ok (.iadd, 1) := by decide +kernel
theorem V.dX13_hasRoom_96 : decode cX13_hasRoom 96 = .ok (.bipush 16, 2) := by decide +kernel
theorem V.dX13_hasRoom_98 : decode cX13_hasRoom 98 = .ok (.if_icmp .gt 30, 3) := by decide +kernel
theorem V.dX13_hasRoom_101 : decode cX13_hasRoom 101 = .ok (.aload_n 0, 1) := by decide +kernel
theorem V.dX13_hasRoom_102 : decode cX13_hasRoom 102 = .ok (.getfield 60, 3) := by decide +kernel
theorem V.dX13_hasRoom_105 : decode cX13_hasRoom 105 = .ok (.invokevirtual 107, 3) := by decide +kernel
theorem V.dX13_hasRoom_108 : decode cX13_hasRoom 108 = .ok (.aload_n 1, 1) := by decide +kernel
theorem V.dX13_hasRoom_109 : decode cX13_hasRoom 109 = .ok (.getfield 229, 3) := by decide +kernel
theorem V.dX13_hasRoom_112 : decode cX13_hasRoom 112 = .ok (.invokevirtual 107, 3) := by decide +kernel
theorem V.dX13_hasRoom_115 : decode cX13_hasRoom 115 = .ok (.iconst 4, 1) := by decide +kernel
theorem V.dX13_hasRoom_116 : decode cX13_hasRoom 116 = .ok (.idiv, 1) := by decide +kernel
theorem V.dX13_hasRoom_117 : decode cX13_hasRoom 117 = .ok (.iadd, 1) := by decide +kernel
theorem V.dX13_hasRoom_118 : decode cX13_hasRoom 118 = .ok (.sipush 256, 3) := by decide +kernel
theorem V.dX13_hasRoom_121 : decode cX13_hasRoom 121 = .ok (.if_icmp .gt 7, 3) := by decide +kernel
theorem V.dX13_hasRoom_124 : decode cX13_hasRoom 124 = .ok (.iconst 1, 1) := by decide +kernel
theorem V.dX13_hasRoom_125 : decode cX13_hasRoom 125 = .ok (.goto 4, 3) := by decide +kernel
theorem V.dX13_hasRoom_128 : decode cX13_hasRoom 128 = .ok (.iconst 0, 1) := by decide +kernel
theorem V.dX13_hasRoom_129 : decode cX13_hasRoom 129 = .ok (.istore 4, 2) := by decide +kernel
theorem V.dX13_hasRoom_131 : decode cX13_hasRoom 131 = .ok (.iload 4, 2) := by decide +kernel
theorem V.dX13_hasRoom_133 : decode cX13_hasRoom 133 = .ok (.ifCond .eq 62, 3) := by decide +kernel
theorem V.dX13_hasRoom_136 : decode cX13_hasRoom 136 = .ok (.aload_n 0, 1) := by decide +kernel
theorem V.dX13_hasRoom_137 : decode cX13_hasRoom 137 = .ok (.getfield 115, 3) := by decide +kernel
theorem V.dX13_hasRoom_140 : decode cX13_hasRoom 140 = .ok (.bipush 16, 2) := by decide +kernel
theorem V.dX13_hasRoom_142 : decode cX13_hasRoom 142 = .ok (.if_icmp .ge 53, 3) := by decide +kernel
theorem V.dX13_hasRoom_145 : decode cX13_hasRoom 145 = .ok (.aload_n 1, 1) := by decide +kernel
theorem V.dX13_hasRoom_146 : decode cX13_hasRoom 146 = .ok (.getfield 224, 3) := by decide +kernel
theorem V.dX13_hasRoom_149 : decode cX13_hasRoom 149 = .ok (.invokestatic 231, 3) := by decide +kernel
theorem V.dX13_hasRoom_152 : decode cX13_hasRoom 152 = .ok (.aload_n 0, 1) := by decide +kernel
theorem V.dX13_hasRoom_153 : decode cX13_hasRoom 153 = .ok (.getfield 40, 3) := by decide +kernel
theorem V.dX13_hasRoom_156 : decode cX13_hasRoom 156 = .ok (.invokevirtual 235, 3) := by decide +kernel
theorem V.dX13_hasRoom_159 : decode cX13_hasRoom 159 = .ok (.if_icmp .gt 36, 3) := by decide +kernel
theorem V.dX13_hasRoom_162 : decode cX13_hasRoom 162 = .ok (.aload_n 1, 1) := by decide +kernel
theorem V.dX13_hasRoom_163 : decode cX13_hasRoom 163 = .ok (.getfield 227, 3) := by decide +kernel
theorem V.dX13_hasRoom_166 : decode cX13_hasRoom 166 = .ok (.invokestatic 231, 3) := by decide +kernel
theorem V.dX13_hasRoom_169 : decode cX13_hasRoom 169 = .ok (.aload_n 0, 1) := by decide +kernel
theorem V.dX13_hasRoom_170 : decode cX13_hasRoom 170 = .ok (.getfield 50, 3) := by decide +kernel
theorem V.dX13_hasRoom_173 : decode cX13_hasRoom 173 = .ok (.invokevirtual 238, 3) := by decide +kernel
theorem V.dX13_hasRoom_176 : decode cX13_hasRoom 176 = .ok (.if_icmp .gt 19, 3) := by decide +kernel
theorem V.dX13_hasRoom_179 : decode cX13_hasRoom 179 = .ok (.aload_n 0, 1) := by decide +kernel
theorem V.dX13_hasRoom_180 : decode cX13_hasRoom 180 = .ok (.getfield 239, 3) := by decide +kernel
theorem V.dX13_hasRoom_183 : decode cX13_hasRoom 183 = .ok (.iload_n 3, 1) := by decide +kernel
theorem V.dX13_hasRoom_184 : decode cX13_hasRoom 184 = .ok (.iadd, 1) := by decide +kernel
theorem V.dX13_hasRoom_185 : decode cX13_hasRoom 185 = .ok (.sipush 2048, 3) := by decide +kernel
theorem V.dX13_hasRoom_188 : decode cX13_hasRoom 188 = .ok (.if_icmp .gt 7, 3) := by decide +kernel
theorem V.dX13_hasRoom_191 : decode cX13_hasRoom 191 = .ok (.iconst 1, 1) := by decide +kernel
theorem V.dX13_hasRoom_192 : decode cX13_hasRoom 192 = .ok (.goto 4, 3) := by decide +kernel
theorem V.dX13_hasRoom_195 : decode cX13_hasRoom 195 = .ok (.iconst 0, 1) := by decide +kernel
theorem V.dX13_hasRoom_196 : decode cX13_hasRoom 196 = .ok (.ireturn, 1) := by decide +kernel
theorem V.fdX13_213 : FD RX13 213 2 9 2 := ⟨(RX2, TX2, 21), tyX2, rfl, rfl, in_X2, by decide, Or.inr ⟨_, q458⟩, rfl⟩
theorem V.mdX13_216 : MD RX13 216 yX13_functionCount cX13_functionCount 1 (some .int) 0 := ⟨Or.inl q2242, q373, q2245, by decide, by decide, by decide +kernel⟩
theorem V.fdX13_219 : FD RX13 219 2 4 2 := ⟨(RX2, TX2, 21), tyX2, rfl, rfl, in_X2, by decide, Or.inr ⟨_, q438⟩, rfl⟩
theorem V.mdX13_221 : MD RX13 221 yX14_many cX14_many 1 (some .int) 0 := ⟨Or.inl q2246, q374, q2249, by decide, by decide, by decide +kernel⟩
theorem V.fdX13_224 : FD RX13 224 2 5 2 := ⟨(RX2, TX2, 21), tyX2, rfl, rfl, in_X2, by decide, Or.inr ⟨_, q442⟩, rfl⟩
theorem V.mdX13_226 : MD RX13 226 yX15_many cX15_many 1 (some .int) 0 := ⟨Or.inl q2250, q375, q2253, by decide, by decide, by decide +kernel⟩
theorem V.fdX13_227 : FD RX13 227 2 6 2 := ⟨(RX2, TX2, 21), tyX2, rfl, rfl, in_X2, by decide, Or.inr ⟨_, q446⟩, rfl⟩
theorem V.fdX13_229 : FD RX13 229 2 7 2 := ⟨(RX2, TX2, 21), tyX2, rfl, rfl, in_X2, by decide, Or.inr ⟨_, q450⟩, rfl⟩
theorem V.mdX13_231 : MD RX13 231 yX13_sum cX13_sum 4 (some .int) 1 := ⟨Or.inl q2254, q373, q2256, by decide, by decide, by decide +kernel⟩
theorem V.mdX13_235 : MD RX13 235 yX14_left cX14_left 1 (some .int) 0 := ⟨Or.inl q2261, q374, q2264, by decide, by decide, by decide +kernel⟩
theorem V.mdX13_238 : MD RX13 238 yX15_left cX15_left 1 (some .int) 0 := ⟨Or.inl q2265, q375, q2268, by decide, by decide, by decide +kernel⟩
theorem V.fdX13_239 : FD RX13 239 13 24 0 := ⟨(RX13, TX13, 27), tyX13, rfl, rfl, in_X13, by decide, Or.inl q1056, rfl⟩
/-! ModuleEngine$Store.hasRoom(LModuleEngine$Module;I)Z -/
def V.Sto_hasRoom_p129  (σ : HS) (x0 : Nat) (x1 : Nat) (x3 : Int32) (s0 : Int32) : Option (Int32 × HS) :=
  if s0 = 0 then (
    some ((0 : Int32), σ))
  else (
    ck (tg σ x0 = 14) <|
    if (16 : Int32) ≤ (gI σ x0 22) then (
      some ((0 : Int32), σ))
    else (
      ck (tg σ x1 = 3) <|
      cl (Sto_sum σ (gR σ x1 5)) fun r2 σ1 =>
      ck (tg σ1 x0 = 14) <|
      ck (tg σ1 (gR σ1 x0 7) = 15) <| cl (Tab_left σ1 (gR σ1 x0 7) ) fun r4 σ3 =>
      if r4 < r2 then (
        some ((0 : Int32), σ3))
      else (
        ck (tg σ3 x1 = 3) <|
        cl (Sto_sum σ3 (gR σ3 x1 6)) fun r6 σ5 =>
        ck (tg σ5 x0 = 14) <|
        ck (tg σ5 (gR σ5 x0 8) = 16) <| cl (Pag_left σ5 (gR σ5 x0 8) ) fun r8 σ7 =>
        if r8 < r6 then (
          some ((0 : Int32), σ7))
        else (
          ck (tg σ7 x0 = 14) <|
          if (2048 : Int32) < ((gI σ7 x0 24) + x3) then (
            some ((0 : Int32), σ7))
          else (
            some ((1 : Int32), σ7))))))
theorem V.gX13_hasRoom_p129 {X : CX}  (σ : HS) (x0 : Nat) (x1 : Nat) (x3 : Int32) (s0 : Int32) : G X RX13 "hasRoom" cX13_hasRoom 5 (some .boolean) 2 47 enI 129 [(0, av x0), (1, av x1), (3, iv x3)] [iv s0] σ (Sto_hasRoom_p129 σ x0 x1 x3 s0) := by
  unfold Sto_hasRoom_p129
  refine g_istore dX13_hasRoom_129 (by decide) rfl ?_
  refine g_iload 0 dX13_hasRoom_131 rfl ?_
  refine g_if_eq 195 dX13_hasRoom_133 (by decide) ?_ ?_
  · refine g_iconst (v := 0) dX13_hasRoom_195 (by decide) ?_
    exact g_zreturn rfl (by decide +kernel) dX13_hasRoom_196
  · refine g_aload_n 0 1 dX13_hasRoom_136 rfl rfl ?_
    refine g_getI fdX13_115 dX13_hasRoom_137 ?_
    refine g_bipush (v := 16) dX13_hasRoom_140 (by decide) ?_
    refine g_icmp_ge 195 dX13_hasRoom_142 (by decide) ?_ ?_
    · refine g_iconst (v := 0) dX13_hasRoom_195 (by decide) ?_
      exact g_zreturn rfl (by decide +kernel) dX13_hasRoom_196
    · refine g_aload_n 1 2 dX13_hasRoom_145 rfl rfl ?_
      refine g_getR fdX13_224 dX13_hasRoom_146 ?_
      refine g_callS (fc := fun sς => Sto_sum sς (gR σ x1 5)) (as := [av (gR σ x1 5)]) q2255 mdX13_231 (ctX13_sum (gR σ x1 5)) rfl (Nat.le_of_ble_eq_true rfl) (Nat.le_of_ble_eq_true rfl) (Nat.le_of_ble_eq_true rfl) pu_I dX13_hasRoom_149 (fun r2 σ1 => ?_)
      refine g_aload_n 0 1 dX13_hasRoom_152 rfl rfl ?_
      refine g_getR fdX13_40 dX13_hasRoom_153 ?_
      refine g_callV (fc := fun sς => Tab_left sς (gR σ1 x0 7) ) (ci := 14) (as := []) rfl rfl rfl q2262 q2263 mdX13_235 (ctX14_left (gR σ1 x0 7) ) rfl (Nat.le_of_ble_eq_true rfl) (Nat.le_of_ble_eq_true rfl) (Nat.le_of_ble_eq_true rfl) pu_I dX13_hasRoom_156 (fun r4 σ3 => ?_)
      refine g_icmp_gt 195 dX13_hasRoom_159 (by decide) ?_ ?_
      · refine g_iconst (v := 0) dX13_hasRoom_195 (by decide) ?_
        exact g_zreturn rfl (by decide +kernel) dX13_hasRoom_196
      · refine g_aload_n 1 2 dX13_hasRoom_162 rfl rfl ?_
        refine g_getR fdX13_227 dX13_hasRoom_163 ?_
        refine g_callS (fc := fun sς => Sto_sum sς (gR σ3 x1 6)) (as := [av (gR σ3 x1 6)]) q2255 mdX13_231 (ctX13_sum (gR σ3 x1 6)) rfl (Nat.le_of_ble_eq_true rfl) (Nat.le_of_ble_eq_true rfl) (Nat.le_of_ble_eq_true rfl) pu_I dX13_hasRoom_166 (fun r6 σ5 => ?_)
        refine g_aload_n 0 1 dX13_hasRoom_169 rfl rfl ?_
        refine g_getR fdX13_50 dX13_hasRoom_170 ?_
        refine g_callV (fc := fun sς => Pag_left sς (gR σ5 x0 8) ) (ci := 15) (as := []) rfl rfl rfl q2266 q2267 mdX13_238 (ctX15_left (gR σ5 x0 8) ) rfl (Nat.le_of_ble_eq_true rfl) (Nat.le_of_ble_eq_true rfl) (Nat.le_of_ble_eq_true rfl) pu_I dX13_hasRoom_173 (fun r8 σ7 => ?_)
        refine g_icmp_gt 195 dX13_hasRoom_176 (by decide) ?_ ?_
        · refine g_iconst (v := 0) dX13_hasRoom_195 (by decide) ?_
          exact g_zreturn rfl (by decide +kernel) dX13_hasRoom_196
        · refine g_aload_n 0 1 dX13_hasRoom_179 rfl rfl ?_
          refine g_getI fdX13_239 dX13_hasRoom_180 ?_
          refine g_iload_n 3 3 dX13_hasRoom_183 rfl rfl ?_
          refine g_iadd dX13_hasRoom_184 ?_
          refine g_sipush (v := 2048) dX13_hasRoom_185 (by decide) ?_
          refine g_icmp_gt 195 dX13_hasRoom_188 (by decide) ?_ ?_
          · refine g_iconst (v := 0) dX13_hasRoom_195 (by decide) ?_
            exact g_zreturn rfl (by decide +kernel) dX13_hasRoom_196
          · refine g_iconst (v := 1) dX13_hasRoom_191 (by decide) ?_
            refine g_goto 196 dX13_hasRoom_192 (by decide) ?_
            exact g_zreturn rfl (by decide +kernel) dX13_hasRoom_196
def V.Sto_hasRoom_p128  (σ : HS) (x0 : Nat) (x1 : Nat) (x3 : Int32) : Option (Int32 × HS) :=
  Sto_hasRoom_p129 σ x0 x1 x3 (0 : Int32)
theorem V.gX13_hasRoom_p128 {X : CX}  (σ : HS) (x0 : Nat) (x1 : Nat) (x3 : Int32) : G X RX13 "hasRoom" cX13_hasRoom 5 (some .boolean) 2 47 enI 128 [(0, av x0), (1, av x1), (3, iv x3)] [] σ (Sto_hasRoom_p128 σ x0 x1 x3) := by
  unfold Sto_hasRoom_p128
  refine g_iconst (v := 0) dX13_hasRoom_128 (by decide) ?_
  exact gX13_hasRoom_p129 _ _ _ _ _
def V.Sto_hasRoom_p5  : Nat → HS → Nat → Nat → Int32 → Int32 → Int32 → Option (Int32 × HS)
  | 0, _, _, _, _, _, _ => none
  | n + 1, σ, x0, x1, x2, x3, x4 =>
    ck (tg σ x1 = 3) <|
    ck (tg σ (gR σ x1 9) = 4) <| cl (Row_size σ (gR σ x1 9) ) fun r2 σ1 =>
    if r2 ≤ x4 then (
      ck (tg σ1 x0 = 14) <| cl (Sto_functionCount σ1 x0 ) fun r4 σ3 =>
      ck (tg σ3 x1 = 3) <|
      ck (tg σ3 (gR σ3 x1 4) = 4) <| cl (Row_size σ3 (gR σ3 x1 4) ) fun r6 σ5 =>
      if (512 : Int32) < ((r4 + x2) + r6) then (
        Sto_hasRoom_p128 σ5 x0 x1 x3)
      else (
        ck (tg σ5 x0 = 14) <|
        ck (tg σ5 (gR σ5 x0 7) = 15) <| cl (Tab_many σ5 (gR σ5 x0 7) ) fun r8 σ7 =>
        ck (tg σ7 x1 = 3) <|
        ck (tg σ7 (gR σ7 x1 5) = 4) <| cl (Row_size σ7 (gR σ7 x1 5) ) fun r10 σ9 =>
        ck (¬ (4 : Int32) = 0) <|
        if (32 : Int32) < (r8 + (r10 / (4 : Int32))) then (
          Sto_hasRoom_p128 σ9 x0 x1 x3)
        else (
          ck (tg σ9 x0 = 14) <|
          ck (tg σ9 (gR σ9 x0 8) = 16) <| cl (Pag_many σ9 (gR σ9 x0 8) ) fun r12 σ11 =>
          ck (tg σ11 x1 = 3) <|
          ck (tg σ11 (gR σ11 x1 6) = 4) <| cl (Row_size σ11 (gR σ11 x1 6) ) fun r14 σ13 =>
          ck (¬ (4 : Int32) = 0) <|
          if (16 : Int32) < (r12 + (r14 / (4 : Int32))) then (
            Sto_hasRoom_p128 σ13 x0 x1 x3)
          else (
            ck (tg σ13 x0 = 14) <|
            ck (tg σ13 (gR σ13 x0 11) = 4) <| cl (Row_size σ13 (gR σ13 x0 11) ) fun r16 σ15 =>
            ck (tg σ15 x1 = 3) <|
            ck (tg σ15 (gR σ15 x1 7) = 4) <| cl (Row_size σ15 (gR σ15 x1 7) ) fun r18 σ17 =>
            ck (¬ (4 : Int32) = 0) <|
            if (256 : Int32) < (r16 + (r18 / (4 : Int32))) then (
              Sto_hasRoom_p128 σ17 x0 x1 x3)
            else (
              Sto_hasRoom_p129 σ17 x0 x1 x3 (1 : Int32))))))
    else (
      ck (tg σ1 x1 = 3) <|
      ck (tg σ1 (gR σ1 x1 9) = 4) <| cl (Row_at σ1 (gR σ1 x1 9) (x4 + (3 : Int32))) fun r20 σ19 =>
      bn (x3 + r20) fun y21 =>
      bn (x4 + (8 : Int32)) fun y22 =>
      Sto_hasRoom_p5 n σ19 x0 x1 x2 y21 y22)
theorem V.gX13_hasRoom_p5 {X : CX}  : ∀ (n : Nat) (σ : HS) (x0 : Nat) (x1 : Nat) (x2 : Int32) (x3 : Int32) (x4 : Int32), G X RX13 "hasRoom" cX13_hasRoom 5 (some .boolean) 2 47 enI 5 [(0, av x0), (1, av x1), (2, iv x2), (3, iv x3), (4, iv x4)] [] σ (Sto_hasRoom_p5 n σ x0 x1 x2 x3 x4)
  | 0, σ, x0, x1, x2, x3, x4 => by rw [Sto_hasRoom_p5]; exact G.nul
  | n + 1, σ, x0, x1, x2, x3, x4 => by
    rw [Sto_hasRoom_p5]
    refine g_iload 4 dX13_hasRoom_5 rfl ?_
    refine g_aload_n 1 1 dX13_hasRoom_7 rfl rfl ?_
    refine g_getR fdX13_213 dX13_hasRoom_8 ?_
    refine g_callV (fc := fun sς => Row_size sς (gR σ x1 9) ) (ci := 3) (as := []) rfl rfl rfl q1421 q1422 mdX13_107 (ctX3_size (gR σ x1 9) ) rfl (Nat.le_of_ble_eq_true rfl) (Nat.le_of_ble_eq_true rfl) (Nat.le_of_ble_eq_true rfl) pu_I dX13_hasRoom_11 (fun r2 σ1 => ?_)
    refine g_icmp_ge 37 dX13_hasRoom_14 (by decide) ?_ ?_
    · refine g_aload_n 0 0 dX13_hasRoom_37 rfl rfl ?_
      refine g_callV (fc := fun sς => Sto_functionCount sς x0 ) (ci := 13) (as := []) rfl rfl rfl q2243 q2244 mdX13_216 (ctX13_functionCount x0 ) rfl (Nat.le_of_ble_eq_true rfl) (Nat.le_of_ble_eq_true rfl) (Nat.le_of_ble_eq_true rfl) pu_I dX13_hasRoom_38 (fun r4 σ3 => ?_)
      refine g_iload_n 2 2 dX13_hasRoom_41 rfl rfl ?_
      refine g_iadd dX13_hasRoom_42 ?_
      refine g_aload_n 1 1 dX13_hasRoom_43 rfl rfl ?_
      refine g_getR fdX13_219 dX13_hasRoom_44 ?_
      refine g_callV (fc := fun sς => Row_size sς (gR σ3 x1 4) ) (ci := 3) (as := []) rfl rfl rfl q1421 q1422 mdX13_107 (ctX3_size (gR σ3 x1 4) ) rfl (Nat.le_of_ble_eq_true rfl) (Nat.le_of_ble_eq_true rfl) (Nat.le_of_ble_eq_true rfl) pu_I dX13_hasRoom_47 (fun r6 σ5 => ?_)
      refine g_iadd dX13_hasRoom_50 ?_
      refine g_sipush (v := 512) dX13_hasRoom_51 (by decide) ?_
      refine g_icmp_gt 128 dX13_hasRoom_54 (by decide) ?_ ?_
      · refine G.sub [0, 1, 3] rfl ?_
        exact gX13_hasRoom_p128 _ _ _ _
      · refine g_aload_n 0 0 dX13_hasRoom_57 rfl rfl ?_
        refine g_getR fdX13_40 dX13_hasRoom_58 ?_
        refine g_callV (fc := fun sς => Tab_many sς (gR σ5 x0 7) ) (ci := 14) (as := []) rfl rfl rfl q2247 q2248 mdX13_221 (ctX14_many (gR σ5 x0 7) ) rfl (Nat.le_of_ble_eq_true rfl) (Nat.le_of_ble_eq_true rfl) (Nat.le_of_ble_eq_true rfl) pu_I dX13_hasRoom_61 (fun r8 σ7 => ?_)
        refine g_aload_n 1 1 dX13_hasRoom_64 rfl rfl ?_
        refine g_getR fdX13_224 dX13_hasRoom_65 ?_
        refine g_callV (fc := fun sς => Row_size sς (gR σ7 x1 5) ) (ci := 3) (as := []) rfl rfl rfl q1421 q1422 mdX13_107 (ctX3_size (gR σ7 x1 5) ) rfl (Nat.le_of_ble_eq_true rfl) (Nat.le_of_ble_eq_true rfl) (Nat.le_of_ble_eq_true rfl) pu_I dX13_hasRoom_68 (fun r10 σ9 => ?_)
        refine g_iconst (v := 4) dX13_hasRoom_71 (by decide) ?_
        refine g_idiv dX13_hasRoom_72 ?_
        refine g_iadd dX13_hasRoom_73 ?_
        refine g_bipush (v := 32) dX13_hasRoom_74 (by decide) ?_
        refine g_icmp_gt 128 dX13_hasRoom_76 (by decide) ?_ ?_
        · refine G.sub [0, 1, 3] rfl ?_
          exact gX13_hasRoom_p128 _ _ _ _
        · refine g_aload_n 0 0 dX13_hasRoom_79 rfl rfl ?_
          refine g_getR fdX13_50 dX13_hasRoom_80 ?_
          refine g_callV (fc := fun sς => Pag_many sς (gR σ9 x0 8) ) (ci := 15) (as := []) rfl rfl rfl q2251 q2252 mdX13_226 (ctX15_many (gR σ9 x0 8) ) rfl (Nat.le_of_ble_eq_true rfl) (Nat.le_of_ble_eq_true rfl) (Nat.le_of_ble_eq_true rfl) pu_I dX13_hasRoom_83 (fun r12 σ11 => ?_)
          refine g_aload_n 1 1 dX13_hasRoom_86 rfl rfl ?_
          refine g_getR fdX13_227 dX13_hasRoom_87 ?_
          refine g_callV (fc := fun sς => Row_size sς (gR σ11 x1 6) ) (ci := 3) (as := []) rfl rfl rfl q1421 q1422 mdX13_107 (ctX3_size (gR σ11 x1 6) ) rfl (Nat.le_of_ble_eq_true rfl) (Nat.le_of_ble_eq_true rfl) (Nat.le_of_ble_eq_true rfl) pu_I dX13_hasRoom_90 (fun r14 σ13 => ?_)
          refine g_iconst (v := 4) dX13_hasRoom_93 (by decide) ?_
          refine g_idiv dX13_hasRoom_94 ?_
          refine g_iadd dX13_hasRoom_95 ?_
          refine g_bipush (v := 16) dX13_hasRoom_96 (by decide) ?_
          refine g_icmp_gt 128 dX13_hasRoom_98 (by decide) ?_ ?_
          · refine G.sub [0, 1, 3] rfl ?_
            exact gX13_hasRoom_p128 _ _ _ _
          · refine g_aload_n 0 0 dX13_hasRoom_101 rfl rfl ?_
            refine g_getR fdX13_60 dX13_hasRoom_102 ?_
            refine g_callV (fc := fun sς => Row_size sς (gR σ13 x0 11) ) (ci := 3) (as := []) rfl rfl rfl q1421 q1422 mdX13_107 (ctX3_size (gR σ13 x0 11) ) rfl (Nat.le_of_ble_eq_true rfl) (Nat.le_of_ble_eq_true rfl) (Nat.le_of_ble_eq_true rfl) pu_I dX13_hasRoom_105 (fun r16 σ15 => ?_)
            refine g_aload_n 1 1 dX13_hasRoom_108 rfl rfl ?_
            refine g_getR fdX13_229 dX13_hasRoom_109 ?_
            refine g_callV (fc := fun sς => Row_size sς (gR σ15 x1 7) ) (ci := 3) (as := []) rfl rfl rfl q1421 q1422 mdX13_107 (ctX3_size (gR σ15 x1 7) ) rfl (Nat.le_of_ble_eq_true rfl) (Nat.le_of_ble_eq_true rfl) (Nat.le_of_ble_eq_true rfl) pu_I dX13_hasRoom_112 (fun r18 σ17 => ?_)
            refine g_iconst (v := 4) dX13_hasRoom_115 (by decide) ?_
            refine g_idiv dX13_hasRoom_116 ?_
            refine g_iadd dX13_hasRoom_117 ?_
            refine g_sipush (v := 256) dX13_hasRoom_118 (by decide) ?_
            refine g_icmp_gt 128 dX13_hasRoom_121 (by decide) ?_ ?_
            · refine G.sub [0, 1, 3] rfl ?_
              exact gX13_hasRoom_p128 _ _ _ _
            · refine g_iconst (v := 1) dX13_hasRoom_124 (by decide) ?_
              refine g_goto 129 dX13_hasRoom_125 (by decide) ?_
              refine G.sub [0, 1, 3] rfl ?_
              exact gX13_hasRoom_p129 _ _ _ _ _
    · refine g_iload_n 3 3 dX13_hasRoom_17 rfl rfl ?_
      refine g_aload_n 1 1 dX13_hasRoom_18 rfl rfl ?_
      refine g_getR fdX13_213 dX13_hasRoom_19 ?_
      refine g_iload 4 dX13_hasRoom_22 rfl ?_
      refine g_iconst (v := 3) dX13_hasRoom_24 (by decide) ?_
      refine g_iadd dX13_hasRoom_25 ?_
      refine g_callV (fc := fun sς => Row_at sς (gR σ1 x1 9) (x4 + (3 : Int32))) (ci := 3) (as := [iv (x4 + (3 : Int32))]) rfl rfl rfl q1409 q1410 mdX13_111 (ctX3_at (gR σ1 x1 9) (x4 + (3 : Int32))) rfl (Nat.le_of_ble_eq_true rfl) (Nat.le_of_ble_eq_true rfl) (Nat.le_of_ble_eq_true rfl) pu_I dX13_hasRoom_26 (fun r20 σ19 => ?_)
      refine g_iadd dX13_hasRoom_29 ?_
      refine g_nmI (fun y21 => ?_)
      refine g_istore_n 3 dX13_hasRoom_30 rfl (by decide) rfl ?_
      refine g_iincB (w := 8) 4 dX13_hasRoom_31 rfl (by decide) (by decide) (fun _ => rfl) (fun y22 => ?_)
      refine g_goto 5 dX13_hasRoom_34 (by decide) ?_
      refine G.sub [2, 3, 4, 1, 0] rfl ?_
      exact gX13_hasRoom_p5 n _ _ _ _ _ _
def V.Sto_hasRoom (σ : HS) (x0 : Nat) (x1 : Nat) (x2 : Int32) : Option (Int32 × HS) :=
  Sto_hasRoom_p5 FU σ x0 x1 x2 (0 : Int32) (0 : Int32)
theorem V.ctX13_hasRoom (x0 : Nat) (x1 : Nat) (x2 : Int32) : Ct yX13_hasRoom  cX13_hasRoom 5 (some .boolean) 2 47 eI [av x0, av x1, iv x2] (fun σ => Sto_hasRoom σ x0 x1 x2) := by
  refine Ct.of (own := RX13) (nm := "hasRoom") (desc := "(LModuleEngine$Module;I)Z") rfl (by decide) (Nat.le_of_ble_eq_true rfl) (by decide) (fun X σ => ?_)
  show G X RX13 "hasRoom" cX13_hasRoom 5 (some .boolean) 2 47 enI 0 [(0, av x0), (1, av x1), (2, iv x2)] [] σ (Sto_hasRoom σ x0 x1 x2)
  unfold Sto_hasRoom
  refine g_iconst (v := 0) dX13_hasRoom_0 (by decide) ?_
  refine g_istore_n 3 dX13_hasRoom_1 rfl (by decide) rfl ?_
  refine g_iconst (v := 0) dX13_hasRoom_2 (by decide) ?_
  refine g_istore dX13_hasRoom_3 (by decide) rfl ?_
  refine G.sub [2, 3, 4, 1, 0] rfl ?_
  exact gX13_hasRoom_p5 FU _ _ _ _ _ _
theorem V.dX13_addFunction_0 : decode cX13_addFunction 0 = .ok (.aload_n 0, 1) := by decide +kernel
theorem V.dX13_addFunction_1 : decode cX13_addFunction 1 = .ok (.getfield 22, 3) := by decide +kernel
theorem V.dX13_addFunction_4 : decode cX13_addFunction 4 = .ok (.iload_n 1, 1) := by decide +kernel
theorem V.dX13_addFunction_5 : decode cX13_addFunction 5 = .ok (.invokevirtual 148, 3) := by decide +kernel
theorem V.dX13_addFunction_8 : decode cX13_addFunction 8 = .ok (.aload_n 0, 1) := by decide +kernel
theorem V.dX13_addFunction_9 : decode cX13_addFunction 9 = .ok (.getfield 26, 3) := by decide +kernel
theorem V.dX13_addFunction_12 : decode cX13_addFunction 12 = .ok (.iload_n 2, 1) := by decide +kernel
theorem V.dX13_addFunction_13 : decode cX13_addFunction 13 = .ok (.invokevirtual 148, 3) := by decide +kernel
theorem V.dX13_addFunction_16 : decode cX13_addFunction 16 = .ok (.aload_n 0, 1) := by decide +kernel
theorem V.dX13_addFunction_17 : decode cX13_addFunction 17 = .ok (.getfield 29, 3) := by decide +kernel
theorem V.dX13_addFunction_20 : decode cX13_addFunction 20 = .ok (.iload_n 3, 1) := by decide +kernel
theorem V.dX13_addFunction_21 : decode cX13_addFunction 21 = .ok (.invokevirtual 148, 3) := by decide +kernel
theorem V.dX13_addFunction_24 : decode cX13_addFunction 24 = .ok (.aload_n 0, 1) := by decide +kernel
theorem V.dX13_addFunction_25 : decode cX13_addFunction 25 = .ok (.getfield 32, 3) := by decide +kernel
theorem V.dX13_addFunction_28 : decode cX13_addFunction 28 = .ok (.iload 4, 2) := by decide +kernel
theorem V.dX13_addFunction_30 : decode cX13_addFunction 30 = .ok (.invokevirtual 148, 3) := by decide +kernel
theorem V.dX13_addFunction_33 : decode cX13_addFunction 33 = .ok (.aload_n 0, 1) := by decide +kernel
theorem V.dX13_addFunction_34 : decode cX13_addFunction 34 = .ok (.getfield 22, 3) := by decide +kernel
theorem V.dX13_addFunction_37 : decode cX13_addFunction 37 = .ok (.invokevirtual 107, 3) := by decide +kernel
theorem V.dX13_addFunction_40 : decode cX13_addFunction 40 = .ok (.iconst 1, 1) := by decide +kernel
theorem V.dX13_addFunction_41 : decode cX13_addFunction 41 = .ok (.isub, 1) := by decide +kernel
theorem V.dX13_addFunction_42 : decode cX13_addFunction 42 = .ok (.ireturn, 1) := by decide +kernel
theorem V.fdX13_29 : FD RX13 29 13 5 2 := ⟨(RX13, TX13, 27), tyX13, rfl, rfl, in_X13, by decide, Or.inl q1023, rfl⟩
theorem V.fdX13_32 : FD RX13 32 13 6 2 := ⟨(RX13, TX13, 27), tyX13, rfl, rfl, in_X13, by decide, Or.inl q1025, rfl⟩
/-! ModuleEngine$Store.addFunction(IIII)I -/
def V.Sto_addFunction (σ : HS) (x0 : Nat) (x1 : Int32) (x2 : Int32) (x3 : Int32) (x4 : Int32) : Option (Int32 × HS) :=
  ck (tg σ x0 = 14) <|
  ck (tg σ (gR σ x0 3) = 4) <| cl (Row_add σ (gR σ x0 3) x1) fun _ σ1 =>
  ck (tg σ1 x0 = 14) <|
  ck (tg σ1 (gR σ1 x0 4) = 4) <| cl (Row_add σ1 (gR σ1 x0 4) x2) fun _ σ2 =>
  ck (tg σ2 x0 = 14) <|
  ck (tg σ2 (gR σ2 x0 5) = 4) <| cl (Row_add σ2 (gR σ2 x0 5) x3) fun _ σ3 =>
  ck (tg σ3 x0 = 14) <|
  ck (tg σ3 (gR σ3 x0 6) = 4) <| cl (Row_add σ3 (gR σ3 x0 6) x4) fun _ σ4 =>
  ck (tg σ4 x0 = 14) <|
  ck (tg σ4 (gR σ4 x0 3) = 4) <| cl (Row_size σ4 (gR σ4 x0 3) ) fun r6 σ5 =>
  some (r6 - (1 : Int32), σ5)
theorem V.ctX13_addFunction (x0 : Nat) (x1 : Int32) (x2 : Int32) (x3 : Int32) (x4 : Int32) : Ct yX13_addFunction  cX13_addFunction 5 (some .int) 1 23 eI [av x0, iv x1, iv x2, iv x3, iv x4] (fun σ => Sto_addFunction σ x0 x1 x2 x3 x4) := by
  refine Ct.of (own := RX13) (nm := "addFunction") (desc := "(IIII)I") rfl (by decide) (Nat.le_of_ble_eq_true rfl) (by decide) (fun X σ => ?_)
  show G X RX13 "addFunction" cX13_addFunction 5 (some .int) 1 23 enI 0 [(0, av x0), (1, iv x1), (2, iv x2), (3, iv x3), (4, iv x4)] [] σ (Sto_addFunction σ x0 x1 x2 x3 x4)
  unfold Sto_addFunction
  refine g_aload_n 0 0 dX13_addFunction_0 rfl rfl ?_
  refine g_getR fdX13_22 dX13_addFunction_1 ?_
  refine g_iload_n 1 1 dX13_addFunction_4 rfl rfl ?_
  refine g_callV (fc := fun sς => Row_add sς (gR σ x0 3) x1) (ci := 3) (as := [iv x1]) rfl rfl rfl q1405 q1406 mdX13_148 (ctX3_add (gR σ x0 3) x1) rfl (Nat.le_of_ble_eq_true rfl) (Nat.le_of_ble_eq_true rfl) (Nat.le_of_ble_eq_true rfl) pu_V dX13_addFunction_5 (fun _ σ1 => ?_)
  refine g_aload_n 0 0 dX13_addFunction_8 rfl rfl ?_
  refine g_getR fdX13_26 dX13_addFunction_9 ?_
  refine g_iload_n 2 2 dX13_addFunction_12 rfl rfl ?_
  refine g_callV (fc := fun sς => Row_add sς (gR σ1 x0 4) x2) (ci := 3) (as := [iv x2]) rfl rfl rfl q1405 q1406 mdX13_148 (ctX3_add (gR σ1 x0 4) x2) rfl (Nat.le_of_ble_eq_true rfl) (Nat.le_of_ble_eq_true rfl) (Nat.le_of_ble_eq_true rfl) pu_V dX13_addFunction_13 (fun _ σ2 => ?_)
  refine g_aload_n 0 0 dX13_addFunction_16 rfl rfl ?_
  refine g_getR fdX13_29 dX13_addFunction_17 ?_
  refine g_iload_n 3 3 dX13_addFunction_20 rfl rfl ?_
  refine g_callV (fc := fun sς => Row_add sς (gR σ2 x0 5) x3) (ci := 3) (as := [iv x3]) rfl rfl rfl q1405 q1406 mdX13_148 (ctX3_add (gR σ2 x0 5) x3) rfl (Nat.le_of_ble_eq_true rfl) (Nat.le_of_ble_eq_true rfl) (Nat.le_of_ble_eq_true rfl) pu_V dX13_addFunction_21 (fun _ σ3 => ?_)
  refine g_aload_n 0 0 dX13_addFunction_24 rfl rfl ?_
  refine g_getR fdX13_32 dX13_addFunction_25 ?_
  refine g_iload 4 dX13_addFunction_28 rfl ?_
  refine g_callV (fc := fun sς => Row_add sς (gR σ3 x0 6) x4) (ci := 3) (as := [iv x4]) rfl rfl rfl q1405 q1406 mdX13_148 (ctX3_add (gR σ3 x0 6) x4) rfl (Nat.le_of_ble_eq_true rfl) (Nat.le_of_ble_eq_true rfl) (Nat.le_of_ble_eq_true rfl) pu_V dX13_addFunction_30 (fun _ σ4 => ?_)
  refine g_aload_n 0 0 dX13_addFunction_33 rfl rfl ?_
  refine g_getR fdX13_22 dX13_addFunction_34 ?_
  refine g_callV (fc := fun sς => Row_size sς (gR σ4 x0 3) ) (ci := 3) (as := []) rfl rfl rfl q1421 q1422 mdX13_107 (ctX3_size (gR σ4 x0 3) ) rfl (Nat.le_of_ble_eq_true rfl) (Nat.le_of_ble_eq_true rfl) (Nat.le_of_ble_eq_true rfl) pu_I dX13_addFunction_37 (fun r6 σ5 => ?_)
  refine g_iconst (v := 1) dX13_addFunction_40 (by decide) ?_
  refine g_isub dX13_addFunction_41 ?_
  exact g_ireturn rfl dX13_addFunction_42
theorem V.dX13_addTable_0 : decode cX13_addTable 0 = .ok (.aload_n 2, 1) := by decide +kernel
theorem V.dX13_addTable_1 : decode cX13_addTable 1 = .ok (.iload_n 3, 1) := by decide +kernel
theorem V.dX13_addTable_2 : decode cX13_addTable 2 = .ok (.iconst 3, 1) := by decide +kernel
theorem V.dX13_addTable_3 : decode cX13_addTable 3 = .ok (.iadd, 1) := by decide +kernel
theorem V.dX13_addTable_4 : decode cX13_addTable 4 = .ok (.invokevirtual 111, 3) := by decide +kernel
theorem V.dX13_addTable_7 : decode cX13_addTable 7 = .ok (.iconst 1, 1) := by decide +kernel
theorem V.dX13_addTable_8 : decode cX13_addTable 8 = .ok (.if_icmp .ne 7, 3) := by decide +kernel
theorem V.dX13_addTable_11 : decode cX13_addTable 11 = .ok (.iconst 1, 1) := by decide +kernel
theorem V.dX13_addTable_12 : decode cX13_addTable 12 = .ok (.goto 4, 3) := by decide +kernel
theorem V.dX13_addTable_15 : decode cX13_addTable 15 = .ok (.iconst 0, 1) := by decide +kernel
theorem V.dX13_addTable_16 : decode cX13_addTable 16 = .ok (.istore 4, 2) := by decide +kernel
theorem V.dX13_addTable_18 : decode cX13_addTable 18 = .ok (.aload_n 0, 1) := by decide +kernel
theorem V.dX13_addTable_19 : decode cX13_addTable 19 = .ok (.getfield 77, 3) := by decide +kernel
theorem V.dX13_addTable_22 : decode cX13_addTable 22 = .ok (.iload_n 1, 1) := by decide +kernel
theorem V.dX13_addTable_23 : decode cX13_addTable 23 = .ok (.aaload, 1) := by decide +kernel
theorem V.dX13_addTable_24 : decode cX13_addTable 24 = .ok (.aload_n 0, 1) := by decide +kernel
theorem V.dX13_addTable_25 : decode cX13_addTable 25 = .ok (.getfield 40, 3) := by decide +kernel
theorem V.dX13_addTable_28 : decode cX13_addTable 28 = .ok (.aload_n 2, 1) := by decide +kernel
theorem V.dX13_addTable_29 : decode cX13_addTable 29 = .ok (.iload_n 3, 1) := by decide +kernel
theorem V.dX13_addTable_30 : decode cX13_addTable 30 = .ok (.invokevirtual 111, 3) := by decide +kernel
theorem V.dX13_addTable_33 : decode cX13_addTable 33 = .ok (.aload_n 2, 1) := by decide +kernel
theorem V.dX13_addTable_34 : decode cX13_addTable 34 = .ok (.iload_n 3, 1) := by decide +kernel
theorem V.dX13_addTable_35 : decode cX13_addTable 35 = .ok (.iconst 1, 1) := by decide +kernel
theorem V.dX13_addTable_36 : decode cX13_addTable 36 = .ok (.iadd, 1) := by decide +kernel
theorem V.dX13_addTable_37 : decode cX13_addTable 37 = .ok (.invokevirtual 111, 3) := by decide +kernel
theorem V.dX13_addTable_40 : decode cX13_addTable 40 = .ok (.iload 4, 2) := by decide +kernel
theorem V.dX13_addTable_42 : decode cX13_addTable 42 = .ok (.ifCond .eq 16, 3) := by decide +kernel
theorem V.dX13_addTable_45 : decode cX13_addTable 45 = .ok (.aload_n 2, 1) := by decide +kernel
theorem V.dX13_addTable_46 : decode cX13_addTable 46 = .ok (.iload_n 3, 1) := by decide +kernel
theorem V.dX13_addTable_47 : decode cX13_addTable 47 = .ok (.iconst 2, 1) := by decide +kernel
theorem V.dX13_addTable_48 : decode cX13_addTable 48 = .ok (.iadd, 1) := by decide +kernel
theorem V.dX13_addTable_49 : decode cX13_addTable 49 = .ok (.invokevirtual 111, 3) := by decide +kernel
theorem V.dX13_addTable_52 : decode cX13_addTable 52 = .ok (.invokestatic 174, 3) := by decide +kernel
theorem V.dX13_addTable_55 : decode cX13_addTable 55 = .ok (.goto 6, 3) := by decide +kernel
theorem V.dX13_addTable_58 : decode cX13_addTable 58 = .ok (.ldc2_w 277, 3) := by decide +kernel
theorem V.dX13_addTable_61 : decode cX13_addTable 61 = .ok (.invokevirtual 279, 3) := by decide +kernel
theorem V.dX13_addTable_64 : decode cX13_addTable 64 = .ok (.invokevirtual 148, 3) := by decide +kernel
theorem V.dX13_addTable_67 : decode cX13_addTable 67 = .ok (.aload_n 0, 1) := by decide +kernel
theorem V.dX13_addTable_68 : decode cX13_addTable 68 = .ok (.getfield 54, 3) := by decide +kernel
theorem V.dX13_addTable_71 : decode cX13_addTable 71 = .ok (.iload 4, 2) := by decide +kernel
theorem V.dX13_addTable_73 : decode cX13_addTable 73 = .ok (.ifCond .eq 7, 3) := by decide +kernel
theorem V.dX13_addTable_76 : decode cX13_addTable 76 = .ok (.iconst 1, 1) := by decide +kernel
theorem V.dX13_addTable_77 : decode cX13_addTable 77 = .ok (.goto 4, 3) := by decide +kernel
theorem V.dX13_addTable_80 : decode cX13_addTable 80 = .ok (.iconst 0, 1) := by decide +kernel
theorem V.dX13_addTable_81 : decode cX13_addTable 81 = .ok (.invokevirtual 148, 3) := by decide +kernel
theorem V.dX13_addTable_84 : decode cX13_addTable 84 = .ok (.return_, 1) := by decide +kernel
theorem V.mdX13_279 : MD RX13 279 yX14_make cX14_make 5 (some .int) 3 := ⟨Or.inl q2282, q374, q2285, by decide, by decide, by decide +kernel⟩
/-! ModuleEngine$Store.addTable(ILModuleEngine$Row;I)V -/
def V.Sto_addTable_p81  (σ : HS) (s0 : Int32) (s1 : Nat) : Option (Unit × HS) :=
  ck (tg σ s1 = 4) <| cl (Row_add σ s1 s0) fun _ σ1 =>
  some ((), σ1)
theorem V.gX13_addTable_p81 {X : CX}  (σ : HS) (s0 : Int32) (s1 : Nat) : G X RX13 "addTable" cX13_addTable 5 none 3 72 enV 81 [] [iv s0, av s1] σ (Sto_addTable_p81 σ s0 s1) := by
  unfold Sto_addTable_p81
  refine g_callV (fc := fun sς => Row_add sς s1 s0) (ci := 3) (as := [iv s0]) rfl rfl rfl q1405 q1406 mdX13_148 (ctX3_add s1 s0) rfl (Nat.le_of_ble_eq_true rfl) (Nat.le_of_ble_eq_true rfl) (Nat.le_of_ble_eq_true rfl) pu_V dX13_addTable_81 (fun _ σ1 => ?_)
  exact g_return rfl dX13_addTable_84
def V.Sto_addTable_p61  (σ : HS) (x0 : Nat) (x4 : Int32) (s0 : Int64) (s1 : Int32) (s2 : Int32) (s3 : Nat) (s4 : Nat) : Option (Unit × HS) :=
  ck (tg σ s3 = 15) <| cl (Tab_make σ s3 s2 s1 s0) fun r2 σ1 =>
  ck (tg σ1 s4 = 4) <| cl (Row_add σ1 s4 r2) fun _ σ3 =>
  ck (tg σ3 x0 = 14) <|
  if x4 = 0 then (
    Sto_addTable_p81 σ3 (0 : Int32) (gR σ3 x0 9))
  else (
    Sto_addTable_p81 σ3 (1 : Int32) (gR σ3 x0 9))
theorem V.gX13_addTable_p61 {X : CX}  (σ : HS) (x0 : Nat) (x4 : Int32) (s0 : Int64) (s1 : Int32) (s2 : Int32) (s3 : Nat) (s4 : Nat) : G X RX13 "addTable" cX13_addTable 5 none 3 72 enV 61 [(0, av x0), (4, iv x4)] [jv s0, iv s1, iv s2, av s3, av s4] σ (Sto_addTable_p61 σ x0 x4 s0 s1 s2 s3 s4) := by
  unfold Sto_addTable_p61
  refine g_callV (fc := fun sς => Tab_make sς s3 s2 s1 s0) (ci := 14) (as := [iv s2, iv s1, jv s0]) rfl rfl rfl q2283 q2284 mdX13_279 (ctX14_make s3 s2 s1 s0) rfl (Nat.le_of_ble_eq_true rfl) (Nat.le_of_ble_eq_true rfl) (Nat.le_of_ble_eq_true rfl) pu_I dX13_addTable_61 (fun r2 σ1 => ?_)
  refine g_callV (fc := fun sς => Row_add sς s4 r2) (ci := 3) (as := [iv r2]) rfl rfl rfl q1405 q1406 mdX13_148 (ctX3_add s4 r2) rfl (Nat.le_of_ble_eq_true rfl) (Nat.le_of_ble_eq_true rfl) (Nat.le_of_ble_eq_true rfl) pu_V dX13_addTable_64 (fun _ σ3 => ?_)
  refine g_aload_n 0 0 dX13_addTable_67 rfl rfl ?_
  refine g_getR fdX13_54 dX13_addTable_68 ?_
  refine g_iload 1 dX13_addTable_71 rfl ?_
  refine g_if_eq 80 dX13_addTable_73 (by decide) ?_ ?_
  · refine g_iconst (v := 0) dX13_addTable_80 (by decide) ?_
    refine G.sub [] rfl ?_
    exact gX13_addTable_p81 _ _ _
  · refine g_iconst (v := 1) dX13_addTable_76 (by decide) ?_
    refine g_goto 81 dX13_addTable_77 (by decide) ?_
    refine G.sub [] rfl ?_
    exact gX13_addTable_p81 _ _ _
def V.Sto_addTable_p16  (σ : HS) (x0 : Nat) (x1 : Int32) (x2 : Nat) (x3 : Int32) (s0 : Int32) : Option (Unit × HS) :=
  ck (tg σ x0 = 14) <|
  ck (tg σ (gR σ x0 16) = 104 ∧ inb x1 (ln σ (gR σ x0 16))) <|
  ck (tg σ x0 = 14) <|
  ck (tg σ x2 = 4) <| cl (Row_at σ x2 x3) fun r2 σ1 =>
  ck (tg σ1 x2 = 4) <| cl (Row_at σ1 x2 (x3 + (1 : Int32))) fun r4 σ3 =>
  if s0 = 0 then (
    Sto_addTable_p61 σ3 x0 s0 (4294967295 : Int64) r4 r2 (gR σ x0 7) (gR σ (gR σ x0 16) (ix x1)))
  else (
    ck (tg σ3 x2 = 4) <| cl (Row_at σ3 x2 (x3 + (2 : Int32))) fun r6 σ5 =>
    cl (Mod_wide σ5 r6) fun r8 σ7 =>
    Sto_addTable_p61 σ7 x0 s0 r8 r4 r2 (gR σ x0 7) (gR σ (gR σ x0 16) (ix x1)))
theorem V.gX13_addTable_p16 {X : CX}  (σ : HS) (x0 : Nat) (x1 : Int32) (x2 : Nat) (x3 : Int32) (s0 : Int32) : G X RX13 "addTable" cX13_addTable 5 none 3 72 enV 16 [(0, av x0), (1, iv x1), (2, av x2), (3, iv x3)] [iv s0] σ (Sto_addTable_p16 σ x0 x1 x2 x3 s0) := by
  unfold Sto_addTable_p16
  refine g_istore dX13_addTable_16 (by decide) rfl ?_
  refine g_aload_n 0 1 dX13_addTable_18 rfl rfl ?_
  refine g_getR fdX13_77 dX13_addTable_19 ?_
  refine g_iload_n 1 2 dX13_addTable_22 rfl rfl ?_
  refine g_aaload 4 rfl dX13_addTable_23 ?_
  refine g_aload_n 0 1 dX13_addTable_24 rfl rfl ?_
  refine g_getR fdX13_40 dX13_addTable_25 ?_
  refine g_aload_n 2 3 dX13_addTable_28 rfl rfl ?_
  refine g_iload_n 3 4 dX13_addTable_29 rfl rfl ?_
  refine g_callV (fc := fun sς => Row_at sς x2 x3) (ci := 3) (as := [iv x3]) rfl rfl rfl q1409 q1410 mdX13_111 (ctX3_at x2 x3) rfl (Nat.le_of_ble_eq_true rfl) (Nat.le_of_ble_eq_true rfl) (Nat.le_of_ble_eq_true rfl) pu_I dX13_addTable_30 (fun r2 σ1 => ?_)
  refine g_aload_n 2 3 dX13_addTable_33 rfl rfl ?_
  refine g_iload_n 3 4 dX13_addTable_34 rfl rfl ?_
  refine g_iconst (v := 1) dX13_addTable_35 (by decide) ?_
  refine g_iadd dX13_addTable_36 ?_
  refine g_callV (fc := fun sς => Row_at sς x2 (x3 + (1 : Int32))) (ci := 3) (as := [iv (x3 + (1 : Int32))]) rfl rfl rfl q1409 q1410 mdX13_111 (ctX3_at x2 (x3 + (1 : Int32))) rfl (Nat.le_of_ble_eq_true rfl) (Nat.le_of_ble_eq_true rfl) (Nat.le_of_ble_eq_true rfl) pu_I dX13_addTable_37 (fun r4 σ3 => ?_)
  refine g_iload 0 dX13_addTable_40 rfl ?_
  refine g_if_eq 58 dX13_addTable_42 (by decide) ?_ ?_
  · refine g_ldc2 q2281 dX13_addTable_58 ?_
    refine G.sub [1, 0] rfl ?_
    exact gX13_addTable_p61 _ _ _ _ _ _ _ _
  · refine g_aload_n 2 3 dX13_addTable_45 rfl rfl ?_
    refine g_iload_n 3 4 dX13_addTable_46 rfl rfl ?_
    refine g_iconst (v := 2) dX13_addTable_47 (by decide) ?_
    refine g_iadd dX13_addTable_48 ?_
    refine g_callV (fc := fun sς => Row_at sς x2 (x3 + (2 : Int32))) (ci := 3) (as := [iv (x3 + (2 : Int32))]) rfl rfl rfl q1409 q1410 mdX13_111 (ctX3_at x2 (x3 + (2 : Int32))) rfl (Nat.le_of_ble_eq_true rfl) (Nat.le_of_ble_eq_true rfl) (Nat.le_of_ble_eq_true rfl) pu_I dX13_addTable_49 (fun r6 σ5 => ?_)
    refine g_callS (fc := fun sς => Mod_wide sς r6) (as := [iv r6]) q1376 mdX13_174 (ctX2_wide r6) rfl (Nat.le_of_ble_eq_true rfl) (Nat.le_of_ble_eq_true rfl) (Nat.le_of_ble_eq_true rfl) pu_J dX13_addTable_52 (fun r8 σ7 => ?_)
    refine g_goto 61 dX13_addTable_55 (by decide) ?_
    refine G.sub [1, 0] rfl ?_
    exact gX13_addTable_p61 _ _ _ _ _ _ _ _
def V.Sto_addTable (σ : HS) (x0 : Nat) (x1 : Int32) (x2 : Nat) (x3 : Int32) : Option (Unit × HS) :=
  ck (tg σ x2 = 4) <| cl (Row_at σ x2 (x3 + (3 : Int32))) fun r2 σ1 =>
  if r2 = (1 : Int32) then (
    Sto_addTable_p16 σ1 x0 x1 x2 x3 (1 : Int32))
  else (
    Sto_addTable_p16 σ1 x0 x1 x2 x3 (0 : Int32))
theorem V.ctX13_addTable (x0 : Nat) (x1 : Int32) (x2 : Nat) (x3 : Int32) : Ct yX13_addTable  cX13_addTable 5 none 3 72 eV [av x0, iv x1, av x2, iv x3] (fun σ => Sto_addTable σ x0 x1 x2 x3) := by
  refine Ct.of (own := RX13) (nm := "addTable") (desc := "(ILModuleEngine$Row;I)V") rfl (by decide) (Nat.le_of_ble_eq_true rfl) (by decide) (fun X σ => ?_)
  show G X RX13 "addTable" cX13_addTable 5 none 3 72 enV 0 [(0, av x0), (1, iv x1), (2, av x2), (3, iv x3)] [] σ (Sto_addTable σ x0 x1 x2 x3)
  unfold Sto_addTable
  refine g_aload_n 2 2 dX13_addTable_0 rfl rfl ?_
  refine g_iload_n 3 3 dX13_addTable_1 rfl rfl ?_
  refine g_iconst (v := 3) dX13_addTable_2 (by decide) ?_
  refine g_iadd dX13_addTable_3 ?_
  refine g_callV (fc := fun sς => Row_at sς x2 (x3 + (3 : Int32))) (ci := 3) (as := [iv (x3 + (3 : Int32))]) rfl rfl rfl q1409 q1410 mdX13_111 (ctX3_at x2 (x3 + (3 : Int32))) rfl (Nat.le_of_ble_eq_true rfl) (Nat.le_of_ble_eq_true rfl) (Nat.le_of_ble_eq_true rfl) pu_I dX13_addTable_4 (fun r2 σ1 => ?_)
  refine g_iconst (v := 1) dX13_addTable_7 (by decide) ?_
  refine g_icmp_ne 15 dX13_addTable_8 (by decide) ?_ ?_
  · refine g_iconst (v := 0) dX13_addTable_15 (by decide) ?_
    exact gX13_addTable_p16 _ _ _ _ _ _
  · refine g_iconst (v := 1) dX13_addTable_11 (by decide) ?_
    refine g_goto 16 dX13_addTable_12 (by decide) ?_
    exact gX13_addTable_p16 _ _ _ _ _ _
theorem V.dX13_addMemory_0 : decode cX13_addMemory 0 = .ok (.aload_n 2, 1) := by decide +kernel
theorem V.dX13_addMemory_1 : decode cX13_addMemory 1 = .ok (.iload_n 3, 1) := by decide +kernel
theorem V.dX13_addMemory_2 : decode cX13_addMemory 2 = .ok (.iconst 3, 1) := by decide +kernel
theorem V.dX13_addMemory_3 : decode cX13_addMemory 3 = .ok (.iadd, 1) := by decide +kernel
theorem V.dX13_addMemory_4 : decode cX13_addMemory 4 = .ok (.invokevirtual 111, 3) := by decide +kernel
theorem V.dX13_addMemory_7 : decode cX13_addMemory 7 = .ok (.iconst 1, 1) := by decide +kernel
theorem V.dX13_addMemory_8 : decode cX13_addMemory 8 = .ok (.if_icmp .ne 7, 3) := by decide +kernel
theorem V.dX13_addMemory_11 : decode cX13_addMemory 11 = .ok (.iconst 1, 1) := by decide +kernel
theorem V.dX13_addMemory_12 : decode cX13_addMemory 12 = .ok (.goto 4, 3) := by decide +kernel
theorem V.dX13_addMemory_15 : decode cX13_addMemory 15 = .ok (.iconst 0, 1) := by decide +kernel
theorem V.dX13_addMemory_16 : decode cX13_addMemory 16 = .ok (.istore 4, 2) := by decide +kernel
theorem V.dX13_addMemory_18 : decode cX13_addMemory 18 = .ok (.aload_n 0, 1) := by decide +kernel
theorem V.dX13_addMemory_19 : decode cX13_addMemory 19 = .ok (.getfield 80, 3) := by decide +kernel
theorem V.dX13_addMemory_22 : decode cX13_addMemory 22 = .ok (.iload_n 1, 1) := by decide +kernel
theorem V.dX13_addMemory_23 : decode cX13_addMemory 23 = .ok (.aaload, 1) := by decide +kernel
theorem V.dX13_addMemory_24 : decode cX13_addMemory 24 = .ok (.aload_n 0, 1) := by decide +kernel
theorem V.dX13_addMemory_25 : decode cX13_addMemory 25 = .ok (.getfield 50, 3) := by decide +kernel
theorem V.dX13_addMemory_28 : decode cX13_addMemory 28 = .ok (.aload_n 2, 1) := by decide +kernel
theorem V.dX13_addMemory_29 : decode cX13_addMemory 29 = .ok (.iload_n 3, 1) := by decide +kernel
theorem V.dX13_addMemory_30 : decode cX13_addMemory 30 = .ok (.iconst 1, 1) := by decide +kernel
theorem V.dX13_addMemory_31 : decode cX13_addMemory 31 = .ok (.iadd, 1) := by decide +kernel
theorem V.dX13_addMemory_32 : decode cX13_addMemory 32 = .ok (.invokevirtual 111, 3) := by decide +kernel
theorem V.dX13_addMemory_35 : decode cX13_addMemory 35 = .ok (.iload 4, 2) := by decide +kernel
theorem V.dX13_addMemory_37 : decode cX13_addMemory 37 = .ok (.ifCond .eq 13, 3) := by decide +kernel
theorem V.dX13_addMemory_40 : decode cX13_addMemory 40 = .ok (.aload_n 2, 1) := by decide +kernel
theorem V.dX13_addMemory_41 : decode cX13_addMemory 41 = .ok (.iload_n 3, 1) := by decide +kernel
theorem V.dX13_addMemory_42 : decode cX13_addMemory 42 = .ok (.iconst 2, 1) := by decide +kernel
theorem V.dX13_addMemory_43 : decode cX13_addMemory 43 = .ok (.iadd, 1) := by decide +kernel
theorem V.dX13_addMemory_44 : decode cX13_addMemory 44 = .ok (.invokevirtual 111, 3) := by decide +kernel
theorem V.dX13_addMemory_47 : decode cX13_addMemory 47 = .ok (.goto 6, 3) := by decide +kernel
theorem V.dX13_addMemory_50 : decode cX13_addMemory 50 = .ok (.ldc_w 283, 3) := by decide +kernel
theorem V.dX13_addMemory_53 : decode cX13_addMemory 53 = .ok (.invokevirtual 284, 3) := by decide +kernel
theorem V.dX13_addMemory_56 : decode cX13_addMemory 56 = .ok (.invokevirtual 148, 3) := by decide +kernel
theorem V.dX13_addMemory_59 : decode cX13_addMemory 59 = .ok (.aload_n 0, 1) := by decide +kernel
theorem V.dX13_addMemory_60 : decode cX13_addMemory 60 = .ok (.getfield 57, 3) := by decide +kernel
theorem V.dX13_addMemory_63 : decode cX13_addMemory 63 = .ok (.iload 4, 2) := by decide +kernel
theorem V.dX13_addMemory_65 : decode cX13_addMemory 65 = .ok (.ifCond .eq 7, 3) := by decide +kernel
theorem V.dX13_addMemory_68 : decode cX13_addMemory 68 = .ok (.iconst 1, 1) := by decide +kernel
theorem V.dX13_addMemory_69 : decode cX13_addMemory 69 = .ok (.goto 4, 3) := by decide +kernel
theorem V.dX13_addMemory_72 : decode cX13_addMemory 72 = .ok (.iconst 0, 1) := by decide +kernel
theorem V.dX13_addMemory_73 : decode cX13_addMemory 73 = .ok (.invokevirtual 148, 3) := by decide +kernel
theorem V.dX13_addMemory_76 : decode cX13_addMemory 76 = .ok (.return_, 1) := by decide +kernel
theorem V.mdX13_284 : MD RX13 284 yX15_make cX15_make 3 (some .int) 2 := ⟨Or.inl q2296, q375, q2299, by decide, by decide, by decide +kernel⟩
/-! ModuleEngine$Store.addMemory(ILModuleEngine$Row;I)V -/
def V.Sto_addMemory_p73  (σ : HS) (s0 : Int32) (s1 : Nat) : Option (Unit × HS) :=
  ck (tg σ s1 = 4) <| cl (Row_add σ s1 s0) fun _ σ1 =>
  some ((), σ1)
theorem V.gX13_addMemory_p73 {X : CX}  (σ : HS) (s0 : Int32) (s1 : Nat) : G X RX13 "addMemory" cX13_addMemory 5 none 2 45 enV 73 [] [iv s0, av s1] σ (Sto_addMemory_p73 σ s0 s1) := by
  unfold Sto_addMemory_p73
  refine g_callV (fc := fun sς => Row_add sς s1 s0) (ci := 3) (as := [iv s0]) rfl rfl rfl q1405 q1406 mdX13_148 (ctX3_add s1 s0) rfl (Nat.le_of_ble_eq_true rfl) (Nat.le_of_ble_eq_true rfl) (Nat.le_of_ble_eq_true rfl) pu_V dX13_addMemory_73 (fun _ σ1 => ?_)
  exact g_return rfl dX13_addMemory_76
def V.Sto_addMemory_p53  (σ : HS) (x0 : Nat) (x4 : Int32) (s0 : Int32) (s1 : Int32) (s2 : Nat) (s3 : Nat) : Option (Unit × HS) :=
  ck (tg σ s2 = 16) <| cl (Pag_make σ s2 s1 s0) fun r2 σ1 =>
  ck (tg σ1 s3 = 4) <| cl (Row_add σ1 s3 r2) fun _ σ3 =>
  ck (tg σ3 x0 = 14) <|
  if x4 = 0 then (
    Sto_addMemory_p73 σ3 (0 : Int32) (gR σ3 x0 10))
  else (
    Sto_addMemory_p73 σ3 (1 : Int32) (gR σ3 x0 10))
theorem V.gX13_addMemory_p53 {X : CX}  (σ : HS) (x0 : Nat) (x4 : Int32) (s0 : Int32) (s1 : Int32) (s2 : Nat) (s3 : Nat) : G X RX13 "addMemory" cX13_addMemory 5 none 2 45 enV 53 [(0, av x0), (4, iv x4)] [iv s0, iv s1, av s2, av s3] σ (Sto_addMemory_p53 σ x0 x4 s0 s1 s2 s3) := by
  unfold Sto_addMemory_p53
  refine g_callV (fc := fun sς => Pag_make sς s2 s1 s0) (ci := 15) (as := [iv s1, iv s0]) rfl rfl rfl q2297 q2298 mdX13_284 (ctX15_make s2 s1 s0) rfl (Nat.le_of_ble_eq_true rfl) (Nat.le_of_ble_eq_true rfl) (Nat.le_of_ble_eq_true rfl) pu_I dX13_addMemory_53 (fun r2 σ1 => ?_)
  refine g_callV (fc := fun sς => Row_add sς s3 r2) (ci := 3) (as := [iv r2]) rfl rfl rfl q1405 q1406 mdX13_148 (ctX3_add s3 r2) rfl (Nat.le_of_ble_eq_true rfl) (Nat.le_of_ble_eq_true rfl) (Nat.le_of_ble_eq_true rfl) pu_V dX13_addMemory_56 (fun _ σ3 => ?_)
  refine g_aload_n 0 0 dX13_addMemory_59 rfl rfl ?_
  refine g_getR fdX13_57 dX13_addMemory_60 ?_
  refine g_iload 1 dX13_addMemory_63 rfl ?_
  refine g_if_eq 72 dX13_addMemory_65 (by decide) ?_ ?_
  · refine g_iconst (v := 0) dX13_addMemory_72 (by decide) ?_
    refine G.sub [] rfl ?_
    exact gX13_addMemory_p73 _ _ _
  · refine g_iconst (v := 1) dX13_addMemory_68 (by decide) ?_
    refine g_goto 73 dX13_addMemory_69 (by decide) ?_
    refine G.sub [] rfl ?_
    exact gX13_addMemory_p73 _ _ _
def V.Sto_addMemory_p16  (σ : HS) (x0 : Nat) (x1 : Int32) (x2 : Nat) (x3 : Int32) (s0 : Int32) : Option (Unit × HS) :=
  ck (tg σ x0 = 14) <|
  ck (tg σ (gR σ x0 17) = 104 ∧ inb x1 (ln σ (gR σ x0 17))) <|
  ck (tg σ x0 = 14) <|
  ck (tg σ x2 = 4) <| cl (Row_at σ x2 (x3 + (1 : Int32))) fun r2 σ1 =>
  if s0 = 0 then (
    Sto_addMemory_p53 σ1 x0 s0 (65536 : Int32) r2 (gR σ x0 8) (gR σ (gR σ x0 17) (ix x1)))
  else (
    ck (tg σ1 x2 = 4) <| cl (Row_at σ1 x2 (x3 + (2 : Int32))) fun r4 σ3 =>
    Sto_addMemory_p53 σ3 x0 s0 r4 r2 (gR σ x0 8) (gR σ (gR σ x0 17) (ix x1)))
theorem V.gX13_addMemory_p16 {X : CX}  (σ : HS) (x0 : Nat) (x1 : Int32) (x2 : Nat) (x3 : Int32) (s0 : Int32) : G X RX13 "addMemory" cX13_addMemory 5 none 2 45 enV 16 [(0, av x0), (1, iv x1), (2, av x2), (3, iv x3)] [iv s0] σ (Sto_addMemory_p16 σ x0 x1 x2 x3 s0) := by
  unfold Sto_addMemory_p16
  refine g_istore dX13_addMemory_16 (by decide) rfl ?_
  refine g_aload_n 0 1 dX13_addMemory_18 rfl rfl ?_
  refine g_getR fdX13_80 dX13_addMemory_19 ?_
  refine g_iload_n 1 2 dX13_addMemory_22 rfl rfl ?_
  refine g_aaload 4 rfl dX13_addMemory_23 ?_
  refine g_aload_n 0 1 dX13_addMemory_24 rfl rfl ?_
  refine g_getR fdX13_50 dX13_addMemory_25 ?_
  refine g_aload_n 2 3 dX13_addMemory_28 rfl rfl ?_
  refine g_iload_n 3 4 dX13_addMemory_29 rfl rfl ?_
  refine g_iconst (v := 1) dX13_addMemory_30 (by decide) ?_
  refine g_iadd dX13_addMemory_31 ?_
  refine g_callV (fc := fun sς => Row_at sς x2 (x3 + (1 : Int32))) (ci := 3) (as := [iv (x3 + (1 : Int32))]) rfl rfl rfl q1409 q1410 mdX13_111 (ctX3_at x2 (x3 + (1 : Int32))) rfl (Nat.le_of_ble_eq_true rfl) (Nat.le_of_ble_eq_true rfl) (Nat.le_of_ble_eq_true rfl) pu_I dX13_addMemory_32 (fun r2 σ1 => ?_)
  refine g_iload 0 dX13_addMemory_35 rfl ?_
  refine g_if_eq 50 dX13_addMemory_37 (by decide) ?_ ?_
  · refine g_ldcw q2295 dX13_addMemory_50 ?_
    refine G.sub [1, 0] rfl ?_
    exact gX13_addMemory_p53 _ _ _ _ _ _ _
  · refine g_aload_n 2 3 dX13_addMemory_40 rfl rfl ?_
    refine g_iload_n 3 4 dX13_addMemory_41 rfl rfl ?_
    refine g_iconst (v := 2) dX13_addMemory_42 (by decide) ?_
    refine g_iadd dX13_addMemory_43 ?_
    refine g_callV (fc := fun sς => Row_at sς x2 (x3 + (2 : Int32))) (ci := 3) (as := [iv (x3 + (2 : Int32))]) rfl rfl rfl q1409 q1410 mdX13_111 (ctX3_at x2 (x3 + (2 : Int32))) rfl (Nat.le_of_ble_eq_true rfl) (Nat.le_of_ble_eq_true rfl) (Nat.le_of_ble_eq_true rfl) pu_I dX13_addMemory_44 (fun r4 σ3 => ?_)
    refine g_goto 53 dX13_addMemory_47 (by decide) ?_
    refine G.sub [1, 0] rfl ?_
    exact gX13_addMemory_p53 _ _ _ _ _ _ _
def V.Sto_addMemory (σ : HS) (x0 : Nat) (x1 : Int32) (x2 : Nat) (x3 : Int32) : Option (Unit × HS) :=
  ck (tg σ x2 = 4) <| cl (Row_at σ x2 (x3 + (3 : Int32))) fun r2 σ1 =>
  if r2 = (1 : Int32) then (
    Sto_addMemory_p16 σ1 x0 x1 x2 x3 (1 : Int32))
  else (
    Sto_addMemory_p16 σ1 x0 x1 x2 x3 (0 : Int32))
theorem V.ctX13_addMemory (x0 : Nat) (x1 : Int32) (x2 : Nat) (x3 : Int32) : Ct yX13_addMemory  cX13_addMemory 5 none 2 45 eV [av x0, iv x1, av x2, iv x3] (fun σ => Sto_addMemory σ x0 x1 x2 x3) := by
  refine Ct.of (own := RX13) (nm := "addMemory") (desc := "(ILModuleEngine$Row;I)V") rfl (by decide) (Nat.le_of_ble_eq_true rfl) (by decide) (fun X σ => ?_)
  show G X RX13 "addMemory" cX13_addMemory 5 none 2 45 enV 0 [(0, av x0), (1, iv x1), (2, av x2), (3, iv x3)] [] σ (Sto_addMemory σ x0 x1 x2 x3)
  unfold Sto_addMemory
  refine g_aload_n 2 2 dX13_addMemory_0 rfl rfl ?_
  refine g_iload_n 3 3 dX13_addMemory_1 rfl rfl ?_
  refine g_iconst (v := 3) dX13_addMemory_2 (by decide) ?_
  refine g_iadd dX13_addMemory_3 ?_
  refine g_callV (fc := fun sς => Row_at sς x2 (x3 + (3 : Int32))) (ci := 3) (as := [iv (x3 + (3 : Int32))]) rfl rfl rfl q1409 q1410 mdX13_111 (ctX3_at x2 (x3 + (3 : Int32))) rfl (Nat.le_of_ble_eq_true rfl) (Nat.le_of_ble_eq_true rfl) (Nat.le_of_ble_eq_true rfl) pu_I dX13_addMemory_4 (fun r2 σ1 => ?_)
  refine g_iconst (v := 1) dX13_addMemory_7 (by decide) ?_
  refine g_icmp_ne 15 dX13_addMemory_8 (by decide) ?_ ?_
  · refine g_iconst (v := 0) dX13_addMemory_15 (by decide) ?_
    exact gX13_addMemory_p16 _ _ _ _ _ _
  · refine g_iconst (v := 1) dX13_addMemory_11 (by decide) ?_
    refine g_goto 16 dX13_addMemory_12 (by decide) ?_
    exact gX13_addMemory_p16 _ _ _ _ _ _
theorem V.dX13_constant_0 : decode cX13_constant 0 = .ok (.aload_n 0, 1) := by decide +kernel
theorem V.dX13_constant_1 : decode cX13_constant 1 = .ok (.getfield 100, 3) := by decide +kernel
theorem V.dX13_constant_4 : decode cX13_constant 4 = .ok (.aload_n 0, 1) := by decide +kernel
theorem V.dX13_constant_5 : decode cX13_constant 5 = .ok (.getfield 70, 3) := by decide +kernel
theorem V.dX13_constant_8 : decode cX13_constant 8 = .ok (.iload_n 1, 1) := by decide +kernel
theorem V.dX13_constant_9 : decode cX13_constant 9 = .ok (.iaload, 1) := by decide +kernel
theorem V.dX13_constant_10 : decode cX13_constant 10 = .ok (.aaload, 1) := by decide +kernel
theorem V.dX13_constant_11 : decode cX13_constant 11 = .ok (.astore_n 3, 1) := by decide +kernel
theorem V.dX13_constant_12 : decode cX13_constant 12 = .ok (.aload_n 3, 1) := by decide +kernel
theorem V.dX13_constant_13 : decode cX13_constant 13 = .ok (.iload_n 2, 1) := by decide +kernel
theorem V.dX13_constant_14 : decode cX13_constant 14 = .ok (.invokevirtual 286, 3) := by decide +kernel
theorem V.dX13_constant_17 : decode cX13_constant 17 = .ok (.aload_n 3, 1) := by decide +kernel
theorem V.dX13_constant_18 : decode cX13_constant 18 = .ok (.invokevirtual 289, 3) := by decide +kernel
theorem V.dX13_constant_21 : decode cX13_constant 21 = .ok (.aload_n 3, 1) := by decide +kernel
theorem V.dX13_constant_22 : decode cX13_constant 22 = .ok (.getfield 292, 3) := by decide +kernel
theorem V.dX13_constant_25 : decode cX13_constant 25 = .ok (.lookupswitch 90 #[(35, 43), (65, 81), (208, 62), (210, 66)], 43) := by decide +kernel
theorem V.dX13_constant_68 : decode cX13_constant 68 = .ok (.aload_n 0, 1) := by decide +kernel
theorem V.dX13_constant_69 : decode cX13_constant 69 = .ok (.getfield 66, 3) := by decide +kernel
theorem V.dX13_constant_72 : decode cX13_constant 72 = .ok (.aload_n 0, 1) := by decide +kernel
theorem V.dX13_constant_73 : decode cX13_constant 73 = .ok (.getfield 83, 3) := by decide +kernel
theorem V.dX13_constant_76 : decode cX13_constant 76 = .ok (.iload_n 1, 1) := by decide +kernel
theorem V.dX13_constant_77 : decode cX13_constant 77 = .ok (.aaload, 1) := by decide +kernel
theorem V.dX13_constant_78 : decode cX13_constant 78 = .ok (.aload_n 3, 1) := by decide +kernel
theorem V.dX13_constant_79 : decode cX13_constant 79 = .ok (.getfield 295, 3) := by decide +kernel
theorem V.dX13_constant_82 : decode cX13_constant 82 = .ok (.invokevirtual 111, 3) := by decide +kernel
theorem V.dX13_constant_85 : decode cX13_constant 85 = .ok (.laload, 1) := by decide +kernel
theorem V.dX13_constant_86 : decode cX13_constant 86 = .ok (.lreturn, 1) := by decide +kernel
theorem V.dX13_constant_87 : decode cX13_constant 87 = .ok (.ldc2_w 298, 3) := by decide +kernel
theorem V.dX13_constant_90 : decode cX13_constant 90 = .ok (.lreturn, 1) := by decide +kernel
theorem V.dX13_constant_91 : decode cX13_constant 91 = .ok (.aload_n 0, 1) := by decide +kernel
theorem V.dX13_constant_92 : decode cX13_constant 92 = .ok (.getfield 73, 3) := by decide +kernel
theorem V.dX13_constant_95 : decode cX13_constant 95 = .ok (.iload_n 1, 1) := by decide +kernel
theorem V.dX13_constant_96 : decode cX13_constant 96 = .ok (.aaload, 1) := by decide +kernel
theorem V.dX13_constant_97 : decode cX13_constant 97 = .ok (.aload_n 3, 1) := by decide +kernel
theorem V.dX13_constant_98 : decode cX13_constant 98 = .ok (.getfield 295, 3) := by decide +kernel
theorem V.dX13_constant_101 : decode cX13_constant 101 = .ok (.invokevirtual 111, 3) := by decide +kernel
theorem V.dX13_constant_104 : decode cX13_constant 104 = .ok (.i2l, 1) := by decide +kernel
theorem V.dX13_constant_105 : decode cX13_constant 105 = .ok (.lreturn, 1) := by decide +kernel
theorem V.dX13_constant_106 : decode cX13_constant 106 = .ok (.aload_n 3, 1) := by decide +kernel
theorem V.dX13_constant_107 : decode cX13_constant 107 = .ok (.getfield 300, 3) := by decide +kernel
theorem V.dX13_constant_110 : decode cX13_constant 110 = .ok (.ldc2_w 277, 3) := by decide +kernel
theorem V.dX13_constant_113 : decode cX13_constant 113 = .ok (.land, 1) := by decide +kernel
theorem V.dX13_constant_114 : decode cX13_constant 114 = .ok (.lreturn, 1) := by decide +kernel
theorem V.dX13_constant_115 : decode cX13_constant 115 = .ok (.aload_n 3, 1) := by decide +kernel
theorem V.dX13_constant_116 : decode cX13_constant 116 = .ok (.getfield 300, 3) := by decide +kernel
theorem V.dX13_constant_119 : decode cX13_constant 119 = .ok (.lreturn, 1) := by decide +kernel
theorem V.mdX13_286 : MD RX13 286 yX12_go cX12_go 2 none 1 := ⟨Or.inl q2310, q372, q1574, by decide, by decide, by decide +kernel⟩
theorem V.mdX13_289 : MD RX13 289 yX12_next cX12_next 4 none 0 := ⟨Or.inl q2311, q372, q1611, by decide, by decide, by decide +kernel⟩
theorem V.fdX13_292 : FD RX13 292 12 3 0 := ⟨(RX12, TX12, 8), tyX12, rfl, rfl, in_X12, by decide, Or.inr ⟨_, q886⟩, rfl⟩
theorem V.fdX13_66 : FD RX13 66 13 13 2 := ⟨(RX13, TX13, 27), tyX13, rfl, rfl, in_X13, by decide, Or.inl q1038, rfl⟩
theorem V.fdX13_295 : FD RX13 295 12 4 0 := ⟨(RX12, TX12, 8), tyX12, rfl, rfl, in_X12, by decide, Or.inr ⟨_, q889⟩, rfl⟩
theorem V.fdX13_300 : FD RX13 300 12 6 1 := ⟨(RX12, TX12, 8), tyX12, rfl, rfl, in_X12, by decide, Or.inr ⟨_, q893⟩, rfl⟩
/-! ModuleEngine$Store.constant(II)J -/
def V.Sto_constant (σ : HS) (x0 : Nat) (x1 : Int32) (x2 : Int32) : Option (Int64 × HS) :=
  ck (tg σ x0 = 14) <|
  ck (tg σ x0 = 14) <|
  ck (tg σ (gR σ x0 14) = 100 ∧ inb x1 (ln σ (gR σ x0 14))) <|
  ck (tg σ (gR σ x0 25) = 106 ∧ inb (gI σ (gR σ x0 14) (ix x1)) (ln σ (gR σ x0 25))) <|
  bn (gR σ (gR σ x0 25) (ix (gI σ (gR σ x0 14) (ix x1)))) fun y1 =>
  ck (tg σ y1 = 13) <| cl (Wlk_go σ y1 x2) fun _ σ2 =>
  ck (tg σ2 y1 = 13) <| cl (Wlk_next σ2 y1 ) fun _ σ3 =>
  ck (tg σ3 y1 = 13) <|
  bn (gI σ3 y1 3) fun y4 =>
  swx y4 [
    (35, (
      ck (tg σ3 x0 = 14) <|
      ck (tg σ3 x0 = 14) <|
      ck (tg σ3 (gR σ3 x0 18) = 104 ∧ inb x1 (ln σ3 (gR σ3 x0 18))) <|
      ck (tg σ3 y1 = 13) <|
      ck (tg σ3 (gR σ3 (gR σ3 x0 18) (ix x1)) = 4) <| cl (Row_at σ3 (gR σ3 (gR σ3 x0 18) (ix x1)) (gI σ3 y1 4)) fun r6 σ5 =>
      ck (tg σ5 (gR σ3 x0 13) = 101 ∧ inb r6 (ln σ5 (gR σ3 x0 13))) <|
      some (gJ σ5 (gR σ3 x0 13) (ix r6), σ5))),
    (65, (
      ck (tg σ3 y1 = 13) <|
      some ((gJ σ3 y1 6) &&& (4294967295 : Int64), σ3))),
    (208, (
      some ((-1 : Int64), σ3))),
    (210, (
      ck (tg σ3 x0 = 14) <|
      ck (tg σ3 (gR σ3 x0 15) = 104 ∧ inb x1 (ln σ3 (gR σ3 x0 15))) <|
      ck (tg σ3 y1 = 13) <|
      ck (tg σ3 (gR σ3 (gR σ3 x0 15) (ix x1)) = 4) <| cl (Row_at σ3 (gR σ3 (gR σ3 x0 15) (ix x1)) (gI σ3 y1 4)) fun r8 σ7 =>
      some (r8.toInt64, σ7)))
    ] (
    ck (tg σ3 y1 = 13) <|
    some (gJ σ3 y1 6, σ3))
theorem V.ctX13_constant (x0 : Nat) (x1 : Int32) (x2 : Int32) : Ct yX13_constant  cX13_constant 4 (some .long) 5 109 eJ [av x0, iv x1, iv x2] (fun σ => Sto_constant σ x0 x1 x2) := by
  refine Ct.of (own := RX13) (nm := "constant") (desc := "(II)J") rfl (by decide) (Nat.le_of_ble_eq_true rfl) (by decide) (fun X σ => ?_)
  show G X RX13 "constant" cX13_constant 4 (some .long) 5 109 enJ 0 [(0, av x0), (1, iv x1), (2, iv x2)] [] σ (Sto_constant σ x0 x1 x2)
  unfold Sto_constant
  refine g_aload_n 0 0 dX13_constant_0 rfl rfl ?_
  refine g_getR fdX13_100 dX13_constant_1 ?_
  refine g_aload_n 0 0 dX13_constant_4 rfl rfl ?_
  refine g_getR fdX13_70 dX13_constant_5 ?_
  refine g_iload_n 1 1 dX13_constant_8 rfl rfl ?_
  refine g_iaload dX13_constant_9 ?_
  refine g_aaload 6 rfl dX13_constant_10 ?_
  refine g_nmA (fun y1 => ?_)
  refine g_astore_n 3 dX13_constant_11 rfl (by decide) rfl ?_
  refine g_aload_n 3 0 dX13_constant_12 rfl rfl ?_
  refine g_iload_n 2 3 dX13_constant_13 rfl rfl ?_
  refine g_callV (fc := fun sς => Wlk_go sς y1 x2) (ci := 12) (as := [iv x2]) rfl rfl rfl q1572 q1573 mdX13_286 (ctX12_go y1 x2) rfl (Nat.le_of_ble_eq_true rfl) (Nat.le_of_ble_eq_true rfl) (Nat.le_of_ble_eq_true rfl) pu_V dX13_constant_14 (fun _ σ2 => ?_)
  refine g_aload_n 3 0 dX13_constant_17 rfl rfl ?_
  refine g_callV (fc := fun sς => Wlk_next sς y1 ) (ci := 12) (as := []) rfl rfl rfl q1609 q1610 mdX13_289 (ctX12_next y1 ) rfl (Nat.le_of_ble_eq_true rfl) (Nat.le_of_ble_eq_true rfl) (Nat.le_of_ble_eq_true rfl) pu_V dX13_constant_18 (fun _ σ3 => ?_)
  refine g_aload_n 3 0 dX13_constant_21 rfl rfl ?_
  refine g_getI fdX13_292 dX13_constant_22 ?_
  refine g_nmI (fun y4 => ?_)
  refine g_lsw dX13_constant_25 (by decide +kernel) ?_
  refine g_case ex0 (t := 68) (by decide +kernel) ?_ (fun hx => ?_)
  · refine g_aload_n 0 1 dX13_constant_68 rfl rfl ?_
    refine g_getR fdX13_66 dX13_constant_69 ?_
    refine g_aload_n 0 1 dX13_constant_72 rfl rfl ?_
    refine g_getR fdX13_83 dX13_constant_73 ?_
    refine g_iload_n 1 2 dX13_constant_76 rfl rfl ?_
    refine g_aaload 4 rfl dX13_constant_77 ?_
    refine g_aload_n 3 0 dX13_constant_78 rfl rfl ?_
    refine g_getI fdX13_295 dX13_constant_79 ?_
    refine g_callV (fc := fun sς => Row_at sς (gR σ3 (gR σ3 x0 18) (ix x1)) (gI σ3 y1 4)) (ci := 3) (as := [iv (gI σ3 y1 4)]) rfl rfl rfl q1409 q1410 mdX13_111 (ctX3_at (gR σ3 (gR σ3 x0 18) (ix x1)) (gI σ3 y1 4)) rfl (Nat.le_of_ble_eq_true rfl) (Nat.le_of_ble_eq_true rfl) (Nat.le_of_ble_eq_true rfl) pu_I dX13_constant_82 (fun r6 σ5 => ?_)
    refine g_laload dX13_constant_85 ?_
    exact g_lreturn rfl dX13_constant_86
  refine g_case hx (t := 106) (by decide +kernel) ?_ (fun hx => ?_)
  · refine g_aload_n 3 0 dX13_constant_106 rfl rfl ?_
    refine g_getJ fdX13_300 dX13_constant_107 ?_
    refine g_ldc2 q2281 dX13_constant_110 ?_
    refine g_land dX13_constant_113 ?_
    exact g_lreturn rfl dX13_constant_114
  refine g_case hx (t := 87) (by decide +kernel) ?_ (fun hx => ?_)
  · refine g_ldc2 q2312 dX13_constant_87 ?_
    exact g_lreturn rfl dX13_constant_90
  refine g_case hx (t := 91) (by decide +kernel) ?_ (fun hx => ?_)
  · refine g_aload_n 0 1 dX13_constant_91 rfl rfl ?_
    refine g_getR fdX13_73 dX13_constant_92 ?_
    refine g_iload_n 1 2 dX13_constant_95 rfl rfl ?_
    refine g_aaload 4 rfl dX13_constant_96 ?_
    refine g_aload_n 3 0 dX13_constant_97 rfl rfl ?_
    refine g_getI fdX13_295 dX13_constant_98 ?_
    refine g_callV (fc := fun sς => Row_at sς (gR σ3 (gR σ3 x0 15) (ix x1)) (gI σ3 y1 4)) (ci := 3) (as := [iv (gI σ3 y1 4)]) rfl rfl rfl q1409 q1410 mdX13_111 (ctX3_at (gR σ3 (gR σ3 x0 15) (ix x1)) (gI σ3 y1 4)) rfl (Nat.le_of_ble_eq_true rfl) (Nat.le_of_ble_eq_true rfl) (Nat.le_of_ble_eq_true rfl) pu_I dX13_constant_101 (fun r8 σ7 => ?_)
    refine g_i2l dX13_constant_104 ?_
    exact g_lreturn rfl dX13_constant_105
  refine g_dflt (t := 115) (lswT_d (by decide +kernel) hx) ?_
  refine g_aload_n 3 0 dX13_constant_115 rfl rfl ?_
  refine g_getJ fdX13_300 dX13_constant_116 ?_
  exact g_lreturn rfl dX13_constant_119
theorem V.dX13_addElement_0 : decode cX13_addElement 0 = .ok (.aload_n 2, 1) := by decide +kernel
theorem V.dX13_addElement_1 : decode cX13_addElement 1 = .ok (.getfield 213, 3) := by decide +kernel
theorem V.dX13_addElement_4 : decode cX13_addElement 4 = .ok (.astore 4, 2) := by decide +kernel
theorem V.dX13_addElement_6 : decode cX13_addElement 6 = .ok (.aload_n 0, 1) := by decide +kernel
theorem V.dX13_addElement_7 : decode cX13_addElement 7 = .ok (.getfield 86, 3) := by decide +kernel
theorem V.dX13_addElement_10 : decode cX13_addElement 10 = .ok (.iload_n 1, 1) := by decide +kernel
theorem V.dX13_addElement_11 : decode cX13_addElement 11 = .ok (.aaload, 1) := by decide +kernel
theorem V.dX13_addElement_12 : decode cX13_addElement 12 = .ok (.aload_n 0, 1) := by decide +kernel
theorem V.dX13_addElement_13 : decode cX13_addElement 13 = .ok (.getfield 239, 3) := by decide +kernel
theorem V.dX13_addElement_16 : decode cX13_addElement 16 = .ok (.invokevirtual 148, 3) := by decide +kernel
theorem V.dX13_addElement_19 : decode cX13_addElement 19 = .ok (.aload_n 0, 1) := by decide +kernel
theorem V.dX13_addElement_20 : decode cX13_addElement 20 = .ok (.getfield 89, 3) := by decide +kernel
theorem V.dX13_addElement_23 : decode cX13_addElement 23 = .ok (.iload_n 1, 1) := by decide +kernel
theorem V.dX13_addElement_24 : decode cX13_addElement 24 = .ok (.aaload, 1) := by decide +kernel
theorem V.dX13_addElement_25 : decode cX13_addElement 25 = .ok (.aload 4, 2) := by decide +kernel
theorem V.dX13_addElement_27 : decode cX13_addElement 27 = .ok (.iload_n 3, 1) := by decide +kernel
theorem V.dX13_addElement_28 : decode cX13_addElement 28 = .ok (.iconst 3, 1) := by decide +kernel
theorem V.dX13_addElement_29 : decode cX13_addElement 29 = .ok (.iadd, 1) := by decide +kernel
theorem V.dX13_addElement_30 : decode cX13_addElement 30 = .ok (.invokevirtual 111, 3) := by decide +kernel
theorem V.dX13_addElement_33 : decode cX13_addElement 33 = .ok (.invokevirtual 148, 3) := by decide +kernel
theorem V.dX13_addElement_36 : decode cX13_addElement 36 = .ok (.iconst 0, 1) := by decide +kernel
theorem V.dX13_addElement_37 : decode cX13_addElement 37 = .ok (.istore 5, 2) := by decide +kernel
theorem V.dX13_addElement_39 : decode cX13_addElement 39 = .ok (.iload 5, 2) := by decide +kernel
theorem V.dX13_addElement_41 : decode cX13_addElement 41 = .ok (.aload 4, 2) := by decide +kernel
theorem V.dX13_addElement_43 : decode cX13_addElement 43 = .ok (.iload_n 3, 1) := by decide +kernel
theorem V.dX13_addElement_44 : decode cX13_addElement 44 = .ok (.iconst 3, 1) := by decide +kernel
theorem V.dX13_addElement_45 : decode cX13_addElement 45 = .ok (.iadd, 1) := by decide +kernel
theorem V.dX13_addElement_46 : decode cX13_addElement 46 = .ok (.invokevirtual 111, 3) := by decide +kernel
theorem V.dX13_addElement_49 : decode cX13_addElement 49 = .ok (.if_icmp .ge 95, 3) := by decide +kernel
theorem V.dX13_addElement_52 : decode cX13_addElement 52 = .ok (.aload 4, 2) := by decide +kernel
theorem V.dX13_addElement_54 : decode cX13_addElement 54 = .ok (.iload_n 3, 1) := by decide +kernel
theorem V.dX13_addElement_55 : decode cX13_addElement 55 = .ok (.bipush 7, 2) := by decide +kernel
theorem V.dX13_addElement_57 : decode cX13_addElement 57 = .ok (.iadd, 1) := by decide +kernel
theorem V.dX13_addElement_58 : decode cX13_addElement 58 = .ok (.invokevirtual 111, 3) := by decide +kernel
theorem V.dX13_addElement_61 : decode cX13_addElement 61 = .ok (.istore 6, 2) := by decide +kernel
theorem V.dX13_addElement_63 : decode cX13_addElement 63 = .ok (.aload_n 0, 1) := by decide +kernel
theorem V.dX13_addElement_64 : decode cX13_addElement 64 = .ok (.getfield 95, 3) := by decide +kernel
theorem V.dX13_addElement_67 : decode cX13_addElement 67 = .ok (.aload_n 0, 1) := by decide +kernel
theorem V.dX13_addElement_68 : decode cX13_addElement 68 = .ok (.getfield 239, 3) := by decide +kernel
theorem V.dX13_addElement_71 : decode cX13_addElement 71 = .ok (.aload 4, 2) := by decide +kernel
theorem V.dX13_addElement_73 : decode cX13_addElement 73 = .ok (.iload_n 3, 1) := by decide +kernel
theorem V.dX13_addElement_74 : decode cX13_addElement 74 = .ok (.bipush 6, 2) := by decide +kernel
theorem V.dX13_addElement_76 : decode cX13_addElement 76 = .ok (.iadd, 1) := by decide +kernel
theorem V.dX13_addElement_77 : decode cX13_addElement 77 = .ok (.invokevirtual 111, 3) := by decide +kernel
theorem V.dX13_addElement_80 : decode cX13_addElement 80 = .ok (.ifCond .ne 27, 3) := by decide +kernel
theorem V.dX13_addElement_83 : decode cX13_addElement 83 = .ok (.aload_n 0, 1) := by decide +kernel
theorem V.dX13_addElement_84 : decode cX13_addElement 84 = .ok (.getfield 73, 3) := by decide +kernel
theorem V.dX13_addElement_87 : decode cX13_addElement 87 = .ok (.iload_n 1, 1) := by decide +kernel
theorem V.dX13_addElement_88 : decode cX13_addElement 88 = .ok (.aaload, 1) := by decide +kernel
theorem V.dX13_addElement_89 : decode cX13_addElement 89 = .ok (.aload_n 2, 1) := by decide +kernel
theorem V.dX13_addElement_90 : decode cX13_addElement 90 = .ok (.getfield 304, 3) := by decide +kernel
theorem V.dX13_addElement_93 : decode cX13_addElement 93 = .ok (.iload 6, 2) := by decide +kernel
theorem V.dX13_addElement_95 : decode cX13_addElement 95 = .ok (.iload 5, 2) := by decide +kernel
theorem V.dX13_addElement_97 : decode cX13_addElement 97 = .ok (.iadd, 1) := by decide +kernel
theorem V.dX13_addElement_98 : decode cX13_addElement 98 = .ok (.invokevirtual 111, 3) := by decide +kernel
theorem V.dX13_addElement_101 : decode cX13_addElement 101 = .ok (.invokevirtual 111, 3) := by decide +kernel
theorem V.dX13_addElement_104 : decode cX13_addElement 104 = .ok (.goto 23, 3) := by decide +kernel
theorem V.dX13_addElement_107 : decode cX13_addElement 107 = .ok (.aload_n 0, 1) := by decide +kernel
theorem V.dX13_addElement_108 : decode cX13_addElement 108 = .ok (.iload_n 1, 1) := by decide +kernel
theorem V.dX13_addElement_109 : decode cX13_addElement 109 = .ok (.aload_n 2, 1) := by decide +kernel
theorem V.dX13_addElement_110 : decode cX13_addElement 110 = .ok (.getfield 304, 3) := by decide +kernel
theorem V.dX13_addElement_113 : decode cX13_addElement 113 = .ok (.iload 6, 2) := by decide +kernel
theorem V.dX13_addElement_115 : decode cX13_addElement 115 = .ok (.iconst 2, 1) := by decide +kernel
theorem V.dX13_addElement_116 : decode cX13_addElement 116 = .ok (.iload 5, 2) := by decide +kernel
theorem V.dX13_addElement_118 : decode cX13_addElement 118 = .ok (.imul, 1) := by decide +kernel
theorem V.dX13_addElement_119 : decode cX13_addElement 119 = .ok (.iadd, 1) := by decide +kernel
theorem V.dX13_addElement_120 : decode cX13_addElement 120 = .ok (.invokevirtual 111, 3) := by decide +kernel
theorem V.dX13_addElement_123 : decode cX13_addElement 123 = .ok (.invokevirtual 266, 3) := by decide +kernel
theorem V.dX13_addElement_126 : decode cX13_addElement 126 = .ok (.l2i, 1) := by decide +kernel
theorem V.dX13_addElement_127 : decode cX13_addElement 127 = .ok (.iastore, 1) := by decide +kernel
theorem V.dX13_addElement_128 : decode cX13_addElement 128 = .ok (.aload_n 0, 1) := by decide +kernel
theorem V.dX13_addElement_129 : decode cX13_addElement 129 = .ok (.dup, 1) := by decide +kernel
theorem V.dX13_addElement_130 : decode cX13_addElement 130 = .ok (.getfield 239, 3) := by decide +kernel
theorem V.dX13_addElement_133 : decode cX13_addElement 133 = .ok (.iconst 1, 1) := by decide +kernel
theorem V.dX13_addElement_134 : decode cX13_addElement 134 = .ok (.iadd, 1) := by decide +kernel
theorem V.dX13_addElement_135 : decode cX13_addElement 135 = .ok (.putfield 239, 3) := by decide +kernel
theorem V.dX13_addElement_138 : decode cX13_addElement 138 = .ok (.iinc 5 1, 3) := by decide +kernel
theorem V.dX13_addElement_141 : decode cX13_addElement 141 = .ok (.goto (-102), 3) := by decide +kernel
theorem V.dX13_addElement_144 : decode cX13_addElement 144 = .ok (.return_, 1) := by decide +kernel
theorem V.fdX13_86 : FD RX13 86 13 19 2 := ⟨(RX13, TX13, 27), tyX13, rfl, rfl, in_X13, by decide, Or.inl q1050, rfl⟩
theorem V.fdX13_89 : FD RX13 89 13 20 2 := ⟨(RX13, TX13, 27), tyX13, rfl, rfl, in_X13, by decide, Or.inl q1051, rfl⟩
theorem V.fdX13_95 : FD RX13 95 13 23 2 := ⟨(RX13, TX13, 27), tyX13, rfl, rfl, in_X13, by decide, Or.inl q1055, rfl⟩
theorem V.fdX13_304 : FD RX13 304 2 10 2 := ⟨(RX2, TX2, 21), tyX2, rfl, rfl, in_X2, by decide, Or.inr ⟨_, q462⟩, rfl⟩
theorem V.mdX13_266 : MD RX13 266 yX13_constant cX13_constant 4 (some .long) 2 := ⟨Or.inl q2306, q373, q2309, by decide, by decide, by decide +kernel⟩
theorem V.fpX13_239 {nm : String} : FP RX13 nm 239 13 24 (.int) := ⟨(RX13, TX13, 27), tyX13, rfl, rfl, in_X13, by decide, tyX13_ok, nmX13, rfl, Or.inl ⟨rfl, Or.inl q1056⟩⟩
/-! ModuleEngine$Store.addElement(ILModuleEngine$Module;I)V -/
def V.Sto_addElement_p127 (rec39 : HS → Nat → Int32 → Nat → Int32 → Nat → Int32 → Option (Unit × HS)) (σ : HS) (x0 : Nat) (x1 : Int32) (x2 : Nat) (x3 : Int32) (x4 : Nat) (x5 : Int32) (s0 : Int32) (s1 : Int32) (s2 : Nat) : Option (Unit × HS) :=
  ck (tg σ s2 = 100 ∧ inb s1 (ln σ s2)) <| bn (sI σ s2 (ix s1) s0) fun σ1 =>
  ck (tg σ1 x0 = 14) <|
  ck (tg σ1 x0 = 14) <| bn (sI σ1 x0 24 ((gI σ1 x0 24) + (1 : Int32))) fun σ2 =>
  bn (x5 + (1 : Int32)) fun y3 =>
  rec39 σ2 x0 x1 x2 x3 x4 y3
theorem V.gX13_addElement_p127 {X : CX} (rec39 : HS → Nat → Int32 → Nat → Int32 → Nat → Int32 → Option (Unit × HS)) (hrec39 : ∀ (σ : HS) (x0 : Nat) (x1 : Int32) (x2 : Nat) (x3 : Int32) (x4 : Nat) (x5 : Int32), G X RX13 "addElement" cX13_addElement 7 none 6 132 enV 39 [(0, av x0), (1, iv x1), (2, av x2), (3, iv x3), (4, av x4), (5, iv x5)] [] σ (rec39 σ x0 x1 x2 x3 x4 x5)) (σ : HS) (x0 : Nat) (x1 : Int32) (x2 : Nat) (x3 : Int32) (x4 : Nat) (x5 : Int32) (s0 : Int32) (s1 : Int32) (s2 : Nat) : G X RX13 "addElement" cX13_addElement 7 none 6 132 enV 127 [(0, av x0), (1, iv x1), (2, av x2), (3, iv x3), (4, av x4), (5, iv x5)] [iv s0, iv s1, av s2] σ (Sto_addElement_p127 rec39 σ x0 x1 x2 x3 x4 x5 s0 s1 s2) := by
  unfold Sto_addElement_p127
  refine g_iastore dX13_addElement_127 (fun σ1 => ?_)
  refine g_aload_n 0 0 dX13_addElement_128 rfl rfl ?_
  refine g_dup dX13_addElement_129 rfl ?_
  refine g_getI fdX13_239 dX13_addElement_130 ?_
  refine g_iconst (v := 1) dX13_addElement_133 (by decide) ?_
  refine g_iadd dX13_addElement_134 ?_
  refine g_putI fpX13_239 dX13_addElement_135 (fun σ2 => ?_)
  refine g_iincB (w := 1) 5 dX13_addElement_138 rfl (by decide) (by decide) (fun _ => rfl) (fun y3 => ?_)
  refine g_goto 39 dX13_addElement_141 (by decide) ?_
  refine G.sub [1, 2, 3, 4, 5, 0] rfl ?_
  exact hrec39 _ _ _ _ _ _ _
def V.Sto_addElement_p39  : Nat → HS → Nat → Int32 → Nat → Int32 → Nat → Int32 → Option (Unit × HS)
  | 0, _, _, _, _, _, _, _ => none
  | n + 1, σ, x0, x1, x2, x3, x4, x5 =>
    ck (tg σ x4 = 4) <| cl (Row_at σ x4 (x3 + (3 : Int32))) fun r2 σ1 =>
    if r2 ≤ x5 then (
      some ((), σ1))
    else (
      ck (tg σ1 x4 = 4) <| cl (Row_at σ1 x4 (x3 + (7 : Int32))) fun r4 σ3 =>
      ck (tg σ3 x0 = 14) <|
      ck (tg σ3 x0 = 14) <|
      ck (tg σ3 x4 = 4) <| cl (Row_at σ3 x4 (x3 + (6 : Int32))) fun r6 σ5 =>
      if r6 = 0 then (
        ck (tg σ5 x0 = 14) <|
        ck (tg σ5 (gR σ5 x0 15) = 104 ∧ inb x1 (ln σ5 (gR σ5 x0 15))) <|
        ck (tg σ5 x2 = 3) <|
        ck (tg σ5 (gR σ5 x2 10) = 4) <| cl (Row_at σ5 (gR σ5 x2 10) (r4 + x5)) fun r12 σ11 =>
        ck (tg σ11 (gR σ5 (gR σ5 x0 15) (ix x1)) = 4) <| cl (Row_at σ11 (gR σ5 (gR σ5 x0 15) (ix x1)) r12) fun r14 σ13 =>
        Sto_addElement_p127 (Sto_addElement_p39 n) σ13 x0 x1 x2 x3 x4 x5 r14 (gI σ3 x0 24) (gR σ3 x0 23))
      else (
        ck (tg σ5 x2 = 3) <|
        ck (tg σ5 (gR σ5 x2 10) = 4) <| cl (Row_at σ5 (gR σ5 x2 10) (r4 + ((2 : Int32) * x5))) fun r8 σ7 =>
        ck (tg σ7 x0 = 14) <| cl (Sto_constant σ7 x0 x1 r8) fun r10 σ9 =>
        Sto_addElement_p127 (Sto_addElement_p39 n) σ9 x0 x1 x2 x3 x4 x5 r10.toInt32 (gI σ3 x0 24) (gR σ3 x0 23)))
theorem V.gX13_addElement_p39 {X : CX}  : ∀ (n : Nat) (σ : HS) (x0 : Nat) (x1 : Int32) (x2 : Nat) (x3 : Int32) (x4 : Nat) (x5 : Int32), G X RX13 "addElement" cX13_addElement 7 none 6 132 enV 39 [(0, av x0), (1, iv x1), (2, av x2), (3, iv x3), (4, av x4), (5, iv x5)] [] σ (Sto_addElement_p39 n σ x0 x1 x2 x3 x4 x5)
  | 0, σ, x0, x1, x2, x3, x4, x5 => by rw [Sto_addElement_p39]; exact G.nul
  | n + 1, σ, x0, x1, x2, x3, x4, x5 => by
    rw [Sto_addElement_p39]
    refine g_iload 5 dX13_addElement_39 rfl ?_
    refine g_aload 4 dX13_addElement_41 rfl ?_
    refine g_iload_n 3 3 dX13_addElement_43 rfl rfl ?_
    refine g_iconst (v := 3) dX13_addElement_44 (by decide) ?_
    refine g_iadd dX13_addElement_45 ?_
    refine g_callV (fc := fun sς => Row_at sς x4 (x3 + (3 : Int32))) (ci := 3) (as := [iv (x3 + (3 : Int32))]) rfl rfl rfl q1409 q1410 mdX13_111 (ctX3_at x4 (x3 + (3 : Int32))) rfl (Nat.le_of_ble_eq_true rfl) (Nat.le_of_ble_eq_true rfl) (Nat.le_of_ble_eq_true rfl) pu_I dX13_addElement_46 (fun r2 σ1 => ?_)
    refine g_icmp_ge 144 dX13_addElement_49 (by decide) ?_ ?_
    · exact g_return rfl dX13_addElement_144
    · refine g_aload 4 dX13_addElement_52 rfl ?_
      refine g_iload_n 3 3 dX13_addElement_54 rfl rfl ?_
      refine g_bipush (v := 7) dX13_addElement_55 (by decide) ?_
      refine g_iadd dX13_addElement_57 ?_
      refine g_callV (fc := fun sς => Row_at sς x4 (x3 + (7 : Int32))) (ci := 3) (as := [iv (x3 + (7 : Int32))]) rfl rfl rfl q1409 q1410 mdX13_111 (ctX3_at x4 (x3 + (7 : Int32))) rfl (Nat.le_of_ble_eq_true rfl) (Nat.le_of_ble_eq_true rfl) (Nat.le_of_ble_eq_true rfl) pu_I dX13_addElement_58 (fun r4 σ3 => ?_)
      refine g_istore dX13_addElement_61 (by decide) rfl ?_
      refine g_aload_n 0 1 dX13_addElement_63 rfl rfl ?_
      refine g_getR fdX13_95 dX13_addElement_64 ?_
      refine g_aload_n 0 1 dX13_addElement_67 rfl rfl ?_
      refine g_getI fdX13_239 dX13_addElement_68 ?_
      refine g_aload 5 dX13_addElement_71 rfl ?_
      refine g_iload_n 3 4 dX13_addElement_73 rfl rfl ?_
      refine g_bipush (v := 6) dX13_addElement_74 (by decide) ?_
      refine g_iadd dX13_addElement_76 ?_
      refine g_callV (fc := fun sς => Row_at sς x4 (x3 + (6 : Int32))) (ci := 3) (as := [iv (x3 + (6 : Int32))]) rfl rfl rfl q1409 q1410 mdX13_111 (ctX3_at x4 (x3 + (6 : Int32))) rfl (Nat.le_of_ble_eq_true rfl) (Nat.le_of_ble_eq_true rfl) (Nat.le_of_ble_eq_true rfl) pu_I dX13_addElement_77 (fun r6 σ5 => ?_)
      refine g_if_ne 107 dX13_addElement_80 (by decide) ?_ ?_
      · refine g_aload_n 0 1 dX13_addElement_107 rfl rfl ?_
        refine g_iload_n 1 2 dX13_addElement_108 rfl rfl ?_
        refine g_aload_n 2 3 dX13_addElement_109 rfl rfl ?_
        refine g_getR fdX13_304 dX13_addElement_110 ?_
        refine g_iload 0 dX13_addElement_113 rfl ?_
        refine g_iconst (v := 2) dX13_addElement_115 (by decide) ?_
        refine g_iload 6 dX13_addElement_116 rfl ?_
        refine g_imul dX13_addElement_118 ?_
        refine g_iadd dX13_addElement_119 ?_
        refine g_callV (fc := fun sς => Row_at sς (gR σ5 x2 10) (r4 + ((2 : Int32) * x5))) (ci := 3) (as := [iv (r4 + ((2 : Int32) * x5))]) rfl rfl rfl q1409 q1410 mdX13_111 (ctX3_at (gR σ5 x2 10) (r4 + ((2 : Int32) * x5))) rfl (Nat.le_of_ble_eq_true rfl) (Nat.le_of_ble_eq_true rfl) (Nat.le_of_ble_eq_true rfl) pu_I dX13_addElement_120 (fun r8 σ7 => ?_)
        refine g_callV (fc := fun sς => Sto_constant sς x0 x1 r8) (ci := 13) (as := [iv x1, iv r8]) rfl rfl rfl q2308 qs138 mdX13_266 (ctX13_constant x0 x1 r8) rfl (Nat.le_of_ble_eq_true rfl) (Nat.le_of_ble_eq_true rfl) (Nat.le_of_ble_eq_true rfl) pu_J dX13_addElement_123 (fun r10 σ9 => ?_)
        refine g_l2i dX13_addElement_126 ?_
        refine G.sub [1, 2, 3, 4, 5, 6] rfl ?_
        exact gX13_addElement_p127 (Sto_addElement_p39 n) (gX13_addElement_p39 n) _ _ _ _ _ _ _ _ _ _
      · refine g_aload_n 0 1 dX13_addElement_83 rfl rfl ?_
        refine g_getR fdX13_73 dX13_addElement_84 ?_
        refine g_iload_n 1 2 dX13_addElement_87 rfl rfl ?_
        refine g_aaload 4 rfl dX13_addElement_88 ?_
        refine g_aload_n 2 3 dX13_addElement_89 rfl rfl ?_
        refine g_getR fdX13_304 dX13_addElement_90 ?_
        refine g_iload 0 dX13_addElement_93 rfl ?_
        refine g_iload 6 dX13_addElement_95 rfl ?_
        refine g_iadd dX13_addElement_97 ?_
        refine g_callV (fc := fun sς => Row_at sς (gR σ5 x2 10) (r4 + x5)) (ci := 3) (as := [iv (r4 + x5)]) rfl rfl rfl q1409 q1410 mdX13_111 (ctX3_at (gR σ5 x2 10) (r4 + x5)) rfl (Nat.le_of_ble_eq_true rfl) (Nat.le_of_ble_eq_true rfl) (Nat.le_of_ble_eq_true rfl) pu_I dX13_addElement_98 (fun r12 σ11 => ?_)
        refine g_callV (fc := fun sς => Row_at sς (gR σ5 (gR σ5 x0 15) (ix x1)) r12) (ci := 3) (as := [iv r12]) rfl rfl rfl q1409 q1410 mdX13_111 (ctX3_at (gR σ5 (gR σ5 x0 15) (ix x1)) r12) rfl (Nat.le_of_ble_eq_true rfl) (Nat.le_of_ble_eq_true rfl) (Nat.le_of_ble_eq_true rfl) pu_I dX13_addElement_101 (fun r14 σ13 => ?_)
        refine g_goto 127 dX13_addElement_104 (by decide) ?_
        refine G.sub [1, 2, 3, 4, 5, 6] rfl ?_
        exact gX13_addElement_p127 (Sto_addElement_p39 n) (gX13_addElement_p39 n) _ _ _ _ _ _ _ _ _ _
def V.Sto_addElement (σ : HS) (x0 : Nat) (x1 : Int32) (x2 : Nat) (x3 : Int32) : Option (Unit × HS) :=
  ck (tg σ x2 = 3) <|
  bn (gR σ x2 9) fun y1 =>
  ck (tg σ x0 = 14) <|
  ck (tg σ (gR σ x0 19) = 104 ∧ inb x1 (ln σ (gR σ x0 19))) <|
  ck (tg σ x0 = 14) <|
  ck (tg σ (gR σ (gR σ x0 19) (ix x1)) = 4) <| cl (Row_add σ (gR σ (gR σ x0 19) (ix x1)) (gI σ x0 24)) fun _ σ2 =>
  ck (tg σ2 x0 = 14) <|
  ck (tg σ2 (gR σ2 x0 20) = 104 ∧ inb x1 (ln σ2 (gR σ2 x0 20))) <|
  ck (tg σ2 y1 = 4) <| cl (Row_at σ2 y1 (x3 + (3 : Int32))) fun r4 σ3 =>
  ck (tg σ3 (gR σ2 (gR σ2 x0 20) (ix x1)) = 4) <| cl (Row_add σ3 (gR σ2 (gR σ2 x0 20) (ix x1)) r4) fun _ σ5 =>
  Sto_addElement_p39 FU σ5 x0 x1 x2 x3 y1 (0 : Int32)
theorem V.ctX13_addElement (x0 : Nat) (x1 : Int32) (x2 : Nat) (x3 : Int32) : Ct yX13_addElement  cX13_addElement 7 none 6 132 eV [av x0, iv x1, av x2, iv x3] (fun σ => Sto_addElement σ x0 x1 x2 x3) := by
  refine Ct.of (own := RX13) (nm := "addElement") (desc := "(ILModuleEngine$Module;I)V") rfl (by decide) (Nat.le_of_ble_eq_true rfl) (by decide) (fun X σ => ?_)
  show G X RX13 "addElement" cX13_addElement 7 none 6 132 enV 0 [(0, av x0), (1, iv x1), (2, av x2), (3, iv x3)] [] σ (Sto_addElement σ x0 x1 x2 x3)
  unfold Sto_addElement
  refine g_aload_n 2 2 dX13_addElement_0 rfl rfl ?_
  refine g_getR fdX13_213 dX13_addElement_1 ?_
  refine g_nmA (fun y1 => ?_)
  refine g_astore dX13_addElement_4 (by decide) rfl ?_
  refine g_aload_n 0 1 dX13_addElement_6 rfl rfl ?_
  refine g_getR fdX13_86 dX13_addElement_7 ?_
  refine g_iload_n 1 2 dX13_addElement_10 rfl rfl ?_
  refine g_aaload 4 rfl dX13_addElement_11 ?_
  refine g_aload_n 0 1 dX13_addElement_12 rfl rfl ?_
  refine g_getI fdX13_239 dX13_addElement_13 ?_
  refine g_callV (fc := fun sς => Row_add sς (gR σ (gR σ x0 19) (ix x1)) (gI σ x0 24)) (ci := 3) (as := [iv (gI σ x0 24)]) rfl rfl rfl q1405 q1406 mdX13_148 (ctX3_add (gR σ (gR σ x0 19) (ix x1)) (gI σ x0 24)) rfl (Nat.le_of_ble_eq_true rfl) (Nat.le_of_ble_eq_true rfl) (Nat.le_of_ble_eq_true rfl) pu_V dX13_addElement_16 (fun _ σ2 => ?_)
  refine g_aload_n 0 1 dX13_addElement_19 rfl rfl ?_
  refine g_getR fdX13_89 dX13_addElement_20 ?_
  refine g_iload_n 1 2 dX13_addElement_23 rfl rfl ?_
  refine g_aaload 4 rfl dX13_addElement_24 ?_
  refine g_aload 0 dX13_addElement_25 rfl ?_
  refine g_iload_n 3 4 dX13_addElement_27 rfl rfl ?_
  refine g_iconst (v := 3) dX13_addElement_28 (by decide) ?_
  refine g_iadd dX13_addElement_29 ?_
  refine g_callV (fc := fun sς => Row_at sς y1 (x3 + (3 : Int32))) (ci := 3) (as := [iv (x3 + (3 : Int32))]) rfl rfl rfl q1409 q1410 mdX13_111 (ctX3_at y1 (x3 + (3 : Int32))) rfl (Nat.le_of_ble_eq_true rfl) (Nat.le_of_ble_eq_true rfl) (Nat.le_of_ble_eq_true rfl) pu_I dX13_addElement_30 (fun r4 σ3 => ?_)
  refine g_callV (fc := fun sς => Row_add sς (gR σ2 (gR σ2 x0 20) (ix x1)) r4) (ci := 3) (as := [iv r4]) rfl rfl rfl q1405 q1406 mdX13_148 (ctX3_add (gR σ2 (gR σ2 x0 20) (ix x1)) r4) rfl (Nat.le_of_ble_eq_true rfl) (Nat.le_of_ble_eq_true rfl) (Nat.le_of_ble_eq_true rfl) pu_V dX13_addElement_33 (fun _ σ5 => ?_)
  refine g_iconst (v := 0) dX13_addElement_36 (by decide) ?_
  refine g_istore dX13_addElement_37 (by decide) rfl ?_
  refine G.sub [2, 3, 4, 5, 1, 0] rfl ?_
  exact gX13_addElement_p39 FU _ _ _ _ _ _ _
theorem V.dX13_build_0 : decode cX13_build 0 = .ok (.aload_n 0, 1) := by decide +kernel
theorem V.dX13_build_1 : decode cX13_build 1 = .ok (.getfield 115, 3) := by decide +kernel
theorem V.dX13_build_4 : decode cX13_build 4 = .ok (.istore 4, 2) := by decide +kernel
theorem V.dX13_build_6 : decode cX13_build 6 = .ok (.aload_n 0, 1) := by decide +kernel
theorem V.dX13_build_7 : decode cX13_build 7 = .ok (.dup, 1) := by decide +kernel
theorem V.dX13_build_8 : decode cX13_build 8 = .ok (.getfield 115, 3) := by decide +kernel
theorem V.dX13_build_11 : decode cX13_build 11 = .ok (.iconst 1, 1) := by decide +kernel
theorem V.dX13_build_12 : decode cX13_build 12 = .ok (.iadd, 1) := by decide +kernel
theorem V.dX13_build_13 : decode cX13_build 13 = .ok (.putfield 115, 3) := by decide +kernel
theorem V.dX13_build_16 : decode cX13_build 16 = .ok (.aload_n 0, 1) := by decide +kernel
theorem V.dX13_build_17 : decode cX13_build 17 = .ok (.getfield 70, 3) := by decide +kernel
theorem V.dX13_build_20 : decode cX13_build 20 = .ok (.iload 4, 2) := by decide +kernel
theorem V.dX13_build_22 : decode cX13_build 22 = .ok (.iload_n 2, 1) := by decide +kernel
theorem V.dX13_build_23 : decode cX13_build 23 = .ok (.iastore, 1) := by decide +kernel
theorem V.dX13_build_24 : decode cX13_build 24 = .ok (.aload_n 0, 1) := by decide +kernel
theorem V.dX13_build_25 : decode cX13_build 25 = .ok (.getfield 73, 3) := by decide +kernel
theorem V.dX13_build_28 : decode cX13_build 28 = .ok (.iload 4, 2) := by decide +kernel
theorem V.dX13_build_30 : decode cX13_build 30 = .ok (.new 19, 3) := by decide +kernel
theorem V.dX13_build_33 : decode cX13_build 33 = .ok (.dup, 1) := by decide +kernel
theorem V.dX13_build_34 : decode cX13_build 34 = .ok (.invokespecial 21, 3) := by decide +kernel
theorem V.dX13_build_37 : decode cX13_build 37 = .ok (.aastore, 1) := by decide +kernel
theorem V.dX13_build_38 : decode cX13_build 38 = .ok (.aload_n 0, 1) := by decide +kernel
theorem V.dX13_build_39 : decode cX13_build 39 = .ok (.getfield 77, 3) := by decide +kernel
theorem V.dX13_build_42 : decode cX13_build 42 = .ok (.iload 4, 2) := by decide +kernel
theorem V.dX13_build_44 : decode cX13_build 44 = .ok (.new 19, 3) := by decide +kernel
theorem V.dX13_build_47 : decode cX13_build 47 = .ok (.dup, 1) := by decide +kernel
theorem V.dX13_build_48 : decode cX13_build 48 = .ok (.invokespecial 21, 3) := by decide +kernel
theorem V.dX13_build_51 : decode cX13_build 51 = .ok (.aastore, 1) := by decide +kernel
theorem V.dX13_build_52 : decode cX13_build 52 = .ok (.aload_n 0, 1) := by decide +kernel
theorem V.dX13_build_53 : decode cX13_build 53 = .ok (.getfield 80, 3) := by decide +kernel
theorem V.dX13_build_56 : decode cX13_build 56 = .ok (.iload 4, 2) := by decide +kernel
theorem V.dX13_build_58 : decode cX13_build 58 = .ok (.new 19, 3) := by decide +kernel
theorem V.dX13_build_61 : decode cX13_build 61 = .ok (.dup, 1) := by decide +kernel
theorem V.dX13_build_62 : decode cX13_build 62 = .ok (.invokespecial 21, 3) := by decide +kernel
theorem V.dX13_build_65 : decode cX13_build 65 = .ok (.aastore, 1) := by decide +kernel
theorem V.dX13_build_66 : decode cX13_build 66 = .ok (.aload_n 0, 1) := by decide +kernel
theorem V.dX13_build_67 : decode cX13_build 67 = .ok (.getfield 83, 3) := by decide +kernel
theorem V.dX13_build_70 : decode cX13_build 70 = .ok (.iload 4, 2) := by decide +kernel
theorem V.dX13_build_72 : decode cX13_build 72 = .ok (.new 19, 3) := by decide +kernel
theorem V.dX13_build_75 : decode cX13_build 75 = .ok (.dup, 1) := by decide +kernel
theorem V.dX13_build_76 : decode cX13_build 76 = .ok (.invokespecial 21, 3) := by decide +kernel
theorem V.dX13_build_79 : decode cX13_build 79 = .ok (.aastore, 1) := by decide +kernel
theorem V.dX13_build_80 : decode cX13_build 80 = .ok (.aload_n 0, 1) := by decide +kernel
theorem V.dX13_build_81 : decode cX13_build 81 = .ok (.getfield 86, 3) := by decide +kernel
theorem V.dX13_build_84 : decode cX13_build 84 = .ok (.iload 4, 2) := by decide +kernel
theorem V.dX13_build_86 : decode cX13_build 86 = .ok (.new 19, 3) := by decide +kernel
theorem V.dX13_build_89 : decode cX13_build 89 = .ok (.dup, 1) := by decide +kernel
theorem V.dX13_build_90 : decode cX13_build 90 = .ok (.invokespecial 21, 3) := by decide +kernel
theorem V.dX13_build_93 : decode cX13_build 93 = .ok (.aastore, 1) := by decide +kernel
theorem V.dX13_build_94 : decode cX13_build 94 = .ok (.aload_n 0, 1) := by decide +kernel
theorem V.dX13_build_95 : decode cX13_build 95 = .ok (.getfield 89, 3) := by decide +kernel
theorem V.dX13_build_98 : decode cX13_build 98 = .ok (.iload 4, 2) := by decide +kernel
theorem V.dX13_build_100 : decode cX13_build 100 = .ok (.new 19, 3) := by decide +kernel
theorem V.dX13_build_103 : decode cX13_build 103 = .ok (.dup, 1) := by decide +kernel
theorem V.dX13_build_104 : decode cX13_build 104 = .ok (.invokespecial 21, 3) := by decide +kernel
theorem V.dX13_build_107 : decode cX13_build 107 = .ok (.aastore, 1) := by decide +kernel
theorem V.dX13_build_108 : decode cX13_build 108 = .ok (.aload_n 0, 1) := by decide +kernel
theorem V.dX13_build_109 : decode cX13_build 109 = .ok (.getfield 92, 3) := by decide +kernel
theorem V.dX13_build_112 : decode cX13_build 112 = .ok (.iload 4, 2) := by decide +kernel
theorem V.dX13_build_114 : decode cX13_build 114 = .ok (.new 19, 3) := by decide +kernel
theorem V.dX13_build_117 : decode cX13_build 117 = .ok (.dup, 1) := by decide +kernel
theorem V.dX13_build_118 : decode cX13_build 118 = .ok (.invokespecial 21, 3) := by decide +kernel
theorem V.dX13_build_121 : decode cX13_build 121 = .ok (.aastore, 1) := by decide +kernel
theorem V.dX13_build_122 : decode cX13_build 122 = .ok (.iconst 0, 1) := by decide +kernel
theorem V.dX13_build_123 : decode cX13_build 123 = .ok (.istore 5, 2) := by decide +kernel
theorem V.dX13_build_125 : decode cX13_build 125 = .ok (.iload 5, 2) := by decide +kernel
theorem V.dX13_build_127 : decode cX13_build 127 = .ok (.iload_n 3, 1) := by decide +kernel
theorem V.dX13_build_128 : decode cX13_build 128 = .ok (.if_icmp .ge 135, 3) := by decide +kernel
theorem V.dX13_build_131 : decode cX13_build 131 = .ok (.aload_n 1, 1) := by decide +kernel
theorem V.dX13_build_132 : decode cX13_build 132 = .ok (.iload 5, 2) := by decide +kernel
theorem V.dX13_build_134 : decode cX13_build 134 = .ok (.iconst 0, 1) := by decide +kernel
theorem V.dX13_build_135 : decode cX13_build 135 = .ok (.invokestatic 178, 3) := by decide +kernel
theorem V.dX13_build_138 : decode cX13_build 138 = .ok (.istore 6, 2) := by decide +kernel
theorem V.dX13_build_140 : decode cX13_build 140 = .ok (.aload_n 0, 1) := by decide +kernel
theorem V.dX13_build_141 : decode cX13_build 141 = .ok (.getfield 104, 3) := by decide +kernel
theorem V.dX13_build_144 : decode cX13_build 144 = .ok (.iconst 2, 1) := by decide +kernel
theorem V.dX13_build_145 : decode cX13_build 145 = .ok (.iload 5, 2) := by decide +kernel
theorem V.dX13_build_147 : decode cX13_build 147 = .ok (.imul, 1) := by decide +kernel
theorem V.dX13_build_148 : decode cX13_build 148 = .ok (.invokevirtual 111, 3) := by decide +kernel
theorem V.dX13_build_151 : decode cX13_build 151 = .ok (.ifCond .ge 32, 3) := by decide +kernel
theorem V.dX13_build_154 : decode cX13_build 154 = .ok (.aload_n 0, 1) := by decide +kernel
theorem V.dX13_build_155 : decode cX13_build 155 = .ok (.iload_n 2, 1) := by decide +kernel
theorem V.dX13_build_156 : decode cX13_build 156 = .ok (.aload_n 1, 1) := by decide +kernel
theorem V.dX13_build_157 : decode cX13_build 157 = .ok (.iload 5, 2) := by decide +kernel
theorem V.dX13_build_159 : decode cX13_build 159 = .ok (.iconst 1, 1) := by decide +kernel
theorem V.dX13_build_160 : decode cX13_build 160 = .ok (.invokestatic 178, 3) := by decide +kernel
theorem V.dX13_build_163 : decode cX13_build 163 = .ok (.iconst (-1), 1) := by decide +kernel
theorem V.dX13_build_164 : decode cX13_build 164 = .ok (.aload_n 0, 1) := by decide +kernel
theorem V.dX13_build_165 : decode cX13_build 165 = .ok (.getfield 104, 3) := by decide +kernel
theorem V.dX13_build_168 : decode cX13_build 168 = .ok (.iconst 2, 1) := by decide +kernel
theorem V.dX13_build_169 : decode cX13_build 169 = .ok (.iload 5, 2) := by decide +kernel
theorem V.dX13_build_171 : decode cX13_build 171 = .ok (.imul, 1) := by decide +kernel
theorem V.dX13_build_172 : decode cX13_build 172 = .ok (.iconst 1, 1) := by decide +kernel
theorem V.dX13_build_173 : decode cX13_build 173 = .ok (.iadd, 1) := by decide +kernel
theorem V.dX13_build_174 : decode cX13_build 174 = .ok (.invokevirtual 111, 3) := by decide +kernel
theorem V.dX13_build_177 : decode cX13_build 177 = .ok (.invokevirtual 255, 3) := by decide +kernel
theorem V.dX13_build_180 : decode cX13_build 180 = .ok (.goto 16, 3) := by decide +kernel
theorem V.dX13_build_183 : decode cX13_build 183 = .ok (.aload_n 0, 1) := by decide +kernel
theorem V.dX13_build_184 : decode cX13_build 184 = .ok (.getfield 104, 3) := by decide +kernel
theorem V.dX13_build_187 : decode cX13_build 187 = .ok (.iconst 2, 1) := by decide +kernel
theorem V.dX13_build_188 : decode cX13_build 188 = .ok (.iload 5, 2) := by decide +kernel
theorem V.dX13_build_190 : decode cX13_build 190 = .ok (.imul, 1) := by decide +kernel
theorem V.dX13_build_191 : decode cX13_build 191 = .ok (.iconst 1, 1) := by decide +kernel
theorem V.dX13_build_192 : decode cX13_build 192 = .ok (.iadd, 1) := by decide +kernel
theorem V.dX13_build_193 : decode cX13_build 193 = .ok (.invokevirtual 111, 3) := by decide +kernel
theorem V.dX13_build_196 : decode cX13_build 196 = .ok (.istore 7, 2) := by decide +kernel
theorem V.dX13_build_198 : decode cX13_build 198 = .ok (.iload 6, 2) := by decide +kernel
theorem V.dX13_build_200 : decode cX13_build 200 = .ok (.ifCond .ne 13, 3) := by decide +kernel
theorem V.dX13_build_203 : decode cX13_build 203 = .ok (.aload_n 0, 1) := by decide +kernel
theorem V.dX13_build_204 : decode cX13_build 204 = .ok (.getfield 73, 3) := by decide +kernel
theorem V.dX13_build_207 : decode cX13_build 207 = .ok (.iload 4, 2) := by decide +kernel
theorem V.dX13_build_209 : decode cX13_build 209 = .ok (.aaload, 1) := by decide +kernel
theorem V.dX13_build_210 : decode cX13_build 210 = .ok (.goto 42, 3) := by decide +kernel
theorem V.dX13_build_213 : decode cX13_build 213 = .ok (.iload 6, 2) := by decide +kernel
theorem V.dX13_build_215 : decode cX13_build 215 = .ok (.iconst 1, 1) := by decide +kernel
theorem V.dX13_build_216 : decode cX13_build 216 = .ok (.if_icmp .ne 13, 3) := by decide +kernel
theorem V.dX13_build_219 : decode cX13_build 219 = .ok (.aload_n 0, 1) := by decide +kernel
theorem V.dX13_build_220 : decode cX13_build 220 = .ok (.getfield 77, 3) := by decide +kernel
theorem V.dX13_build_223 : decode cX13_build 223 = .ok (.iload 4, 2) := by decide +kernel
theorem V.dX13_build_225 : decode cX13_build 225 = .ok (.aaload, 1) := by decide +kernel
theorem V.dX13_build_226 : decode cX13_build 226 = .ok (.goto 26, 3) := by decide +kernel
theorem V.dX13_build_229 : decode cX13_build 229 = .ok (.iload 6, 2) := by decide +kernel
theorem V.dX13_build_231 : decode cX13_build 231 = .ok (.iconst 2, 1) := by decide +kernel
theorem V.dX13_build_232 : decode cX13_build 232 = .ok (.if_icmp .ne 13, 3) := by decide +kernel
theorem V.dX13_build_235 : decode cX13_build 235 = .ok (.aload_n 0, 1) := by decide +kernel
theorem V.dX13_build_236 : decode cX13_build 236 = .ok (.getfield 80, 3) := by decide +kernel
theorem V.dX13_build_239 : decode cX13_build 239 = .ok (.iload 4, 2) := by decide +kernel
theorem V.dX13_build_241 : decode cX13_build 241 = .ok (.aaload, 1) := by decide +kernel
theorem V.dX13_build_242 : decode cX13_build 242 = .ok (.goto 10, 3) := by decide +kernel
theorem V.dX13_build_245 : decode cX13_build 245 = .ok (.aload_n 0, 1) := by decide +kernel
theorem V.dX13_build_246 : decode cX13_build 246 = .ok (.getfield 83, 3) := by decide +kernel
theorem V.dX13_build_249 : decode cX13_build 249 = .ok (.iload 4, 2) := by decide +kernel
theorem V.dX13_build_251 : decode cX13_build 251 = .ok (.aaload, 1) := by decide +kernel
theorem V.dX13_build_252 : decode cX13_build 252 = .ok (.iload 7, 2) := by decide +kernel
theorem V.dX13_build_254 : decode cX13_build 254 = .ok (.invokevirtual 148, 3) := by decide +kernel
theorem V.dX13_build_257 : decode cX13_build 257 = .ok (.iinc 5 1, 3) := by decide +kernel
theorem V.dX13_build_260 : decode cX13_build 260 = .ok (.goto (-135), 3) := by decide +kernel
theorem V.dX13_build_263 : decode cX13_build 263 = .ok (.iconst 0, 1) := by decide +kernel
theorem V.dX13_build_264 : decode cX13_build 264 = .ok (.istore 5, 2) := by decide +kernel
theorem V.dX13_build_266 : decode cX13_build 266 = .ok (.iload 5, 2) := by decide +kernel
theorem V.dX13_build_268 : decode cX13_build 268 = .ok (.aload_n 1, 1) := by decide +kernel
theorem V.dX13_build_269 : decode cX13_build 269 = .ok (.getfield 219, 3) := by decide +kernel
theorem V.dX13_build_272 : decode cX13_build 272 = .ok (.invokevirtual 107, 3) := by decide +kernel
theorem V.dX13_build_275 : decode cX13_build 275 = .ok (.if_icmp .ge 44, 3) := by decide +kernel
theorem V.dX13_build_278 : decode cX13_build 278 = .ok (.aload_n 0, 1) := by decide +kernel
theorem V.dX13_build_279 : decode cX13_build 279 = .ok (.getfield 73, 3) := by decide +kernel
theorem V.dX13_build_282 : decode cX13_build 282 = .ok (.iload 4, 2) := by decide +kernel
theorem V.dX13_build_284 : decode cX13_build 284 = .ok (.aaload, 1) := by decide +kernel
theorem V.dX13_build_285 : decode cX13_build 285 = .ok (.aload_n 0, 1) := by decide +kernel
theorem V.dX13_build_286 : decode cX13_build 286 = .ok (.iload_n 2, 1) := by decide +kernel
theorem V.dX13_build_287 : decode cX13_build 287 = .ok (.aload_n 1, 1) := by decide +kernel
theorem V.dX13_build_288 : decode cX13_build 288 = .ok (.getfield 219, 3) := by decide +kernel
theorem V.dX13_build_291 : decode cX13_build 291 = .ok (.iload 5, 2) := by decide +kernel
theorem V.dX13_build_293 : decode cX13_build 293 = .ok (.invokevirtual 111, 3) := by decide +kernel
theorem V.dX13_build_296 : decode cX13_build 296 = .ok (.iload 4, 2) := by decide +kernel
theorem V.dX13_build_298 : decode cX13_build 298 = .ok (.aload_n 0, 1) := by decide +kernel
theorem V.dX13_build_299 : decode cX13_build 299 = .ok (.getfield 15, 3) := by decide +kernel
theorem V.dX13_build_302 : decode cX13_build 302 = .ok (.iload_n 2, 1) := by decide +kernel
theorem V.dX13_build_303 : decode cX13_build 303 = .ok (.iaload, 1) := by decide +kernel
theorem V.dX13_build_304 : decode cX13_build 304 = .ok (.iload 5, 2) := by decide +kernel
theorem V.dX13_build_306 : decode cX13_build 306 = .ok (.iadd, 1) := by decide +kernel
theorem V.dX13_build_307 : decode cX13_build 307 = .ok (.invokevirtual 255, 3) := by decide +kernel
theorem V.dX13_build_310 : decode cX13_build 310 = .ok (.invokevirtual 148, 3) := by decide +kernel
theorem V.dX13_build_313 : decode cX13_build 313 = .ok (.iinc 5 1, 3) := by decide +kernel
theorem V.dX13_build_316 : decode cX13_build 316 = .ok (.goto (-50), 3) := by decide +kernel
theorem V.dX13_build_319 : decode cX13_build 319 = .ok (.iconst 0, 1) := by decide +kernel
theorem V.dX13_build_320 : decode cX13_build 320 = .ok (.istore 5, 2) := by decide +kernel
theorem V.dX13_build_322 : decode cX13_build 322 = .ok (.iload 5, 2) := by decide +kernel
theorem V.dX13_build_324 : decode cX13_build 324 = .ok (.aload_n 1, 1) := by decide +kernel
theorem V.dX13_build_325 : decode cX13_build 325 = .ok (.getfield 224, 3) := by decide +kernel
theorem V.dX13_build_328 : decode cX13_build 328 = .ok (.invokevirtual 107, 3) := by decide +kernel
theorem V.dX13_build_331 : decode cX13_build 331 = .ok (.if_icmp .ge 21, 3) := by decide +kernel
theorem V.dX13_build_334 : decode cX13_build 334 = .ok (.aload_n 0, 1) := by decide +kernel
theorem V.dX13_build_335 : decode cX13_build 335 = .ok (.iload 4, 2) := by decide +kernel
theorem V.dX13_build_337 : decode cX13_build 337 = .ok (.aload_n 1, 1) := by decide +kernel
theorem V.dX13_build_338 : decode cX13_build 338 = .ok (.getfield 224, 3) := by decide +kernel
theorem V.dX13_build_341 : decode cX13_build 341 = .ok (.iload 5, 2) := by decide +kernel
theorem V.dX13_build_343 : decode cX13_build 343 = .ok (.invokevirtual 259, 3) := by decide +kernel
theorem V.dX13_build_346 : decode cX13_build 346 = .ok (.iinc 5 4, 3) := by decide +kernel
theorem V.dX13_build_349 : decode cX13_build 349 = .ok (.goto (-27), 3) := by decide +kernel
theorem V.dX13_build_352 : decode cX13_build 352 = .ok (.iconst 0, 1) := by decide +kernel
theorem V.dX13_build_353 : decode cX13_build 353 = .ok (.istore 5, 2) := by decide +kernel
theorem V.dX13_build_355 : decode cX13_build 355 = .ok (.iload 5, 2) := by decide +kernel
theorem V.dX13_build_357 : decode cX13_build 357 = .ok (.aload_n 1, 1) := by decide +kernel
theorem V.dX13_build_358 : decode cX13_build 358 = .ok (.getfield 227, 3) := by decide +kernel
theorem V.dX13_build_361 : decode cX13_build 361 = .ok (.invokevirtual 107, 3) := by decide +kernel
theorem V.dX13_build_364 : decode cX13_build 364 = .ok (.if_icmp .ge 21, 3) := by decide +kernel
theorem V.dX13_build_367 : decode cX13_build 367 = .ok (.aload_n 0, 1) := by decide +kernel
theorem V.dX13_build_368 : decode cX13_build 368 = .ok (.iload 4, 2) := by decide +kernel
theorem V.dX13_build_370 : decode cX13_build 370 = .ok (.aload_n 1, 1) := by decide +kernel
theorem V.dX13_build_371 : decode cX13_build 371 = .ok (.getfield 227, 3) := by decide +kernel
theorem V.dX13_build_374 : decode cX13_build 374 = .ok (.iload 5, 2) := by decide +kernel
theorem V.dX13_build_376 : decode cX13_build 376 = .ok (.invokevirtual 263, 3) := by decide +kernel
theorem V.dX13_build_379 : decode cX13_build 379 = .ok (.iinc 5 4, 3) := by decide +kernel
theorem V.dX13_build_382 : decode cX13_build 382 = .ok (.goto (-27), 3) := by decide +kernel
theorem V.dX13_build_385 : decode cX13_build 385 = .ok (.iconst 0, 1) := by decide +kernel
theorem V.dX13_build_386 : decode cX13_build 386 = .ok (.istore 5, 2) := by decide +kernel
theorem V.dX13_build_388 : decode cX13_build 388 = .ok (.iload 5, 2) := by decide +kernel
theorem V.dX13_build_390 : decode cX13_build 390 = .ok (.aload_n 1, 1) := by decide +kernel
theorem V.dX13_build_391 : decode cX13_build 391 = .ok (.getfield 229, 3) := by decide +kernel
theorem V.dX13_build_394 : decode cX13_build 394 = .ok (.invokevirtual 107, 3) := by decide +kernel
theorem V.dX13_build_397 : decode cX13_build 397 = .ok (.if_icmp .ge 89, 3) := by decide +kernel
theorem V.dX13_build_400 : decode cX13_build 400 = .ok (.aload_n 0, 1) := by decide +kernel
theorem V.dX13_build_401 : decode cX13_build 401 = .ok (.getfield 66, 3) := by decide +kernel
theorem V.dX13_build_404 : decode cX13_build 404 = .ok (.aload_n 0, 1) := by decide +kernel
theorem V.dX13_build_405 : decode cX13_build 405 = .ok (.getfield 60, 3) := by decide +kernel
theorem V.dX13_build_408 : decode cX13_build 408 = .ok (.invokevirtual 107, 3) := by decide +kernel
theorem V.dX13_build_411 : decode cX13_build 411 = .ok (.aload_n 0, 1) := by decide +kernel
theorem V.dX13_build_412 : decode cX13_build 412 = .ok (.iload 4, 2) := by decide +kernel
theorem V.dX13_build_414 : decode cX13_build 414 = .ok (.aload_n 1, 1) := by decide +kernel
theorem V.dX13_build_415 : decode cX13_build 415 = .ok (.getfield 229, 3) := by decide +kernel
theorem V.dX13_build_418 : decode cX13_build 418 = .ok (.iload 5, 2) := by decide +kernel
theorem V.dX13_build_420 : decode cX13_build 420 = .ok (.iconst 2, 1) := by decide +kernel
theorem V.dX13_build_421 : decode cX13_build 421 = .ok (.iadd, 1) := by decide +kernel
theorem V.dX13_build_422 : decode cX13_build 422 = .ok (.invokevirtual 111, 3) := by decide +kernel
theorem V.dX13_build_425 : decode cX13_build 425 = .ok (.invokevirtual 266, 3) := by decide +kernel
theorem V.dX13_build_428 : decode cX13_build 428 = .ok (.lastore, 1) := by decide +kernel
theorem V.dX13_build_429 : decode cX13_build 429 = .ok (.aload_n 0, 1) := by decide +kernel
theorem V.dX13_build_430 : decode cX13_build 430 = .ok (.getfield 83, 3) := by decide +kernel
theorem V.dX13_build_433 : decode cX13_build 433 = .ok (.iload 4, 2) := by decide +kernel
theorem V.dX13_build_435 : decode cX13_build 435 = .ok (.aaload, 1) := by decide +kernel
theorem V.dX13_build_436 : decode cX13_build 436 = .ok (.aload_n 0, 1) := by decide +kernel
theorem V.dX13_build_437 : decode cX13_build 437 = .ok (.getfield 60, 3) := by decide +kernel
theorem V.dX13_build_440 : decode cX13_build 440 = .ok (.invokevirtual 107, 3) := by decide +kernel
theorem V.dX13_build_443 : decode cX13_build 443 = .ok (.invokevirtual 148, 3) := by decide +kernel
theorem V.dX13_build_446 : decode cX13_build 446 = .ok (.aload_n 0, 1) := by decide +kernel
theorem V.dX13_build_447 : decode cX13_build 447 = .ok (.getfield 60, 3) := by decide +kernel
theorem V.dX13_build_450 : decode cX13_build 450 = .ok (.aload_n 1, 1) := by decide +kernel
theorem V.dX13_build_451 : decode cX13_build 451 = .ok (.getfield 229, 3) := by decide +kernel
theorem V.dX13_build_454 : decode cX13_build 454 = .ok (.iload 5, 2) := by decide +kernel
theorem V.dX13_build_456 : decode cX13_build 456 = .ok (.invokevirtual 111, 3) := by decide +kernel
theorem V.dX13_build_459 : decode cX13_build 459 = .ok (.invokevirtual 148, 3) := by decide +kernel
theorem V.dX13_build_462 : decode cX13_build 462 = .ok (.aload_n 0, 1) := by decide +kernel
theorem V.dX13_build_463 : decode cX13_build 463 = .ok (.getfield 63, 3) := by decide +kernel
theorem V.dX13_build_466 : decode cX13_build 466 = .ok (.aload_n 1, 1) := by decide +kernel
theorem V.dX13_build_467 : decode cX13_build 467 = .ok (.getfield 229, 3) := by decide +kernel
theorem V.dX13_build_470 : decode cX13_build 470 = .ok (.iload 5, 2) := by decide +kernel
theorem V.dX13_build_472 : decode cX13_build 472 = .ok (.iconst 1, 1) := by decide +kernel
theorem V.dX13_build_473 : decode cX13_build 473 = .ok (.iadd, 1) := by decide +kernel
theorem V.dX13_build_474 : decode cX13_build 474 = .ok (.invokevirtual 111, 3) := by decide +kernel
theorem V.dX13_build_477 : decode cX13_build 477 = .ok (.invokevirtual 148, 3) := by decide +kernel
theorem V.dX13_build_480 : decode cX13_build 480 = .ok (.iinc 5 4, 3) := by decide +kernel
theorem V.dX13_build_483 : decode cX13_build 483 = .ok (.goto (-95), 3) := by decide +kernel
theorem V.dX13_build_486 : decode cX13_build 486 = .ok (.iconst 0, 1) := by decide +kernel
theorem V.dX13_build_487 : decode cX13_build 487 = .ok (.istore 5, 2) := by decide +kernel
theorem V.dX13_build_489 : decode cX13_build 489 = .ok (.iload 5, 2) := by decide +kernel
theorem V.dX13_build_491 : decode cX13_build 491 = .ok (.aload_n 1, 1) := by decide +kernel
theorem V.dX13_build_492 : decode cX13_build 492 = .ok (.getfield 213, 3) := by decide +kernel
theorem V.dX13_build_495 : decode cX13_build 495 = .ok (.invokevirtual 107, 3) := by decide +kernel
theorem V.dX13_build_498 : decode cX13_build 498 = .ok (.if_icmp .ge 18, 3) := by decide +kernel
theorem V.dX13_build_501 : decode cX13_build 501 = .ok (.aload_n 0, 1) := by decide +kernel
theorem V.dX13_build_502 : decode cX13_build 502 = .ok (.iload 4, 2) := by decide +kernel
theorem V.dX13_build_504 : decode cX13_build 504 = .ok (.aload_n 1, 1) := by decide +kernel
theorem V.dX13_build_505 : decode cX13_build 505 = .ok (.iload 5, 2) := by decide +kernel
theorem V.dX13_build_507 : decode cX13_build 507 = .ok (.invokevirtual 270, 3) := by decide +kernel
theorem V.dX13_build_510 : decode cX13_build 510 = .ok (.iinc 5 8, 3) := by decide +kernel
theorem V.dX13_build_513 : decode cX13_build 513 = .ok (.goto (-24), 3) := by decide +kernel
theorem V.dX13_build_516 : decode cX13_build 516 = .ok (.iconst 0, 1) := by decide +kernel
theorem V.dX13_build_517 : decode cX13_build 517 = .ok (.istore 5, 2) := by decide +kernel
theorem V.dX13_build_519 : decode cX13_build 519 = .ok (.iload 5, 2) := by decide +kernel
theorem V.dX13_build_521 : decode cX13_build 521 = .ok (.aload_n 1, 1) := by decide +kernel
theorem V.dX13_build_522 : decode cX13_build 522 = .ok (.getfield 274, 3) := by decide +kernel
theorem V.dX13_build_525 : decode cX13_build 525 = .ok (.invokevirtual 107, 3) := by decide +kernel
theorem V.dX13_build_528 : decode cX13_build 528 = .ok (.if_icmp .ge 20, 3) := by decide +kernel
theorem V.dX13_build_531 : decode cX13_build 531 = .ok (.aload_n 0, 1) := by decide +kernel
theorem V.dX13_build_532 : decode cX13_build 532 = .ok (.getfield 92, 3) := by decide +kernel
theorem V.dX13_build_535 : decode cX13_build 535 = .ok (.iload 4, 2) := by decide +kernel
theorem V.dX13_build_537 : decode cX13_build 537 = .ok (.aaload, 1) := by decide +kernel
theorem V.dX13_build_538 : decode cX13_build 538 = .ok (.iconst 0, 1) := by decide +kernel
theorem V.dX13_build_539 : decode cX13_build 539 = .ok (.invokevirtual 148, 3) := by decide +kernel
theorem V.dX13_build_542 : decode cX13_build 542 = .ok (.iinc 5 6, 3) := by decide +kernel
theorem V.dX13_build_545 : decode cX13_build 545 = .ok (.goto (-26), 3) := by decide +kernel
theorem V.dX13_build_548 : decode cX13_build 548 = .ok (.iload 4, 2) := by decide +kernel
theorem V.dX13_build_550 : decode cX13_build 550 = .ok (.ireturn, 1) := by decide +kernel
theorem V.fpX13_115 {nm : String} : FP RX13 nm 115 13 22 (.int) := ⟨(RX13, TX13, 27), tyX13, rfl, rfl, in_X13, by decide, tyX13_ok, nmX13, rfl, Or.inl ⟨rfl, Or.inl q1053⟩⟩
theorem V.fdX13_92 : FD RX13 92 13 21 2 := ⟨(RX13, TX13, 27), tyX13, rfl, rfl, in_X13, by decide, Or.inl q1052, rfl⟩
theorem V.mdX13_255 : MD RX13 255 yX13_addFunction cX13_addFunction 5 (some .int) 4 := ⟨Or.inl q2273, q373, q2276, by decide, by decide, by decide +kernel⟩
theorem V.mdX13_259 : MD RX13 259 yX13_addTable cX13_addTable 5 none 3 := ⟨Or.inl q2277, q373, q2280, by decide, by decide, by decide +kernel⟩
theorem V.mdX13_263 : MD RX13 263 yX13_addMemory cX13_addMemory 5 none 3 := ⟨Or.inl q2291, q373, q2294, by decide, by decide, by decide +kernel⟩
theorem V.mdX13_270 : MD RX13 270 yX13_addElement cX13_addElement 7 none 3 := ⟨Or.inl q2313, q373, q2316, by decide, by decide, by decide +kernel⟩
theorem V.fdX13_274 : FD RX13 274 2 13 2 := ⟨(RX2, TX2, 21), tyX2, rfl, rfl, in_X2, by decide, Or.inr ⟨_, q474⟩, rfl⟩
/-! ModuleEngine$Store.build(LModuleEngine$Module;II)I -/
def V.Sto_build_p519  : Nat → HS → Nat → Nat → Int32 → Int32 → Option (Int32 × HS)
  | 0, _, _, _, _, _ => none
  | n + 1, σ, x0, x1, x4, x5 =>
    ck (tg σ x1 = 3) <|
    ck (tg σ (gR σ x1 13) = 4) <| cl (Row_size σ (gR σ x1 13) ) fun r2 σ1 =>
    if r2 ≤ x5 then (
      some (x4, σ1))
    else (
      ck (tg σ1 x0 = 14) <|
      ck (tg σ1 (gR σ1 x0 21) = 104 ∧ inb x4 (ln σ1 (gR σ1 x0 21))) <|
      ck (tg σ1 (gR σ1 (gR σ1 x0 21) (ix x4)) = 4) <| cl (Row_add σ1 (gR σ1 (gR σ1 x0 21) (ix x4)) (0 : Int32)) fun _ σ3 =>
      bn (x5 + (6 : Int32)) fun y4 =>
      Sto_build_p519 n σ3 x0 x1 x4 y4)
theorem V.gX13_build_p519 {X : CX}  : ∀ (n : Nat) (σ : HS) (x0 : Nat) (x1 : Nat) (x4 : Int32) (x5 : Int32), G X RX13 "build" cX13_build 8 (some .int) 7 158 enI 519 [(0, av x0), (1, av x1), (4, iv x4), (5, iv x5)] [] σ (Sto_build_p519 n σ x0 x1 x4 x5)
  | 0, σ, x0, x1, x4, x5 => by rw [Sto_build_p519]; exact G.nul
  | n + 1, σ, x0, x1, x4, x5 => by
    rw [Sto_build_p519]
    refine g_iload 3 dX13_build_519 rfl ?_
    refine g_aload_n 1 1 dX13_build_521 rfl rfl ?_
    refine g_getR fdX13_274 dX13_build_522 ?_
    refine g_callV (fc := fun sς => Row_size sς (gR σ x1 13) ) (ci := 3) (as := []) rfl rfl rfl q1421 q1422 mdX13_107 (ctX3_size (gR σ x1 13) ) rfl (Nat.le_of_ble_eq_true rfl) (Nat.le_of_ble_eq_true rfl) (Nat.le_of_ble_eq_true rfl) pu_I dX13_build_525 (fun r2 σ1 => ?_)
    refine g_icmp_ge 548 dX13_build_528 (by decide) ?_ ?_
    · refine g_iload 2 dX13_build_548 rfl ?_
      exact g_ireturn rfl dX13_build_550
    · refine g_aload_n 0 0 dX13_build_531 rfl rfl ?_
      refine g_getR fdX13_92 dX13_build_532 ?_
      refine g_iload 2 dX13_build_535 rfl ?_
      refine g_aaload 4 rfl dX13_build_537 ?_
      refine g_iconst (v := 0) dX13_build_538 (by decide) ?_
      refine g_callV (fc := fun sς => Row_add sς (gR σ1 (gR σ1 x0 21) (ix x4)) (0 : Int32)) (ci := 3) (as := [iv (0 : Int32)]) rfl rfl rfl q1405 q1406 mdX13_148 (ctX3_add (gR σ1 (gR σ1 x0 21) (ix x4)) (0 : Int32)) rfl (Nat.le_of_ble_eq_true rfl) (Nat.le_of_ble_eq_true rfl) (Nat.le_of_ble_eq_true rfl) pu_V dX13_build_539 (fun _ σ3 => ?_)
      refine g_iincB (w := 6) 3 dX13_build_542 rfl (by decide) (by decide) (fun _ => rfl) (fun y4 => ?_)
      refine g_goto 519 dX13_build_545 (by decide) ?_
      refine G.sub [1, 2, 3, 0] rfl ?_
      exact gX13_build_p519 n _ _ _ _ _
def V.Sto_build_p489  : Nat → HS → Nat → Nat → Int32 → Int32 → Option (Int32 × HS)
  | 0, _, _, _, _, _ => none
  | n + 1, σ, x0, x1, x4, x5 =>
    ck (tg σ x1 = 3) <|
    ck (tg σ (gR σ x1 9) = 4) <| cl (Row_size σ (gR σ x1 9) ) fun r2 σ1 =>
    if r2 ≤ x5 then (
      Sto_build_p519 FU σ1 x0 x1 x4 (0 : Int32))
    else (
      ck (tg σ1 x0 = 14) <| cl (Sto_addElement σ1 x0 x4 x1 x5) fun _ σ3 =>
      bn (x5 + (8 : Int32)) fun y4 =>
      Sto_build_p489 n σ3 x0 x1 x4 y4)
theorem V.gX13_build_p489 {X : CX}  : ∀ (n : Nat) (σ : HS) (x0 : Nat) (x1 : Nat) (x4 : Int32) (x5 : Int32), G X RX13 "build" cX13_build 8 (some .int) 7 158 enI 489 [(0, av x0), (1, av x1), (4, iv x4), (5, iv x5)] [] σ (Sto_build_p489 n σ x0 x1 x4 x5)
  | 0, σ, x0, x1, x4, x5 => by rw [Sto_build_p489]; exact G.nul
  | n + 1, σ, x0, x1, x4, x5 => by
    rw [Sto_build_p489]
    refine g_iload 3 dX13_build_489 rfl ?_
    refine g_aload_n 1 1 dX13_build_491 rfl rfl ?_
    refine g_getR fdX13_213 dX13_build_492 ?_
    refine g_callV (fc := fun sς => Row_size sς (gR σ x1 9) ) (ci := 3) (as := []) rfl rfl rfl q1421 q1422 mdX13_107 (ctX3_size (gR σ x1 9) ) rfl (Nat.le_of_ble_eq_true rfl) (Nat.le_of_ble_eq_true rfl) (Nat.le_of_ble_eq_true rfl) pu_I dX13_build_495 (fun r2 σ1 => ?_)
    refine g_icmp_ge 516 dX13_build_498 (by decide) ?_ ?_
    · refine g_iconst (v := 0) dX13_build_516 (by decide) ?_
      refine g_istore dX13_build_517 (by decide) rfl ?_
      refine G.sub [1, 2, 3, 0] rfl ?_
      exact gX13_build_p519 FU _ _ _ _ _
    · refine g_aload_n 0 0 dX13_build_501 rfl rfl ?_
      refine g_iload 2 dX13_build_502 rfl ?_
      refine g_aload_n 1 1 dX13_build_504 rfl rfl ?_
      refine g_iload 3 dX13_build_505 rfl ?_
      refine g_callV (fc := fun sς => Sto_addElement sς x0 x4 x1 x5) (ci := 13) (as := [iv x4, av x1, iv x5]) rfl rfl rfl q2315 qs139 mdX13_270 (ctX13_addElement x0 x4 x1 x5) rfl (Nat.le_of_ble_eq_true rfl) (Nat.le_of_ble_eq_true rfl) (Nat.le_of_ble_eq_true rfl) pu_V dX13_build_507 (fun _ σ3 => ?_)
      refine g_iincB (w := 8) 3 dX13_build_510 rfl (by decide) (by decide) (fun _ => rfl) (fun y4 => ?_)
      refine g_goto 489 dX13_build_513 (by decide) ?_
      refine G.sub [1, 2, 3, 0] rfl ?_
      exact gX13_build_p489 n _ _ _ _ _
def V.Sto_build_p388  : Nat → HS → Nat → Nat → Int32 → Int32 → Option (Int32 × HS)
  | 0, _, _, _, _, _ => none
  | n + 1, σ, x0, x1, x4, x5 =>
    ck (tg σ x1 = 3) <|
    ck (tg σ (gR σ x1 7) = 4) <| cl (Row_size σ (gR σ x1 7) ) fun r2 σ1 =>
    if r2 ≤ x5 then (
      Sto_build_p489 FU σ1 x0 x1 x4 (0 : Int32))
    else (
      ck (tg σ1 x0 = 14) <|
      ck (tg σ1 x0 = 14) <|
      ck (tg σ1 (gR σ1 x0 11) = 4) <| cl (Row_size σ1 (gR σ1 x0 11) ) fun r4 σ3 =>
      ck (tg σ3 x1 = 3) <|
      ck (tg σ3 (gR σ3 x1 7) = 4) <| cl (Row_at σ3 (gR σ3 x1 7) (x5 + (2 : Int32))) fun r6 σ5 =>
      ck (tg σ5 x0 = 14) <| cl (Sto_constant σ5 x0 x4 r6) fun r8 σ7 =>
      ck (tg σ7 (gR σ1 x0 13) = 101 ∧ inb r4 (ln σ7 (gR σ1 x0 13))) <| bn (sJ σ7 (gR σ1 x0 13) (ix r4) r8) fun σ9 =>
      ck (tg σ9 x0 = 14) <|
      ck (tg σ9 (gR σ9 x0 18) = 104 ∧ inb x4 (ln σ9 (gR σ9 x0 18))) <|
      ck (tg σ9 x0 = 14) <|
      ck (tg σ9 (gR σ9 x0 11) = 4) <| cl (Row_size σ9 (gR σ9 x0 11) ) fun r11 σ10 =>
      ck (tg σ10 (gR σ9 (gR σ9 x0 18) (ix x4)) = 4) <| cl (Row_add σ10 (gR σ9 (gR σ9 x0 18) (ix x4)) r11) fun _ σ12 =>
      ck (tg σ12 x0 = 14) <|
      ck (tg σ12 x1 = 3) <|
      ck (tg σ12 (gR σ12 x1 7) = 4) <| cl (Row_at σ12 (gR σ12 x1 7) x5) fun r14 σ13 =>
      ck (tg σ13 (gR σ12 x0 11) = 4) <| cl (Row_add σ13 (gR σ12 x0 11) r14) fun _ σ15 =>
      ck (tg σ15 x0 = 14) <|
      ck (tg σ15 x1 = 3) <|
      ck (tg σ15 (gR σ15 x1 7) = 4) <| cl (Row_at σ15 (gR σ15 x1 7) (x5 + (1 : Int32))) fun r17 σ16 =>
      ck (tg σ16 (gR σ15 x0 12) = 4) <| cl (Row_add σ16 (gR σ15 x0 12) r17) fun _ σ18 =>
      bn (x5 + (4 : Int32)) fun y19 =>
      Sto_build_p388 n σ18 x0 x1 x4 y19)
theorem V.gX13_build_p388 {X : CX}  : ∀ (n : Nat) (σ : HS) (x0 : Nat) (x1 : Nat) (x4 : Int32) (x5 : Int32), G X RX13 "build" cX13_build 8 (some .int) 7 158 enI 388 [(0, av x0), (1, av x1), (4, iv x4), (5, iv x5)] [] σ (Sto_build_p388 n σ x0 x1 x4 x5)
  | 0, σ, x0, x1, x4, x5 => by rw [Sto_build_p388]; exact G.nul
  | n + 1, σ, x0, x1, x4, x5 => by
    rw [Sto_build_p388]
    refine g_iload 3 dX13_build_388 rfl ?_
    refine g_aload_n 1 1 dX13_build_390 rfl rfl ?_
    refine g_getR fdX13_229 dX13_build_391 ?_
    refine g_callV (fc := fun sς => Row_size sς (gR σ x1 7) ) (ci := 3) (as := []) rfl rfl rfl q1421 q1422 mdX13_107 (ctX3_size (gR σ x1 7) ) rfl (Nat.le_of_ble_eq_true rfl) (Nat.le_of_ble_eq_true rfl) (Nat.le_of_ble_eq_true rfl) pu_I dX13_build_394 (fun r2 σ1 => ?_)
    refine g_icmp_ge 486 dX13_build_397 (by decide) ?_ ?_
    · refine g_iconst (v := 0) dX13_build_486 (by decide) ?_
      refine g_istore dX13_build_487 (by decide) rfl ?_
      refine G.sub [1, 2, 3, 0] rfl ?_
      exact gX13_build_p489 FU _ _ _ _ _
    · refine g_aload_n 0 0 dX13_build_400 rfl rfl ?_
      refine g_getR fdX13_66 dX13_build_401 ?_
      refine g_aload_n 0 0 dX13_build_404 rfl rfl ?_
      refine g_getR fdX13_60 dX13_build_405 ?_
      refine g_callV (fc := fun sς => Row_size sς (gR σ1 x0 11) ) (ci := 3) (as := []) rfl rfl rfl q1421 q1422 mdX13_107 (ctX3_size (gR σ1 x0 11) ) rfl (Nat.le_of_ble_eq_true rfl) (Nat.le_of_ble_eq_true rfl) (Nat.le_of_ble_eq_true rfl) pu_I dX13_build_408 (fun r4 σ3 => ?_)
      refine g_aload_n 0 0 dX13_build_411 rfl rfl ?_
      refine g_iload 2 dX13_build_412 rfl ?_
      refine g_aload_n 1 1 dX13_build_414 rfl rfl ?_
      refine g_getR fdX13_229 dX13_build_415 ?_
      refine g_iload 3 dX13_build_418 rfl ?_
      refine g_iconst (v := 2) dX13_build_420 (by decide) ?_
      refine g_iadd dX13_build_421 ?_
      refine g_callV (fc := fun sς => Row_at sς (gR σ3 x1 7) (x5 + (2 : Int32))) (ci := 3) (as := [iv (x5 + (2 : Int32))]) rfl rfl rfl q1409 q1410 mdX13_111 (ctX3_at (gR σ3 x1 7) (x5 + (2 : Int32))) rfl (Nat.le_of_ble_eq_true rfl) (Nat.le_of_ble_eq_true rfl) (Nat.le_of_ble_eq_true rfl) pu_I dX13_build_422 (fun r6 σ5 => ?_)
      refine g_callV (fc := fun sς => Sto_constant sς x0 x4 r6) (ci := 13) (as := [iv x4, iv r6]) rfl rfl rfl q2308 qs138 mdX13_266 (ctX13_constant x0 x4 r6) rfl (Nat.le_of_ble_eq_true rfl) (Nat.le_of_ble_eq_true rfl) (Nat.le_of_ble_eq_true rfl) pu_J dX13_build_425 (fun r8 σ7 => ?_)
      refine g_lastore dX13_build_428 (fun σ9 => ?_)
      refine g_aload_n 0 0 dX13_build_429 rfl rfl ?_
      refine g_getR fdX13_83 dX13_build_430 ?_
      refine g_iload 2 dX13_build_433 rfl ?_
      refine g_aaload 4 rfl dX13_build_435 ?_
      refine g_aload_n 0 0 dX13_build_436 rfl rfl ?_
      refine g_getR fdX13_60 dX13_build_437 ?_
      refine g_callV (fc := fun sς => Row_size sς (gR σ9 x0 11) ) (ci := 3) (as := []) rfl rfl rfl q1421 q1422 mdX13_107 (ctX3_size (gR σ9 x0 11) ) rfl (Nat.le_of_ble_eq_true rfl) (Nat.le_of_ble_eq_true rfl) (Nat.le_of_ble_eq_true rfl) pu_I dX13_build_440 (fun r11 σ10 => ?_)
      refine g_callV (fc := fun sς => Row_add sς (gR σ9 (gR σ9 x0 18) (ix x4)) r11) (ci := 3) (as := [iv r11]) rfl rfl rfl q1405 q1406 mdX13_148 (ctX3_add (gR σ9 (gR σ9 x0 18) (ix x4)) r11) rfl (Nat.le_of_ble_eq_true rfl) (Nat.le_of_ble_eq_true rfl) (Nat.le_of_ble_eq_true rfl) pu_V dX13_build_443 (fun _ σ12 => ?_)
      refine g_aload_n 0 0 dX13_build_446 rfl rfl ?_
      refine g_getR fdX13_60 dX13_build_447 ?_
      refine g_aload_n 1 1 dX13_build_450 rfl rfl ?_
      refine g_getR fdX13_229 dX13_build_451 ?_
      refine g_iload 3 dX13_build_454 rfl ?_
      refine g_callV (fc := fun sς => Row_at sς (gR σ12 x1 7) x5) (ci := 3) (as := [iv x5]) rfl rfl rfl q1409 q1410 mdX13_111 (ctX3_at (gR σ12 x1 7) x5) rfl (Nat.le_of_ble_eq_true rfl) (Nat.le_of_ble_eq_true rfl) (Nat.le_of_ble_eq_true rfl) pu_I dX13_build_456 (fun r14 σ13 => ?_)
      refine g_callV (fc := fun sς => Row_add sς (gR σ12 x0 11) r14) (ci := 3) (as := [iv r14]) rfl rfl rfl q1405 q1406 mdX13_148 (ctX3_add (gR σ12 x0 11) r14) rfl (Nat.le_of_ble_eq_true rfl) (Nat.le_of_ble_eq_true rfl) (Nat.le_of_ble_eq_true rfl) pu_V dX13_build_459 (fun _ σ15 => ?_)
      refine g_aload_n 0 0 dX13_build_462 rfl rfl ?_
      refine g_getR fdX13_63 dX13_build_463 ?_
      refine g_aload_n 1 1 dX13_build_466 rfl rfl ?_
      refine g_getR fdX13_229 dX13_build_467 ?_
      refine g_iload 3 dX13_build_470 rfl ?_
      refine g_iconst (v := 1) dX13_build_472 (by decide) ?_
      refine g_iadd dX13_build_473 ?_
      refine g_callV (fc := fun sς => Row_at sς (gR σ15 x1 7) (x5 + (1 : Int32))) (ci := 3) (as := [iv (x5 + (1 : Int32))]) rfl rfl rfl q1409 q1410 mdX13_111 (ctX3_at (gR σ15 x1 7) (x5 + (1 : Int32))) rfl (Nat.le_of_ble_eq_true rfl) (Nat.le_of_ble_eq_true rfl) (Nat.le_of_ble_eq_true rfl) pu_I dX13_build_474 (fun r17 σ16 => ?_)
      refine g_callV (fc := fun sς => Row_add sς (gR σ15 x0 12) r17) (ci := 3) (as := [iv r17]) rfl rfl rfl q1405 q1406 mdX13_148 (ctX3_add (gR σ15 x0 12) r17) rfl (Nat.le_of_ble_eq_true rfl) (Nat.le_of_ble_eq_true rfl) (Nat.le_of_ble_eq_true rfl) pu_V dX13_build_477 (fun _ σ18 => ?_)
      refine g_iincB (w := 4) 3 dX13_build_480 rfl (by decide) (by decide) (fun _ => rfl) (fun y19 => ?_)
      refine g_goto 388 dX13_build_483 (by decide) ?_
      refine G.sub [1, 2, 3, 0] rfl ?_
      exact gX13_build_p388 n _ _ _ _ _
def V.Sto_build_p355  : Nat → HS → Nat → Nat → Int32 → Int32 → Option (Int32 × HS)
  | 0, _, _, _, _, _ => none
  | n + 1, σ, x0, x1, x4, x5 =>
    ck (tg σ x1 = 3) <|
    ck (tg σ (gR σ x1 6) = 4) <| cl (Row_size σ (gR σ x1 6) ) fun r2 σ1 =>
    if r2 ≤ x5 then (
      Sto_build_p388 FU σ1 x0 x1 x4 (0 : Int32))
    else (
      ck (tg σ1 x1 = 3) <|
      ck (tg σ1 x0 = 14) <| cl (Sto_addMemory σ1 x0 x4 (gR σ1 x1 6) x5) fun _ σ3 =>
      bn (x5 + (4 : Int32)) fun y4 =>
      Sto_build_p355 n σ3 x0 x1 x4 y4)
theorem V.gX13_build_p355 {X : CX}  : ∀ (n : Nat) (σ : HS) (x0 : Nat) (x1 : Nat) (x4 : Int32) (x5 : Int32), G X RX13 "build" cX13_build 8 (some .int) 7 158 enI 355 [(0, av x0), (1, av x1), (4, iv x4), (5, iv x5)] [] σ (Sto_build_p355 n σ x0 x1 x4 x5)
  | 0, σ, x0, x1, x4, x5 => by rw [Sto_build_p355]; exact G.nul
  | n + 1, σ, x0, x1, x4, x5 => by
    rw [Sto_build_p355]
    refine g_iload 3 dX13_build_355 rfl ?_
    refine g_aload_n 1 1 dX13_build_357 rfl rfl ?_
    refine g_getR fdX13_227 dX13_build_358 ?_
    refine g_callV (fc := fun sς => Row_size sς (gR σ x1 6) ) (ci := 3) (as := []) rfl rfl rfl q1421 q1422 mdX13_107 (ctX3_size (gR σ x1 6) ) rfl (Nat.le_of_ble_eq_true rfl) (Nat.le_of_ble_eq_true rfl) (Nat.le_of_ble_eq_true rfl) pu_I dX13_build_361 (fun r2 σ1 => ?_)
    refine g_icmp_ge 385 dX13_build_364 (by decide) ?_ ?_
    · refine g_iconst (v := 0) dX13_build_385 (by decide) ?_
      refine g_istore dX13_build_386 (by decide) rfl ?_
      refine G.sub [1, 2, 3, 0] rfl ?_
      exact gX13_build_p388 FU _ _ _ _ _
    · refine g_aload_n 0 0 dX13_build_367 rfl rfl ?_
      refine g_iload 2 dX13_build_368 rfl ?_
      refine g_aload_n 1 1 dX13_build_370 rfl rfl ?_
      refine g_getR fdX13_227 dX13_build_371 ?_
      refine g_iload 3 dX13_build_374 rfl ?_
      refine g_callV (fc := fun sς => Sto_addMemory sς x0 x4 (gR σ1 x1 6) x5) (ci := 13) (as := [iv x4, av (gR σ1 x1 6), iv x5]) rfl rfl rfl q2293 qs136 mdX13_263 (ctX13_addMemory x0 x4 (gR σ1 x1 6) x5) rfl (Nat.le_of_ble_eq_true rfl) (Nat.le_of_ble_eq_true rfl) (Nat.le_of_ble_eq_true rfl) pu_V dX13_build_376 (fun _ σ3 => ?_)
      refine g_iincB (w := 4) 3 dX13_build_379 rfl (by decide) (by decide) (fun _ => rfl) (fun y4 => ?_)
      refine g_goto 355 dX13_build_382 (by decide) ?_
      refine G.sub [1, 2, 3, 0] rfl ?_
      exact gX13_build_p355 n _ _ _ _ _
def V.Sto_build_p322  : Nat → HS → Nat → Nat → Int32 → Int32 → Option (Int32 × HS)
  | 0, _, _, _, _, _ => none
  | n + 1, σ, x0, x1, x4, x5 =>
    ck (tg σ x1 = 3) <|
    ck (tg σ (gR σ x1 5) = 4) <| cl (Row_size σ (gR σ x1 5) ) fun r2 σ1 =>
    if r2 ≤ x5 then (
      Sto_build_p355 FU σ1 x0 x1 x4 (0 : Int32))
    else (
      ck (tg σ1 x1 = 3) <|
      ck (tg σ1 x0 = 14) <| cl (Sto_addTable σ1 x0 x4 (gR σ1 x1 5) x5) fun _ σ3 =>
      bn (x5 + (4 : Int32)) fun y4 =>
      Sto_build_p322 n σ3 x0 x1 x4 y4)
theorem V.gX13_build_p322 {X : CX}  : ∀ (n : Nat) (σ : HS) (x0 : Nat) (x1 : Nat) (x4 : Int32) (x5 : Int32), G X RX13 "build" cX13_build 8 (some .int) 7 158 enI 322 [(0, av x0), (1, av x1), (4, iv x4), (5, iv x5)] [] σ (Sto_build_p322 n σ x0 x1 x4 x5)
  | 0, σ, x0, x1, x4, x5 => by rw [Sto_build_p322]; exact G.nul
  | n + 1, σ, x0, x1, x4, x5 => by
    rw [Sto_build_p322]
    refine g_iload 3 dX13_build_322 rfl ?_
    refine g_aload_n 1 1 dX13_build_324 rfl rfl ?_
    refine g_getR fdX13_224 dX13_build_325 ?_
    refine g_callV (fc := fun sς => Row_size sς (gR σ x1 5) ) (ci := 3) (as := []) rfl rfl rfl q1421 q1422 mdX13_107 (ctX3_size (gR σ x1 5) ) rfl (Nat.le_of_ble_eq_true rfl) (Nat.le_of_ble_eq_true rfl) (Nat.le_of_ble_eq_true rfl) pu_I dX13_build_328 (fun r2 σ1 => ?_)
    refine g_icmp_ge 352 dX13_build_331 (by decide) ?_ ?_
    · refine g_iconst (v := 0) dX13_build_352 (by decide) ?_
      refine g_istore dX13_build_353 (by decide) rfl ?_
      refine G.sub [1, 2, 3, 0] rfl ?_
      exact gX13_build_p355 FU _ _ _ _ _
    · refine g_aload_n 0 0 dX13_build_334 rfl rfl ?_
      refine g_iload 2 dX13_build_335 rfl ?_
      refine g_aload_n 1 1 dX13_build_337 rfl rfl ?_
      refine g_getR fdX13_224 dX13_build_338 ?_
      refine g_iload 3 dX13_build_341 rfl ?_
      refine g_callV (fc := fun sς => Sto_addTable sς x0 x4 (gR σ1 x1 5) x5) (ci := 13) (as := [iv x4, av (gR σ1 x1 5), iv x5]) rfl rfl rfl q2279 qs135 mdX13_259 (ctX13_addTable x0 x4 (gR σ1 x1 5) x5) rfl (Nat.le_of_ble_eq_true rfl) (Nat.le_of_ble_eq_true rfl) (Nat.le_of_ble_eq_true rfl) pu_V dX13_build_343 (fun _ σ3 => ?_)
      refine g_iincB (w := 4) 3 dX13_build_346 rfl (by decide) (by decide) (fun _ => rfl) (fun y4 => ?_)
      refine g_goto 322 dX13_build_349 (by decide) ?_
      refine G.sub [1, 2, 3, 0] rfl ?_
      exact gX13_build_p322 n _ _ _ _ _
def V.Sto_build_p266  : Nat → HS → Nat → Nat → Int32 → Int32 → Int32 → Option (Int32 × HS)
  | 0, _, _, _, _, _, _ => none
  | n + 1, σ, x0, x1, x2, x4, x5 =>
    ck (tg σ x1 = 3) <|
    ck (tg σ (gR σ x1 4) = 4) <| cl (Row_size σ (gR σ x1 4) ) fun r2 σ1 =>
    if r2 ≤ x5 then (
      Sto_build_p322 FU σ1 x0 x1 x4 (0 : Int32))
    else (
      ck (tg σ1 x0 = 14) <|
      ck (tg σ1 (gR σ1 x0 15) = 104 ∧ inb x4 (ln σ1 (gR σ1 x0 15))) <|
      ck (tg σ1 x1 = 3) <|
      ck (tg σ1 (gR σ1 x1 4) = 4) <| cl (Row_at σ1 (gR σ1 x1 4) x5) fun r4 σ3 =>
      ck (tg σ3 x0 = 14) <|
      ck (tg σ3 (gR σ3 x0 1) = 100 ∧ inb x2 (ln σ3 (gR σ3 x0 1))) <|
      ck (tg σ3 x0 = 14) <| cl (Sto_addFunction σ3 x0 x2 r4 x4 ((gI σ3 (gR σ3 x0 1) (ix x2)) + x5)) fun r6 σ5 =>
      ck (tg σ5 (gR σ1 (gR σ1 x0 15) (ix x4)) = 4) <| cl (Row_add σ5 (gR σ1 (gR σ1 x0 15) (ix x4)) r6) fun _ σ7 =>
      bn (x5 + (1 : Int32)) fun y8 =>
      Sto_build_p266 n σ7 x0 x1 x2 x4 y8)
theorem V.gX13_build_p266 {X : CX}  : ∀ (n : Nat) (σ : HS) (x0 : Nat) (x1 : Nat) (x2 : Int32) (x4 : Int32) (x5 : Int32), G X RX13 "build" cX13_build 8 (some .int) 7 158 enI 266 [(0, av x0), (1, av x1), (2, iv x2), (4, iv x4), (5, iv x5)] [] σ (Sto_build_p266 n σ x0 x1 x2 x4 x5)
  | 0, σ, x0, x1, x2, x4, x5 => by rw [Sto_build_p266]; exact G.nul
  | n + 1, σ, x0, x1, x2, x4, x5 => by
    rw [Sto_build_p266]
    refine g_iload 4 dX13_build_266 rfl ?_
    refine g_aload_n 1 1 dX13_build_268 rfl rfl ?_
    refine g_getR fdX13_219 dX13_build_269 ?_
    refine g_callV (fc := fun sς => Row_size sς (gR σ x1 4) ) (ci := 3) (as := []) rfl rfl rfl q1421 q1422 mdX13_107 (ctX3_size (gR σ x1 4) ) rfl (Nat.le_of_ble_eq_true rfl) (Nat.le_of_ble_eq_true rfl) (Nat.le_of_ble_eq_true rfl) pu_I dX13_build_272 (fun r2 σ1 => ?_)
    refine g_icmp_ge 319 dX13_build_275 (by decide) ?_ ?_
    · refine g_iconst (v := 0) dX13_build_319 (by decide) ?_
      refine g_istore dX13_build_320 (by decide) rfl ?_
      refine G.sub [1, 2, 4, 0] rfl ?_
      exact gX13_build_p322 FU _ _ _ _ _
    · refine g_aload_n 0 0 dX13_build_278 rfl rfl ?_
      refine g_getR fdX13_73 dX13_build_279 ?_
      refine g_iload 3 dX13_build_282 rfl ?_
      refine g_aaload 4 rfl dX13_build_284 ?_
      refine g_aload_n 0 0 dX13_build_285 rfl rfl ?_
      refine g_iload_n 2 2 dX13_build_286 rfl rfl ?_
      refine g_aload_n 1 1 dX13_build_287 rfl rfl ?_
      refine g_getR fdX13_219 dX13_build_288 ?_
      refine g_iload 4 dX13_build_291 rfl ?_
      refine g_callV (fc := fun sς => Row_at sς (gR σ1 x1 4) x5) (ci := 3) (as := [iv x5]) rfl rfl rfl q1409 q1410 mdX13_111 (ctX3_at (gR σ1 x1 4) x5) rfl (Nat.le_of_ble_eq_true rfl) (Nat.le_of_ble_eq_true rfl) (Nat.le_of_ble_eq_true rfl) pu_I dX13_build_293 (fun r4 σ3 => ?_)
      refine g_iload 3 dX13_build_296 rfl ?_
      refine g_aload_n 0 0 dX13_build_298 rfl rfl ?_
      refine g_getR fdX13_15 dX13_build_299 ?_
      refine g_iload_n 2 2 dX13_build_302 rfl rfl ?_
      refine g_iaload dX13_build_303 ?_
      refine g_iload 4 dX13_build_304 rfl ?_
      refine g_iadd dX13_build_306 ?_
      refine g_callV (fc := fun sς => Sto_addFunction sς x0 x2 r4 x4 ((gI σ3 (gR σ3 x0 1) (ix x2)) + x5)) (ci := 13) (as := [iv x2, iv r4, iv x4, iv ((gI σ3 (gR σ3 x0 1) (ix x2)) + x5)]) rfl rfl rfl q2275 qs134 mdX13_255 (ctX13_addFunction x0 x2 r4 x4 ((gI σ3 (gR σ3 x0 1) (ix x2)) + x5)) rfl (Nat.le_of_ble_eq_true rfl) (Nat.le_of_ble_eq_true rfl) (Nat.le_of_ble_eq_true rfl) pu_I dX13_build_307 (fun r6 σ5 => ?_)
      refine g_callV (fc := fun sς => Row_add sς (gR σ1 (gR σ1 x0 15) (ix x4)) r6) (ci := 3) (as := [iv r6]) rfl rfl rfl q1405 q1406 mdX13_148 (ctX3_add (gR σ1 (gR σ1 x0 15) (ix x4)) r6) rfl (Nat.le_of_ble_eq_true rfl) (Nat.le_of_ble_eq_true rfl) (Nat.le_of_ble_eq_true rfl) pu_V dX13_build_310 (fun _ σ7 => ?_)
      refine g_iincB (w := 1) 4 dX13_build_313 rfl (by decide) (by decide) (fun _ => rfl) (fun y8 => ?_)
      refine g_goto 266 dX13_build_316 (by decide) ?_
      refine G.sub [1, 2, 3, 4, 0] rfl ?_
      exact gX13_build_p266 n _ _ _ _ _ _
def V.Sto_build_p252 (rec125 : HS → Nat → Nat → Int32 → Int32 → Int32 → Int32 → Option (Int32 × HS)) (σ : HS) (x0 : Nat) (x1 : Nat) (x2 : Int32) (x3 : Int32) (x4 : Int32) (x5 : Int32) (x7 : Int32) (s0 : Nat) : Option (Int32 × HS) :=
  ck (tg σ s0 = 4) <| cl (Row_add σ s0 x7) fun _ σ1 =>
  bn (x5 + (1 : Int32)) fun y2 =>
  rec125 σ1 x0 x1 x2 x3 x4 y2
theorem V.gX13_build_p252 {X : CX} (rec125 : HS → Nat → Nat → Int32 → Int32 → Int32 → Int32 → Option (Int32 × HS)) (hrec125 : ∀ (σ : HS) (x0 : Nat) (x1 : Nat) (x2 : Int32) (x3 : Int32) (x4 : Int32) (x5 : Int32), G X RX13 "build" cX13_build 8 (some .int) 7 158 enI 125 [(0, av x0), (1, av x1), (2, iv x2), (3, iv x3), (4, iv x4), (5, iv x5)] [] σ (rec125 σ x0 x1 x2 x3 x4 x5)) (σ : HS) (x0 : Nat) (x1 : Nat) (x2 : Int32) (x3 : Int32) (x4 : Int32) (x5 : Int32) (x7 : Int32) (s0 : Nat) : G X RX13 "build" cX13_build 8 (some .int) 7 158 enI 252 [(0, av x0), (1, av x1), (2, iv x2), (3, iv x3), (4, iv x4), (5, iv x5), (7, iv x7)] [av s0] σ (Sto_build_p252 rec125 σ x0 x1 x2 x3 x4 x5 x7 s0) := by
  unfold Sto_build_p252
  refine g_iload 6 dX13_build_252 rfl ?_
  refine g_callV (fc := fun sς => Row_add sς s0 x7) (ci := 3) (as := [iv x7]) rfl rfl rfl q1405 q1406 mdX13_148 (ctX3_add s0 x7) rfl (Nat.le_of_ble_eq_true rfl) (Nat.le_of_ble_eq_true rfl) (Nat.le_of_ble_eq_true rfl) pu_V dX13_build_254 (fun _ σ1 => ?_)
  refine g_iincB (w := 1) 5 dX13_build_257 rfl (by decide) (by decide) (fun _ => rfl) (fun y2 => ?_)
  refine g_goto 125 dX13_build_260 (by decide) ?_
  refine G.sub [1, 2, 3, 4, 5, 0] rfl ?_
  exact hrec125 _ _ _ _ _ _ _
def V.Sto_build_p196 (rec125 : HS → Nat → Nat → Int32 → Int32 → Int32 → Int32 → Option (Int32 × HS)) (σ : HS) (x0 : Nat) (x1 : Nat) (x2 : Int32) (x3 : Int32) (x4 : Int32) (x5 : Int32) (x6 : Int32) (s0 : Int32) : Option (Int32 × HS) :=
  if x6 = 0 then (
    ck (tg σ x0 = 14) <|
    ck (tg σ (gR σ x0 15) = 104 ∧ inb x4 (ln σ (gR σ x0 15))) <|
    Sto_build_p252 rec125 σ x0 x1 x2 x3 x4 x5 s0 (gR σ (gR σ x0 15) (ix x4)))
  else (
    if x6 = (1 : Int32) then (
      ck (tg σ x0 = 14) <|
      ck (tg σ (gR σ x0 16) = 104 ∧ inb x4 (ln σ (gR σ x0 16))) <|
      Sto_build_p252 rec125 σ x0 x1 x2 x3 x4 x5 s0 (gR σ (gR σ x0 16) (ix x4)))
    else (
      if x6 = (2 : Int32) then (
        ck (tg σ x0 = 14) <|
        ck (tg σ (gR σ x0 17) = 104 ∧ inb x4 (ln σ (gR σ x0 17))) <|
        Sto_build_p252 rec125 σ x0 x1 x2 x3 x4 x5 s0 (gR σ (gR σ x0 17) (ix x4)))
      else (
        ck (tg σ x0 = 14) <|
        ck (tg σ (gR σ x0 18) = 104 ∧ inb x4 (ln σ (gR σ x0 18))) <|
        Sto_build_p252 rec125 σ x0 x1 x2 x3 x4 x5 s0 (gR σ (gR σ x0 18) (ix x4)))))
theorem V.gX13_build_p196 {X : CX} (rec125 : HS → Nat → Nat → Int32 → Int32 → Int32 → Int32 → Option (Int32 × HS)) (hrec125 : ∀ (σ : HS) (x0 : Nat) (x1 : Nat) (x2 : Int32) (x3 : Int32) (x4 : Int32) (x5 : Int32), G X RX13 "build" cX13_build 8 (some .int) 7 158 enI 125 [(0, av x0), (1, av x1), (2, iv x2), (3, iv x3), (4, iv x4), (5, iv x5)] [] σ (rec125 σ x0 x1 x2 x3 x4 x5)) (σ : HS) (x0 : Nat) (x1 : Nat) (x2 : Int32) (x3 : Int32) (x4 : Int32) (x5 : Int32) (x6 : Int32) (s0 : Int32) : G X RX13 "build" cX13_build 8 (some .int) 7 158 enI 196 [(0, av x0), (1, av x1), (2, iv x2), (3, iv x3), (4, iv x4), (5, iv x5), (6, iv x6)] [iv s0] σ (Sto_build_p196 rec125 σ x0 x1 x2 x3 x4 x5 x6 s0) := by
  unfold Sto_build_p196
  refine g_istore dX13_build_196 (by decide) rfl ?_
  refine g_iload 7 dX13_build_198 rfl ?_
  refine g_if_ne 213 dX13_build_200 (by decide) ?_ ?_
  · refine g_iload 7 dX13_build_213 rfl ?_
    refine g_iconst (v := 1) dX13_build_215 (by decide) ?_
    refine g_icmp_ne 229 dX13_build_216 (by decide) ?_ ?_
    · refine g_iload 7 dX13_build_229 rfl ?_
      refine g_iconst (v := 2) dX13_build_231 (by decide) ?_
      refine g_icmp_ne 245 dX13_build_232 (by decide) ?_ ?_
      · refine g_aload_n 0 1 dX13_build_245 rfl rfl ?_
        refine g_getR fdX13_83 dX13_build_246 ?_
        refine g_iload 5 dX13_build_249 rfl ?_
        refine g_aaload 4 rfl dX13_build_251 ?_
        refine G.sub [1, 2, 3, 4, 5, 6, 0] rfl ?_
        exact gX13_build_p252 rec125 hrec125 _ _ _ _ _ _ _ _ _
      · refine g_aload_n 0 1 dX13_build_235 rfl rfl ?_
        refine g_getR fdX13_80 dX13_build_236 ?_
        refine g_iload 5 dX13_build_239 rfl ?_
        refine g_aaload 4 rfl dX13_build_241 ?_
        refine g_goto 252 dX13_build_242 (by decide) ?_
        refine G.sub [1, 2, 3, 4, 5, 6, 0] rfl ?_
        exact gX13_build_p252 rec125 hrec125 _ _ _ _ _ _ _ _ _
    · refine g_aload_n 0 1 dX13_build_219 rfl rfl ?_
      refine g_getR fdX13_77 dX13_build_220 ?_
      refine g_iload 5 dX13_build_223 rfl ?_
      refine g_aaload 4 rfl dX13_build_225 ?_
      refine g_goto 252 dX13_build_226 (by decide) ?_
      refine G.sub [1, 2, 3, 4, 5, 6, 0] rfl ?_
      exact gX13_build_p252 rec125 hrec125 _ _ _ _ _ _ _ _ _
  · refine g_aload_n 0 1 dX13_build_203 rfl rfl ?_
    refine g_getR fdX13_73 dX13_build_204 ?_
    refine g_iload 5 dX13_build_207 rfl ?_
    refine g_aaload 4 rfl dX13_build_209 ?_
    refine g_goto 252 dX13_build_210 (by decide) ?_
    refine G.sub [1, 2, 3, 4, 5, 6, 0] rfl ?_
    exact gX13_build_p252 rec125 hrec125 _ _ _ _ _ _ _ _ _
def V.Sto_build_p125  : Nat → HS → Nat → Nat → Int32 → Int32 → Int32 → Int32 → Option (Int32 × HS)
  | 0, _, _, _, _, _, _, _ => none
  | n + 1, σ, x0, x1, x2, x3, x4, x5 =>
    if x3 ≤ x5 then (
      Sto_build_p266 FU σ x0 x1 x2 x4 (0 : Int32))
    else (
      cl (Sto_cell σ x1 x5 (0 : Int32)) fun r2 σ1 =>
      ck (tg σ1 x0 = 14) <|
      ck (tg σ1 (gR σ1 x0 26) = 4) <| cl (Row_at σ1 (gR σ1 x0 26) ((2 : Int32) * x5)) fun r4 σ3 =>
      if 0 ≤ r4 then (
        ck (tg σ3 x0 = 14) <|
        ck (tg σ3 (gR σ3 x0 26) = 4) <| cl (Row_at σ3 (gR σ3 x0 26) (((2 : Int32) * x5) + (1 : Int32))) fun r6 σ5 =>
        Sto_build_p196 (Sto_build_p125 n) σ5 x0 x1 x2 x3 x4 x5 r2 r6)
      else (
        cl (Sto_cell σ3 x1 x5 (1 : Int32)) fun r8 σ7 =>
        ck (tg σ7 x0 = 14) <|
        ck (tg σ7 (gR σ7 x0 26) = 4) <| cl (Row_at σ7 (gR σ7 x0 26) (((2 : Int32) * x5) + (1 : Int32))) fun r10 σ9 =>
        ck (tg σ9 x0 = 14) <| cl (Sto_addFunction σ9 x0 x2 r8 (-1 : Int32) r10) fun r12 σ11 =>
        Sto_build_p196 (Sto_build_p125 n) σ11 x0 x1 x2 x3 x4 x5 r2 r12))
theorem V.gX13_build_p125 {X : CX}  : ∀ (n : Nat) (σ : HS) (x0 : Nat) (x1 : Nat) (x2 : Int32) (x3 : Int32) (x4 : Int32) (x5 : Int32), G X RX13 "build" cX13_build 8 (some .int) 7 158 enI 125 [(0, av x0), (1, av x1), (2, iv x2), (3, iv x3), (4, iv x4), (5, iv x5)] [] σ (Sto_build_p125 n σ x0 x1 x2 x3 x4 x5)
  | 0, σ, x0, x1, x2, x3, x4, x5 => by rw [Sto_build_p125]; exact G.nul
  | n + 1, σ, x0, x1, x2, x3, x4, x5 => by
    rw [Sto_build_p125]
    refine g_iload 5 dX13_build_125 rfl ?_
    refine g_iload_n 3 3 dX13_build_127 rfl rfl ?_
    refine g_icmp_ge 263 dX13_build_128 (by decide) ?_ ?_
    · refine g_iconst (v := 0) dX13_build_263 (by decide) ?_
      refine g_istore dX13_build_264 (by decide) rfl ?_
      refine G.sub [1, 2, 3, 5, 0] rfl ?_
      exact gX13_build_p266 FU _ _ _ _ _ _
    · refine g_aload_n 1 1 dX13_build_131 rfl rfl ?_
      refine g_iload 5 dX13_build_132 rfl ?_
      refine g_iconst (v := 0) dX13_build_134 (by decide) ?_
      refine g_callS (fc := fun sς => Sto_cell sς x1 x5 (0 : Int32)) (as := [av x1, iv x5, iv (0 : Int32)]) q2198 mdX13_178 (ctX13_cell x1 x5 (0 : Int32)) rfl (Nat.le_of_ble_eq_true rfl) (Nat.le_of_ble_eq_true rfl) (Nat.le_of_ble_eq_true rfl) pu_I dX13_build_135 (fun r2 σ1 => ?_)
      refine g_istore dX13_build_138 (by decide) rfl ?_
      refine g_aload_n 0 1 dX13_build_140 rfl rfl ?_
      refine g_getR fdX13_104 dX13_build_141 ?_
      refine g_iconst (v := 2) dX13_build_144 (by decide) ?_
      refine g_iload 6 dX13_build_145 rfl ?_
      refine g_imul dX13_build_147 ?_
      refine g_callV (fc := fun sς => Row_at sς (gR σ1 x0 26) ((2 : Int32) * x5)) (ci := 3) (as := [iv ((2 : Int32) * x5)]) rfl rfl rfl q1409 q1410 mdX13_111 (ctX3_at (gR σ1 x0 26) ((2 : Int32) * x5)) rfl (Nat.le_of_ble_eq_true rfl) (Nat.le_of_ble_eq_true rfl) (Nat.le_of_ble_eq_true rfl) pu_I dX13_build_148 (fun r4 σ3 => ?_)
      refine g_if_ge 183 dX13_build_151 (by decide) ?_ ?_
      · refine g_aload_n 0 1 dX13_build_183 rfl rfl ?_
        refine g_getR fdX13_104 dX13_build_184 ?_
        refine g_iconst (v := 2) dX13_build_187 (by decide) ?_
        refine g_iload 6 dX13_build_188 rfl ?_
        refine g_imul dX13_build_190 ?_
        refine g_iconst (v := 1) dX13_build_191 (by decide) ?_
        refine g_iadd dX13_build_192 ?_
        refine g_callV (fc := fun sς => Row_at sς (gR σ3 x0 26) (((2 : Int32) * x5) + (1 : Int32))) (ci := 3) (as := [iv (((2 : Int32) * x5) + (1 : Int32))]) rfl rfl rfl q1409 q1410 mdX13_111 (ctX3_at (gR σ3 x0 26) (((2 : Int32) * x5) + (1 : Int32))) rfl (Nat.le_of_ble_eq_true rfl) (Nat.le_of_ble_eq_true rfl) (Nat.le_of_ble_eq_true rfl) pu_I dX13_build_193 (fun r6 σ5 => ?_)
        refine G.sub [1, 2, 3, 4, 5, 6, 0] rfl ?_
        exact gX13_build_p196 (Sto_build_p125 n) (gX13_build_p125 n) _ _ _ _ _ _ _ _ _
      · refine g_aload_n 0 1 dX13_build_154 rfl rfl ?_
        refine g_iload_n 2 3 dX13_build_155 rfl rfl ?_
        refine g_aload_n 1 2 dX13_build_156 rfl rfl ?_
        refine g_iload 6 dX13_build_157 rfl ?_
        refine g_iconst (v := 1) dX13_build_159 (by decide) ?_
        refine g_callS (fc := fun sς => Sto_cell sς x1 x5 (1 : Int32)) (as := [av x1, iv x5, iv (1 : Int32)]) q2198 mdX13_178 (ctX13_cell x1 x5 (1 : Int32)) rfl (Nat.le_of_ble_eq_true rfl) (Nat.le_of_ble_eq_true rfl) (Nat.le_of_ble_eq_true rfl) pu_I dX13_build_160 (fun r8 σ7 => ?_)
        refine g_iconst (v := (-1)) dX13_build_163 (by decide) ?_
        refine g_aload_n 0 1 dX13_build_164 rfl rfl ?_
        refine g_getR fdX13_104 dX13_build_165 ?_
        refine g_iconst (v := 2) dX13_build_168 (by decide) ?_
        refine g_iload 6 dX13_build_169 rfl ?_
        refine g_imul dX13_build_171 ?_
        refine g_iconst (v := 1) dX13_build_172 (by decide) ?_
        refine g_iadd dX13_build_173 ?_
        refine g_callV (fc := fun sς => Row_at sς (gR σ7 x0 26) (((2 : Int32) * x5) + (1 : Int32))) (ci := 3) (as := [iv (((2 : Int32) * x5) + (1 : Int32))]) rfl rfl rfl q1409 q1410 mdX13_111 (ctX3_at (gR σ7 x0 26) (((2 : Int32) * x5) + (1 : Int32))) rfl (Nat.le_of_ble_eq_true rfl) (Nat.le_of_ble_eq_true rfl) (Nat.le_of_ble_eq_true rfl) pu_I dX13_build_174 (fun r10 σ9 => ?_)
        refine g_callV (fc := fun sς => Sto_addFunction sς x0 x2 r8 (-1 : Int32) r10) (ci := 13) (as := [iv x2, iv r8, iv (-1 : Int32), iv r10]) rfl rfl rfl q2275 qs134 mdX13_255 (ctX13_addFunction x0 x2 r8 (-1 : Int32) r10) rfl (Nat.le_of_ble_eq_true rfl) (Nat.le_of_ble_eq_true rfl) (Nat.le_of_ble_eq_true rfl) pu_I dX13_build_177 (fun r12 σ11 => ?_)
        refine g_goto 196 dX13_build_180 (by decide) ?_
        refine G.sub [1, 2, 3, 4, 5, 6, 0] rfl ?_
        exact gX13_build_p196 (Sto_build_p125 n) (gX13_build_p125 n) _ _ _ _ _ _ _ _ _
def V.Sto_build (σ : HS) (x0 : Nat) (x1 : Nat) (x2 : Int32) (x3 : Int32) : Option (Int32 × HS) :=
  ck (tg σ x0 = 14) <|
  bn (gI σ x0 22) fun y1 =>
  ck (tg σ x0 = 14) <|
  ck (tg σ x0 = 14) <| bn (sI σ x0 22 ((gI σ x0 22) + (1 : Int32))) fun σ2 =>
  ck (tg σ2 x0 = 14) <|
  ck (tg σ2 (gR σ2 x0 14) = 100 ∧ inb y1 (ln σ2 (gR σ2 x0 14))) <| bn (sI σ2 (gR σ2 x0 14) (ix y1) x2) fun σ3 =>
  ck (tg σ3 x0 = 14) <|
  newr σ3 fun a4 σ5 =>
  ck (tg σ5 (gR σ3 x0 15) = 104 ∧ inb y1 (ln σ5 (gR σ3 x0 15)) ∧ tg σ5 a4 = 4) <| bn (sR σ5 (gR σ3 x0 15) (ix y1) a4) fun σ6 =>
  ck (tg σ6 x0 = 14) <|
  newr σ6 fun a7 σ8 =>
  ck (tg σ8 (gR σ6 x0 16) = 104 ∧ inb y1 (ln σ8 (gR σ6 x0 16)) ∧ tg σ8 a7 = 4) <| bn (sR σ8 (gR σ6 x0 16) (ix y1) a7) fun σ9 =>
  ck (tg σ9 x0 = 14) <|
  newr σ9 fun a10 σ11 =>
  ck (tg σ11 (gR σ9 x0 17) = 104 ∧ inb y1 (ln σ11 (gR σ9 x0 17)) ∧ tg σ11 a10 = 4) <| bn (sR σ11 (gR σ9 x0 17) (ix y1) a10) fun σ12 =>
  ck (tg σ12 x0 = 14) <|
  newr σ12 fun a13 σ14 =>
  ck (tg σ14 (gR σ12 x0 18) = 104 ∧ inb y1 (ln σ14 (gR σ12 x0 18)) ∧ tg σ14 a13 = 4) <| bn (sR σ14 (gR σ12 x0 18) (ix y1) a13) fun σ15 =>
  ck (tg σ15 x0 = 14) <|
  newr σ15 fun a16 σ17 =>
  ck (tg σ17 (gR σ15 x0 19) = 104 ∧ inb y1 (ln σ17 (gR σ15 x0 19)) ∧ tg σ17 a16 = 4) <| bn (sR σ17 (gR σ15 x0 19) (ix y1) a16) fun σ18 =>
  ck (tg σ18 x0 = 14) <|
  newr σ18 fun a19 σ20 =>
  ck (tg σ20 (gR σ18 x0 20) = 104 ∧ inb y1 (ln σ20 (gR σ18 x0 20)) ∧ tg σ20 a19 = 4) <| bn (sR σ20 (gR σ18 x0 20) (ix y1) a19) fun σ21 =>
  ck (tg σ21 x0 = 14) <|
  newr σ21 fun a22 σ23 =>
  ck (tg σ23 (gR σ21 x0 21) = 104 ∧ inb y1 (ln σ23 (gR σ21 x0 21)) ∧ tg σ23 a22 = 4) <| bn (sR σ23 (gR σ21 x0 21) (ix y1) a22) fun σ24 =>
  Sto_build_p125 FU σ24 x0 x1 x2 x3 y1 (0 : Int32)
theorem V.ctX13_build (x0 : Nat) (x1 : Nat) (x2 : Int32) (x3 : Int32) : Ct yX13_build  cX13_build 8 (some .int) 7 158 eI [av x0, av x1, iv x2, iv x3] (fun σ => Sto_build σ x0 x1 x2 x3) := by
  refine Ct.of (own := RX13) (nm := "build") (desc := "(LModuleEngine$Module;II)I") rfl (by decide) (Nat.le_of_ble_eq_true rfl) (by decide) (fun X σ => ?_)
  show G X RX13 "build" cX13_build 8 (some .int) 7 158 enI 0 [(0, av x0), (1, av x1), (2, iv x2), (3, iv x3)] [] σ (Sto_build σ x0 x1 x2 x3)
  unfold Sto_build
  refine g_aload_n 0 0 dX13_build_0 rfl rfl ?_
  refine g_getI fdX13_115 dX13_build_1 ?_
  refine g_nmI (fun y1 => ?_)
  refine g_istore dX13_build_4 (by decide) rfl ?_
  refine g_aload_n 0 1 dX13_build_6 rfl rfl ?_
  refine g_dup dX13_build_7 rfl ?_
  refine g_getI fdX13_115 dX13_build_8 ?_
  refine g_iconst (v := 1) dX13_build_11 (by decide) ?_
  refine g_iadd dX13_build_12 ?_
  refine g_putI fpX13_115 dX13_build_13 (fun σ2 => ?_)
  refine g_aload_n 0 1 dX13_build_16 rfl rfl ?_
  refine g_getR fdX13_70 dX13_build_17 ?_
  refine g_iload 0 dX13_build_20 rfl ?_
  refine g_iload_n 2 3 dX13_build_22 rfl rfl ?_
  refine g_iastore dX13_build_23 (fun σ3 => ?_)
  refine g_aload_n 0 1 dX13_build_24 rfl rfl ?_
  refine g_getR fdX13_73 dX13_build_25 ?_
  refine g_iload 0 dX13_build_28 rfl ?_
  refine g_newr ndX13_19 q411 mdX13_21 (Nat.le_of_ble_eq_true rfl) (Nat.le_of_ble_eq_true rfl) (Nat.le_of_ble_eq_true rfl) dX13_build_30 dX13_build_33 dX13_build_34 (fun a4 σ5 => ?_)
  refine g_aastore 4 3 rfl rfl rfl dX13_build_37 (fun σ6 => ?_)
  refine g_aload_n 0 1 dX13_build_38 rfl rfl ?_
  refine g_getR fdX13_77 dX13_build_39 ?_
  refine g_iload 0 dX13_build_42 rfl ?_
  refine g_newr ndX13_19 q411 mdX13_21 (Nat.le_of_ble_eq_true rfl) (Nat.le_of_ble_eq_true rfl) (Nat.le_of_ble_eq_true rfl) dX13_build_44 dX13_build_47 dX13_build_48 (fun a7 σ8 => ?_)
  refine g_aastore 4 3 rfl rfl rfl dX13_build_51 (fun σ9 => ?_)
  refine g_aload_n 0 1 dX13_build_52 rfl rfl ?_
  refine g_getR fdX13_80 dX13_build_53 ?_
  refine g_iload 0 dX13_build_56 rfl ?_
  refine g_newr ndX13_19 q411 mdX13_21 (Nat.le_of_ble_eq_true rfl) (Nat.le_of_ble_eq_true rfl) (Nat.le_of_ble_eq_true rfl) dX13_build_58 dX13_build_61 dX13_build_62 (fun a10 σ11 => ?_)
  refine g_aastore 4 3 rfl rfl rfl dX13_build_65 (fun σ12 => ?_)
  refine g_aload_n 0 1 dX13_build_66 rfl rfl ?_
  refine g_getR fdX13_83 dX13_build_67 ?_
  refine g_iload 0 dX13_build_70 rfl ?_
  refine g_newr ndX13_19 q411 mdX13_21 (Nat.le_of_ble_eq_true rfl) (Nat.le_of_ble_eq_true rfl) (Nat.le_of_ble_eq_true rfl) dX13_build_72 dX13_build_75 dX13_build_76 (fun a13 σ14 => ?_)
  refine g_aastore 4 3 rfl rfl rfl dX13_build_79 (fun σ15 => ?_)
  refine g_aload_n 0 1 dX13_build_80 rfl rfl ?_
  refine g_getR fdX13_86 dX13_build_81 ?_
  refine g_iload 0 dX13_build_84 rfl ?_
  refine g_newr ndX13_19 q411 mdX13_21 (Nat.le_of_ble_eq_true rfl) (Nat.le_of_ble_eq_true rfl) (Nat.le_of_ble_eq_true rfl) dX13_build_86 dX13_build_89 dX13_build_90 (fun a16 σ17 => ?_)
  refine g_aastore 4 3 rfl rfl rfl dX13_build_93 (fun σ18 => ?_)
  refine g_aload_n 0 1 dX13_build_94 rfl rfl ?_
  refine g_getR fdX13_89 dX13_build_95 ?_
  refine g_iload 0 dX13_build_98 rfl ?_
  refine g_newr ndX13_19 q411 mdX13_21 (Nat.le_of_ble_eq_true rfl) (Nat.le_of_ble_eq_true rfl) (Nat.le_of_ble_eq_true rfl) dX13_build_100 dX13_build_103 dX13_build_104 (fun a19 σ20 => ?_)
  refine g_aastore 4 3 rfl rfl rfl dX13_build_107 (fun σ21 => ?_)
  refine g_aload_n 0 1 dX13_build_108 rfl rfl ?_
  refine g_getR fdX13_92 dX13_build_109 ?_
  refine g_iload 0 dX13_build_112 rfl ?_
  refine g_newr ndX13_19 q411 mdX13_21 (Nat.le_of_ble_eq_true rfl) (Nat.le_of_ble_eq_true rfl) (Nat.le_of_ble_eq_true rfl) dX13_build_114 dX13_build_117 dX13_build_118 (fun a22 σ23 => ?_)
  refine g_aastore 4 3 rfl rfl rfl dX13_build_121 (fun σ24 => ?_)
  refine g_iconst (v := 0) dX13_build_122 (by decide) ?_
  refine g_istore dX13_build_123 (by decide) rfl ?_
  refine G.sub [2, 3, 4, 5, 1, 0] rfl ?_
  exact gX13_build_p125 FU _ _ _ _ _ _ _
theorem V.dX13_make_0 : decode cX13_make 0 = .ok (.aload_n 0, 1) := by decide +kernel
theorem V.dX13_make_1 : decode cX13_make 1 = .ok (.getfield 11, 3) := by decide +kernel
theorem V.dX13_make_4 : decode cX13_make 4 = .ok (.iload_n 1, 1) := by decide +kernel
theorem V.dX13_make_5 : decode cX13_make 5 = .ok (.aaload, 1) := by decide +kernel
theorem V.dX13_make_6 : decode cX13_make 6 = .ok (.astore_n 2, 1) := by decide +kernel
theorem V.dX13_make_7 : decode cX13_make 7 = .ok (.aload_n 2, 1) := by decide +kernel
theorem V.dX13_make_8 : decode cX13_make 8 = .ok (.getfield 171, 3) := by decide +kernel
theorem V.dX13_make_11 : decode cX13_make 11 = .ok (.invokevirtual 107, 3) := by decide +kernel
theorem V.dX13_make_14 : decode cX13_make 14 = .ok (.bipush 9, 2) := by decide +kernel
theorem V.dX13_make_16 : decode cX13_make 16 = .ok (.idiv, 1) := by decide +kernel
theorem V.dX13_make_17 : decode cX13_make 17 = .ok (.istore_n 3, 1) := by decide +kernel
theorem V.dX13_make_18 : decode cX13_make 18 = .ok (.iconst 0, 1) := by decide +kernel
theorem V.dX13_make_19 : decode cX13_make 19 = .ok (.istore 4, 2) := by decide +kernel
theorem V.dX13_make_21 : decode cX13_make 21 = .ok (.aload_n 0, 1) := by decide +kernel
theorem V.dX13_make_22 : decode cX13_make 22 = .ok (.getfield 104, 3) := by decide +kernel
theorem V.dX13_make_25 : decode cX13_make 25 = .ok (.invokevirtual 107, 3) := by decide +kernel
theorem V.dX13_make_28 : decode cX13_make 28 = .ok (.iconst 2, 1) := by decide +kernel
theorem V.dX13_make_29 : decode cX13_make 29 = .ok (.iload_n 3, 1) := by decide +kernel
theorem V.dX13_make_30 : decode cX13_make 30 = .ok (.imul, 1) := by decide +kernel
theorem V.dX13_make_31 : decode cX13_make 31 = .ok (.if_icmp .ne 7, 3) := by decide +kernel
theorem V.dX13_make_34 : decode cX13_make 34 = .ok (.iconst 0, 1) := by decide +kernel
theorem V.dX13_make_35 : decode cX13_make 35 = .ok (.goto 5, 3) := by decide +kernel
theorem V.dX13_make_38 : decode cX13_make 38 = .ok (.bipush (-2), 2) := by decide +kernel
theorem V.dX13_make_40 : decode cX13_make 40 = .ok (.istore 5, 2) := by decide +kernel
theorem V.dX13_make_42 : decode cX13_make 42 = .ok (.iconst 0, 1) := by decide +kernel
theorem V.dX13_make_43 : decode cX13_make 43 = .ok (.istore 6, 2) := by decide +kernel
theorem V.dX13_make_45 : decode cX13_make 45 = .ok (.iload 6, 2) := by decide +kernel
theorem V.dX13_make_47 : decode cX13_make 47 = .ok (.iload_n 3, 1) := by decide +kernel
theorem V.dX13_make_48 : decode cX13_make 48 = .ok (.if_icmp .ge 63, 3) := by decide +kernel
theorem V.dX13_make_51 : decode cX13_make 51 = .ok (.iload 5, 2) := by decide +kernel
theorem V.dX13_make_53 : decode cX13_make 53 = .ok (.ifCond .ne 58, 3) := by decide +kernel
theorem V.dX13_make_56 : decode cX13_make 56 = .ok (.aload_n 0, 1) := by decide +kernel
theorem V.dX13_make_57 : decode cX13_make 57 = .ok (.aload_n 2, 1) := by decide +kernel
theorem V.dX13_make_58 : decode cX13_make 58 = .ok (.iload 6, 2) := by decide +kernel
theorem V.dX13_make_60 : decode cX13_make 60 = .ok (.invokevirtual 242, 3) := by decide +kernel
theorem V.dX13_make_63 : decode cX13_make 63 = .ok (.ifCond .ne 18, 3) := by decide +kernel
theorem V.dX13_make_66 : decode cX13_make 66 = .ok (.bipush (-3), 2) := by decide +kernel
theorem V.dX13_make_68 : decode cX13_make 68 = .ok (.aload_n 2, 1) := by decide +kernel
theorem V.dX13_make_69 : decode cX13_make 69 = .ok (.iload 6, 2) := by decide +kernel
theorem V.dX13_make_71 : decode cX13_make 71 = .ok (.iconst 0, 1) := by decide +kernel
theorem V.dX13_make_72 : decode cX13_make 72 = .ok (.invokestatic 178, 3) := by decide +kernel
theorem V.dX13_make_75 : decode cX13_make 75 = .ok (.isub, 1) := by decide +kernel
theorem V.dX13_make_76 : decode cX13_make 76 = .ok (.istore 5, 2) := by decide +kernel
theorem V.dX13_make_78 : decode cX13_make 78 = .ok (.goto 27, 3) := by decide +kernel
theorem V.dX13_make_81 : decode cX13_make 81 = .ok (.iload 4, 2) := by decide +kernel
theorem V.dX13_make_83 : decode cX13_make 83 = .ok (.aload_n 0, 1) := by decide +kernel
theorem V.dX13_make_84 : decode cX13_make 84 = .ok (.getfield 104, 3) := by decide +kernel
theorem V.dX13_make_87 : decode cX13_make 87 = .ok (.iconst 2, 1) := by decide +kernel
theorem V.dX13_make_88 : decode cX13_make 88 = .ok (.iload 6, 2) := by decide +kernel
theorem V.dX13_make_90 : decode cX13_make 90 = .ok (.imul, 1) := by decide +kernel
theorem V.dX13_make_91 : decode cX13_make 91 = .ok (.invokevirtual 111, 3) := by decide +kernel
theorem V.dX13_make_94 : decode cX13_make 94 = .ok (.ifCond .ge 7, 3) := by decide +kernel
theorem V.dX13_make_97 : decode cX13_make 97 = .ok (.iconst 1, 1) := by decide +kernel
theorem V.dX13_make_98 : decode cX13_make 98 = .ok (.goto 4, 3) := by decide +kernel
theorem V.dX13_make_101 : decode cX13_make 101 = .ok (.iconst 0, 1) := by decide +kernel
theorem V.dX13_make_102 : decode cX13_make 102 = .ok (.iadd, 1) := by decide +kernel
theorem V.dX13_make_103 : decode cX13_make 103 = .ok (.istore 4, 2) := by decide +kernel
theorem V.dX13_make_105 : decode cX13_make 105 = .ok (.iinc 6 1, 3) := by decide +kernel
theorem V.dX13_make_108 : decode cX13_make 108 = .ok (.goto (-63), 3) := by decide +kernel
theorem V.dX13_make_111 : decode cX13_make 111 = .ok (.iload 5, 2) := by decide +kernel
theorem V.dX13_make_113 : decode cX13_make 113 = .ok (.ifCond .ne 17, 3) := by decide +kernel
theorem V.dX13_make_116 : decode cX13_make 116 = .ok (.aload_n 0, 1) := by decide +kernel
theorem V.dX13_make_117 : decode cX13_make 117 = .ok (.aload_n 2, 1) := by decide +kernel
theorem V.dX13_make_118 : decode cX13_make 118 = .ok (.iload 4, 2) := by decide +kernel
theorem V.dX13_make_120 : decode cX13_make 120 = .ok (.invokevirtual 246, 3) := by decide +kernel
theorem V.dX13_make_123 : decode cX13_make 123 = .ok (.ifCond .ne 7, 3) := by decide +kernel
theorem V.dX13_make_126 : decode cX13_make 126 = .ok (.bipush (-9), 2) := by decide +kernel
theorem V.dX13_make_128 : decode cX13_make 128 = .ok (.istore 5, 2) := by decide +kernel
theorem V.dX13_make_130 : decode cX13_make 130 = .ok (.iload 5, 2) := by decide +kernel
theorem V.dX13_make_132 : decode cX13_make 132 = .ok (.ifCond .ne 12, 3) := by decide +kernel
theorem V.dX13_make_135 : decode cX13_make 135 = .ok (.aload_n 0, 1) := by decide +kernel
theorem V.dX13_make_136 : decode cX13_make 136 = .ok (.aload_n 2, 1) := by decide +kernel
theorem V.dX13_make_137 : decode cX13_make 137 = .ok (.iload_n 1, 1) := by decide +kernel
theorem V.dX13_make_138 : decode cX13_make 138 = .ok (.iload_n 3, 1) := by decide +kernel
theorem V.dX13_make_139 : decode cX13_make 139 = .ok (.invokevirtual 249, 3) := by decide +kernel
theorem V.dX13_make_142 : decode cX13_make 142 = .ok (.istore 5, 2) := by decide +kernel
theorem V.dX13_make_144 : decode cX13_make 144 = .ok (.aload_n 0, 1) := by decide +kernel
theorem V.dX13_make_145 : decode cX13_make 145 = .ok (.getfield 104, 3) := by decide +kernel
theorem V.dX13_make_148 : decode cX13_make 148 = .ok (.iconst 0, 1) := by decide +kernel
theorem V.dX13_make_149 : decode cX13_make 149 = .ok (.invokevirtual 252, 3) := by decide +kernel
theorem V.dX13_make_152 : decode cX13_make 152 = .ok (.iload 5, 2) := by decide +kernel
theorem V.dX13_make_154 : decode cX13_make 154 = .ok (.ireturn, 1) := by decide +kernel
theorem V.mdX13_242 : MD RX13 242 yX13_fits cX13_fits 10 (some .boolean) 2 := ⟨Or.inl q2193, q373, q2196, by decide, by decide, by decide +kernel⟩
theorem V.mdX13_246 : MD RX13 246 yX13_hasRoom cX13_hasRoom 5 (some .boolean) 2 := ⟨Or.inl q2238, q373, q2241, by decide, by decide, by decide +kernel⟩
theorem V.mdX13_249 : MD RX13 249 yX13_build cX13_build 8 (some .int) 3 := ⟨Or.inl q2269, q373, q2272, by decide, by decide, by decide +kernel⟩
theorem V.mdX13_252 : MD RX13 252 yX3_cut cX3_cut 2 none 1 := ⟨Or.inl q2317, q363, q1283, by decide, by decide, by decide +kernel⟩
/-! ModuleEngine$Store.make(I)I -/
def V.Sto_make_p144  (σ : HS) (x0 : Nat) (x5 : Int32) : Option (Int32 × HS) :=
  ck (tg σ x0 = 14) <|
  ck (tg σ (gR σ x0 26) = 4) <| cl (Row_cut σ (gR σ x0 26) (0 : Int32)) fun _ σ1 =>
  some (x5, σ1)
theorem V.gX13_make_p144 {X : CX}  (σ : HS) (x0 : Nat) (x5 : Int32) : G X RX13 "make" cX13_make 7 (some .int) 8 185 enI 144 [(0, av x0), (5, iv x5)] [] σ (Sto_make_p144 σ x0 x5) := by
  unfold Sto_make_p144
  refine g_aload_n 0 0 dX13_make_144 rfl rfl ?_
  refine g_getR fdX13_104 dX13_make_145 ?_
  refine g_iconst (v := 0) dX13_make_148 (by decide) ?_
  refine g_callV (fc := fun sς => Row_cut sς (gR σ x0 26) (0 : Int32)) (ci := 3) (as := [iv (0 : Int32)]) rfl rfl rfl q1281 q1282 mdX13_252 (ctX3_cut (gR σ x0 26) (0 : Int32)) rfl (Nat.le_of_ble_eq_true rfl) (Nat.le_of_ble_eq_true rfl) (Nat.le_of_ble_eq_true rfl) pu_V dX13_make_149 (fun _ σ1 => ?_)
  refine g_iload 1 dX13_make_152 rfl ?_
  exact g_ireturn rfl dX13_make_154
def V.Sto_make_p130  (σ : HS) (x0 : Nat) (x1 : Int32) (x2 : Nat) (x3 : Int32) (x5 : Int32) : Option (Int32 × HS) :=
  if x5 = 0 then (
    ck (tg σ x0 = 14) <| cl (Sto_build σ x0 x2 x1 x3) fun r2 σ1 =>
    Sto_make_p144 σ1 x0 r2)
  else (
    Sto_make_p144 σ x0 x5)
theorem V.gX13_make_p130 {X : CX}  (σ : HS) (x0 : Nat) (x1 : Int32) (x2 : Nat) (x3 : Int32) (x5 : Int32) : G X RX13 "make" cX13_make 7 (some .int) 8 185 enI 130 [(0, av x0), (1, iv x1), (2, av x2), (3, iv x3), (5, iv x5)] [] σ (Sto_make_p130 σ x0 x1 x2 x3 x5) := by
  unfold Sto_make_p130
  refine g_iload 4 dX13_make_130 rfl ?_
  refine g_if_ne 144 dX13_make_132 (by decide) ?_ ?_
  · refine G.sub [0, 4] rfl ?_
    exact gX13_make_p144 _ _ _
  · refine g_aload_n 0 0 dX13_make_135 rfl rfl ?_
    refine g_aload_n 2 2 dX13_make_136 rfl rfl ?_
    refine g_iload_n 1 1 dX13_make_137 rfl rfl ?_
    refine g_iload_n 3 3 dX13_make_138 rfl rfl ?_
    refine g_callV (fc := fun sς => Sto_build sς x0 x2 x1 x3) (ci := 13) (as := [av x2, iv x1, iv x3]) rfl rfl rfl q2271 qs133 mdX13_249 (ctX13_build x0 x2 x1 x3) rfl (Nat.le_of_ble_eq_true rfl) (Nat.le_of_ble_eq_true rfl) (Nat.le_of_ble_eq_true rfl) pu_I dX13_make_139 (fun r2 σ1 => ?_)
    refine g_istore dX13_make_142 (by decide) rfl ?_
    refine G.sub [1, 0] rfl ?_
    exact gX13_make_p144 _ _ _
def V.Sto_make_p111  (σ : HS) (x0 : Nat) (x1 : Int32) (x2 : Nat) (x3 : Int32) (x4 : Int32) (x5 : Int32) : Option (Int32 × HS) :=
  if x5 = 0 then (
    ck (tg σ x0 = 14) <| cl (Sto_hasRoom σ x0 x2 x4) fun r2 σ1 =>
    if r2 = 0 then (
      Sto_make_p130 σ1 x0 x1 x2 x3 (-9 : Int32))
    else (
      Sto_make_p130 σ1 x0 x1 x2 x3 x5))
  else (
    Sto_make_p130 σ x0 x1 x2 x3 x5)
theorem V.gX13_make_p111 {X : CX}  (σ : HS) (x0 : Nat) (x1 : Int32) (x2 : Nat) (x3 : Int32) (x4 : Int32) (x5 : Int32) : G X RX13 "make" cX13_make 7 (some .int) 8 185 enI 111 [(0, av x0), (1, iv x1), (2, av x2), (3, iv x3), (4, iv x4), (5, iv x5)] [] σ (Sto_make_p111 σ x0 x1 x2 x3 x4 x5) := by
  unfold Sto_make_p111
  refine g_iload 5 dX13_make_111 rfl ?_
  refine g_if_ne 130 dX13_make_113 (by decide) ?_ ?_
  · refine G.sub [0, 1, 2, 3, 5] rfl ?_
    exact gX13_make_p130 _ _ _ _ _ _
  · refine g_aload_n 0 0 dX13_make_116 rfl rfl ?_
    refine g_aload_n 2 2 dX13_make_117 rfl rfl ?_
    refine g_iload 4 dX13_make_118 rfl ?_
    refine g_callV (fc := fun sς => Sto_hasRoom sς x0 x2 x4) (ci := 13) (as := [av x2, iv x4]) rfl rfl rfl q2240 qs132 mdX13_246 (ctX13_hasRoom x0 x2 x4) rfl (Nat.le_of_ble_eq_true rfl) (Nat.le_of_ble_eq_true rfl) (Nat.le_of_ble_eq_true rfl) pu_I dX13_make_120 (fun r2 σ1 => ?_)
    refine g_if_ne 130 dX13_make_123 (by decide) ?_ ?_
    · refine G.sub [0, 1, 2, 3, 5] rfl ?_
      exact gX13_make_p130 _ _ _ _ _ _
    · refine g_bipush (v := (-9)) dX13_make_126 (by decide) ?_
      refine g_istore dX13_make_128 (by decide) rfl ?_
      refine G.sub [1, 2, 3, 4, 0] rfl ?_
      exact gX13_make_p130 _ _ _ _ _ _
def V.Sto_make_p105 (rec45 : HS → Nat → Int32 → Nat → Int32 → Int32 → Int32 → Int32 → Option (Int32 × HS)) (σ : HS) (x0 : Nat) (x1 : Int32) (x2 : Nat) (x3 : Int32) (x4 : Int32) (x5 : Int32) (x6 : Int32) : Option (Int32 × HS) :=
  bn (x6 + (1 : Int32)) fun y1 =>
  rec45 σ x0 x1 x2 x3 x4 x5 y1
theorem V.gX13_make_p105 {X : CX} (rec45 : HS → Nat → Int32 → Nat → Int32 → Int32 → Int32 → Int32 → Option (Int32 × HS)) (hrec45 : ∀ (σ : HS) (x0 : Nat) (x1 : Int32) (x2 : Nat) (x3 : Int32) (x4 : Int32) (x5 : Int32) (x6 : Int32), G X RX13 "make" cX13_make 7 (some .int) 8 185 enI 45 [(0, av x0), (1, iv x1), (2, av x2), (3, iv x3), (4, iv x4), (5, iv x5), (6, iv x6)] [] σ (rec45 σ x0 x1 x2 x3 x4 x5 x6)) (σ : HS) (x0 : Nat) (x1 : Int32) (x2 : Nat) (x3 : Int32) (x4 : Int32) (x5 : Int32) (x6 : Int32) : G X RX13 "make" cX13_make 7 (some .int) 8 185 enI 105 [(0, av x0), (1, iv x1), (2, av x2), (3, iv x3), (4, iv x4), (5, iv x5), (6, iv x6)] [] σ (Sto_make_p105 rec45 σ x0 x1 x2 x3 x4 x5 x6) := by
  unfold Sto_make_p105
  refine g_iincB (w := 1) 6 dX13_make_105 rfl (by decide) (by decide) (fun _ => rfl) (fun y1 => ?_)
  refine g_goto 45 dX13_make_108 (by decide) ?_
  refine G.sub [1, 2, 3, 4, 5, 6, 0] rfl ?_
  exact hrec45 _ _ _ _ _ _ _ _
def V.Sto_make_p102 (rec45 : HS → Nat → Int32 → Nat → Int32 → Int32 → Int32 → Int32 → Option (Int32 × HS)) (σ : HS) (x0 : Nat) (x1 : Int32) (x2 : Nat) (x3 : Int32) (x5 : Int32) (x6 : Int32) (s0 : Int32) (s1 : Int32) : Option (Int32 × HS) :=
  bn (s1 + s0) fun y1 =>
  Sto_make_p105 rec45 σ x0 x1 x2 x3 y1 x5 x6
theorem V.gX13_make_p102 {X : CX} (rec45 : HS → Nat → Int32 → Nat → Int32 → Int32 → Int32 → Int32 → Option (Int32 × HS)) (hrec45 : ∀ (σ : HS) (x0 : Nat) (x1 : Int32) (x2 : Nat) (x3 : Int32) (x4 : Int32) (x5 : Int32) (x6 : Int32), G X RX13 "make" cX13_make 7 (some .int) 8 185 enI 45 [(0, av x0), (1, iv x1), (2, av x2), (3, iv x3), (4, iv x4), (5, iv x5), (6, iv x6)] [] σ (rec45 σ x0 x1 x2 x3 x4 x5 x6)) (σ : HS) (x0 : Nat) (x1 : Int32) (x2 : Nat) (x3 : Int32) (x5 : Int32) (x6 : Int32) (s0 : Int32) (s1 : Int32) : G X RX13 "make" cX13_make 7 (some .int) 8 185 enI 102 [(0, av x0), (1, iv x1), (2, av x2), (3, iv x3), (5, iv x5), (6, iv x6)] [iv s0, iv s1] σ (Sto_make_p102 rec45 σ x0 x1 x2 x3 x5 x6 s0 s1) := by
  unfold Sto_make_p102
  refine g_iadd dX13_make_102 ?_
  refine g_nmI (fun y1 => ?_)
  refine g_istore dX13_make_103 (by decide) rfl ?_
  refine G.sub [1, 2, 3, 4, 0, 5, 6] rfl ?_
  exact gX13_make_p105 rec45 hrec45 _ _ _ _ _ _ _ _
def V.Sto_make_p45  : Nat → HS → Nat → Int32 → Nat → Int32 → Int32 → Int32 → Int32 → Option (Int32 × HS)
  | 0, _, _, _, _, _, _, _, _ => none
  | n + 1, σ, x0, x1, x2, x3, x4, x5, x6 =>
    if x3 ≤ x6 then (
      Sto_make_p111 σ x0 x1 x2 x3 x4 x5)
    else (
      if x5 = 0 then (
        ck (tg σ x0 = 14) <| cl (Sto_fits σ x0 x2 x6) fun r2 σ1 =>
        if r2 = 0 then (
          cl (Sto_cell σ1 x2 x6 (0 : Int32)) fun r6 σ5 =>
          bn ((-3 : Int32) - r6) fun y7 =>
          Sto_make_p105 (Sto_make_p45 n) σ5 x0 x1 x2 x3 x4 y7 x6)
        else (
          ck (tg σ1 x0 = 14) <|
          ck (tg σ1 (gR σ1 x0 26) = 4) <| cl (Row_at σ1 (gR σ1 x0 26) ((2 : Int32) * x6)) fun r4 σ3 =>
          if 0 ≤ r4 then (
            Sto_make_p102 (Sto_make_p45 n) σ3 x0 x1 x2 x3 x5 x6 (0 : Int32) x4)
          else (
            Sto_make_p102 (Sto_make_p45 n) σ3 x0 x1 x2 x3 x5 x6 (1 : Int32) x4)))
      else (
        Sto_make_p111 σ x0 x1 x2 x3 x4 x5))
theorem V.gX13_make_p45 {X : CX}  : ∀ (n : Nat) (σ : HS) (x0 : Nat) (x1 : Int32) (x2 : Nat) (x3 : Int32) (x4 : Int32) (x5 : Int32) (x6 : Int32), G X RX13 "make" cX13_make 7 (some .int) 8 185 enI 45 [(0, av x0), (1, iv x1), (2, av x2), (3, iv x3), (4, iv x4), (5, iv x5), (6, iv x6)] [] σ (Sto_make_p45 n σ x0 x1 x2 x3 x4 x5 x6)
  | 0, σ, x0, x1, x2, x3, x4, x5, x6 => by rw [Sto_make_p45]; exact G.nul
  | n + 1, σ, x0, x1, x2, x3, x4, x5, x6 => by
    rw [Sto_make_p45]
    refine g_iload 6 dX13_make_45 rfl ?_
    refine g_iload_n 3 3 dX13_make_47 rfl rfl ?_
    refine g_icmp_ge 111 dX13_make_48 (by decide) ?_ ?_
    · refine G.sub [0, 1, 2, 3, 4, 5] rfl ?_
      exact gX13_make_p111 _ _ _ _ _ _ _
    · refine g_iload 5 dX13_make_51 rfl ?_
      refine g_if_ne 111 dX13_make_53 (by decide) ?_ ?_
      · refine G.sub [0, 1, 2, 3, 4, 5] rfl ?_
        exact gX13_make_p111 _ _ _ _ _ _ _
      · refine g_aload_n 0 0 dX13_make_56 rfl rfl ?_
        refine g_aload_n 2 2 dX13_make_57 rfl rfl ?_
        refine g_iload 6 dX13_make_58 rfl ?_
        refine g_callV (fc := fun sς => Sto_fits sς x0 x2 x6) (ci := 13) (as := [av x2, iv x6]) rfl rfl rfl q2195 qs131 mdX13_242 (ctX13_fits x0 x2 x6) rfl (Nat.le_of_ble_eq_true rfl) (Nat.le_of_ble_eq_true rfl) (Nat.le_of_ble_eq_true rfl) pu_I dX13_make_60 (fun r2 σ1 => ?_)
        refine g_if_ne 81 dX13_make_63 (by decide) ?_ ?_
        · refine g_iload 4 dX13_make_81 rfl ?_
          refine g_aload_n 0 0 dX13_make_83 rfl rfl ?_
          refine g_getR fdX13_104 dX13_make_84 ?_
          refine g_iconst (v := 2) dX13_make_87 (by decide) ?_
          refine g_iload 6 dX13_make_88 rfl ?_
          refine g_imul dX13_make_90 ?_
          refine g_callV (fc := fun sς => Row_at sς (gR σ1 x0 26) ((2 : Int32) * x6)) (ci := 3) (as := [iv ((2 : Int32) * x6)]) rfl rfl rfl q1409 q1410 mdX13_111 (ctX3_at (gR σ1 x0 26) ((2 : Int32) * x6)) rfl (Nat.le_of_ble_eq_true rfl) (Nat.le_of_ble_eq_true rfl) (Nat.le_of_ble_eq_true rfl) pu_I dX13_make_91 (fun r4 σ3 => ?_)
          refine g_if_ge 101 dX13_make_94 (by decide) ?_ ?_
          · refine g_iconst (v := 0) dX13_make_101 (by decide) ?_
            refine G.sub [0, 1, 2, 3, 5, 6] rfl ?_
            exact gX13_make_p102 (Sto_make_p45 n) (gX13_make_p45 n) _ _ _ _ _ _ _ _ _
          · refine g_iconst (v := 1) dX13_make_97 (by decide) ?_
            refine g_goto 102 dX13_make_98 (by decide) ?_
            refine G.sub [0, 1, 2, 3, 5, 6] rfl ?_
            exact gX13_make_p102 (Sto_make_p45 n) (gX13_make_p45 n) _ _ _ _ _ _ _ _ _
        · refine g_bipush (v := (-3)) dX13_make_66 (by decide) ?_
          refine g_aload_n 2 2 dX13_make_68 rfl rfl ?_
          refine g_iload 6 dX13_make_69 rfl ?_
          refine g_iconst (v := 0) dX13_make_71 (by decide) ?_
          refine g_callS (fc := fun sς => Sto_cell sς x2 x6 (0 : Int32)) (as := [av x2, iv x6, iv (0 : Int32)]) q2198 mdX13_178 (ctX13_cell x2 x6 (0 : Int32)) rfl (Nat.le_of_ble_eq_true rfl) (Nat.le_of_ble_eq_true rfl) (Nat.le_of_ble_eq_true rfl) pu_I dX13_make_72 (fun r6 σ5 => ?_)
          refine g_isub dX13_make_75 ?_
          refine g_nmI (fun y7 => ?_)
          refine g_istore dX13_make_76 (by decide) rfl ?_
          refine g_goto 105 dX13_make_78 (by decide) ?_
          refine G.sub [1, 2, 3, 4, 5, 0, 6] rfl ?_
          exact gX13_make_p105 (Sto_make_p45 n) (gX13_make_p45 n) _ _ _ _ _ _ _ _
def V.Sto_make_p40  (σ : HS) (x0 : Nat) (x1 : Int32) (x2 : Nat) (x3 : Int32) (x4 : Int32) (s0 : Int32) : Option (Int32 × HS) :=
  Sto_make_p45 FU σ x0 x1 x2 x3 x4 s0 (0 : Int32)
theorem V.gX13_make_p40 {X : CX}  (σ : HS) (x0 : Nat) (x1 : Int32) (x2 : Nat) (x3 : Int32) (x4 : Int32) (s0 : Int32) : G X RX13 "make" cX13_make 7 (some .int) 8 185 enI 40 [(0, av x0), (1, iv x1), (2, av x2), (3, iv x3), (4, iv x4)] [iv s0] σ (Sto_make_p40 σ x0 x1 x2 x3 x4 s0) := by
  unfold Sto_make_p40
  refine g_istore dX13_make_40 (by decide) rfl ?_
  refine g_iconst (v := 0) dX13_make_42 (by decide) ?_
  refine g_istore dX13_make_43 (by decide) rfl ?_
  refine G.sub [2, 3, 4, 5, 6, 1, 0] rfl ?_
  exact gX13_make_p45 FU _ _ _ _ _ _ _ _
def V.Sto_make (σ : HS) (x0 : Nat) (x1 : Int32) : Option (Int32 × HS) :=
  ck (tg σ x0 = 14) <|
  ck (tg σ (gR σ x0 0) = 105 ∧ inb x1 (ln σ (gR σ x0 0))) <|
  bn (gR σ (gR σ x0 0) (ix x1)) fun y1 =>
  ck (tg σ y1 = 3) <|
  ck (tg σ (gR σ y1 3) = 4) <| cl (Row_size σ (gR σ y1 3) ) fun r3 σ2 =>
  ck (¬ (9 : Int32) = 0) <|
  bn (r3 / (9 : Int32)) fun y4 =>
  ck (tg σ2 x0 = 14) <|
  ck (tg σ2 (gR σ2 x0 26) = 4) <| cl (Row_size σ2 (gR σ2 x0 26) ) fun r6 σ5 =>
  if r6 = ((2 : Int32) * y4) then (
    Sto_make_p40 σ5 x0 x1 y1 y4 (0 : Int32) (0 : Int32))
  else (
    Sto_make_p40 σ5 x0 x1 y1 y4 (0 : Int32) (-2 : Int32))
theorem V.ctX13_make (x0 : Nat) (x1 : Int32) : Ct yX13_make  cX13_make 7 (some .int) 8 185 eI [av x0, iv x1] (fun σ => Sto_make σ x0 x1) := by
  refine Ct.of (own := RX13) (nm := "make") (desc := "(I)I") rfl (by decide) (Nat.le_of_ble_eq_true rfl) (by decide) (fun X σ => ?_)
  show G X RX13 "make" cX13_make 7 (some .int) 8 185 enI 0 [(0, av x0), (1, iv x1)] [] σ (Sto_make σ x0 x1)
  unfold Sto_make
  refine g_aload_n 0 0 dX13_make_0 rfl rfl ?_
  refine g_getR fdX13_11 dX13_make_1 ?_
  refine g_iload_n 1 1 dX13_make_4 rfl rfl ?_
  refine g_aaload 5 rfl dX13_make_5 ?_
  refine g_nmA (fun y1 => ?_)
  refine g_astore_n 2 dX13_make_6 rfl (by decide) rfl ?_
  refine g_aload_n 2 0 dX13_make_7 rfl rfl ?_
  refine g_getR fdX13_171 dX13_make_8 ?_
  refine g_callV (fc := fun sς => Row_size sς (gR σ y1 3) ) (ci := 3) (as := []) rfl rfl rfl q1421 q1422 mdX13_107 (ctX3_size (gR σ y1 3) ) rfl (Nat.le_of_ble_eq_true rfl) (Nat.le_of_ble_eq_true rfl) (Nat.le_of_ble_eq_true rfl) pu_I dX13_make_11 (fun r3 σ2 => ?_)
  refine g_bipush (v := 9) dX13_make_14 (by decide) ?_
  refine g_idiv dX13_make_16 ?_
  refine g_nmI (fun y4 => ?_)
  refine g_istore_n 3 dX13_make_17 rfl (by decide) rfl ?_
  refine g_iconst (v := 0) dX13_make_18 (by decide) ?_
  refine g_istore dX13_make_19 (by decide) rfl ?_
  refine g_aload_n 0 3 dX13_make_21 rfl rfl ?_
  refine g_getR fdX13_104 dX13_make_22 ?_
  refine g_callV (fc := fun sς => Row_size sς (gR σ2 x0 26) ) (ci := 3) (as := []) rfl rfl rfl q1421 q1422 mdX13_107 (ctX3_size (gR σ2 x0 26) ) rfl (Nat.le_of_ble_eq_true rfl) (Nat.le_of_ble_eq_true rfl) (Nat.le_of_ble_eq_true rfl) pu_I dX13_make_25 (fun r6 σ5 => ?_)
  refine g_iconst (v := 2) dX13_make_28 (by decide) ?_
  refine g_iload_n 3 1 dX13_make_29 rfl rfl ?_
  refine g_imul dX13_make_30 ?_
  refine g_icmp_ne 38 dX13_make_31 (by decide) ?_ ?_
  · refine g_bipush (v := (-2)) dX13_make_38 (by decide) ?_
    refine G.sub [3, 4, 2, 1, 0] rfl ?_
    exact gX13_make_p40 _ _ _ _ _ _ _
  · refine g_iconst (v := 0) dX13_make_34 (by decide) ?_
    refine g_goto 40 dX13_make_35 (by decide) ?_
    refine G.sub [3, 4, 2, 1, 0] rfl ?_
    exact gX13_make_p40 _ _ _ _ _ _ _
