set_option maxRecDepth 100000
theorem V.dL_law_0 : decode code 0 = .ok (.new 7, 3) := by decide +kernel
theorem V.dL_law_3 : decode code 3 = .ok (.dup, 1) := by decide +kernel
theorem V.dL_law_4 : decode code 4 = .ok (.invokespecial 9, 3) := by decide +kernel
theorem V.dL_law_7 : decode code 7 = .ok (.astore_n 1, 1) := by decide +kernel
theorem V.dL_law_8 : decode code 8 = .ok (.new 10, 3) := by decide +kernel
theorem V.dL_law_11 : decode code 11 = .ok (.dup, 1) := by decide +kernel
theorem V.dL_law_12 : decode code 12 = .ok (.invokespecial 12, 3) := by decide +kernel
theorem V.dL_law_15 : decode code 15 = .ok (.astore_n 2, 1) := by decide +kernel
theorem V.dL_law_16 : decode code 16 = .ok (.iconst 0, 1) := by decide +kernel
theorem V.dL_law_17 : decode code 17 = .ok (.istore_n 3, 1) := by decide +kernel
theorem V.dL_law_18 : decode code 18 = .ok (.iload_n 3, 1) := by decide +kernel
theorem V.dL_law_19 : decode code 19 = .ok (.aload_n 0, 1) := by decide +kernel
theorem V.dL_law_20 : decode code 20 = .ok (.arraylength, 1) := by decide +kernel
theorem V.dL_law_21 : decode code 21 = .ok (.bipush 6, 2) := by decide +kernel
theorem V.dL_law_23 : decode code 23 = .ok (.isub, 1) := by decide +kernel
theorem V.dL_law_24 : decode code 24 = .ok (.if_icmp .gt 688, 3) := by decide +kernel
theorem V.dL_law_27 : decode code 27 = .ok (.aload_n 0, 1) := by decide +kernel
theorem V.dL_law_28 : decode code 28 = .ok (.iload_n 3, 1) := by decide +kernel
theorem V.dL_law_29 : decode code 29 = .ok (.iaload, 1) := by decide +kernel
theorem V.dL_law_30 : decode code 30 = .ok (.bipush 31, 2) := by decide +kernel
theorem V.dL_law_32 : decode code 32 = .ok (.iand, 1) := by decide +kernel
theorem V.dL_law_33 : decode code 33 = .ok (.tableswitch 673 0 17 #[87, 150, 173, 196, 229, 252, 305, 338, 361, 374, 387, 410, 434, 457, 500, 543, 596, 639], 87) := by decide +kernel
theorem V.dL_law_120 : decode code 120 = .ok (.aload_n 1, 1) := by decide +kernel
theorem V.dL_law_121 : decode code 121 = .ok (.aload_n 0, 1) := by decide +kernel
theorem V.dL_law_122 : decode code 122 = .ok (.iload_n 3, 1) := by decide +kernel
theorem V.dL_law_123 : decode code 123 = .ok (.iconst 1, 1) := by decide +kernel
theorem V.dL_law_124 : decode code 124 = .ok (.iadd, 1) := by decide +kernel
theorem V.dL_law_125 : decode code 125 = .ok (.iaload, 1) := by decide +kernel
theorem V.dL_law_126 : decode code 126 = .ok (.aload_n 0, 1) := by decide +kernel
theorem V.dL_law_127 : decode code 127 = .ok (.iload_n 3, 1) := by decide +kernel
theorem V.dL_law_128 : decode code 128 = .ok (.iconst 2, 1) := by decide +kernel
theorem V.dL_law_129 : decode code 129 = .ok (.iadd, 1) := by decide +kernel
theorem V.dL_law_130 : decode code 130 = .ok (.iaload, 1) := by decide +kernel
theorem V.dL_law_131 : decode code 131 = .ok (.aload_n 0, 1) := by decide +kernel
theorem V.dL_law_132 : decode code 132 = .ok (.iload_n 3, 1) := by decide +kernel
theorem V.dL_law_133 : decode code 133 = .ok (.iconst 3, 1) := by decide +kernel
theorem V.dL_law_134 : decode code 134 = .ok (.iadd, 1) := by decide +kernel
theorem V.dL_law_135 : decode code 135 = .ok (.iaload, 1) := by decide +kernel
theorem V.dL_law_136 : decode code 136 = .ok (.aload_n 0, 1) := by decide +kernel
theorem V.dL_law_137 : decode code 137 = .ok (.iload_n 3, 1) := by decide +kernel
theorem V.dL_law_138 : decode code 138 = .ok (.iconst 4, 1) := by decide +kernel
theorem V.dL_law_139 : decode code 139 = .ok (.iadd, 1) := by decide +kernel
theorem V.dL_law_140 : decode code 140 = .ok (.iaload, 1) := by decide +kernel
theorem V.dL_law_141 : decode code 141 = .ok (.aload_n 0, 1) := by decide +kernel
theorem V.dL_law_142 : decode code 142 = .ok (.iload_n 3, 1) := by decide +kernel
theorem V.dL_law_143 : decode code 143 = .ok (.iconst 5, 1) := by decide +kernel
theorem V.dL_law_144 : decode code 144 = .ok (.iadd, 1) := by decide +kernel
theorem V.dL_law_145 : decode code 145 = .ok (.iaload, 1) := by decide +kernel
theorem V.dL_law_146 : decode code 146 = .ok (.invokevirtual 13, 3) := by decide +kernel
theorem V.dL_law_149 : decode code 149 = .ok (.aload_n 2, 1) := by decide +kernel
theorem V.dL_law_150 : decode code 150 = .ok (.aload_n 0, 1) := by decide +kernel
theorem V.dL_law_151 : decode code 151 = .ok (.iload_n 3, 1) := by decide +kernel
theorem V.dL_law_152 : decode code 152 = .ok (.iconst 1, 1) := by decide +kernel
theorem V.dL_law_153 : decode code 153 = .ok (.iadd, 1) := by decide +kernel
theorem V.dL_law_154 : decode code 154 = .ok (.iaload, 1) := by decide +kernel
theorem V.dL_law_155 : decode code 155 = .ok (.aload_n 0, 1) := by decide +kernel
theorem V.dL_law_156 : decode code 156 = .ok (.iload_n 3, 1) := by decide +kernel
theorem V.dL_law_157 : decode code 157 = .ok (.iconst 2, 1) := by decide +kernel
theorem V.dL_law_158 : decode code 158 = .ok (.iadd, 1) := by decide +kernel
theorem V.dL_law_159 : decode code 159 = .ok (.iaload, 1) := by decide +kernel
theorem V.dL_law_160 : decode code 160 = .ok (.aload_n 0, 1) := by decide +kernel
theorem V.dL_law_161 : decode code 161 = .ok (.iload_n 3, 1) := by decide +kernel
theorem V.dL_law_162 : decode code 162 = .ok (.iconst 3, 1) := by decide +kernel
theorem V.dL_law_163 : decode code 163 = .ok (.iadd, 1) := by decide +kernel
theorem V.dL_law_164 : decode code 164 = .ok (.iaload, 1) := by decide +kernel
theorem V.dL_law_165 : decode code 165 = .ok (.aload_n 0, 1) := by decide +kernel
theorem V.dL_law_166 : decode code 166 = .ok (.iload_n 3, 1) := by decide +kernel
theorem V.dL_law_167 : decode code 167 = .ok (.iconst 4, 1) := by decide +kernel
theorem V.dL_law_168 : decode code 168 = .ok (.iadd, 1) := by decide +kernel
theorem V.dL_law_169 : decode code 169 = .ok (.iaload, 1) := by decide +kernel
theorem V.dL_law_170 : decode code 170 = .ok (.aload_n 0, 1) := by decide +kernel
theorem V.dL_law_171 : decode code 171 = .ok (.iload_n 3, 1) := by decide +kernel
theorem V.dL_law_172 : decode code 172 = .ok (.iconst 5, 1) := by decide +kernel
theorem V.dL_law_173 : decode code 173 = .ok (.iadd, 1) := by decide +kernel
theorem V.dL_law_174 : decode code 174 = .ok (.iaload, 1) := by decide +kernel
theorem V.dL_law_175 : decode code 175 = .ok (.invokevirtual 17, 3) := by decide +kernel
theorem V.dL_law_178 : decode code 178 = .ok (.if_icmp .eq 528, 3) := by decide +kernel
theorem V.dL_law_181 : decode code 181 = .ok (.iconst 0, 1) := by decide +kernel
theorem V.dL_law_182 : decode code 182 = .ok (.ireturn, 1) := by decide +kernel
theorem V.dL_law_183 : decode code 183 = .ok (.aload_n 1, 1) := by decide +kernel
theorem V.dL_law_184 : decode code 184 = .ok (.aload_n 0, 1) := by decide +kernel
theorem V.dL_law_185 : decode code 185 = .ok (.iload_n 3, 1) := by decide +kernel
theorem V.dL_law_186 : decode code 186 = .ok (.iconst 1, 1) := by decide +kernel
theorem V.dL_law_187 : decode code 187 = .ok (.iadd, 1) := by decide +kernel
theorem V.dL_law_188 : decode code 188 = .ok (.iaload, 1) := by decide +kernel
theorem V.dL_law_189 : decode code 189 = .ok (.invokevirtual 18, 3) := by decide +kernel
theorem V.dL_law_192 : decode code 192 = .ok (.aload_n 2, 1) := by decide +kernel
theorem V.dL_law_193 : decode code 193 = .ok (.aload_n 0, 1) := by decide +kernel
theorem V.dL_law_194 : decode code 194 = .ok (.iload_n 3, 1) := by decide +kernel
theorem V.dL_law_195 : decode code 195 = .ok (.iconst 1, 1) := by decide +kernel
theorem V.dL_law_196 : decode code 196 = .ok (.iadd, 1) := by decide +kernel
theorem V.dL_law_197 : decode code 197 = .ok (.iaload, 1) := by decide +kernel
theorem V.dL_law_198 : decode code 198 = .ok (.invokevirtual 22, 3) := by decide +kernel
theorem V.dL_law_201 : decode code 201 = .ok (.if_icmp .eq 505, 3) := by decide +kernel
theorem V.dL_law_204 : decode code 204 = .ok (.iconst 0, 1) := by decide +kernel
theorem V.dL_law_205 : decode code 205 = .ok (.ireturn, 1) := by decide +kernel
theorem V.dL_law_206 : decode code 206 = .ok (.aload_n 1, 1) := by decide +kernel
theorem V.dL_law_207 : decode code 207 = .ok (.aload_n 0, 1) := by decide +kernel
theorem V.dL_law_208 : decode code 208 = .ok (.iload_n 3, 1) := by decide +kernel
theorem V.dL_law_209 : decode code 209 = .ok (.iconst 1, 1) := by decide +kernel
theorem V.dL_law_210 : decode code 210 = .ok (.iadd, 1) := by decide +kernel
theorem V.dL_law_211 : decode code 211 = .ok (.iaload, 1) := by decide +kernel
theorem V.dL_law_212 : decode code 212 = .ok (.invokevirtual 23, 3) := by decide +kernel
theorem V.dL_law_215 : decode code 215 = .ok (.aload_n 2, 1) := by decide +kernel
theorem V.dL_law_216 : decode code 216 = .ok (.aload_n 0, 1) := by decide +kernel
theorem V.dL_law_217 : decode code 217 = .ok (.iload_n 3, 1) := by decide +kernel
theorem V.dL_law_218 : decode code 218 = .ok (.iconst 1, 1) := by decide +kernel
theorem V.dL_law_219 : decode code 219 = .ok (.iadd, 1) := by decide +kernel
theorem V.dL_law_220 : decode code 220 = .ok (.iaload, 1) := by decide +kernel
theorem V.dL_law_221 : decode code 221 = .ok (.invokevirtual 26, 3) := by decide +kernel
theorem V.dL_law_224 : decode code 224 = .ok (.if_icmp .eq 482, 3) := by decide +kernel
theorem V.dL_law_227 : decode code 227 = .ok (.iconst 0, 1) := by decide +kernel
theorem V.dL_law_228 : decode code 228 = .ok (.ireturn, 1) := by decide +kernel
theorem V.dL_law_229 : decode code 229 = .ok (.aload_n 1, 1) := by decide +kernel
theorem V.dL_law_230 : decode code 230 = .ok (.aload_n 0, 1) := by decide +kernel
theorem V.dL_law_231 : decode code 231 = .ok (.iload_n 3, 1) := by decide +kernel
theorem V.dL_law_232 : decode code 232 = .ok (.iconst 1, 1) := by decide +kernel
theorem V.dL_law_233 : decode code 233 = .ok (.iadd, 1) := by decide +kernel
theorem V.dL_law_234 : decode code 234 = .ok (.iaload, 1) := by decide +kernel
theorem V.dL_law_235 : decode code 235 = .ok (.aload_n 0, 1) := by decide +kernel
theorem V.dL_law_236 : decode code 236 = .ok (.iload_n 3, 1) := by decide +kernel
theorem V.dL_law_237 : decode code 237 = .ok (.iconst 2, 1) := by decide +kernel
theorem V.dL_law_238 : decode code 238 = .ok (.iadd, 1) := by decide +kernel
theorem V.dL_law_239 : decode code 239 = .ok (.iaload, 1) := by decide +kernel
theorem V.dL_law_240 : decode code 240 = .ok (.invokevirtual 27, 3) := by decide +kernel
theorem V.dL_law_243 : decode code 243 = .ok (.aload_n 2, 1) := by decide +kernel
theorem V.dL_law_244 : decode code 244 = .ok (.aload_n 0, 1) := by decide +kernel
theorem V.dL_law_245 : decode code 245 = .ok (.iload_n 3, 1) := by decide +kernel
theorem V.dL_law_246 : decode code 246 = .ok (.iconst 1, 1) := by decide +kernel
theorem V.dL_law_247 : decode code 247 = .ok (.iadd, 1) := by decide +kernel
theorem V.dL_law_248 : decode code 248 = .ok (.iaload, 1) := by decide +kernel
theorem V.dL_law_249 : decode code 249 = .ok (.aload_n 0, 1) := by decide +kernel
theorem V.dL_law_250 : decode code 250 = .ok (.iload_n 3, 1) := by decide +kernel
theorem V.dL_law_251 : decode code 251 = .ok (.iconst 2, 1) := by decide +kernel
theorem V.dL_law_252 : decode code 252 = .ok (.iadd, 1) := by decide +kernel
theorem V.dL_law_253 : decode code 253 = .ok (.iaload, 1) := by decide +kernel
theorem V.dL_law_254 : decode code 254 = .ok (.invokevirtual 31, 3) := by decide +kernel
theorem V.dL_law_257 : decode code 257 = .ok (.if_icmp .eq 449, 3) := by decide +kernel
theorem V.dL_law_260 : decode code 260 = .ok (.iconst 0, 1) := by decide +kernel
theorem V.dL_law_261 : decode code 261 = .ok (.ireturn, 1) := by decide +kernel
theorem V.dL_law_262 : decode code 262 = .ok (.aload_n 1, 1) := by decide +kernel
theorem V.dL_law_263 : decode code 263 = .ok (.aload_n 0, 1) := by decide +kernel
theorem V.dL_law_264 : decode code 264 = .ok (.iload_n 3, 1) := by decide +kernel
theorem V.dL_law_265 : decode code 265 = .ok (.iconst 1, 1) := by decide +kernel
theorem V.dL_law_266 : decode code 266 = .ok (.iadd, 1) := by decide +kernel
theorem V.dL_law_267 : decode code 267 = .ok (.iaload, 1) := by decide +kernel
theorem V.dL_law_268 : decode code 268 = .ok (.invokevirtual 32, 3) := by decide +kernel
theorem V.dL_law_271 : decode code 271 = .ok (.aload_n 2, 1) := by decide +kernel
theorem V.dL_law_272 : decode code 272 = .ok (.aload_n 0, 1) := by decide +kernel
theorem V.dL_law_273 : decode code 273 = .ok (.iload_n 3, 1) := by decide +kernel
theorem V.dL_law_274 : decode code 274 = .ok (.iconst 1, 1) := by decide +kernel
theorem V.dL_law_275 : decode code 275 = .ok (.iadd, 1) := by decide +kernel
theorem V.dL_law_276 : decode code 276 = .ok (.iaload, 1) := by decide +kernel
theorem V.dL_law_277 : decode code 277 = .ok (.invokevirtual 35, 3) := by decide +kernel
theorem V.dL_law_280 : decode code 280 = .ok (.if_icmp .eq 426, 3) := by decide +kernel
theorem V.dL_law_283 : decode code 283 = .ok (.iconst 0, 1) := by decide +kernel
theorem V.dL_law_284 : decode code 284 = .ok (.ireturn, 1) := by decide +kernel
theorem V.dL_law_285 : decode code 285 = .ok (.aload_n 1, 1) := by decide +kernel
theorem V.dL_law_286 : decode code 286 = .ok (.aload_n 0, 1) := by decide +kernel
theorem V.dL_law_287 : decode code 287 = .ok (.iload_n 3, 1) := by decide +kernel
theorem V.dL_law_288 : decode code 288 = .ok (.iconst 1, 1) := by decide +kernel
theorem V.dL_law_289 : decode code 289 = .ok (.iadd, 1) := by decide +kernel
theorem V.dL_law_290 : decode code 290 = .ok (.iaload, 1) := by decide +kernel
theorem V.dL_law_291 : decode code 291 = .ok (.i2l, 1) := by decide +kernel
theorem V.dL_law_292 : decode code 292 = .ok (.bipush 32, 2) := by decide +kernel
theorem V.dL_law_294 : decode code 294 = .ok (.lshl, 1) := by decide +kernel
theorem V.dL_law_295 : decode code 295 = .ok (.aload_n 0, 1) := by decide +kernel
theorem V.dL_law_296 : decode code 296 = .ok (.iload_n 3, 1) := by decide +kernel
theorem V.dL_law_297 : decode code 297 = .ok (.iconst 2, 1) := by decide +kernel
theorem V.dL_law_298 : decode code 298 = .ok (.iadd, 1) := by decide +kernel
theorem V.dL_law_299 : decode code 299 = .ok (.iaload, 1) := by decide +kernel
theorem V.dL_law_300 : decode code 300 = .ok (.i2l, 1) := by decide +kernel
theorem V.dL_law_301 : decode code 301 = .ok (.ldc2_w 36, 3) := by decide +kernel
theorem V.dL_law_304 : decode code 304 = .ok (.land, 1) := by decide +kernel
theorem V.dL_law_305 : decode code 305 = .ok (.lor, 1) := by decide +kernel
theorem V.dL_law_306 : decode code 306 = .ok (.invokevirtual 38, 3) := by decide +kernel
theorem V.dL_law_309 : decode code 309 = .ok (.aload_n 2, 1) := by decide +kernel
theorem V.dL_law_310 : decode code 310 = .ok (.aload_n 0, 1) := by decide +kernel
theorem V.dL_law_311 : decode code 311 = .ok (.iload_n 3, 1) := by decide +kernel
theorem V.dL_law_312 : decode code 312 = .ok (.iconst 1, 1) := by decide +kernel
theorem V.dL_law_313 : decode code 313 = .ok (.iadd, 1) := by decide +kernel
theorem V.dL_law_314 : decode code 314 = .ok (.iaload, 1) := by decide +kernel
theorem V.dL_law_315 : decode code 315 = .ok (.i2l, 1) := by decide +kernel
theorem V.dL_law_316 : decode code 316 = .ok (.bipush 32, 2) := by decide +kernel
theorem V.dL_law_318 : decode code 318 = .ok (.lshl, 1) := by decide +kernel
theorem V.dL_law_319 : decode code 319 = .ok (.aload_n 0, 1) := by decide +kernel
theorem V.dL_law_320 : decode code 320 = .ok (.iload_n 3, 1) := by decide +kernel
theorem V.dL_law_321 : decode code 321 = .ok (.iconst 2, 1) := by decide +kernel
theorem V.dL_law_322 : decode code 322 = .ok (.iadd, 1) := by decide +kernel
theorem V.dL_law_323 : decode code 323 = .ok (.iaload, 1) := by decide +kernel
theorem V.dL_law_324 : decode code 324 = .ok (.i2l, 1) := by decide +kernel
theorem V.dL_law_325 : decode code 325 = .ok (.ldc2_w 36, 3) := by decide +kernel
theorem V.dL_law_328 : decode code 328 = .ok (.land, 1) := by decide +kernel
theorem V.dL_law_329 : decode code 329 = .ok (.lor, 1) := by decide +kernel
theorem V.dL_law_330 : decode code 330 = .ok (.invokevirtual 42, 3) := by decide +kernel
theorem V.dL_law_333 : decode code 333 = .ok (.if_icmp .eq 373, 3) := by decide +kernel
theorem V.dL_law_336 : decode code 336 = .ok (.iconst 0, 1) := by decide +kernel
theorem V.dL_law_337 : decode code 337 = .ok (.ireturn, 1) := by decide +kernel
theorem V.dL_law_338 : decode code 338 = .ok (.aload_n 1, 1) := by decide +kernel
theorem V.dL_law_339 : decode code 339 = .ok (.aload_n 0, 1) := by decide +kernel
theorem V.dL_law_340 : decode code 340 = .ok (.iload_n 3, 1) := by decide +kernel
theorem V.dL_law_341 : decode code 341 = .ok (.iconst 1, 1) := by decide +kernel
theorem V.dL_law_342 : decode code 342 = .ok (.iadd, 1) := by decide +kernel
theorem V.dL_law_343 : decode code 343 = .ok (.iaload, 1) := by decide +kernel
theorem V.dL_law_344 : decode code 344 = .ok (.aload_n 0, 1) := by decide +kernel
theorem V.dL_law_345 : decode code 345 = .ok (.iload_n 3, 1) := by decide +kernel
theorem V.dL_law_346 : decode code 346 = .ok (.iconst 2, 1) := by decide +kernel
theorem V.dL_law_347 : decode code 347 = .ok (.iadd, 1) := by decide +kernel
theorem V.dL_law_348 : decode code 348 = .ok (.iaload, 1) := by decide +kernel
theorem V.dL_law_349 : decode code 349 = .ok (.invokevirtual 43, 3) := by decide +kernel
theorem V.dL_law_352 : decode code 352 = .ok (.aload_n 2, 1) := by decide +kernel
theorem V.dL_law_353 : decode code 353 = .ok (.aload_n 0, 1) := by decide +kernel
theorem V.dL_law_354 : decode code 354 = .ok (.iload_n 3, 1) := by decide +kernel
theorem V.dL_law_355 : decode code 355 = .ok (.iconst 1, 1) := by decide +kernel
theorem V.dL_law_356 : decode code 356 = .ok (.iadd, 1) := by decide +kernel
theorem V.dL_law_357 : decode code 357 = .ok (.iaload, 1) := by decide +kernel
theorem V.dL_law_358 : decode code 358 = .ok (.aload_n 0, 1) := by decide +kernel
theorem V.dL_law_359 : decode code 359 = .ok (.iload_n 3, 1) := by decide +kernel
theorem V.dL_law_360 : decode code 360 = .ok (.iconst 2, 1) := by decide +kernel
theorem V.dL_law_361 : decode code 361 = .ok (.iadd, 1) := by decide +kernel
theorem V.dL_law_362 : decode code 362 = .ok (.iaload, 1) := by decide +kernel
theorem V.dL_law_363 : decode code 363 = .ok (.invokevirtual 47, 3) := by decide +kernel
theorem V.dL_law_366 : decode code 366 = .ok (.if_icmp .eq 340, 3) := by decide +kernel
theorem V.dL_law_369 : decode code 369 = .ok (.iconst 0, 1) := by decide +kernel
theorem V.dL_law_370 : decode code 370 = .ok (.ireturn, 1) := by decide +kernel
theorem V.dL_law_371 : decode code 371 = .ok (.aload_n 1, 1) := by decide +kernel
theorem V.dL_law_372 : decode code 372 = .ok (.aload_n 0, 1) := by decide +kernel
theorem V.dL_law_373 : decode code 373 = .ok (.iload_n 3, 1) := by decide +kernel
theorem V.dL_law_374 : decode code 374 = .ok (.iconst 1, 1) := by decide +kernel
theorem V.dL_law_375 : decode code 375 = .ok (.iadd, 1) := by decide +kernel
theorem V.dL_law_376 : decode code 376 = .ok (.iaload, 1) := by decide +kernel
theorem V.dL_law_377 : decode code 377 = .ok (.invokevirtual 48, 3) := by decide +kernel
theorem V.dL_law_380 : decode code 380 = .ok (.aload_n 2, 1) := by decide +kernel
theorem V.dL_law_381 : decode code 381 = .ok (.aload_n 0, 1) := by decide +kernel
theorem V.dL_law_382 : decode code 382 = .ok (.iload_n 3, 1) := by decide +kernel
theorem V.dL_law_383 : decode code 383 = .ok (.iconst 1, 1) := by decide +kernel
theorem V.dL_law_384 : decode code 384 = .ok (.iadd, 1) := by decide +kernel
theorem V.dL_law_385 : decode code 385 = .ok (.iaload, 1) := by decide +kernel
theorem V.dL_law_386 : decode code 386 = .ok (.invokevirtual 51, 3) := by decide +kernel
theorem V.dL_law_389 : decode code 389 = .ok (.if_icmp .eq 317, 3) := by decide +kernel
theorem V.dL_law_392 : decode code 392 = .ok (.iconst 0, 1) := by decide +kernel
theorem V.dL_law_393 : decode code 393 = .ok (.ireturn, 1) := by decide +kernel
theorem V.dL_law_394 : decode code 394 = .ok (.aload_n 1, 1) := by decide +kernel
theorem V.dL_law_395 : decode code 395 = .ok (.invokevirtual 52, 3) := by decide +kernel
theorem V.dL_law_398 : decode code 398 = .ok (.aload_n 2, 1) := by decide +kernel
theorem V.dL_law_399 : decode code 399 = .ok (.invokevirtual 56, 3) := by decide +kernel
theorem V.dL_law_402 : decode code 402 = .ok (.if_icmp .eq 304, 3) := by decide +kernel
theorem V.dL_law_405 : decode code 405 = .ok (.iconst 0, 1) := by decide +kernel
theorem V.dL_law_406 : decode code 406 = .ok (.ireturn, 1) := by decide +kernel
theorem V.dL_law_407 : decode code 407 = .ok (.aload_n 1, 1) := by decide +kernel
theorem V.dL_law_408 : decode code 408 = .ok (.invokevirtual 57, 3) := by decide +kernel
theorem V.dL_law_411 : decode code 411 = .ok (.aload_n 2, 1) := by decide +kernel
theorem V.dL_law_412 : decode code 412 = .ok (.invokevirtual 60, 3) := by decide +kernel
theorem V.dL_law_415 : decode code 415 = .ok (.if_icmp .eq 291, 3) := by decide +kernel
theorem V.dL_law_418 : decode code 418 = .ok (.iconst 0, 1) := by decide +kernel
theorem V.dL_law_419 : decode code 419 = .ok (.ireturn, 1) := by decide +kernel
theorem V.dL_law_420 : decode code 420 = .ok (.aload_n 1, 1) := by decide +kernel
theorem V.dL_law_421 : decode code 421 = .ok (.aload_n 0, 1) := by decide +kernel
theorem V.dL_law_422 : decode code 422 = .ok (.iload_n 3, 1) := by decide +kernel
theorem V.dL_law_423 : decode code 423 = .ok (.iconst 1, 1) := by decide +kernel
theorem V.dL_law_424 : decode code 424 = .ok (.iadd, 1) := by decide +kernel
theorem V.dL_law_425 : decode code 425 = .ok (.iaload, 1) := by decide +kernel
theorem V.dL_law_426 : decode code 426 = .ok (.invokevirtual 61, 3) := by decide +kernel
theorem V.dL_law_429 : decode code 429 = .ok (.aload_n 2, 1) := by decide +kernel
theorem V.dL_law_430 : decode code 430 = .ok (.aload_n 0, 1) := by decide +kernel
theorem V.dL_law_431 : decode code 431 = .ok (.iload_n 3, 1) := by decide +kernel
theorem V.dL_law_432 : decode code 432 = .ok (.iconst 1, 1) := by decide +kernel
theorem V.dL_law_433 : decode code 433 = .ok (.iadd, 1) := by decide +kernel
theorem V.dL_law_434 : decode code 434 = .ok (.iaload, 1) := by decide +kernel
theorem V.dL_law_435 : decode code 435 = .ok (.invokevirtual 64, 3) := by decide +kernel
theorem V.dL_law_438 : decode code 438 = .ok (.if_icmp .eq 268, 3) := by decide +kernel
theorem V.dL_law_441 : decode code 441 = .ok (.iconst 0, 1) := by decide +kernel
theorem V.dL_law_442 : decode code 442 = .ok (.ireturn, 1) := by decide +kernel
theorem V.dL_law_443 : decode code 443 = .ok (.aload_n 1, 1) := by decide +kernel
theorem V.dL_law_444 : decode code 444 = .ok (.aload_n 0, 1) := by decide +kernel
theorem V.dL_law_445 : decode code 445 = .ok (.iload_n 3, 1) := by decide +kernel
theorem V.dL_law_446 : decode code 446 = .ok (.iconst 1, 1) := by decide +kernel
theorem V.dL_law_447 : decode code 447 = .ok (.iadd, 1) := by decide +kernel
theorem V.dL_law_448 : decode code 448 = .ok (.iaload, 1) := by decide +kernel
theorem V.dL_law_449 : decode code 449 = .ok (.invokevirtual 65, 3) := by decide +kernel
theorem V.dL_law_452 : decode code 452 = .ok (.aload_n 2, 1) := by decide +kernel
theorem V.dL_law_453 : decode code 453 = .ok (.aload_n 0, 1) := by decide +kernel
theorem V.dL_law_454 : decode code 454 = .ok (.iload_n 3, 1) := by decide +kernel
theorem V.dL_law_455 : decode code 455 = .ok (.iconst 1, 1) := by decide +kernel
theorem V.dL_law_456 : decode code 456 = .ok (.iadd, 1) := by decide +kernel
theorem V.dL_law_457 : decode code 457 = .ok (.iaload, 1) := by decide +kernel
theorem V.dL_law_458 : decode code 458 = .ok (.invokevirtual 69, 3) := by decide +kernel
theorem V.dL_law_461 : decode code 461 = .ok (.lcmp, 1) := by decide +kernel
theorem V.dL_law_462 : decode code 462 = .ok (.ifCond .eq 244, 3) := by decide +kernel
theorem V.dL_law_465 : decode code 465 = .ok (.iconst 0, 1) := by decide +kernel
theorem V.dL_law_466 : decode code 466 = .ok (.ireturn, 1) := by decide +kernel
theorem V.dL_law_467 : decode code 467 = .ok (.aload_n 1, 1) := by decide +kernel
theorem V.dL_law_468 : decode code 468 = .ok (.aload_n 0, 1) := by decide +kernel
theorem V.dL_law_469 : decode code 469 = .ok (.iload_n 3, 1) := by decide +kernel
theorem V.dL_law_470 : decode code 470 = .ok (.iconst 1, 1) := by decide +kernel
theorem V.dL_law_471 : decode code 471 = .ok (.iadd, 1) := by decide +kernel
theorem V.dL_law_472 : decode code 472 = .ok (.iaload, 1) := by decide +kernel
theorem V.dL_law_473 : decode code 473 = .ok (.invokevirtual 70, 3) := by decide +kernel
theorem V.dL_law_476 : decode code 476 = .ok (.aload_n 2, 1) := by decide +kernel
theorem V.dL_law_477 : decode code 477 = .ok (.aload_n 0, 1) := by decide +kernel
theorem V.dL_law_478 : decode code 478 = .ok (.iload_n 3, 1) := by decide +kernel
theorem V.dL_law_479 : decode code 479 = .ok (.iconst 1, 1) := by decide +kernel
theorem V.dL_law_480 : decode code 480 = .ok (.iadd, 1) := by decide +kernel
theorem V.dL_law_481 : decode code 481 = .ok (.iaload, 1) := by decide +kernel
theorem V.dL_law_482 : decode code 482 = .ok (.invokevirtual 73, 3) := by decide +kernel
theorem V.dL_law_485 : decode code 485 = .ok (.if_icmp .eq 221, 3) := by decide +kernel
theorem V.dL_law_488 : decode code 488 = .ok (.iconst 0, 1) := by decide +kernel
theorem V.dL_law_489 : decode code 489 = .ok (.ireturn, 1) := by decide +kernel
theorem V.dL_law_490 : decode code 490 = .ok (.aload_n 1, 1) := by decide +kernel
theorem V.dL_law_491 : decode code 491 = .ok (.aload_n 0, 1) := by decide +kernel
theorem V.dL_law_492 : decode code 492 = .ok (.iload_n 3, 1) := by decide +kernel
theorem V.dL_law_493 : decode code 493 = .ok (.iconst 1, 1) := by decide +kernel
theorem V.dL_law_494 : decode code 494 = .ok (.iadd, 1) := by decide +kernel
theorem V.dL_law_495 : decode code 495 = .ok (.iaload, 1) := by decide +kernel
theorem V.dL_law_496 : decode code 496 = .ok (.aload_n 0, 1) := by decide +kernel
theorem V.dL_law_497 : decode code 497 = .ok (.iload_n 3, 1) := by decide +kernel
theorem V.dL_law_498 : decode code 498 = .ok (.iconst 2, 1) := by decide +kernel
theorem V.dL_law_499 : decode code 499 = .ok (.iadd, 1) := by decide +kernel
theorem V.dL_law_500 : decode code 500 = .ok (.iaload, 1) := by decide +kernel
theorem V.dL_law_501 : decode code 501 = .ok (.aload_n 0, 1) := by decide +kernel
theorem V.dL_law_502 : decode code 502 = .ok (.iload_n 3, 1) := by decide +kernel
theorem V.dL_law_503 : decode code 503 = .ok (.iconst 3, 1) := by decide +kernel
theorem V.dL_law_504 : decode code 504 = .ok (.iadd, 1) := by decide +kernel
theorem V.dL_law_505 : decode code 505 = .ok (.iaload, 1) := by decide +kernel
theorem V.dL_law_506 : decode code 506 = .ok (.invokevirtual 74, 3) := by decide +kernel
theorem V.dL_law_509 : decode code 509 = .ok (.aload_n 2, 1) := by decide +kernel
theorem V.dL_law_510 : decode code 510 = .ok (.aload_n 0, 1) := by decide +kernel
theorem V.dL_law_511 : decode code 511 = .ok (.iload_n 3, 1) := by decide +kernel
theorem V.dL_law_512 : decode code 512 = .ok (.iconst 1, 1) := by decide +kernel
theorem V.dL_law_513 : decode code 513 = .ok (.iadd, 1) := by decide +kernel
theorem V.dL_law_514 : decode code 514 = .ok (.iaload, 1) := by decide +kernel
theorem V.dL_law_515 : decode code 515 = .ok (.aload_n 0, 1) := by decide +kernel
theorem V.dL_law_516 : decode code 516 = .ok (.iload_n 3, 1) := by decide +kernel
theorem V.dL_law_517 : decode code 517 = .ok (.iconst 2, 1) := by decide +kernel
theorem V.dL_law_518 : decode code 518 = .ok (.iadd, 1) := by decide +kernel
theorem V.dL_law_519 : decode code 519 = .ok (.iaload, 1) := by decide +kernel
theorem V.dL_law_520 : decode code 520 = .ok (.aload_n 0, 1) := by decide +kernel
theorem V.dL_law_521 : decode code 521 = .ok (.iload_n 3, 1) := by decide +kernel
theorem V.dL_law_522 : decode code 522 = .ok (.iconst 3, 1) := by decide +kernel
theorem V.dL_law_523 : decode code 523 = .ok (.iadd, 1) := by decide +kernel
theorem V.dL_law_524 : decode code 524 = .ok (.iaload, 1) := by decide +kernel
theorem V.dL_law_525 : decode code 525 = .ok (.invokevirtual 78, 3) := by decide +kernel
theorem V.dL_law_528 : decode code 528 = .ok (.if_icmp .eq 178, 3) := by decide +kernel
theorem V.dL_law_531 : decode code 531 = .ok (.iconst 0, 1) := by decide +kernel
theorem V.dL_law_532 : decode code 532 = .ok (.ireturn, 1) := by decide +kernel
theorem V.dL_law_533 : decode code 533 = .ok (.aload_n 1, 1) := by decide +kernel
theorem V.dL_law_534 : decode code 534 = .ok (.aload_n 0, 1) := by decide +kernel
theorem V.dL_law_535 : decode code 535 = .ok (.iload_n 3, 1) := by decide +kernel
theorem V.dL_law_536 : decode code 536 = .ok (.iconst 1, 1) := by decide +kernel
theorem V.dL_law_537 : decode code 537 = .ok (.iadd, 1) := by decide +kernel
theorem V.dL_law_538 : decode code 538 = .ok (.iaload, 1) := by decide +kernel
theorem V.dL_law_539 : decode code 539 = .ok (.aload_n 0, 1) := by decide +kernel
theorem V.dL_law_540 : decode code 540 = .ok (.iload_n 3, 1) := by decide +kernel
theorem V.dL_law_541 : decode code 541 = .ok (.iconst 2, 1) := by decide +kernel
theorem V.dL_law_542 : decode code 542 = .ok (.iadd, 1) := by decide +kernel
theorem V.dL_law_543 : decode code 543 = .ok (.iaload, 1) := by decide +kernel
theorem V.dL_law_544 : decode code 544 = .ok (.aload_n 0, 1) := by decide +kernel
theorem V.dL_law_545 : decode code 545 = .ok (.iload_n 3, 1) := by decide +kernel
theorem V.dL_law_546 : decode code 546 = .ok (.iconst 3, 1) := by decide +kernel
theorem V.dL_law_547 : decode code 547 = .ok (.iadd, 1) := by decide +kernel
theorem V.dL_law_548 : decode code 548 = .ok (.iaload, 1) := by decide +kernel
theorem V.dL_law_549 : decode code 549 = .ok (.invokevirtual 79, 3) := by decide +kernel
theorem V.dL_law_552 : decode code 552 = .ok (.aload_n 2, 1) := by decide +kernel
theorem V.dL_law_553 : decode code 553 = .ok (.aload_n 0, 1) := by decide +kernel
theorem V.dL_law_554 : decode code 554 = .ok (.iload_n 3, 1) := by decide +kernel
theorem V.dL_law_555 : decode code 555 = .ok (.iconst 1, 1) := by decide +kernel
theorem V.dL_law_556 : decode code 556 = .ok (.iadd, 1) := by decide +kernel
theorem V.dL_law_557 : decode code 557 = .ok (.iaload, 1) := by decide +kernel
theorem V.dL_law_558 : decode code 558 = .ok (.aload_n 0, 1) := by decide +kernel
theorem V.dL_law_559 : decode code 559 = .ok (.iload_n 3, 1) := by decide +kernel
theorem V.dL_law_560 : decode code 560 = .ok (.iconst 2, 1) := by decide +kernel
theorem V.dL_law_561 : decode code 561 = .ok (.iadd, 1) := by decide +kernel
theorem V.dL_law_562 : decode code 562 = .ok (.iaload, 1) := by decide +kernel
theorem V.dL_law_563 : decode code 563 = .ok (.aload_n 0, 1) := by decide +kernel
theorem V.dL_law_564 : decode code 564 = .ok (.iload_n 3, 1) := by decide +kernel
theorem V.dL_law_565 : decode code 565 = .ok (.iconst 3, 1) := by decide +kernel
theorem V.dL_law_566 : decode code 566 = .ok (.iadd, 1) := by decide +kernel
theorem V.dL_law_567 : decode code 567 = .ok (.iaload, 1) := by decide +kernel
theorem V.dL_law_568 : decode code 568 = .ok (.invokevirtual 82, 3) := by decide +kernel
theorem V.dL_law_571 : decode code 571 = .ok (.if_icmp .eq 135, 3) := by decide +kernel
theorem V.dL_law_574 : decode code 574 = .ok (.iconst 0, 1) := by decide +kernel
theorem V.dL_law_575 : decode code 575 = .ok (.ireturn, 1) := by decide +kernel
theorem V.dL_law_576 : decode code 576 = .ok (.aload_n 1, 1) := by decide +kernel
theorem V.dL_law_577 : decode code 577 = .ok (.aload_n 0, 1) := by decide +kernel
theorem V.dL_law_578 : decode code 578 = .ok (.iload_n 3, 1) := by decide +kernel
theorem V.dL_law_579 : decode code 579 = .ok (.iconst 1, 1) := by decide +kernel
theorem V.dL_law_580 : decode code 580 = .ok (.iadd, 1) := by decide +kernel
theorem V.dL_law_581 : decode code 581 = .ok (.iaload, 1) := by decide +kernel
theorem V.dL_law_582 : decode code 582 = .ok (.aload_n 0, 1) := by decide +kernel
theorem V.dL_law_583 : decode code 583 = .ok (.iload_n 3, 1) := by decide +kernel
theorem V.dL_law_584 : decode code 584 = .ok (.iconst 2, 1) := by decide +kernel
theorem V.dL_law_585 : decode code 585 = .ok (.iadd, 1) := by decide +kernel
theorem V.dL_law_586 : decode code 586 = .ok (.iaload, 1) := by decide +kernel
theorem V.dL_law_587 : decode code 587 = .ok (.aload_n 0, 1) := by decide +kernel
theorem V.dL_law_588 : decode code 588 = .ok (.iload_n 3, 1) := by decide +kernel
theorem V.dL_law_589 : decode code 589 = .ok (.iconst 3, 1) := by decide +kernel
theorem V.dL_law_590 : decode code 590 = .ok (.iadd, 1) := by decide +kernel
theorem V.dL_law_591 : decode code 591 = .ok (.iaload, 1) := by decide +kernel
theorem V.dL_law_592 : decode code 592 = .ok (.aload_n 0, 1) := by decide +kernel
theorem V.dL_law_593 : decode code 593 = .ok (.iload_n 3, 1) := by decide +kernel
theorem V.dL_law_594 : decode code 594 = .ok (.iconst 4, 1) := by decide +kernel
theorem V.dL_law_595 : decode code 595 = .ok (.iadd, 1) := by decide +kernel
theorem V.dL_law_596 : decode code 596 = .ok (.iaload, 1) := by decide +kernel
theorem V.dL_law_597 : decode code 597 = .ok (.invokevirtual 83, 3) := by decide +kernel
theorem V.dL_law_600 : decode code 600 = .ok (.aload_n 2, 1) := by decide +kernel
theorem V.dL_law_601 : decode code 601 = .ok (.aload_n 0, 1) := by decide +kernel
theorem V.dL_law_602 : decode code 602 = .ok (.iload_n 3, 1) := by decide +kernel
theorem V.dL_law_603 : decode code 603 = .ok (.iconst 1, 1) := by decide +kernel
theorem V.dL_law_604 : decode code 604 = .ok (.iadd, 1) := by decide +kernel
theorem V.dL_law_605 : decode code 605 = .ok (.iaload, 1) := by decide +kernel
theorem V.dL_law_606 : decode code 606 = .ok (.aload_n 0, 1) := by decide +kernel
theorem V.dL_law_607 : decode code 607 = .ok (.iload_n 3, 1) := by decide +kernel
theorem V.dL_law_608 : decode code 608 = .ok (.iconst 2, 1) := by decide +kernel
theorem V.dL_law_609 : decode code 609 = .ok (.iadd, 1) := by decide +kernel
theorem V.dL_law_610 : decode code 610 = .ok (.iaload, 1) := by decide +kernel
theorem V.dL_law_611 : decode code 611 = .ok (.aload_n 0, 1) := by decide +kernel
theorem V.dL_law_612 : decode code 612 = .ok (.iload_n 3, 1) := by decide +kernel
theorem V.dL_law_613 : decode code 613 = .ok (.iconst 3, 1) := by decide +kernel
theorem V.dL_law_614 : decode code 614 = .ok (.iadd, 1) := by decide +kernel
theorem V.dL_law_615 : decode code 615 = .ok (.iaload, 1) := by decide +kernel
theorem V.dL_law_616 : decode code 616 = .ok (.aload_n 0, 1) := by decide +kernel
theorem V.dL_law_617 : decode code 617 = .ok (.iload_n 3, 1) := by decide +kernel
theorem V.dL_law_618 : decode code 618 = .ok (.iconst 4, 1) := by decide +kernel
theorem V.dL_law_619 : decode code 619 = .ok (.iadd, 1) := by decide +kernel
theorem V.dL_law_620 : decode code 620 = .ok (.iaload, 1) := by decide +kernel
theorem V.dL_law_621 : decode code 621 = .ok (.invokevirtual 87, 3) := by decide +kernel
theorem V.dL_law_624 : decode code 624 = .ok (.if_icmp .eq 82, 3) := by decide +kernel
theorem V.dL_law_627 : decode code 627 = .ok (.iconst 0, 1) := by decide +kernel
theorem V.dL_law_628 : decode code 628 = .ok (.ireturn, 1) := by decide +kernel
theorem V.dL_law_629 : decode code 629 = .ok (.aload_n 1, 1) := by decide +kernel
theorem V.dL_law_630 : decode code 630 = .ok (.aload_n 0, 1) := by decide +kernel
theorem V.dL_law_631 : decode code 631 = .ok (.iload_n 3, 1) := by decide +kernel
theorem V.dL_law_632 : decode code 632 = .ok (.iconst 1, 1) := by decide +kernel
theorem V.dL_law_633 : decode code 633 = .ok (.iadd, 1) := by decide +kernel
theorem V.dL_law_634 : decode code 634 = .ok (.iaload, 1) := by decide +kernel
theorem V.dL_law_635 : decode code 635 = .ok (.aload_n 0, 1) := by decide +kernel
theorem V.dL_law_636 : decode code 636 = .ok (.iload_n 3, 1) := by decide +kernel
theorem V.dL_law_637 : decode code 637 = .ok (.iconst 2, 1) := by decide +kernel
theorem V.dL_law_638 : decode code 638 = .ok (.iadd, 1) := by decide +kernel
theorem V.dL_law_639 : decode code 639 = .ok (.iaload, 1) := by decide +kernel
theorem V.dL_law_640 : decode code 640 = .ok (.aload_n 0, 1) := by decide +kernel
theorem V.dL_law_641 : decode code 641 = .ok (.iload_n 3, 1) := by decide +kernel
theorem V.dL_law_642 : decode code 642 = .ok (.iconst 3, 1) := by decide +kernel
theorem V.dL_law_643 : decode code 643 = .ok (.iadd, 1) := by decide +kernel
theorem V.dL_law_644 : decode code 644 = .ok (.iaload, 1) := by decide +kernel
theorem V.dL_law_645 : decode code 645 = .ok (.invokevirtual 88, 3) := by decide +kernel
theorem V.dL_law_648 : decode code 648 = .ok (.aload_n 2, 1) := by decide +kernel
theorem V.dL_law_649 : decode code 649 = .ok (.aload_n 0, 1) := by decide +kernel
theorem V.dL_law_650 : decode code 650 = .ok (.iload_n 3, 1) := by decide +kernel
theorem V.dL_law_651 : decode code 651 = .ok (.iconst 1, 1) := by decide +kernel
theorem V.dL_law_652 : decode code 652 = .ok (.iadd, 1) := by decide +kernel
theorem V.dL_law_653 : decode code 653 = .ok (.iaload, 1) := by decide +kernel
theorem V.dL_law_654 : decode code 654 = .ok (.aload_n 0, 1) := by decide +kernel
theorem V.dL_law_655 : decode code 655 = .ok (.iload_n 3, 1) := by decide +kernel
theorem V.dL_law_656 : decode code 656 = .ok (.iconst 2, 1) := by decide +kernel
theorem V.dL_law_657 : decode code 657 = .ok (.iadd, 1) := by decide +kernel
theorem V.dL_law_658 : decode code 658 = .ok (.iaload, 1) := by decide +kernel
theorem V.dL_law_659 : decode code 659 = .ok (.aload_n 0, 1) := by decide +kernel
theorem V.dL_law_660 : decode code 660 = .ok (.iload_n 3, 1) := by decide +kernel
theorem V.dL_law_661 : decode code 661 = .ok (.iconst 3, 1) := by decide +kernel
theorem V.dL_law_662 : decode code 662 = .ok (.iadd, 1) := by decide +kernel
theorem V.dL_law_663 : decode code 663 = .ok (.iaload, 1) := by decide +kernel
theorem V.dL_law_664 : decode code 664 = .ok (.invokevirtual 91, 3) := by decide +kernel
theorem V.dL_law_667 : decode code 667 = .ok (.if_icmp .eq 39, 3) := by decide +kernel
theorem V.dL_law_670 : decode code 670 = .ok (.iconst 0, 1) := by decide +kernel
theorem V.dL_law_671 : decode code 671 = .ok (.ireturn, 1) := by decide +kernel
theorem V.dL_law_672 : decode code 672 = .ok (.aload_n 1, 1) := by decide +kernel
theorem V.dL_law_673 : decode code 673 = .ok (.aload_n 0, 1) := by decide +kernel
theorem V.dL_law_674 : decode code 674 = .ok (.iload_n 3, 1) := by decide +kernel
theorem V.dL_law_675 : decode code 675 = .ok (.iconst 1, 1) := by decide +kernel
theorem V.dL_law_676 : decode code 676 = .ok (.iadd, 1) := by decide +kernel
theorem V.dL_law_677 : decode code 677 = .ok (.iaload, 1) := by decide +kernel
theorem V.dL_law_678 : decode code 678 = .ok (.aload_n 0, 1) := by decide +kernel
theorem V.dL_law_679 : decode code 679 = .ok (.iload_n 3, 1) := by decide +kernel
theorem V.dL_law_680 : decode code 680 = .ok (.iconst 2, 1) := by decide +kernel
theorem V.dL_law_681 : decode code 681 = .ok (.iadd, 1) := by decide +kernel
theorem V.dL_law_682 : decode code 682 = .ok (.iaload, 1) := by decide +kernel
theorem V.dL_law_683 : decode code 683 = .ok (.invokevirtual 92, 3) := by decide +kernel
theorem V.dL_law_686 : decode code 686 = .ok (.aload_n 2, 1) := by decide +kernel
theorem V.dL_law_687 : decode code 687 = .ok (.aload_n 0, 1) := by decide +kernel
theorem V.dL_law_688 : decode code 688 = .ok (.iload_n 3, 1) := by decide +kernel
theorem V.dL_law_689 : decode code 689 = .ok (.iconst 1, 1) := by decide +kernel
theorem V.dL_law_690 : decode code 690 = .ok (.iadd, 1) := by decide +kernel
theorem V.dL_law_691 : decode code 691 = .ok (.iaload, 1) := by decide +kernel
theorem V.dL_law_692 : decode code 692 = .ok (.aload_n 0, 1) := by decide +kernel
theorem V.dL_law_693 : decode code 693 = .ok (.iload_n 3, 1) := by decide +kernel
theorem V.dL_law_694 : decode code 694 = .ok (.iconst 2, 1) := by decide +kernel
theorem V.dL_law_695 : decode code 695 = .ok (.iadd, 1) := by decide +kernel
theorem V.dL_law_696 : decode code 696 = .ok (.iaload, 1) := by decide +kernel
theorem V.dL_law_697 : decode code 697 = .ok (.invokevirtual 96, 3) := by decide +kernel
theorem V.dL_law_700 : decode code 700 = .ok (.lcmp, 1) := by decide +kernel
theorem V.dL_law_701 : decode code 701 = .ok (.ifCond .eq 5, 3) := by decide +kernel
theorem V.dL_law_704 : decode code 704 = .ok (.iconst 0, 1) := by decide +kernel
theorem V.dL_law_705 : decode code 705 = .ok (.ireturn, 1) := by decide +kernel
theorem V.dL_law_706 : decode code 706 = .ok (.iinc 3 6, 3) := by decide +kernel
theorem V.dL_law_709 : decode code 709 = .ok (.goto (-691), 3) := by decide +kernel
theorem V.dL_law_712 : decode code 712 = .ok (.iconst 1, 1) := by decide +kernel
theorem V.dL_law_713 : decode code 713 = .ok (.ireturn, 1) := by decide +kernel
theorem V.ndL_7 : ND R_law 7 0 13 := ⟨(RX0, TX0, 13), tyX0, rfl, rfl, in_X0, tyX0_ok, by decide, q387, q388, q360⟩
theorem V.mdL_9 : MD R_law 9 yX0_init cX0_init 1 none 0 := ⟨Or.inl q389, q360, q391, by decide, by decide, by decide +kernel⟩
theorem V.ndL_10 : ND R_law 10 17 101 := ⟨(RX17, TX17, 101), tyX17, rfl, rfl, in_X17, tyX17_ok, by decide, q2985, q2986, q377⟩
theorem V.mdL_12 : MD R_law 12 yX17_init cX17_init 2 none 0 := ⟨Or.inl q2987, q377, q2989, by decide, by decide, by decide +kernel⟩
theorem V.mdL_13 : MD R_law 13 yX0_feed cX0_feed 6 (some .int) 5 := ⟨Or.inl q1252, q360, q1255, by decide, by decide, by decide +kernel⟩
theorem V.mdL_17 : MD R_law 17 yX17_feed cX17_feed 6 (some .int) 5 := ⟨Or.inl q3340, q377, q3343, by decide, by decide, by decide +kernel⟩
theorem V.mdL_18 : MD R_law 18 yX0_module cX0_module 5 (some .int) 1 := ⟨Or.inl q1267, q360, q1270, by decide, by decide, by decide +kernel⟩
theorem V.mdL_22 : MDW R_law 22 yX17_module cX17_module 4 (some .int) [(111, 147, 150, 20)] 1 := ⟨q3349, q377, q3352, by decide, by decide, by decide +kernel⟩
theorem V.mdL_23 : MD R_law 23 yX0_fault cX0_fault 2 (some .int) 1 := ⟨Or.inl q2146, q360, q2149, by decide, by decide, by decide +kernel⟩
theorem V.mdL_26 : MD R_law 26 yX17_fault cX17_fault 2 (some .int) 1 := ⟨Or.inl q3993, q377, q3996, by decide, by decide, by decide +kernel⟩
theorem V.mdL_27 : MD R_law 27 yX0_offer cX0_offer 3 (some .int) 2 := ⟨Or.inl q2150, q360, q2153, by decide, by decide, by decide +kernel⟩
theorem V.mdL_31 : MD R_law 31 yX17_offer cX17_offer 4 (some .int) 2 := ⟨Or.inl q3997, q377, q4000, by decide, by decide, by decide +kernel⟩
theorem V.mdL_32 : MD R_law 32 yX0_make cX0_make 5 (some .int) 1 := ⟨Or.inl q2181, q360, q2184, by decide, by decide, by decide +kernel⟩
theorem V.mdL_35 : MD R_law 35 yX17_make cX17_make 6 (some .int) 1 := ⟨Or.inl q4021, q377, q4024, by decide, by decide, by decide +kernel⟩
theorem V.mdL_38 : MD R_law 38 yX0_argument cX0_argument 3 (some .int) 1 := ⟨Or.inl q2874, q360, q2877, by decide, by decide, by decide +kernel⟩
theorem V.mdL_42 : MD R_law 42 yX17_argument cX17_argument 3 (some .int) 1 := ⟨Or.inl q4147, q377, q4150, by decide, by decide, by decide +kernel⟩
theorem V.mdL_43 : MD R_law 43 yX0_call cX0_call 4 (some .boolean) 2 := ⟨Or.inl q2878, q360, q2881, by decide, by decide, by decide +kernel⟩
theorem V.mdL_47 : MD R_law 47 yX17_call cX17_call 5 (some .boolean) 2 := ⟨Or.inl q4151, q377, q4154, by decide, by decide, by decide +kernel⟩
theorem V.mdL_48 : MD R_law 48 yX0_run cX0_run 2 (some .int) 1 := ⟨Or.inl q2913, q360, q2916, by decide, by decide, by decide +kernel⟩
theorem V.mdL_51 : MD R_law 51 yX17_run cX17_run 3 (some .int) 1 := ⟨Or.inl q4167, q377, q4170, by decide, by decide, by decide +kernel⟩
theorem V.mdL_52 : MD R_law 52 yX0_give cX0_give 1 (some .boolean) 0 := ⟨Or.inl q2922, q360, q2925, by decide, by decide, by decide +kernel⟩
theorem V.mdL_56 : MD R_law 56 yX17_give cX17_give 1 (some .boolean) 0 := ⟨Or.inl q4372, q377, q4375, by decide, by decide, by decide +kernel⟩
theorem V.mdL_57 : MD R_law 57 yX0_answer cX0_answer 1 (some .boolean) 0 := ⟨Or.inl q2926, q360, q2929, by decide, by decide, by decide +kernel⟩
theorem V.mdL_60 : MD R_law 60 yX17_answer cX17_answer 6 (some .boolean) 0 := ⟨Or.inl q4376, q377, q4379, by decide, by decide, by decide +kernel⟩
theorem V.mdL_61 : MD R_law 61 yX0_state cX0_state 2 (some .int) 1 := ⟨Or.inl q2935, q360, q2938, by decide, by decide, by decide +kernel⟩
theorem V.mdL_64 : MD R_law 64 yX17_state cX17_state 2 (some .int) 1 := ⟨Or.inl q4380, q377, q4383, by decide, by decide, by decide +kernel⟩
theorem V.mdL_65 : MD R_law 65 yX0_value cX0_value 2 (some .long) 1 := ⟨Or.inl q2941, q360, q2944, by decide, by decide, by decide +kernel⟩
theorem V.mdL_69 : MD R_law 69 yX17_value cX17_value 2 (some .long) 1 := ⟨Or.inl q4384, q377, q4387, by decide, by decide, by decide +kernel⟩
theorem V.mdL_70 : MD R_law 70 yX0_tier cX0_tier 3 (some .int) 1 := ⟨Or.inl q2945, q360, q2948, by decide, by decide, by decide +kernel⟩
theorem V.mdL_73 : MD R_law 73 yX17_tier cX17_tier 3 (some .int) 1 := ⟨Or.inl q4388, q377, q4391, by decide, by decide, by decide +kernel⟩
theorem V.mdL_74 : MD R_law 74 yX0_export cX0_export 6 (some .int) 3 := ⟨Or.inl q2949, q360, q2952, by decide, by decide, by decide +kernel⟩
theorem V.mdL_78 : MD R_law 78 yX17_export cX17_export 6 (some .int) 3 := ⟨Or.inl q4392, q377, q4395, by decide, by decide, by decide +kernel⟩
theorem V.mdL_79 : MD R_law 79 yX0_memory cX0_memory 4 (some .int) 3 := ⟨Or.inl q2958, q360, q2961, by decide, by decide, by decide +kernel⟩
theorem V.mdL_82 : MD R_law 82 yX17_memory cX17_memory 7 (some .int) 3 := ⟨Or.inl q4396, q377, q4399, by decide, by decide, by decide +kernel⟩
theorem V.mdL_83 : MD R_law 83 yX0_poke cX0_poke 5 (some .boolean) 4 := ⟨Or.inl q2971, q360, q2974, by decide, by decide, by decide +kernel⟩
theorem V.mdL_87 : MD R_law 87 yX17_poke cX17_poke 8 (some .boolean) 4 := ⟨Or.inl q4400, q377, q4403, by decide, by decide, by decide +kernel⟩
theorem V.mdL_88 : MD R_law 88 yX0_table cX0_table 4 (some .int) 3 := ⟨Or.inl q2976, q360, q2979, by decide, by decide, by decide +kernel⟩
theorem V.mdL_91 : MD R_law 91 yX17_table cX17_table 5 (some .int) 3 := ⟨Or.inl q4404, q377, q4407, by decide, by decide, by decide +kernel⟩
theorem V.mdL_92 : MD R_law 92 yX0_global cX0_global 3 (some .long) 2 := ⟨Or.inl q2981, q360, q2984, by decide, by decide, by decide +kernel⟩
theorem V.mdL_96 : MD R_law 96 yX17_global cX17_global 4 (some .long) 2 := ⟨Or.inl q4408, q377, q4411, by decide, by decide, by decide +kernel⟩
def V.Law_p706 (rec18 : HS → Nat → Nat → Int32 → Option (Int32 × HS)) (σ : HS) (x1 : Nat) (x2 : Nat) (x3 : Int32) : Option (Int32 × HS) :=
  bn (x3 + (6 : Int32)) fun y1 =>
  rec18 σ x1 x2 y1
theorem V.gL_law_p706 {X : CX} {b Ln : Nat} {xs : Nat → Int32} (rec18 : HS → Nat → Nat → Int32 → Option (Int32 × HS)) (hrec18 : ∀ (σ : HS) (x1 : Nat) (x2 : Nat) (x3 : Int32), GL X b Ln xs 18 [(1, av x1), (2, av x2), (3, iv x3)] [] σ (rec18 σ x1 x2 x3)) (σ : HS) (x1 : Nat) (x2 : Nat) (x3 : Int32) : GL X b Ln xs 706 [(1, av x1), (2, av x2), (3, iv x3)] [] σ (Law_p706 rec18 σ x1 x2 x3) := by
  unfold Law_p706
  refine gl_iincB (w := 6) 2 dL_law_706 (by decide) rfl (by decide) (by decide) (fun _ => rfl) (fun y1 => ?_)
  refine gl_goto 18 dL_law_709 (by decide) ?_
  refine GL.sub [1, 2, 0] rfl ?_
  exact hrec18 _ _ _ _
def V.Law_p18 (Ln : Nat) (xs : Nat → Int32) : Nat → HS → Nat → Nat → Int32 → Option (Int32 × HS)
  | 0, _, _, _, _ => none
  | n + 1, σ, x1, x2, x3 =>
    if ((Int32.ofNat Ln) - (6 : Int32)) < x3 then (
      some ((1 : Int32), σ))
    else (
      ck (inb x3 Ln) <|
      bn ((xs (ix x3)) &&& (31 : Int32)) fun y1 =>
      swx y1 [
        (0, (
          ck (inb (x3 + 1) Ln) <|
          ck (inb (x3 + 2) Ln) <|
          ck (inb (x3 + 3) Ln) <|
          ck (inb (x3 + 4) Ln) <|
          ck (inb (x3 + 5) Ln) <|
          ck (tg σ x1 = 1) <| cl (Eng_feed σ x1 (xs (ix (x3 + 1))) (xs (ix (x3 + 2))) (xs (ix (x3 + 3))) (xs (ix (x3 + 4))) (xs (ix (x3 + 5)))) fun r3 σ2 =>
          ck (inb (x3 + 1) Ln) <|
          ck (inb (x3 + 2) Ln) <|
          ck (inb (x3 + 3) Ln) <|
          ck (inb (x3 + 4) Ln) <|
          ck (inb (x3 + 5) Ln) <|
          ck (tg σ2 x2 = 18) <| cl (Mdl_feed σ2 x2 (xs (ix (x3 + 1))) (xs (ix (x3 + 2))) (xs (ix (x3 + 3))) (xs (ix (x3 + 4))) (xs (ix (x3 + 5)))) fun r5 σ4 =>
          if r3 = r5 then (
            Law_p706 (Law_p18 Ln xs n) σ4 x1 x2 x3)
          else (
            (if (0 : Int32) = 1 then none else some ((0 : Int32), σ4))))),
        (1, (
          ck (inb (x3 + 1) Ln) <|
          ck (tg σ x1 = 1) <| cl (Eng_module σ x1 (xs (ix (x3 + 1)))) fun r7 σ6 =>
          ck (inb (x3 + 1) Ln) <|
          ck (tg σ6 x2 = 18) <| cl (Mdl_module σ6 x2 (xs (ix (x3 + 1)))) fun r9 σ8 =>
          if r7 = r9 then (
            Law_p706 (Law_p18 Ln xs n) σ8 x1 x2 x3)
          else (
            (if (0 : Int32) = 1 then none else some ((0 : Int32), σ8))))),
        (2, (
          ck (inb (x3 + 1) Ln) <|
          ck (tg σ x1 = 1) <| cl (Eng_fault σ x1 (xs (ix (x3 + 1)))) fun r11 σ10 =>
          ck (inb (x3 + 1) Ln) <|
          ck (tg σ10 x2 = 18) <| cl (Mdl_fault σ10 x2 (xs (ix (x3 + 1)))) fun r13 σ12 =>
          if r11 = r13 then (
            Law_p706 (Law_p18 Ln xs n) σ12 x1 x2 x3)
          else (
            (if (0 : Int32) = 1 then none else some ((0 : Int32), σ12))))),
        (3, (
          ck (inb (x3 + 1) Ln) <|
          ck (inb (x3 + 2) Ln) <|
          ck (tg σ x1 = 1) <| cl (Eng_offer σ x1 (xs (ix (x3 + 1))) (xs (ix (x3 + 2)))) fun r15 σ14 =>
          ck (inb (x3 + 1) Ln) <|
          ck (inb (x3 + 2) Ln) <|
          ck (tg σ14 x2 = 18) <| cl (Mdl_offer σ14 x2 (xs (ix (x3 + 1))) (xs (ix (x3 + 2)))) fun r17 σ16 =>
          if r15 = r17 then (
            Law_p706 (Law_p18 Ln xs n) σ16 x1 x2 x3)
          else (
            (if (0 : Int32) = 1 then none else some ((0 : Int32), σ16))))),
        (4, (
          ck (inb (x3 + 1) Ln) <|
          ck (tg σ x1 = 1) <| cl (Eng_make σ x1 (xs (ix (x3 + 1)))) fun r19 σ18 =>
          ck (inb (x3 + 1) Ln) <|
          ck (tg σ18 x2 = 18) <| cl (Mdl_make σ18 x2 (xs (ix (x3 + 1)))) fun r21 σ20 =>
          if r19 = r21 then (
            Law_p706 (Law_p18 Ln xs n) σ20 x1 x2 x3)
          else (
            (if (0 : Int32) = 1 then none else some ((0 : Int32), σ20))))),
        (5, (
          ck (inb (x3 + 1) Ln) <|
          ck (inb (x3 + 2) Ln) <|
          ck (tg σ x1 = 1) <| cl (Eng_argument σ x1 ((lshl ((xs (ix (x3 + 1))).toInt64) (32 : Int32)) ||| (((xs (ix (x3 + 2))).toInt64) &&& (4294967295 : Int64)))) fun r23 σ22 =>
          ck (inb (x3 + 1) Ln) <|
          ck (inb (x3 + 2) Ln) <|
          ck (tg σ22 x2 = 18) <| cl (Mdl_argument σ22 x2 ((lshl ((xs (ix (x3 + 1))).toInt64) (32 : Int32)) ||| (((xs (ix (x3 + 2))).toInt64) &&& (4294967295 : Int64)))) fun r25 σ24 =>
          if r23 = r25 then (
            Law_p706 (Law_p18 Ln xs n) σ24 x1 x2 x3)
          else (
            (if (0 : Int32) = 1 then none else some ((0 : Int32), σ24))))),
        (6, (
          ck (inb (x3 + 1) Ln) <|
          ck (inb (x3 + 2) Ln) <|
          ck (tg σ x1 = 1) <| cl (Eng_call σ x1 (xs (ix (x3 + 1))) (xs (ix (x3 + 2)))) fun r27 σ26 =>
          ck (inb (x3 + 1) Ln) <|
          ck (inb (x3 + 2) Ln) <|
          ck (tg σ26 x2 = 18) <| cl (Mdl_call σ26 x2 (xs (ix (x3 + 1))) (xs (ix (x3 + 2)))) fun r29 σ28 =>
          if r27 = r29 then (
            Law_p706 (Law_p18 Ln xs n) σ28 x1 x2 x3)
          else (
            (if (0 : Int32) = 1 then none else some ((0 : Int32), σ28))))),
        (7, (
          ck (inb (x3 + 1) Ln) <|
          ck (tg σ x1 = 1) <| cl (Eng_run σ x1 (xs (ix (x3 + 1)))) fun r31 σ30 =>
          ck (inb (x3 + 1) Ln) <|
          ck (tg σ30 x2 = 18) <| cl (Mdl_run σ30 x2 (xs (ix (x3 + 1)))) fun r33 σ32 =>
          if r31 = r33 then (
            Law_p706 (Law_p18 Ln xs n) σ32 x1 x2 x3)
          else (
            (if (0 : Int32) = 1 then none else some ((0 : Int32), σ32))))),
        (8, (
          ck (tg σ x1 = 1) <| cl (Eng_give σ x1 ) fun r35 σ34 =>
          ck (tg σ34 x2 = 18) <| cl (Mdl_give σ34 x2 ) fun r37 σ36 =>
          if r35 = r37 then (
            Law_p706 (Law_p18 Ln xs n) σ36 x1 x2 x3)
          else (
            (if (0 : Int32) = 1 then none else some ((0 : Int32), σ36))))),
        (9, (
          ck (tg σ x1 = 1) <| cl (Eng_answer σ x1 ) fun r39 σ38 =>
          ck (tg σ38 x2 = 18) <| cl (Mdl_answer σ38 x2 ) fun r41 σ40 =>
          if r39 = r41 then (
            Law_p706 (Law_p18 Ln xs n) σ40 x1 x2 x3)
          else (
            (if (0 : Int32) = 1 then none else some ((0 : Int32), σ40))))),
        (10, (
          ck (inb (x3 + 1) Ln) <|
          ck (tg σ x1 = 1) <| cl (Eng_state σ x1 (xs (ix (x3 + 1)))) fun r43 σ42 =>
          ck (inb (x3 + 1) Ln) <|
          ck (tg σ42 x2 = 18) <| cl (Mdl_state σ42 x2 (xs (ix (x3 + 1)))) fun r45 σ44 =>
          if r43 = r45 then (
            Law_p706 (Law_p18 Ln xs n) σ44 x1 x2 x3)
          else (
            (if (0 : Int32) = 1 then none else some ((0 : Int32), σ44))))),
        (11, (
          ck (inb (x3 + 1) Ln) <|
          ck (tg σ x1 = 1) <| cl (Eng_value σ x1 (xs (ix (x3 + 1)))) fun r47 σ46 =>
          ck (inb (x3 + 1) Ln) <|
          ck (tg σ46 x2 = 18) <| cl (Mdl_value σ46 x2 (xs (ix (x3 + 1)))) fun r49 σ48 =>
          if r47 = r49 then (
            Law_p706 (Law_p18 Ln xs n) σ48 x1 x2 x3)
          else (
            (if (0 : Int32) = 1 then none else some ((0 : Int32), σ48))))),
        (12, (
          ck (inb (x3 + 1) Ln) <|
          ck (tg σ x1 = 1) <| cl (Eng_tier σ x1 (xs (ix (x3 + 1)))) fun r51 σ50 =>
          ck (inb (x3 + 1) Ln) <|
          ck (tg σ50 x2 = 18) <| cl (Mdl_tier σ50 x2 (xs (ix (x3 + 1)))) fun r53 σ52 =>
          if r51 = r53 then (
            Law_p706 (Law_p18 Ln xs n) σ52 x1 x2 x3)
          else (
            (if (0 : Int32) = 1 then none else some ((0 : Int32), σ52))))),
        (13, (
          ck (inb (x3 + 1) Ln) <|
          ck (inb (x3 + 2) Ln) <|
          ck (inb (x3 + 3) Ln) <|
          ck (tg σ x1 = 1) <| cl (Eng_export σ x1 (xs (ix (x3 + 1))) (xs (ix (x3 + 2))) (xs (ix (x3 + 3)))) fun r55 σ54 =>
          ck (inb (x3 + 1) Ln) <|
          ck (inb (x3 + 2) Ln) <|
          ck (inb (x3 + 3) Ln) <|
          ck (tg σ54 x2 = 18) <| cl (Mdl_export σ54 x2 (xs (ix (x3 + 1))) (xs (ix (x3 + 2))) (xs (ix (x3 + 3)))) fun r57 σ56 =>
          if r55 = r57 then (
            Law_p706 (Law_p18 Ln xs n) σ56 x1 x2 x3)
          else (
            (if (0 : Int32) = 1 then none else some ((0 : Int32), σ56))))),
        (14, (
          ck (inb (x3 + 1) Ln) <|
          ck (inb (x3 + 2) Ln) <|
          ck (inb (x3 + 3) Ln) <|
          ck (tg σ x1 = 1) <| cl (Eng_memory σ x1 (xs (ix (x3 + 1))) (xs (ix (x3 + 2))) (xs (ix (x3 + 3)))) fun r59 σ58 =>
          ck (inb (x3 + 1) Ln) <|
          ck (inb (x3 + 2) Ln) <|
          ck (inb (x3 + 3) Ln) <|
          ck (tg σ58 x2 = 18) <| cl (Mdl_memory σ58 x2 (xs (ix (x3 + 1))) (xs (ix (x3 + 2))) (xs (ix (x3 + 3)))) fun r61 σ60 =>
          if r59 = r61 then (
            Law_p706 (Law_p18 Ln xs n) σ60 x1 x2 x3)
          else (
            (if (0 : Int32) = 1 then none else some ((0 : Int32), σ60))))),
        (15, (
          ck (inb (x3 + 1) Ln) <|
          ck (inb (x3 + 2) Ln) <|
          ck (inb (x3 + 3) Ln) <|
          ck (inb (x3 + 4) Ln) <|
          ck (tg σ x1 = 1) <| cl (Eng_poke σ x1 (xs (ix (x3 + 1))) (xs (ix (x3 + 2))) (xs (ix (x3 + 3))) (xs (ix (x3 + 4)))) fun r63 σ62 =>
          ck (inb (x3 + 1) Ln) <|
          ck (inb (x3 + 2) Ln) <|
          ck (inb (x3 + 3) Ln) <|
          ck (inb (x3 + 4) Ln) <|
          ck (tg σ62 x2 = 18) <| cl (Mdl_poke σ62 x2 (xs (ix (x3 + 1))) (xs (ix (x3 + 2))) (xs (ix (x3 + 3))) (xs (ix (x3 + 4)))) fun r65 σ64 =>
          if r63 = r65 then (
            Law_p706 (Law_p18 Ln xs n) σ64 x1 x2 x3)
          else (
            (if (0 : Int32) = 1 then none else some ((0 : Int32), σ64))))),
        (16, (
          ck (inb (x3 + 1) Ln) <|
          ck (inb (x3 + 2) Ln) <|
          ck (inb (x3 + 3) Ln) <|
          ck (tg σ x1 = 1) <| cl (Eng_table σ x1 (xs (ix (x3 + 1))) (xs (ix (x3 + 2))) (xs (ix (x3 + 3)))) fun r67 σ66 =>
          ck (inb (x3 + 1) Ln) <|
          ck (inb (x3 + 2) Ln) <|
          ck (inb (x3 + 3) Ln) <|
          ck (tg σ66 x2 = 18) <| cl (Mdl_table σ66 x2 (xs (ix (x3 + 1))) (xs (ix (x3 + 2))) (xs (ix (x3 + 3)))) fun r69 σ68 =>
          if r67 = r69 then (
            Law_p706 (Law_p18 Ln xs n) σ68 x1 x2 x3)
          else (
            (if (0 : Int32) = 1 then none else some ((0 : Int32), σ68))))),
        (17, (
          ck (inb (x3 + 1) Ln) <|
          ck (inb (x3 + 2) Ln) <|
          ck (tg σ x1 = 1) <| cl (Eng_global σ x1 (xs (ix (x3 + 1))) (xs (ix (x3 + 2)))) fun r71 σ70 =>
          ck (inb (x3 + 1) Ln) <|
          ck (inb (x3 + 2) Ln) <|
          ck (tg σ70 x2 = 18) <| cl (Mdl_global σ70 x2 (xs (ix (x3 + 1))) (xs (ix (x3 + 2)))) fun r73 σ72 =>
          if r71 = r73 then (
            Law_p706 (Law_p18 Ln xs n) σ72 x1 x2 x3)
          else (
            (if (0 : Int32) = 1 then none else some ((0 : Int32), σ72)))))
        ] (
        Law_p706 (Law_p18 Ln xs n) σ x1 x2 x3))
theorem V.gL_law_p18 {X : CX} {b Ln : Nat} {xs : Nat → Int32} : ∀ (n : Nat) (σ : HS) (x1 : Nat) (x2 : Nat) (x3 : Int32), GL X b Ln xs 18 [(1, av x1), (2, av x2), (3, iv x3)] [] σ (Law_p18 Ln xs n σ x1 x2 x3)
  | 0, σ, x1, x2, x3 => by rw [Law_p18]; exact GL.nul
  | n + 1, σ, x1, x2, x3 => by
    rw [Law_p18]
    refine gl_iload_n 3 2 dL_law_18 rfl rfl ?_
    refine gl_slen dL_law_19 rfl dL_law_20 ?_
    refine gl_bipush (v := 6) dL_law_21 (by decide) ?_
    refine gl_isub dL_law_23 ?_
    refine gl_icmp_gt 712 dL_law_24 (by decide) ?_ ?_
    · refine gl_iconst (v := 1) dL_law_712 (by decide) ?_
      exact gl_ret1 dL_law_713
    · refine gl_sld 2 dL_law_27 rfl dL_law_28 rfl rfl dL_law_29 ?_
      refine gl_bipush (v := 31) dL_law_30 (by decide) ?_
      refine gl_iand dL_law_32 ?_
      refine gl_nmI (fun y1 => ?_)
      refine gl_tsw dL_law_33 (by decide +kernel) ?_
      refine gl_case ex0 (t := 120) (by decide +kernel) ?_ (fun hx => ?_)
      · refine gl_aload_n 1 0 dL_law_120 rfl rfl ?_
        refine gl_sldk (v := 1) 2 dL_law_121 rfl dL_law_122 rfl rfl dL_law_123 (by decide) dL_law_124 dL_law_125 ?_
        refine gl_sldk (v := 2) 2 dL_law_126 rfl dL_law_127 rfl rfl dL_law_128 (by decide) dL_law_129 dL_law_130 ?_
        refine gl_sldk (v := 3) 2 dL_law_131 rfl dL_law_132 rfl rfl dL_law_133 (by decide) dL_law_134 dL_law_135 ?_
        refine gl_sldk (v := 4) 2 dL_law_136 rfl dL_law_137 rfl rfl dL_law_138 (by decide) dL_law_139 dL_law_140 ?_
        refine gl_sldk (v := 5) 2 dL_law_141 rfl dL_law_142 rfl rfl dL_law_143 (by decide) dL_law_144 dL_law_145 ?_
        refine gl_callV (fc := fun sς => Eng_feed sς x1 (xs (ix (x3 + 1))) (xs (ix (x3 + 2))) (xs (ix (x3 + 3))) (xs (ix (x3 + 4))) (xs (ix (x3 + 5)))) (ci := 0) (as := [iv (xs (ix (x3 + 1))), iv (xs (ix (x3 + 2))), iv (xs (ix (x3 + 3))), iv (xs (ix (x3 + 4))), iv (xs (ix (x3 + 5)))]) rfl rfl rfl q1253 q1254 mdL_13 (ctX0_feed x1 (xs (ix (x3 + 1))) (xs (ix (x3 + 2))) (xs (ix (x3 + 3))) (xs (ix (x3 + 4))) (xs (ix (x3 + 5)))) rfl (Nat.le_of_ble_eq_true rfl) (Nat.le_of_ble_eq_true rfl) (Nat.le_of_ble_eq_true rfl) pu_I dL_law_146 (fun r3 σ2 => ?_)
        refine gl_aload_n 2 1 dL_law_149 rfl rfl ?_
        refine gl_sldk (v := 1) 2 dL_law_150 rfl dL_law_151 rfl rfl dL_law_152 (by decide) dL_law_153 dL_law_154 ?_
        refine gl_sldk (v := 2) 2 dL_law_155 rfl dL_law_156 rfl rfl dL_law_157 (by decide) dL_law_158 dL_law_159 ?_
        refine gl_sldk (v := 3) 2 dL_law_160 rfl dL_law_161 rfl rfl dL_law_162 (by decide) dL_law_163 dL_law_164 ?_
        refine gl_sldk (v := 4) 2 dL_law_165 rfl dL_law_166 rfl rfl dL_law_167 (by decide) dL_law_168 dL_law_169 ?_
        refine gl_sldk (v := 5) 2 dL_law_170 rfl dL_law_171 rfl rfl dL_law_172 (by decide) dL_law_173 dL_law_174 ?_
        refine gl_callV (fc := fun sς => Mdl_feed sς x2 (xs (ix (x3 + 1))) (xs (ix (x3 + 2))) (xs (ix (x3 + 3))) (xs (ix (x3 + 4))) (xs (ix (x3 + 5)))) (ci := 17) (as := [iv (xs (ix (x3 + 1))), iv (xs (ix (x3 + 2))), iv (xs (ix (x3 + 3))), iv (xs (ix (x3 + 4))), iv (xs (ix (x3 + 5)))]) rfl rfl rfl q3341 q3342 mdL_17 (ctX17_feed x2 (xs (ix (x3 + 1))) (xs (ix (x3 + 2))) (xs (ix (x3 + 3))) (xs (ix (x3 + 4))) (xs (ix (x3 + 5)))) rfl (Nat.le_of_ble_eq_true rfl) (Nat.le_of_ble_eq_true rfl) (Nat.le_of_ble_eq_true rfl) pu_I dL_law_175 (fun r5 σ4 => ?_)
        refine gl_icmp_eq 706 dL_law_178 (by decide) ?_ ?_
        · exact gL_law_p706 (Law_p18 Ln xs n) (gL_law_p18 n) _ _ _ _
        · refine gl_iconst (v := 0) dL_law_181 (by decide) ?_
          exact gl_ret0
      refine gl_case hx (t := 183) (by decide +kernel) ?_ (fun hx => ?_)
      · refine gl_aload_n 1 0 dL_law_183 rfl rfl ?_
        refine gl_sldk (v := 1) 2 dL_law_184 rfl dL_law_185 rfl rfl dL_law_186 (by decide) dL_law_187 dL_law_188 ?_
        refine gl_callV (fc := fun sς => Eng_module sς x1 (xs (ix (x3 + 1)))) (ci := 0) (as := [iv (xs (ix (x3 + 1)))]) rfl rfl rfl q1268 q1269 mdL_18 (ctX0_module x1 (xs (ix (x3 + 1)))) rfl (Nat.le_of_ble_eq_true rfl) (Nat.le_of_ble_eq_true rfl) (Nat.le_of_ble_eq_true rfl) pu_I dL_law_189 (fun r7 σ6 => ?_)
        refine gl_aload_n 2 1 dL_law_192 rfl rfl ?_
        refine gl_sldk (v := 1) 2 dL_law_193 rfl dL_law_194 rfl rfl dL_law_195 (by decide) dL_law_196 dL_law_197 ?_
        refine gl_callVW (fc := fun sς => Mdl_module sς x2 (xs (ix (x3 + 1)))) (ci := 17) (as := [iv (xs (ix (x3 + 1)))]) rfl rfl q3350 q3351 mdL_22 (ctX17_module x2 (xs (ix (x3 + 1)))) rfl (Nat.le_of_ble_eq_true rfl) (Nat.le_of_ble_eq_true rfl) (Nat.le_of_ble_eq_true rfl) pu_I dL_law_198 (fun r9 σ8 => ?_)
        refine gl_icmp_eq 706 dL_law_201 (by decide) ?_ ?_
        · exact gL_law_p706 (Law_p18 Ln xs n) (gL_law_p18 n) _ _ _ _
        · refine gl_iconst (v := 0) dL_law_204 (by decide) ?_
          exact gl_ret0
      refine gl_case hx (t := 206) (by decide +kernel) ?_ (fun hx => ?_)
      · refine gl_aload_n 1 0 dL_law_206 rfl rfl ?_
        refine gl_sldk (v := 1) 2 dL_law_207 rfl dL_law_208 rfl rfl dL_law_209 (by decide) dL_law_210 dL_law_211 ?_
        refine gl_callV (fc := fun sς => Eng_fault sς x1 (xs (ix (x3 + 1)))) (ci := 0) (as := [iv (xs (ix (x3 + 1)))]) rfl rfl rfl q2147 q2148 mdL_23 (ctX0_fault x1 (xs (ix (x3 + 1)))) rfl (Nat.le_of_ble_eq_true rfl) (Nat.le_of_ble_eq_true rfl) (Nat.le_of_ble_eq_true rfl) pu_I dL_law_212 (fun r11 σ10 => ?_)
        refine gl_aload_n 2 1 dL_law_215 rfl rfl ?_
        refine gl_sldk (v := 1) 2 dL_law_216 rfl dL_law_217 rfl rfl dL_law_218 (by decide) dL_law_219 dL_law_220 ?_
        refine gl_callV (fc := fun sς => Mdl_fault sς x2 (xs (ix (x3 + 1)))) (ci := 17) (as := [iv (xs (ix (x3 + 1)))]) rfl rfl rfl q3994 q3995 mdL_26 (ctX17_fault x2 (xs (ix (x3 + 1)))) rfl (Nat.le_of_ble_eq_true rfl) (Nat.le_of_ble_eq_true rfl) (Nat.le_of_ble_eq_true rfl) pu_I dL_law_221 (fun r13 σ12 => ?_)
        refine gl_icmp_eq 706 dL_law_224 (by decide) ?_ ?_
        · exact gL_law_p706 (Law_p18 Ln xs n) (gL_law_p18 n) _ _ _ _
        · refine gl_iconst (v := 0) dL_law_227 (by decide) ?_
          exact gl_ret0
      refine gl_case hx (t := 229) (by decide +kernel) ?_ (fun hx => ?_)
      · refine gl_aload_n 1 0 dL_law_229 rfl rfl ?_
        refine gl_sldk (v := 1) 2 dL_law_230 rfl dL_law_231 rfl rfl dL_law_232 (by decide) dL_law_233 dL_law_234 ?_
        refine gl_sldk (v := 2) 2 dL_law_235 rfl dL_law_236 rfl rfl dL_law_237 (by decide) dL_law_238 dL_law_239 ?_
        refine gl_callV (fc := fun sς => Eng_offer sς x1 (xs (ix (x3 + 1))) (xs (ix (x3 + 2)))) (ci := 0) (as := [iv (xs (ix (x3 + 1))), iv (xs (ix (x3 + 2)))]) rfl rfl rfl q2151 q2152 mdL_27 (ctX0_offer x1 (xs (ix (x3 + 1))) (xs (ix (x3 + 2)))) rfl (Nat.le_of_ble_eq_true rfl) (Nat.le_of_ble_eq_true rfl) (Nat.le_of_ble_eq_true rfl) pu_I dL_law_240 (fun r15 σ14 => ?_)
        refine gl_aload_n 2 1 dL_law_243 rfl rfl ?_
        refine gl_sldk (v := 1) 2 dL_law_244 rfl dL_law_245 rfl rfl dL_law_246 (by decide) dL_law_247 dL_law_248 ?_
        refine gl_sldk (v := 2) 2 dL_law_249 rfl dL_law_250 rfl rfl dL_law_251 (by decide) dL_law_252 dL_law_253 ?_
        refine gl_callV (fc := fun sς => Mdl_offer sς x2 (xs (ix (x3 + 1))) (xs (ix (x3 + 2)))) (ci := 17) (as := [iv (xs (ix (x3 + 1))), iv (xs (ix (x3 + 2)))]) rfl rfl rfl q3998 q3999 mdL_31 (ctX17_offer x2 (xs (ix (x3 + 1))) (xs (ix (x3 + 2)))) rfl (Nat.le_of_ble_eq_true rfl) (Nat.le_of_ble_eq_true rfl) (Nat.le_of_ble_eq_true rfl) pu_I dL_law_254 (fun r17 σ16 => ?_)
        refine gl_icmp_eq 706 dL_law_257 (by decide) ?_ ?_
        · exact gL_law_p706 (Law_p18 Ln xs n) (gL_law_p18 n) _ _ _ _
        · refine gl_iconst (v := 0) dL_law_260 (by decide) ?_
          exact gl_ret0
      refine gl_case hx (t := 262) (by decide +kernel) ?_ (fun hx => ?_)
      · refine gl_aload_n 1 0 dL_law_262 rfl rfl ?_
        refine gl_sldk (v := 1) 2 dL_law_263 rfl dL_law_264 rfl rfl dL_law_265 (by decide) dL_law_266 dL_law_267 ?_
        refine gl_callV (fc := fun sς => Eng_make sς x1 (xs (ix (x3 + 1)))) (ci := 0) (as := [iv (xs (ix (x3 + 1)))]) rfl rfl rfl q2182 q2183 mdL_32 (ctX0_make x1 (xs (ix (x3 + 1)))) rfl (Nat.le_of_ble_eq_true rfl) (Nat.le_of_ble_eq_true rfl) (Nat.le_of_ble_eq_true rfl) pu_I dL_law_268 (fun r19 σ18 => ?_)
        refine gl_aload_n 2 1 dL_law_271 rfl rfl ?_
        refine gl_sldk (v := 1) 2 dL_law_272 rfl dL_law_273 rfl rfl dL_law_274 (by decide) dL_law_275 dL_law_276 ?_
        refine gl_callV (fc := fun sς => Mdl_make sς x2 (xs (ix (x3 + 1)))) (ci := 17) (as := [iv (xs (ix (x3 + 1)))]) rfl rfl rfl q4022 q4023 mdL_35 (ctX17_make x2 (xs (ix (x3 + 1)))) rfl (Nat.le_of_ble_eq_true rfl) (Nat.le_of_ble_eq_true rfl) (Nat.le_of_ble_eq_true rfl) pu_I dL_law_277 (fun r21 σ20 => ?_)
        refine gl_icmp_eq 706 dL_law_280 (by decide) ?_ ?_
        · exact gL_law_p706 (Law_p18 Ln xs n) (gL_law_p18 n) _ _ _ _
        · refine gl_iconst (v := 0) dL_law_283 (by decide) ?_
          exact gl_ret0
      refine gl_case hx (t := 285) (by decide +kernel) ?_ (fun hx => ?_)
      · refine gl_aload_n 1 0 dL_law_285 rfl rfl ?_
        refine gl_sldk (v := 1) 2 dL_law_286 rfl dL_law_287 rfl rfl dL_law_288 (by decide) dL_law_289 dL_law_290 ?_
        refine gl_i2l dL_law_291 ?_
        refine gl_bipush (v := 32) dL_law_292 (by decide) ?_
        refine gl_lshl dL_law_294 ?_
        refine gl_sldk (v := 2) 2 dL_law_295 rfl dL_law_296 rfl rfl dL_law_297 (by decide) dL_law_298 dL_law_299 ?_
        refine gl_i2l dL_law_300 ?_
        refine gl_ldc2 q4412 dL_law_301 ?_
        refine gl_land dL_law_304 ?_
        refine gl_lor dL_law_305 ?_
        refine gl_callV (fc := fun sς => Eng_argument sς x1 ((lshl ((xs (ix (x3 + 1))).toInt64) (32 : Int32)) ||| (((xs (ix (x3 + 2))).toInt64) &&& (4294967295 : Int64)))) (ci := 0) (as := [jv ((lshl ((xs (ix (x3 + 1))).toInt64) (32 : Int32)) ||| (((xs (ix (x3 + 2))).toInt64) &&& (4294967295 : Int64)))]) rfl rfl rfl q2875 q2876 mdL_38 (ctX0_argument x1 ((lshl ((xs (ix (x3 + 1))).toInt64) (32 : Int32)) ||| (((xs (ix (x3 + 2))).toInt64) &&& (4294967295 : Int64)))) rfl (Nat.le_of_ble_eq_true rfl) (Nat.le_of_ble_eq_true rfl) (Nat.le_of_ble_eq_true rfl) pu_I dL_law_306 (fun r23 σ22 => ?_)
        refine gl_aload_n 2 1 dL_law_309 rfl rfl ?_
        refine gl_sldk (v := 1) 2 dL_law_310 rfl dL_law_311 rfl rfl dL_law_312 (by decide) dL_law_313 dL_law_314 ?_
        refine gl_i2l dL_law_315 ?_
        refine gl_bipush (v := 32) dL_law_316 (by decide) ?_
        refine gl_lshl dL_law_318 ?_
        refine gl_sldk (v := 2) 2 dL_law_319 rfl dL_law_320 rfl rfl dL_law_321 (by decide) dL_law_322 dL_law_323 ?_
        refine gl_i2l dL_law_324 ?_
        refine gl_ldc2 q4412 dL_law_325 ?_
        refine gl_land dL_law_328 ?_
        refine gl_lor dL_law_329 ?_
        refine gl_callV (fc := fun sς => Mdl_argument sς x2 ((lshl ((xs (ix (x3 + 1))).toInt64) (32 : Int32)) ||| (((xs (ix (x3 + 2))).toInt64) &&& (4294967295 : Int64)))) (ci := 17) (as := [jv ((lshl ((xs (ix (x3 + 1))).toInt64) (32 : Int32)) ||| (((xs (ix (x3 + 2))).toInt64) &&& (4294967295 : Int64)))]) rfl rfl rfl q4148 q4149 mdL_42 (ctX17_argument x2 ((lshl ((xs (ix (x3 + 1))).toInt64) (32 : Int32)) ||| (((xs (ix (x3 + 2))).toInt64) &&& (4294967295 : Int64)))) rfl (Nat.le_of_ble_eq_true rfl) (Nat.le_of_ble_eq_true rfl) (Nat.le_of_ble_eq_true rfl) pu_I dL_law_330 (fun r25 σ24 => ?_)
        refine gl_icmp_eq 706 dL_law_333 (by decide) ?_ ?_
        · exact gL_law_p706 (Law_p18 Ln xs n) (gL_law_p18 n) _ _ _ _
        · refine gl_iconst (v := 0) dL_law_336 (by decide) ?_
          exact gl_ret0
      refine gl_case hx (t := 338) (by decide +kernel) ?_ (fun hx => ?_)
      · refine gl_aload_n 1 0 dL_law_338 rfl rfl ?_
        refine gl_sldk (v := 1) 2 dL_law_339 rfl dL_law_340 rfl rfl dL_law_341 (by decide) dL_law_342 dL_law_343 ?_
        refine gl_sldk (v := 2) 2 dL_law_344 rfl dL_law_345 rfl rfl dL_law_346 (by decide) dL_law_347 dL_law_348 ?_
        refine gl_callV (fc := fun sς => Eng_call sς x1 (xs (ix (x3 + 1))) (xs (ix (x3 + 2)))) (ci := 0) (as := [iv (xs (ix (x3 + 1))), iv (xs (ix (x3 + 2)))]) rfl rfl rfl q2879 q2880 mdL_43 (ctX0_call x1 (xs (ix (x3 + 1))) (xs (ix (x3 + 2)))) rfl (Nat.le_of_ble_eq_true rfl) (Nat.le_of_ble_eq_true rfl) (Nat.le_of_ble_eq_true rfl) pu_I dL_law_349 (fun r27 σ26 => ?_)
        refine gl_aload_n 2 1 dL_law_352 rfl rfl ?_
        refine gl_sldk (v := 1) 2 dL_law_353 rfl dL_law_354 rfl rfl dL_law_355 (by decide) dL_law_356 dL_law_357 ?_
        refine gl_sldk (v := 2) 2 dL_law_358 rfl dL_law_359 rfl rfl dL_law_360 (by decide) dL_law_361 dL_law_362 ?_
        refine gl_callV (fc := fun sς => Mdl_call sς x2 (xs (ix (x3 + 1))) (xs (ix (x3 + 2)))) (ci := 17) (as := [iv (xs (ix (x3 + 1))), iv (xs (ix (x3 + 2)))]) rfl rfl rfl q4152 q4153 mdL_47 (ctX17_call x2 (xs (ix (x3 + 1))) (xs (ix (x3 + 2)))) rfl (Nat.le_of_ble_eq_true rfl) (Nat.le_of_ble_eq_true rfl) (Nat.le_of_ble_eq_true rfl) pu_I dL_law_363 (fun r29 σ28 => ?_)
        refine gl_icmp_eq 706 dL_law_366 (by decide) ?_ ?_
        · exact gL_law_p706 (Law_p18 Ln xs n) (gL_law_p18 n) _ _ _ _
        · refine gl_iconst (v := 0) dL_law_369 (by decide) ?_
          exact gl_ret0
      refine gl_case hx (t := 371) (by decide +kernel) ?_ (fun hx => ?_)
      · refine gl_aload_n 1 0 dL_law_371 rfl rfl ?_
        refine gl_sldk (v := 1) 2 dL_law_372 rfl dL_law_373 rfl rfl dL_law_374 (by decide) dL_law_375 dL_law_376 ?_
        refine gl_callV (fc := fun sς => Eng_run sς x1 (xs (ix (x3 + 1)))) (ci := 0) (as := [iv (xs (ix (x3 + 1)))]) rfl rfl rfl q2914 q2915 mdL_48 (ctX0_run x1 (xs (ix (x3 + 1)))) rfl (Nat.le_of_ble_eq_true rfl) (Nat.le_of_ble_eq_true rfl) (Nat.le_of_ble_eq_true rfl) pu_I dL_law_377 (fun r31 σ30 => ?_)
        refine gl_aload_n 2 1 dL_law_380 rfl rfl ?_
        refine gl_sldk (v := 1) 2 dL_law_381 rfl dL_law_382 rfl rfl dL_law_383 (by decide) dL_law_384 dL_law_385 ?_
        refine gl_callV (fc := fun sς => Mdl_run sς x2 (xs (ix (x3 + 1)))) (ci := 17) (as := [iv (xs (ix (x3 + 1)))]) rfl rfl rfl q4168 q4169 mdL_51 (ctX17_run x2 (xs (ix (x3 + 1)))) rfl (Nat.le_of_ble_eq_true rfl) (Nat.le_of_ble_eq_true rfl) (Nat.le_of_ble_eq_true rfl) pu_I dL_law_386 (fun r33 σ32 => ?_)
        refine gl_icmp_eq 706 dL_law_389 (by decide) ?_ ?_
        · exact gL_law_p706 (Law_p18 Ln xs n) (gL_law_p18 n) _ _ _ _
        · refine gl_iconst (v := 0) dL_law_392 (by decide) ?_
          exact gl_ret0
      refine gl_case hx (t := 394) (by decide +kernel) ?_ (fun hx => ?_)
      · refine gl_aload_n 1 0 dL_law_394 rfl rfl ?_
        refine gl_callV (fc := fun sς => Eng_give sς x1 ) (ci := 0) (as := []) rfl rfl rfl q2923 q2924 mdL_52 (ctX0_give x1 ) rfl (Nat.le_of_ble_eq_true rfl) (Nat.le_of_ble_eq_true rfl) (Nat.le_of_ble_eq_true rfl) pu_I dL_law_395 (fun r35 σ34 => ?_)
        refine gl_aload_n 2 1 dL_law_398 rfl rfl ?_
        refine gl_callV (fc := fun sς => Mdl_give sς x2 ) (ci := 17) (as := []) rfl rfl rfl q4373 q4374 mdL_56 (ctX17_give x2 ) rfl (Nat.le_of_ble_eq_true rfl) (Nat.le_of_ble_eq_true rfl) (Nat.le_of_ble_eq_true rfl) pu_I dL_law_399 (fun r37 σ36 => ?_)
        refine gl_icmp_eq 706 dL_law_402 (by decide) ?_ ?_
        · exact gL_law_p706 (Law_p18 Ln xs n) (gL_law_p18 n) _ _ _ _
        · refine gl_iconst (v := 0) dL_law_405 (by decide) ?_
          exact gl_ret0
      refine gl_case hx (t := 407) (by decide +kernel) ?_ (fun hx => ?_)
      · refine gl_aload_n 1 0 dL_law_407 rfl rfl ?_
        refine gl_callV (fc := fun sς => Eng_answer sς x1 ) (ci := 0) (as := []) rfl rfl rfl q2927 q2928 mdL_57 (ctX0_answer x1 ) rfl (Nat.le_of_ble_eq_true rfl) (Nat.le_of_ble_eq_true rfl) (Nat.le_of_ble_eq_true rfl) pu_I dL_law_408 (fun r39 σ38 => ?_)
        refine gl_aload_n 2 1 dL_law_411 rfl rfl ?_
        refine gl_callV (fc := fun sς => Mdl_answer sς x2 ) (ci := 17) (as := []) rfl rfl rfl q4377 q4378 mdL_60 (ctX17_answer x2 ) rfl (Nat.le_of_ble_eq_true rfl) (Nat.le_of_ble_eq_true rfl) (Nat.le_of_ble_eq_true rfl) pu_I dL_law_412 (fun r41 σ40 => ?_)
        refine gl_icmp_eq 706 dL_law_415 (by decide) ?_ ?_
        · exact gL_law_p706 (Law_p18 Ln xs n) (gL_law_p18 n) _ _ _ _
        · refine gl_iconst (v := 0) dL_law_418 (by decide) ?_
          exact gl_ret0
      refine gl_case hx (t := 420) (by decide +kernel) ?_ (fun hx => ?_)
      · refine gl_aload_n 1 0 dL_law_420 rfl rfl ?_
        refine gl_sldk (v := 1) 2 dL_law_421 rfl dL_law_422 rfl rfl dL_law_423 (by decide) dL_law_424 dL_law_425 ?_
        refine gl_callV (fc := fun sς => Eng_state sς x1 (xs (ix (x3 + 1)))) (ci := 0) (as := [iv (xs (ix (x3 + 1)))]) rfl rfl rfl q2936 q2937 mdL_61 (ctX0_state x1 (xs (ix (x3 + 1)))) rfl (Nat.le_of_ble_eq_true rfl) (Nat.le_of_ble_eq_true rfl) (Nat.le_of_ble_eq_true rfl) pu_I dL_law_426 (fun r43 σ42 => ?_)
        refine gl_aload_n 2 1 dL_law_429 rfl rfl ?_
        refine gl_sldk (v := 1) 2 dL_law_430 rfl dL_law_431 rfl rfl dL_law_432 (by decide) dL_law_433 dL_law_434 ?_
        refine gl_callV (fc := fun sς => Mdl_state sς x2 (xs (ix (x3 + 1)))) (ci := 17) (as := [iv (xs (ix (x3 + 1)))]) rfl rfl rfl q4381 q4382 mdL_64 (ctX17_state x2 (xs (ix (x3 + 1)))) rfl (Nat.le_of_ble_eq_true rfl) (Nat.le_of_ble_eq_true rfl) (Nat.le_of_ble_eq_true rfl) pu_I dL_law_435 (fun r45 σ44 => ?_)
        refine gl_icmp_eq 706 dL_law_438 (by decide) ?_ ?_
        · exact gL_law_p706 (Law_p18 Ln xs n) (gL_law_p18 n) _ _ _ _
        · refine gl_iconst (v := 0) dL_law_441 (by decide) ?_
          exact gl_ret0
      refine gl_case hx (t := 443) (by decide +kernel) ?_ (fun hx => ?_)
      · refine gl_aload_n 1 0 dL_law_443 rfl rfl ?_
        refine gl_sldk (v := 1) 2 dL_law_444 rfl dL_law_445 rfl rfl dL_law_446 (by decide) dL_law_447 dL_law_448 ?_
        refine gl_callV (fc := fun sς => Eng_value sς x1 (xs (ix (x3 + 1)))) (ci := 0) (as := [iv (xs (ix (x3 + 1)))]) rfl rfl rfl q2942 q2943 mdL_65 (ctX0_value x1 (xs (ix (x3 + 1)))) rfl (Nat.le_of_ble_eq_true rfl) (Nat.le_of_ble_eq_true rfl) (Nat.le_of_ble_eq_true rfl) pu_J dL_law_449 (fun r47 σ46 => ?_)
        refine gl_aload_n 2 1 dL_law_452 rfl rfl ?_
        refine gl_sldk (v := 1) 2 dL_law_453 rfl dL_law_454 rfl rfl dL_law_455 (by decide) dL_law_456 dL_law_457 ?_
        refine gl_callV (fc := fun sς => Mdl_value sς x2 (xs (ix (x3 + 1)))) (ci := 17) (as := [iv (xs (ix (x3 + 1)))]) rfl rfl rfl q4385 q4386 mdL_69 (ctX17_value x2 (xs (ix (x3 + 1)))) rfl (Nat.le_of_ble_eq_true rfl) (Nat.le_of_ble_eq_true rfl) (Nat.le_of_ble_eq_true rfl) pu_J dL_law_458 (fun r49 σ48 => ?_)
        refine gl_lcmp_eq 706 dL_law_461 dL_law_462 (by decide) ?_ ?_
        · exact gL_law_p706 (Law_p18 Ln xs n) (gL_law_p18 n) _ _ _ _
        · refine gl_iconst (v := 0) dL_law_465 (by decide) ?_
          exact gl_ret0
      refine gl_case hx (t := 467) (by decide +kernel) ?_ (fun hx => ?_)
      · refine gl_aload_n 1 0 dL_law_467 rfl rfl ?_
        refine gl_sldk (v := 1) 2 dL_law_468 rfl dL_law_469 rfl rfl dL_law_470 (by decide) dL_law_471 dL_law_472 ?_
        refine gl_callV (fc := fun sς => Eng_tier sς x1 (xs (ix (x3 + 1)))) (ci := 0) (as := [iv (xs (ix (x3 + 1)))]) rfl rfl rfl q2946 q2947 mdL_70 (ctX0_tier x1 (xs (ix (x3 + 1)))) rfl (Nat.le_of_ble_eq_true rfl) (Nat.le_of_ble_eq_true rfl) (Nat.le_of_ble_eq_true rfl) pu_I dL_law_473 (fun r51 σ50 => ?_)
        refine gl_aload_n 2 1 dL_law_476 rfl rfl ?_
        refine gl_sldk (v := 1) 2 dL_law_477 rfl dL_law_478 rfl rfl dL_law_479 (by decide) dL_law_480 dL_law_481 ?_
        refine gl_callV (fc := fun sς => Mdl_tier sς x2 (xs (ix (x3 + 1)))) (ci := 17) (as := [iv (xs (ix (x3 + 1)))]) rfl rfl rfl q4389 q4390 mdL_73 (ctX17_tier x2 (xs (ix (x3 + 1)))) rfl (Nat.le_of_ble_eq_true rfl) (Nat.le_of_ble_eq_true rfl) (Nat.le_of_ble_eq_true rfl) pu_I dL_law_482 (fun r53 σ52 => ?_)
        refine gl_icmp_eq 706 dL_law_485 (by decide) ?_ ?_
        · exact gL_law_p706 (Law_p18 Ln xs n) (gL_law_p18 n) _ _ _ _
        · refine gl_iconst (v := 0) dL_law_488 (by decide) ?_
          exact gl_ret0
      refine gl_case hx (t := 490) (by decide +kernel) ?_ (fun hx => ?_)
      · refine gl_aload_n 1 0 dL_law_490 rfl rfl ?_
        refine gl_sldk (v := 1) 2 dL_law_491 rfl dL_law_492 rfl rfl dL_law_493 (by decide) dL_law_494 dL_law_495 ?_
        refine gl_sldk (v := 2) 2 dL_law_496 rfl dL_law_497 rfl rfl dL_law_498 (by decide) dL_law_499 dL_law_500 ?_
        refine gl_sldk (v := 3) 2 dL_law_501 rfl dL_law_502 rfl rfl dL_law_503 (by decide) dL_law_504 dL_law_505 ?_
        refine gl_callV (fc := fun sς => Eng_export sς x1 (xs (ix (x3 + 1))) (xs (ix (x3 + 2))) (xs (ix (x3 + 3)))) (ci := 0) (as := [iv (xs (ix (x3 + 1))), iv (xs (ix (x3 + 2))), iv (xs (ix (x3 + 3)))]) rfl rfl rfl q2950 q2951 mdL_74 (ctX0_export x1 (xs (ix (x3 + 1))) (xs (ix (x3 + 2))) (xs (ix (x3 + 3)))) rfl (Nat.le_of_ble_eq_true rfl) (Nat.le_of_ble_eq_true rfl) (Nat.le_of_ble_eq_true rfl) pu_I dL_law_506 (fun r55 σ54 => ?_)
        refine gl_aload_n 2 1 dL_law_509 rfl rfl ?_
        refine gl_sldk (v := 1) 2 dL_law_510 rfl dL_law_511 rfl rfl dL_law_512 (by decide) dL_law_513 dL_law_514 ?_
        refine gl_sldk (v := 2) 2 dL_law_515 rfl dL_law_516 rfl rfl dL_law_517 (by decide) dL_law_518 dL_law_519 ?_
        refine gl_sldk (v := 3) 2 dL_law_520 rfl dL_law_521 rfl rfl dL_law_522 (by decide) dL_law_523 dL_law_524 ?_
        refine gl_callV (fc := fun sς => Mdl_export sς x2 (xs (ix (x3 + 1))) (xs (ix (x3 + 2))) (xs (ix (x3 + 3)))) (ci := 17) (as := [iv (xs (ix (x3 + 1))), iv (xs (ix (x3 + 2))), iv (xs (ix (x3 + 3)))]) rfl rfl rfl q4393 q4394 mdL_78 (ctX17_export x2 (xs (ix (x3 + 1))) (xs (ix (x3 + 2))) (xs (ix (x3 + 3)))) rfl (Nat.le_of_ble_eq_true rfl) (Nat.le_of_ble_eq_true rfl) (Nat.le_of_ble_eq_true rfl) pu_I dL_law_525 (fun r57 σ56 => ?_)
        refine gl_icmp_eq 706 dL_law_528 (by decide) ?_ ?_
        · exact gL_law_p706 (Law_p18 Ln xs n) (gL_law_p18 n) _ _ _ _
        · refine gl_iconst (v := 0) dL_law_531 (by decide) ?_
          exact gl_ret0
      refine gl_case hx (t := 533) (by decide +kernel) ?_ (fun hx => ?_)
      · refine gl_aload_n 1 0 dL_law_533 rfl rfl ?_
        refine gl_sldk (v := 1) 2 dL_law_534 rfl dL_law_535 rfl rfl dL_law_536 (by decide) dL_law_537 dL_law_538 ?_
        refine gl_sldk (v := 2) 2 dL_law_539 rfl dL_law_540 rfl rfl dL_law_541 (by decide) dL_law_542 dL_law_543 ?_
        refine gl_sldk (v := 3) 2 dL_law_544 rfl dL_law_545 rfl rfl dL_law_546 (by decide) dL_law_547 dL_law_548 ?_
        refine gl_callV (fc := fun sς => Eng_memory sς x1 (xs (ix (x3 + 1))) (xs (ix (x3 + 2))) (xs (ix (x3 + 3)))) (ci := 0) (as := [iv (xs (ix (x3 + 1))), iv (xs (ix (x3 + 2))), iv (xs (ix (x3 + 3)))]) rfl rfl rfl q2959 q2960 mdL_79 (ctX0_memory x1 (xs (ix (x3 + 1))) (xs (ix (x3 + 2))) (xs (ix (x3 + 3)))) rfl (Nat.le_of_ble_eq_true rfl) (Nat.le_of_ble_eq_true rfl) (Nat.le_of_ble_eq_true rfl) pu_I dL_law_549 (fun r59 σ58 => ?_)
        refine gl_aload_n 2 1 dL_law_552 rfl rfl ?_
        refine gl_sldk (v := 1) 2 dL_law_553 rfl dL_law_554 rfl rfl dL_law_555 (by decide) dL_law_556 dL_law_557 ?_
        refine gl_sldk (v := 2) 2 dL_law_558 rfl dL_law_559 rfl rfl dL_law_560 (by decide) dL_law_561 dL_law_562 ?_
        refine gl_sldk (v := 3) 2 dL_law_563 rfl dL_law_564 rfl rfl dL_law_565 (by decide) dL_law_566 dL_law_567 ?_
        refine gl_callV (fc := fun sς => Mdl_memory sς x2 (xs (ix (x3 + 1))) (xs (ix (x3 + 2))) (xs (ix (x3 + 3)))) (ci := 17) (as := [iv (xs (ix (x3 + 1))), iv (xs (ix (x3 + 2))), iv (xs (ix (x3 + 3)))]) rfl rfl rfl q4397 q4398 mdL_82 (ctX17_memory x2 (xs (ix (x3 + 1))) (xs (ix (x3 + 2))) (xs (ix (x3 + 3)))) rfl (Nat.le_of_ble_eq_true rfl) (Nat.le_of_ble_eq_true rfl) (Nat.le_of_ble_eq_true rfl) pu_I dL_law_568 (fun r61 σ60 => ?_)
        refine gl_icmp_eq 706 dL_law_571 (by decide) ?_ ?_
        · exact gL_law_p706 (Law_p18 Ln xs n) (gL_law_p18 n) _ _ _ _
        · refine gl_iconst (v := 0) dL_law_574 (by decide) ?_
          exact gl_ret0
      refine gl_case hx (t := 576) (by decide +kernel) ?_ (fun hx => ?_)
      · refine gl_aload_n 1 0 dL_law_576 rfl rfl ?_
        refine gl_sldk (v := 1) 2 dL_law_577 rfl dL_law_578 rfl rfl dL_law_579 (by decide) dL_law_580 dL_law_581 ?_
        refine gl_sldk (v := 2) 2 dL_law_582 rfl dL_law_583 rfl rfl dL_law_584 (by decide) dL_law_585 dL_law_586 ?_
        refine gl_sldk (v := 3) 2 dL_law_587 rfl dL_law_588 rfl rfl dL_law_589 (by decide) dL_law_590 dL_law_591 ?_
        refine gl_sldk (v := 4) 2 dL_law_592 rfl dL_law_593 rfl rfl dL_law_594 (by decide) dL_law_595 dL_law_596 ?_
        refine gl_callV (fc := fun sς => Eng_poke sς x1 (xs (ix (x3 + 1))) (xs (ix (x3 + 2))) (xs (ix (x3 + 3))) (xs (ix (x3 + 4)))) (ci := 0) (as := [iv (xs (ix (x3 + 1))), iv (xs (ix (x3 + 2))), iv (xs (ix (x3 + 3))), iv (xs (ix (x3 + 4)))]) rfl rfl rfl q2972 q2973 mdL_83 (ctX0_poke x1 (xs (ix (x3 + 1))) (xs (ix (x3 + 2))) (xs (ix (x3 + 3))) (xs (ix (x3 + 4)))) rfl (Nat.le_of_ble_eq_true rfl) (Nat.le_of_ble_eq_true rfl) (Nat.le_of_ble_eq_true rfl) pu_I dL_law_597 (fun r63 σ62 => ?_)
        refine gl_aload_n 2 1 dL_law_600 rfl rfl ?_
        refine gl_sldk (v := 1) 2 dL_law_601 rfl dL_law_602 rfl rfl dL_law_603 (by decide) dL_law_604 dL_law_605 ?_
        refine gl_sldk (v := 2) 2 dL_law_606 rfl dL_law_607 rfl rfl dL_law_608 (by decide) dL_law_609 dL_law_610 ?_
        refine gl_sldk (v := 3) 2 dL_law_611 rfl dL_law_612 rfl rfl dL_law_613 (by decide) dL_law_614 dL_law_615 ?_
        refine gl_sldk (v := 4) 2 dL_law_616 rfl dL_law_617 rfl rfl dL_law_618 (by decide) dL_law_619 dL_law_620 ?_
        refine gl_callV (fc := fun sς => Mdl_poke sς x2 (xs (ix (x3 + 1))) (xs (ix (x3 + 2))) (xs (ix (x3 + 3))) (xs (ix (x3 + 4)))) (ci := 17) (as := [iv (xs (ix (x3 + 1))), iv (xs (ix (x3 + 2))), iv (xs (ix (x3 + 3))), iv (xs (ix (x3 + 4)))]) rfl rfl rfl q4401 q4402 mdL_87 (ctX17_poke x2 (xs (ix (x3 + 1))) (xs (ix (x3 + 2))) (xs (ix (x3 + 3))) (xs (ix (x3 + 4)))) rfl (Nat.le_of_ble_eq_true rfl) (Nat.le_of_ble_eq_true rfl) (Nat.le_of_ble_eq_true rfl) pu_I dL_law_621 (fun r65 σ64 => ?_)
        refine gl_icmp_eq 706 dL_law_624 (by decide) ?_ ?_
        · exact gL_law_p706 (Law_p18 Ln xs n) (gL_law_p18 n) _ _ _ _
        · refine gl_iconst (v := 0) dL_law_627 (by decide) ?_
          exact gl_ret0
      refine gl_case hx (t := 629) (by decide +kernel) ?_ (fun hx => ?_)
      · refine gl_aload_n 1 0 dL_law_629 rfl rfl ?_
        refine gl_sldk (v := 1) 2 dL_law_630 rfl dL_law_631 rfl rfl dL_law_632 (by decide) dL_law_633 dL_law_634 ?_
        refine gl_sldk (v := 2) 2 dL_law_635 rfl dL_law_636 rfl rfl dL_law_637 (by decide) dL_law_638 dL_law_639 ?_
        refine gl_sldk (v := 3) 2 dL_law_640 rfl dL_law_641 rfl rfl dL_law_642 (by decide) dL_law_643 dL_law_644 ?_
        refine gl_callV (fc := fun sς => Eng_table sς x1 (xs (ix (x3 + 1))) (xs (ix (x3 + 2))) (xs (ix (x3 + 3)))) (ci := 0) (as := [iv (xs (ix (x3 + 1))), iv (xs (ix (x3 + 2))), iv (xs (ix (x3 + 3)))]) rfl rfl rfl q2977 q2978 mdL_88 (ctX0_table x1 (xs (ix (x3 + 1))) (xs (ix (x3 + 2))) (xs (ix (x3 + 3)))) rfl (Nat.le_of_ble_eq_true rfl) (Nat.le_of_ble_eq_true rfl) (Nat.le_of_ble_eq_true rfl) pu_I dL_law_645 (fun r67 σ66 => ?_)
        refine gl_aload_n 2 1 dL_law_648 rfl rfl ?_
        refine gl_sldk (v := 1) 2 dL_law_649 rfl dL_law_650 rfl rfl dL_law_651 (by decide) dL_law_652 dL_law_653 ?_
        refine gl_sldk (v := 2) 2 dL_law_654 rfl dL_law_655 rfl rfl dL_law_656 (by decide) dL_law_657 dL_law_658 ?_
        refine gl_sldk (v := 3) 2 dL_law_659 rfl dL_law_660 rfl rfl dL_law_661 (by decide) dL_law_662 dL_law_663 ?_
        refine gl_callV (fc := fun sς => Mdl_table sς x2 (xs (ix (x3 + 1))) (xs (ix (x3 + 2))) (xs (ix (x3 + 3)))) (ci := 17) (as := [iv (xs (ix (x3 + 1))), iv (xs (ix (x3 + 2))), iv (xs (ix (x3 + 3)))]) rfl rfl rfl q4405 q4406 mdL_91 (ctX17_table x2 (xs (ix (x3 + 1))) (xs (ix (x3 + 2))) (xs (ix (x3 + 3)))) rfl (Nat.le_of_ble_eq_true rfl) (Nat.le_of_ble_eq_true rfl) (Nat.le_of_ble_eq_true rfl) pu_I dL_law_664 (fun r69 σ68 => ?_)
        refine gl_icmp_eq 706 dL_law_667 (by decide) ?_ ?_
        · exact gL_law_p706 (Law_p18 Ln xs n) (gL_law_p18 n) _ _ _ _
        · refine gl_iconst (v := 0) dL_law_670 (by decide) ?_
          exact gl_ret0
      refine gl_case hx (t := 672) (by decide +kernel) ?_ (fun hx => ?_)
      · refine gl_aload_n 1 0 dL_law_672 rfl rfl ?_
        refine gl_sldk (v := 1) 2 dL_law_673 rfl dL_law_674 rfl rfl dL_law_675 (by decide) dL_law_676 dL_law_677 ?_
        refine gl_sldk (v := 2) 2 dL_law_678 rfl dL_law_679 rfl rfl dL_law_680 (by decide) dL_law_681 dL_law_682 ?_
        refine gl_callV (fc := fun sς => Eng_global sς x1 (xs (ix (x3 + 1))) (xs (ix (x3 + 2)))) (ci := 0) (as := [iv (xs (ix (x3 + 1))), iv (xs (ix (x3 + 2)))]) rfl rfl rfl q2982 q2983 mdL_92 (ctX0_global x1 (xs (ix (x3 + 1))) (xs (ix (x3 + 2)))) rfl (Nat.le_of_ble_eq_true rfl) (Nat.le_of_ble_eq_true rfl) (Nat.le_of_ble_eq_true rfl) pu_J dL_law_683 (fun r71 σ70 => ?_)
        refine gl_aload_n 2 1 dL_law_686 rfl rfl ?_
        refine gl_sldk (v := 1) 2 dL_law_687 rfl dL_law_688 rfl rfl dL_law_689 (by decide) dL_law_690 dL_law_691 ?_
        refine gl_sldk (v := 2) 2 dL_law_692 rfl dL_law_693 rfl rfl dL_law_694 (by decide) dL_law_695 dL_law_696 ?_
        refine gl_callV (fc := fun sς => Mdl_global sς x2 (xs (ix (x3 + 1))) (xs (ix (x3 + 2)))) (ci := 17) (as := [iv (xs (ix (x3 + 1))), iv (xs (ix (x3 + 2)))]) rfl rfl rfl q4409 q4410 mdL_96 (ctX17_global x2 (xs (ix (x3 + 1))) (xs (ix (x3 + 2)))) rfl (Nat.le_of_ble_eq_true rfl) (Nat.le_of_ble_eq_true rfl) (Nat.le_of_ble_eq_true rfl) pu_J dL_law_697 (fun r73 σ72 => ?_)
        refine gl_lcmp_eq 706 dL_law_700 dL_law_701 (by decide) ?_ ?_
        · exact gL_law_p706 (Law_p18 Ln xs n) (gL_law_p18 n) _ _ _ _
        · refine gl_iconst (v := 0) dL_law_704 (by decide) ?_
          exact gl_ret0
      refine gl_dflt (t := 706) (tswT_d (by decide +kernel) (by decide +kernel) hx) ?_
      exact gL_law_p706 (Law_p18 Ln xs n) (gL_law_p18 n) _ _ _ _
def V.Law_law (Ln : Nat) (xs : Nat → Int32) (σ : HS) : Option (Int32 × HS) :=
  newo σ 1 13 fun a1 σ2 =>
  ck (¬ a1 = 0) <| cl (Eng_init σ2 a1 ) fun _ σ3 =>
  newo σ3 18 101 fun a4 σ5 =>
  ck (¬ a4 = 0) <| cl (Mdl_init σ5 a4 ) fun _ σ6 =>
  Law_p18 Ln xs FU σ6 a1 a4 (0 : Int32)
theorem V.gL_law {X : CX} {b Ln : Nat} {xs : Nat → Int32} (σ : HS) : GL X b Ln xs 0 [] [] σ (Law_law Ln xs σ) := by
  unfold Law_law
  refine gl_newo ndL_7 dL_law_0 (fun a1 σ2 => ?_)
  refine gl_dup dL_law_3 rfl ?_
  refine gl_callI (fc := fun sς => Eng_init sς a1 ) (as := []) rfl q390 mdL_9 (ctX0_init a1 ) rfl (Nat.le_of_ble_eq_true rfl) (Nat.le_of_ble_eq_true rfl) (Nat.le_of_ble_eq_true rfl) pu_V dL_law_4 (fun _ σ3 => ?_)
  refine gl_stA 1 dL_law_7 rfl (by decide) (by decide) rfl ?_
  refine gl_newo ndL_10 dL_law_8 (fun a4 σ5 => ?_)
  refine gl_dup dL_law_11 rfl ?_
  refine gl_callI (fc := fun sς => Mdl_init sς a4 ) (as := []) rfl q2988 mdL_12 (ctX17_init a4 ) rfl (Nat.le_of_ble_eq_true rfl) (Nat.le_of_ble_eq_true rfl) (Nat.le_of_ble_eq_true rfl) pu_V dL_law_12 (fun _ σ6 => ?_)
  refine gl_stA 2 dL_law_15 rfl (by decide) (by decide) rfl ?_
  refine gl_iconst (v := 0) dL_law_16 (by decide) ?_
  refine gl_stI 3 dL_law_17 rfl (by decide) (by decide) rfl ?_
  refine GL.sub [2, 1, 0] rfl ?_
  exact gL_law_p18 FU _ _ _ _
