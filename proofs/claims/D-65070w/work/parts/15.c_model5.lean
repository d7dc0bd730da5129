set_option maxRecDepth 100000
theorem dX10_combine_0 : decode cX10_combine 0 = .ok (.aload_n 0, 1) := by decide +kernel
theorem dX10_combine_1 : decode cX10_combine 1 = .ok (.aload_n 2, 1) := by decide +kernel
theorem dX10_combine_2 : decode cX10_combine 2 = .ok (.aload_n 0, 1) := by decide +kernel
theorem dX10_combine_3 : decode cX10_combine 3 = .ok (.getfield 520, 3) := by decide +kernel
theorem dX10_combine_6 : decode cX10_combine 6 = .ok (.aload_n 0, 1) := by decide +kernel
theorem dX10_combine_7 : decode cX10_combine 7 = .ok (.getfield 526, 3) := by decide +kernel
theorem dX10_combine_10 : decode cX10_combine 10 = .ok (.invokevirtual 802, 3) := by decide +kernel
theorem dX10_combine_13 : decode cX10_combine 13 = .ok (.iload_n 1, 1) := by decide +kernel
theorem dX10_combine_14 : decode cX10_combine 14 = .ok (.iconst 2, 1) := by decide +kernel
theorem dX10_combine_15 : decode cX10_combine 15 = .ok (.if_icmp .gt 16, 3) := by decide +kernel
theorem dX10_combine_18 : decode cX10_combine 18 = .ok (.aload_n 0, 1) := by decide +kernel
theorem dX10_combine_19 : decode cX10_combine 19 = .ok (.aload_n 3, 1) := by decide +kernel
theorem dX10_combine_20 : decode cX10_combine 20 = .ok (.aload_n 0, 1) := by decide +kernel
theorem dX10_combine_21 : decode cX10_combine 21 = .ok (.getfield 523, 3) := by decide +kernel
theorem dX10_combine_24 : decode cX10_combine 24 = .ok (.aload_n 0, 1) := by decide +kernel
theorem dX10_combine_25 : decode cX10_combine 25 = .ok (.getfield 529, 3) := by decide +kernel
theorem dX10_combine_28 : decode cX10_combine 28 = .ok (.invokevirtual 802, 3) := by decide +kernel
theorem dX10_combine_31 : decode cX10_combine 31 = .ok (.aload_n 0, 1) := by decide +kernel
theorem dX10_combine_32 : decode cX10_combine 32 = .ok (.invokevirtual 74, 3) := by decide +kernel
theorem dX10_combine_35 : decode cX10_combine 35 = .ok (.astore 5, 2) := by decide +kernel
theorem dX10_combine_37 : decode cX10_combine 37 = .ok (.aload_n 0, 1) := by decide +kernel
theorem dX10_combine_38 : decode cX10_combine 38 = .ok (.invokevirtual 74, 3) := by decide +kernel
theorem dX10_combine_41 : decode cX10_combine 41 = .ok (.astore 6, 2) := by decide +kernel
theorem dX10_combine_43 : decode cX10_combine 43 = .ok (.aload_n 0, 1) := by decide +kernel
theorem dX10_combine_44 : decode cX10_combine 44 = .ok (.invokevirtual 74, 3) := by decide +kernel
theorem dX10_combine_47 : decode cX10_combine 47 = .ok (.astore 7, 2) := by decide +kernel
theorem dX10_combine_49 : decode cX10_combine 49 = .ok (.aload_n 0, 1) := by decide +kernel
theorem dX10_combine_50 : decode cX10_combine 50 = .ok (.iload 4, 2) := by decide +kernel
theorem dX10_combine_52 : decode cX10_combine 52 = .ok (.putfield 721, 3) := by decide +kernel
theorem dX10_combine_55 : decode cX10_combine 55 = .ok (.iconst 0, 1) := by decide +kernel
theorem dX10_combine_56 : decode cX10_combine 56 = .ok (.istore 8, 2) := by decide +kernel
theorem dX10_combine_58 : decode cX10_combine 58 = .ok (.iload 8, 2) := by decide +kernel
theorem dX10_combine_60 : decode cX10_combine 60 = .ok (.bipush 7, 2) := by decide +kernel
theorem dX10_combine_62 : decode cX10_combine 62 = .ok (.if_icmp .ge 205, 3) := by decide +kernel
theorem dX10_combine_65 : decode cX10_combine 65 = .ok (.iload_n 1, 1) := by decide +kernel
theorem dX10_combine_66 : decode cX10_combine 66 = .ok (.iconst 5, 1) := by decide +kernel
theorem dX10_combine_67 : decode cX10_combine 67 = .ok (.if_icmp .ne 22, 3) := by decide +kernel
theorem dX10_combine_70 : decode cX10_combine 70 = .ok (.aload 5, 2) := by decide +kernel
theorem dX10_combine_72 : decode cX10_combine 72 = .ok (.aload_n 3, 1) := by decide +kernel
theorem dX10_combine_73 : decode cX10_combine 73 = .ok (.getfield 207, 3) := by decide +kernel
theorem dX10_combine_76 : decode cX10_combine 76 = .ok (.iconst 0, 1) := by decide +kernel
theorem dX10_combine_77 : decode cX10_combine 77 = .ok (.invokestatic 775, 3) := by decide +kernel
theorem dX10_combine_80 : decode cX10_combine 80 = .ok (.aload 5, 2) := by decide +kernel
theorem dX10_combine_82 : decode cX10_combine 82 = .ok (.aload 5, 2) := by decide +kernel
theorem dX10_combine_84 : decode cX10_combine 84 = .ok (.iload 8, 2) := by decide +kernel
theorem dX10_combine_86 : decode cX10_combine 86 = .ok (.invokestatic 116, 3) := by decide +kernel
theorem dX10_combine_89 : decode cX10_combine 89 = .ok (.iconst 0, 1) := by decide +kernel
theorem dX10_combine_90 : decode cX10_combine 90 = .ok (.istore 9, 2) := by decide +kernel
theorem dX10_combine_92 : decode cX10_combine 92 = .ok (.iload 9, 2) := by decide +kernel
theorem dX10_combine_94 : decode cX10_combine 94 = .ok (.iload 4, 2) := by decide +kernel
theorem dX10_combine_96 : decode cX10_combine 96 = .ok (.if_icmp .ge 165, 3) := by decide +kernel
theorem dX10_combine_99 : decode cX10_combine 99 = .ok (.aload_n 0, 1) := by decide +kernel
theorem dX10_combine_100 : decode cX10_combine 100 = .ok (.getfield 487, 3) := by decide +kernel
theorem dX10_combine_103 : decode cX10_combine 103 = .ok (.iload 9, 2) := by decide +kernel
theorem dX10_combine_105 : decode cX10_combine 105 = .ok (.aaload, 1) := by decide +kernel
theorem dX10_combine_106 : decode cX10_combine 106 = .ok (.iload 8, 2) := by decide +kernel
theorem dX10_combine_108 : decode cX10_combine 108 = .ok (.aaload, 1) := by decide +kernel
theorem dX10_combine_109 : decode cX10_combine 109 = .ok (.astore 10, 2) := by decide +kernel
theorem dX10_combine_111 : decode cX10_combine 111 = .ok (.iload_n 1, 1) := by decide +kernel
theorem dX10_combine_112 : decode cX10_combine 112 = .ok (.iconst 5, 1) := by decide +kernel
theorem dX10_combine_113 : decode cX10_combine 113 = .ok (.if_icmp .ne 23, 3) := by decide +kernel
theorem dX10_combine_116 : decode cX10_combine 116 = .ok (.aload 10, 2) := by decide +kernel
theorem dX10_combine_118 : decode cX10_combine 118 = .ok (.aload_n 0, 1) := by decide +kernel
theorem dX10_combine_119 : decode cX10_combine 119 = .ok (.getfield 520, 3) := by decide +kernel
theorem dX10_combine_122 : decode cX10_combine 122 = .ok (.iload 8, 2) := by decide +kernel
theorem dX10_combine_124 : decode cX10_combine 124 = .ok (.aaload, 1) := by decide +kernel
theorem dX10_combine_125 : decode cX10_combine 125 = .ok (.iload 9, 2) := by decide +kernel
theorem dX10_combine_127 : decode cX10_combine 127 = .ok (.aaload, 1) := by decide +kernel
theorem dX10_combine_128 : decode cX10_combine 128 = .ok (.aload 5, 2) := by decide +kernel
theorem dX10_combine_130 : decode cX10_combine 130 = .ok (.invokestatic 106, 3) := by decide +kernel
theorem dX10_combine_133 : decode cX10_combine 133 = .ok (.goto 122, 3) := by decide +kernel
theorem dX10_combine_136 : decode cX10_combine 136 = .ok (.iload_n 1, 1) := by decide +kernel
theorem dX10_combine_137 : decode cX10_combine 137 = .ok (.iconst 2, 1) := by decide +kernel
theorem dX10_combine_138 : decode cX10_combine 138 = .ok (.if_icmp .ne 41, 3) := by decide +kernel
theorem dX10_combine_141 : decode cX10_combine 141 = .ok (.aload 10, 2) := by decide +kernel
theorem dX10_combine_143 : decode cX10_combine 143 = .ok (.aload_n 0, 1) := by decide +kernel
theorem dX10_combine_144 : decode cX10_combine 144 = .ok (.getfield 520, 3) := by decide +kernel
theorem dX10_combine_147 : decode cX10_combine 147 = .ok (.iload 8, 2) := by decide +kernel
theorem dX10_combine_149 : decode cX10_combine 149 = .ok (.aaload, 1) := by decide +kernel
theorem dX10_combine_150 : decode cX10_combine 150 = .ok (.iload 9, 2) := by decide +kernel
theorem dX10_combine_152 : decode cX10_combine 152 = .ok (.aload_n 3, 1) := by decide +kernel
theorem dX10_combine_153 : decode cX10_combine 153 = .ok (.getfield 234, 3) := by decide +kernel
theorem dX10_combine_156 : decode cX10_combine 156 = .ok (.idiv, 1) := by decide +kernel
theorem dX10_combine_157 : decode cX10_combine 157 = .ok (.aaload, 1) := by decide +kernel
theorem dX10_combine_158 : decode cX10_combine 158 = .ok (.aload_n 0, 1) := by decide +kernel
theorem dX10_combine_159 : decode cX10_combine 159 = .ok (.getfield 523, 3) := by decide +kernel
theorem dX10_combine_162 : decode cX10_combine 162 = .ok (.iload 8, 2) := by decide +kernel
theorem dX10_combine_164 : decode cX10_combine 164 = .ok (.aaload, 1) := by decide +kernel
theorem dX10_combine_165 : decode cX10_combine 165 = .ok (.iload 9, 2) := by decide +kernel
theorem dX10_combine_167 : decode cX10_combine 167 = .ok (.aload_n 3, 1) := by decide +kernel
theorem dX10_combine_168 : decode cX10_combine 168 = .ok (.getfield 234, 3) := by decide +kernel
theorem dX10_combine_171 : decode cX10_combine 171 = .ok (.irem, 1) := by decide +kernel
theorem dX10_combine_172 : decode cX10_combine 172 = .ok (.aaload, 1) := by decide +kernel
theorem dX10_combine_173 : decode cX10_combine 173 = .ok (.invokestatic 106, 3) := by decide +kernel
theorem dX10_combine_176 : decode cX10_combine 176 = .ok (.goto 79, 3) := by decide +kernel
theorem dX10_combine_179 : decode cX10_combine 179 = .ok (.iload 9, 2) := by decide +kernel
theorem dX10_combine_181 : decode cX10_combine 181 = .ok (.aload_n 2, 1) := by decide +kernel
theorem dX10_combine_182 : decode cX10_combine 182 = .ok (.getfield 234, 3) := by decide +kernel
theorem dX10_combine_185 : decode cX10_combine 185 = .ok (.if_icmp .ge 28, 3) := by decide +kernel
theorem dX10_combine_188 : decode cX10_combine 188 = .ok (.aload 10, 2) := by decide +kernel
theorem dX10_combine_190 : decode cX10_combine 190 = .ok (.aload_n 0, 1) := by decide +kernel
theorem dX10_combine_191 : decode cX10_combine 191 = .ok (.getfield 520, 3) := by decide +kernel
theorem dX10_combine_194 : decode cX10_combine 194 = .ok (.iload 8, 2) := by decide +kernel
theorem dX10_combine_196 : decode cX10_combine 196 = .ok (.aaload, 1) := by decide +kernel
theorem dX10_combine_197 : decode cX10_combine 197 = .ok (.iload 9, 2) := by decide +kernel
theorem dX10_combine_199 : decode cX10_combine 199 = .ok (.aaload, 1) := by decide +kernel
theorem dX10_combine_200 : decode cX10_combine 200 = .ok (.aload_n 0, 1) := by decide +kernel
theorem dX10_combine_201 : decode cX10_combine 201 = .ok (.getfield 529, 3) := by decide +kernel
theorem dX10_combine_204 : decode cX10_combine 204 = .ok (.iload 8, 2) := by decide +kernel
theorem dX10_combine_206 : decode cX10_combine 206 = .ok (.aaload, 1) := by decide +kernel
theorem dX10_combine_207 : decode cX10_combine 207 = .ok (.invokestatic 106, 3) := by decide +kernel
theorem dX10_combine_210 : decode cX10_combine 210 = .ok (.goto 45, 3) := by decide +kernel
theorem dX10_combine_213 : decode cX10_combine 213 = .ok (.aload 10, 2) := by decide +kernel
theorem dX10_combine_215 : decode cX10_combine 215 = .ok (.aload_n 0, 1) := by decide +kernel
theorem dX10_combine_216 : decode cX10_combine 216 = .ok (.getfield 523, 3) := by decide +kernel
theorem dX10_combine_219 : decode cX10_combine 219 = .ok (.iload 8, 2) := by decide +kernel
theorem dX10_combine_221 : decode cX10_combine 221 = .ok (.aaload, 1) := by decide +kernel
theorem dX10_combine_222 : decode cX10_combine 222 = .ok (.iload 9, 2) := by decide +kernel
theorem dX10_combine_224 : decode cX10_combine 224 = .ok (.aload_n 2, 1) := by decide +kernel
theorem dX10_combine_225 : decode cX10_combine 225 = .ok (.getfield 234, 3) := by decide +kernel
theorem dX10_combine_228 : decode cX10_combine 228 = .ok (.isub, 1) := by decide +kernel
theorem dX10_combine_229 : decode cX10_combine 229 = .ok (.aaload, 1) := by decide +kernel
theorem dX10_combine_230 : decode cX10_combine 230 = .ok (.aload_n 0, 1) := by decide +kernel
theorem dX10_combine_231 : decode cX10_combine 231 = .ok (.getfield 526, 3) := by decide +kernel
theorem dX10_combine_234 : decode cX10_combine 234 = .ok (.iload 8, 2) := by decide +kernel
theorem dX10_combine_236 : decode cX10_combine 236 = .ok (.aaload, 1) := by decide +kernel
theorem dX10_combine_237 : decode cX10_combine 237 = .ok (.invokestatic 106, 3) := by decide +kernel
theorem dX10_combine_240 : decode cX10_combine 240 = .ok (.iload_n 1, 1) := by decide +kernel
theorem dX10_combine_241 : decode cX10_combine 241 = .ok (.iconst 1, 1) := by decide +kernel
theorem dX10_combine_242 : decode cX10_combine 242 = .ok (.if_icmp .ne 13, 3) := by decide +kernel
theorem dX10_combine_245 : decode cX10_combine 245 = .ok (.aload 10, 2) := by decide +kernel
theorem dX10_combine_247 : decode cX10_combine 247 = .ok (.aload 10, 2) := by decide +kernel
theorem dX10_combine_249 : decode cX10_combine 249 = .ok (.ldc_w 720, 3) := by decide +kernel
theorem dX10_combine_252 : decode cX10_combine 252 = .ok (.invokestatic 70, 3) := by decide +kernel
theorem dX10_combine_255 : decode cX10_combine 255 = .ok (.iinc 9 1, 3) := by decide +kernel
theorem dX10_combine_258 : decode cX10_combine 258 = .ok (.goto (-166), 3) := by decide +kernel
theorem dX10_combine_261 : decode cX10_combine 261 = .ok (.iinc 8 1, 3) := by decide +kernel
theorem dX10_combine_264 : decode cX10_combine 264 = .ok (.goto (-206), 3) := by decide +kernel
theorem dX10_combine_267 : decode cX10_combine 267 = .ok (.aload_n 0, 1) := by decide +kernel
theorem dX10_combine_268 : decode cX10_combine 268 = .ok (.bipush 7, 2) := by decide +kernel
theorem dX10_combine_270 : decode cX10_combine 270 = .ok (.invokevirtual 735, 3) := by decide +kernel
theorem dX10_combine_273 : decode cX10_combine 273 = .ok (.astore 8, 2) := by decide +kernel
theorem dX10_combine_275 : decode cX10_combine 275 = .ok (.iconst 1, 1) := by decide +kernel
theorem dX10_combine_276 : decode cX10_combine 276 = .ok (.istore 9, 2) := by decide +kernel
theorem dX10_combine_278 : decode cX10_combine 278 = .ok (.aload_n 0, 1) := by decide +kernel
theorem dX10_combine_279 : decode cX10_combine 279 = .ok (.getfield 493, 3) := by decide +kernel
theorem dX10_combine_282 : decode cX10_combine 282 = .ok (.iload 9, 2) := by decide +kernel
theorem dX10_combine_284 : decode cX10_combine 284 = .ok (.baload, 1) := by decide +kernel
theorem dX10_combine_285 : decode cX10_combine 285 = .ok (.ifCond .eq 9, 3) := by decide +kernel
theorem dX10_combine_288 : decode cX10_combine 288 = .ok (.iinc 9 1, 3) := by decide +kernel
theorem dX10_combine_291 : decode cX10_combine 291 = .ok (.goto (-13), 3) := by decide +kernel
theorem dX10_combine_294 : decode cX10_combine 294 = .ok (.aload_n 0, 1) := by decide +kernel
theorem dX10_combine_295 : decode cX10_combine 295 = .ok (.iload 9, 2) := by decide +kernel
theorem dX10_combine_297 : decode cX10_combine 297 = .ok (.bipush 7, 2) := by decide +kernel
theorem dX10_combine_299 : decode cX10_combine 299 = .ok (.aload 8, 2) := by decide +kernel
theorem dX10_combine_301 : decode cX10_combine 301 = .ok (.invokevirtual 739, 3) := by decide +kernel
theorem dX10_combine_304 : decode cX10_combine 304 = .ok (.iconst 0, 1) := by decide +kernel
theorem dX10_combine_305 : decode cX10_combine 305 = .ok (.istore 10, 2) := by decide +kernel
theorem dX10_combine_307 : decode cX10_combine 307 = .ok (.iload 10, 2) := by decide +kernel
theorem dX10_combine_309 : decode cX10_combine 309 = .ok (.iload 9, 2) := by decide +kernel
theorem dX10_combine_311 : decode cX10_combine 311 = .ok (.if_icmp .gt 84, 3) := by decide +kernel
theorem dX10_combine_314 : decode cX10_combine 314 = .ok (.aload_n 0, 1) := by decide +kernel
theorem dX10_combine_315 : decode cX10_combine 315 = .ok (.getfield 517, 3) := by decide +kernel
theorem dX10_combine_318 : decode cX10_combine 318 = .ok (.iload 10, 2) := by decide +kernel
theorem dX10_combine_320 : decode cX10_combine 320 = .ok (.aload_n 0, 1) := by decide +kernel
theorem dX10_combine_321 : decode cX10_combine 321 = .ok (.invokevirtual 74, 3) := by decide +kernel
theorem dX10_combine_324 : decode cX10_combine 324 = .ok (.aastore, 1) := by decide +kernel
theorem dX10_combine_325 : decode cX10_combine 325 = .ok (.aload 6, 2) := by decide +kernel
theorem dX10_combine_327 : decode cX10_combine 327 = .ok (.aload_n 0, 1) := by decide +kernel
theorem dX10_combine_328 : decode cX10_combine 328 = .ok (.getfield 526, 3) := by decide +kernel
theorem dX10_combine_331 : decode cX10_combine 331 = .ok (.iload 10, 2) := by decide +kernel
theorem dX10_combine_333 : decode cX10_combine 333 = .ok (.aaload, 1) := by decide +kernel
theorem dX10_combine_334 : decode cX10_combine 334 = .ok (.invokestatic 62, 3) := by decide +kernel
theorem dX10_combine_337 : decode cX10_combine 337 = .ok (.iload_n 1, 1) := by decide +kernel
theorem dX10_combine_338 : decode cX10_combine 338 = .ok (.iconst 2, 1) := by decide +kernel
theorem dX10_combine_339 : decode cX10_combine 339 = .ok (.if_icmp .gt 24, 3) := by decide +kernel
theorem dX10_combine_342 : decode cX10_combine 342 = .ok (.aload 7, 2) := by decide +kernel
theorem dX10_combine_344 : decode cX10_combine 344 = .ok (.aload 6, 2) := by decide +kernel
theorem dX10_combine_346 : decode cX10_combine 346 = .ok (.aload_n 0, 1) := by decide +kernel
theorem dX10_combine_347 : decode cX10_combine 347 = .ok (.getfield 529, 3) := by decide +kernel
theorem dX10_combine_350 : decode cX10_combine 350 = .ok (.iload 10, 2) := by decide +kernel
theorem dX10_combine_352 : decode cX10_combine 352 = .ok (.aaload, 1) := by decide +kernel
theorem dX10_combine_353 : decode cX10_combine 353 = .ok (.invokestatic 106, 3) := by decide +kernel
theorem dX10_combine_356 : decode cX10_combine 356 = .ok (.aload 6, 2) := by decide +kernel
theorem dX10_combine_358 : decode cX10_combine 358 = .ok (.aload 7, 2) := by decide +kernel
theorem dX10_combine_360 : decode cX10_combine 360 = .ok (.invokestatic 62, 3) := by decide +kernel
theorem dX10_combine_363 : decode cX10_combine 363 = .ok (.aload 7, 2) := by decide +kernel
theorem dX10_combine_365 : decode cX10_combine 365 = .ok (.aload_n 0, 1) := by decide +kernel
theorem dX10_combine_366 : decode cX10_combine 366 = .ok (.getfield 490, 3) := by decide +kernel
theorem dX10_combine_369 : decode cX10_combine 369 = .ok (.iload 10, 2) := by decide +kernel
theorem dX10_combine_371 : decode cX10_combine 371 = .ok (.aaload, 1) := by decide +kernel
theorem dX10_combine_372 : decode cX10_combine 372 = .ok (.aload 6, 2) := by decide +kernel
theorem dX10_combine_374 : decode cX10_combine 374 = .ok (.invokestatic 106, 3) := by decide +kernel
theorem dX10_combine_377 : decode cX10_combine 377 = .ok (.aload_n 0, 1) := by decide +kernel
theorem dX10_combine_378 : decode cX10_combine 378 = .ok (.getfield 517, 3) := by decide +kernel
theorem dX10_combine_381 : decode cX10_combine 381 = .ok (.iload 10, 2) := by decide +kernel
theorem dX10_combine_383 : decode cX10_combine 383 = .ok (.aaload, 1) := by decide +kernel
theorem dX10_combine_384 : decode cX10_combine 384 = .ok (.aload 7, 2) := by decide +kernel
theorem dX10_combine_386 : decode cX10_combine 386 = .ok (.invokestatic 62, 3) := by decide +kernel
theorem dX10_combine_389 : decode cX10_combine 389 = .ok (.iinc 10 1, 3) := by decide +kernel
theorem dX10_combine_392 : decode cX10_combine 392 = .ok (.goto (-85), 3) := by decide +kernel
theorem dX10_combine_395 : decode cX10_combine 395 = .ok (.iload 9, 2) := by decide +kernel
theorem dX10_combine_397 : decode cX10_combine 397 = .ok (.ireturn, 1) := by decide +kernel
theorem dX10_unroll_0 : decode cX10_unroll 0 = .ok (.aload_n 1, 1) := by decide +kernel
theorem dX10_unroll_1 : decode cX10_unroll 1 = .ok (.getfield 234, 3) := by decide +kernel
theorem dX10_unroll_4 : decode cX10_unroll 4 = .ok (.istore 4, 2) := by decide +kernel
theorem dX10_unroll_6 : decode cX10_unroll 6 = .ok (.aload_n 0, 1) := by decide +kernel
theorem dX10_unroll_7 : decode cX10_unroll 7 = .ok (.invokevirtual 74, 3) := by decide +kernel
theorem dX10_unroll_10 : decode cX10_unroll 10 = .ok (.astore 5, 2) := by decide +kernel
theorem dX10_unroll_12 : decode cX10_unroll 12 = .ok (.aload_n 0, 1) := by decide +kernel
theorem dX10_unroll_13 : decode cX10_unroll 13 = .ok (.invokevirtual 74, 3) := by decide +kernel
theorem dX10_unroll_16 : decode cX10_unroll 16 = .ok (.astore 6, 2) := by decide +kernel
theorem dX10_unroll_18 : decode cX10_unroll 18 = .ok (.aload_n 0, 1) := by decide +kernel
theorem dX10_unroll_19 : decode cX10_unroll 19 = .ok (.invokevirtual 74, 3) := by decide +kernel
theorem dX10_unroll_22 : decode cX10_unroll 22 = .ok (.astore 7, 2) := by decide +kernel
theorem dX10_unroll_24 : decode cX10_unroll 24 = .ok (.iconst 0, 1) := by decide +kernel
theorem dX10_unroll_25 : decode cX10_unroll 25 = .ok (.istore 8, 2) := by decide +kernel
theorem dX10_unroll_27 : decode cX10_unroll 27 = .ok (.iload 8, 2) := by decide +kernel
theorem dX10_unroll_29 : decode cX10_unroll 29 = .ok (.bipush 7, 2) := by decide +kernel
theorem dX10_unroll_31 : decode cX10_unroll 31 = .ok (.if_icmp .ge 273, 3) := by decide +kernel
theorem dX10_unroll_34 : decode cX10_unroll 34 = .ok (.aload_n 3, 1) := by decide +kernel
theorem dX10_unroll_35 : decode cX10_unroll 35 = .ok (.iload 8, 2) := by decide +kernel
theorem dX10_unroll_37 : decode cX10_unroll 37 = .ok (.aload_n 0, 1) := by decide +kernel
theorem dX10_unroll_38 : decode cX10_unroll 38 = .ok (.invokevirtual 74, 3) := by decide +kernel
theorem dX10_unroll_41 : decode cX10_unroll 41 = .ok (.aastore, 1) := by decide +kernel
theorem dX10_unroll_42 : decode cX10_unroll 42 = .ok (.iconst 0, 1) := by decide +kernel
theorem dX10_unroll_43 : decode cX10_unroll 43 = .ok (.istore 9, 2) := by decide +kernel
theorem dX10_unroll_45 : decode cX10_unroll 45 = .ok (.iload 9, 2) := by decide +kernel
theorem dX10_unroll_47 : decode cX10_unroll 47 = .ok (.iload 4, 2) := by decide +kernel
theorem dX10_unroll_49 : decode cX10_unroll 49 = .ok (.if_icmp .ge 20, 3) := by decide +kernel
theorem dX10_unroll_52 : decode cX10_unroll 52 = .ok (.aload_n 2, 1) := by decide +kernel
theorem dX10_unroll_53 : decode cX10_unroll 53 = .ok (.iload 8, 2) := by decide +kernel
theorem dX10_unroll_55 : decode cX10_unroll 55 = .ok (.aaload, 1) := by decide +kernel
theorem dX10_unroll_56 : decode cX10_unroll 56 = .ok (.iload 9, 2) := by decide +kernel
theorem dX10_unroll_58 : decode cX10_unroll 58 = .ok (.aload_n 0, 1) := by decide +kernel
theorem dX10_unroll_59 : decode cX10_unroll 59 = .ok (.invokevirtual 74, 3) := by decide +kernel
theorem dX10_unroll_62 : decode cX10_unroll 62 = .ok (.aastore, 1) := by decide +kernel
theorem dX10_unroll_63 : decode cX10_unroll 63 = .ok (.iinc 9 1, 3) := by decide +kernel
theorem dX10_unroll_66 : decode cX10_unroll 66 = .ok (.goto (-21), 3) := by decide +kernel
theorem dX10_unroll_69 : decode cX10_unroll 69 = .ok (.iload 8, 2) := by decide +kernel
theorem dX10_unroll_71 : decode cX10_unroll 71 = .ok (.ifCond .ne 22, 3) := by decide +kernel
theorem dX10_unroll_74 : decode cX10_unroll 74 = .ok (.aload_n 2, 1) := by decide +kernel
theorem dX10_unroll_75 : decode cX10_unroll 75 = .ok (.iconst 0, 1) := by decide +kernel
theorem dX10_unroll_76 : decode cX10_unroll 76 = .ok (.aaload, 1) := by decide +kernel
theorem dX10_unroll_77 : decode cX10_unroll 77 = .ok (.iconst 0, 1) := by decide +kernel
theorem dX10_unroll_78 : decode cX10_unroll 78 = .ok (.aaload, 1) := by decide +kernel
theorem dX10_unroll_79 : decode cX10_unroll 79 = .ok (.iconst 1, 1) := by decide +kernel
theorem dX10_unroll_80 : decode cX10_unroll 80 = .ok (.invokevirtual 147, 3) := by decide +kernel
theorem dX10_unroll_83 : decode cX10_unroll 83 = .ok (.aload_n 3, 1) := by decide +kernel
theorem dX10_unroll_84 : decode cX10_unroll 84 = .ok (.iconst 0, 1) := by decide +kernel
theorem dX10_unroll_85 : decode cX10_unroll 85 = .ok (.aaload, 1) := by decide +kernel
theorem dX10_unroll_86 : decode cX10_unroll 86 = .ok (.iconst 1, 1) := by decide +kernel
theorem dX10_unroll_87 : decode cX10_unroll 87 = .ok (.invokevirtual 147, 3) := by decide +kernel
theorem dX10_unroll_90 : decode cX10_unroll 90 = .ok (.goto 208, 3) := by decide +kernel
theorem dX10_unroll_93 : decode cX10_unroll 93 = .ok (.aload 5, 2) := by decide +kernel
theorem dX10_unroll_95 : decode cX10_unroll 95 = .ok (.aload_n 3, 1) := by decide +kernel
theorem dX10_unroll_96 : decode cX10_unroll 96 = .ok (.iload 8, 2) := by decide +kernel
theorem dX10_unroll_98 : decode cX10_unroll 98 = .ok (.iconst 1, 1) := by decide +kernel
theorem dX10_unroll_99 : decode cX10_unroll 99 = .ok (.isub, 1) := by decide +kernel
theorem dX10_unroll_100 : decode cX10_unroll 100 = .ok (.aaload, 1) := by decide +kernel
theorem dX10_unroll_101 : decode cX10_unroll 101 = .ok (.iconst 1, 1) := by decide +kernel
theorem dX10_unroll_102 : decode cX10_unroll 102 = .ok (.invokestatic 116, 3) := by decide +kernel
theorem dX10_unroll_105 : decode cX10_unroll 105 = .ok (.aload 6, 2) := by decide +kernel
theorem dX10_unroll_107 : decode cX10_unroll 107 = .ok (.aload_n 1, 1) := by decide +kernel
theorem dX10_unroll_108 : decode cX10_unroll 108 = .ok (.getfield 237, 3) := by decide +kernel
theorem dX10_unroll_111 : decode cX10_unroll 111 = .ok (.bipush 25, 2) := by decide +kernel
theorem dX10_unroll_113 : decode cX10_unroll 113 = .ok (.iload 4, 2) := by decide +kernel
theorem dX10_unroll_115 : decode cX10_unroll 115 = .ok (.imul, 1) := by decide +kernel
theorem dX10_unroll_116 : decode cX10_unroll 116 = .ok (.invokestatic 775, 3) := by decide +kernel
theorem dX10_unroll_119 : decode cX10_unroll 119 = .ok (.aload_n 3, 1) := by decide +kernel
theorem dX10_unroll_120 : decode cX10_unroll 120 = .ok (.iload 8, 2) := by decide +kernel
theorem dX10_unroll_122 : decode cX10_unroll 122 = .ok (.aaload, 1) := by decide +kernel
theorem dX10_unroll_123 : decode cX10_unroll 123 = .ok (.aload 5, 2) := by decide +kernel
theorem dX10_unroll_125 : decode cX10_unroll 125 = .ok (.aload 6, 2) := by decide +kernel
theorem dX10_unroll_127 : decode cX10_unroll 127 = .ok (.invokestatic 106, 3) := by decide +kernel
theorem dX10_unroll_130 : decode cX10_unroll 130 = .ok (.aload 7, 2) := by decide +kernel
theorem dX10_unroll_132 : decode cX10_unroll 132 = .ok (.aload_n 2, 1) := by decide +kernel
theorem dX10_unroll_133 : decode cX10_unroll 133 = .ok (.iload 8, 2) := by decide +kernel
theorem dX10_unroll_135 : decode cX10_unroll 135 = .ok (.iconst 1, 1) := by decide +kernel
theorem dX10_unroll_136 : decode cX10_unroll 136 = .ok (.isub, 1) := by decide +kernel
theorem dX10_unroll_137 : decode cX10_unroll 137 = .ok (.aaload, 1) := by decide +kernel
theorem dX10_unroll_138 : decode cX10_unroll 138 = .ok (.iload 4, 2) := by decide +kernel
theorem dX10_unroll_140 : decode cX10_unroll 140 = .ok (.iconst 1, 1) := by decide +kernel
theorem dX10_unroll_141 : decode cX10_unroll 141 = .ok (.isub, 1) := by decide +kernel
theorem dX10_unroll_142 : decode cX10_unroll 142 = .ok (.aaload, 1) := by decide +kernel
theorem dX10_unroll_143 : decode cX10_unroll 143 = .ok (.iconst 1, 1) := by decide +kernel
theorem dX10_unroll_144 : decode cX10_unroll 144 = .ok (.invokestatic 116, 3) := by decide +kernel
theorem dX10_unroll_147 : decode cX10_unroll 147 = .ok (.iconst 0, 1) := by decide +kernel
theorem dX10_unroll_148 : decode cX10_unroll 148 = .ok (.istore 9, 2) := by decide +kernel
theorem dX10_unroll_150 : decode cX10_unroll 150 = .ok (.iload 9, 2) := by decide +kernel
theorem dX10_unroll_152 : decode cX10_unroll 152 = .ok (.iload 4, 2) := by decide +kernel
theorem dX10_unroll_154 : decode cX10_unroll 154 = .ok (.if_icmp .ge 130, 3) := by decide +kernel
theorem dX10_unroll_157 : decode cX10_unroll 157 = .ok (.aload 5, 2) := by decide +kernel
theorem dX10_unroll_159 : decode cX10_unroll 159 = .ok (.aload_n 1, 1) := by decide +kernel
theorem dX10_unroll_160 : decode cX10_unroll 160 = .ok (.getfield 237, 3) := by decide +kernel
theorem dX10_unroll_163 : decode cX10_unroll 163 = .ok (.bipush 25, 2) := by decide +kernel
theorem dX10_unroll_165 : decode cX10_unroll 165 = .ok (.iload 9, 2) := by decide +kernel
theorem dX10_unroll_167 : decode cX10_unroll 167 = .ok (.imul, 1) := by decide +kernel
theorem dX10_unroll_168 : decode cX10_unroll 168 = .ok (.invokestatic 775, 3) := by decide +kernel
theorem dX10_unroll_171 : decode cX10_unroll 171 = .ok (.aload_n 2, 1) := by decide +kernel
theorem dX10_unroll_172 : decode cX10_unroll 172 = .ok (.iload 8, 2) := by decide +kernel
theorem dX10_unroll_174 : decode cX10_unroll 174 = .ok (.aaload, 1) := by decide +kernel
theorem dX10_unroll_175 : decode cX10_unroll 175 = .ok (.iload 9, 2) := by decide +kernel
theorem dX10_unroll_177 : decode cX10_unroll 177 = .ok (.aaload, 1) := by decide +kernel
theorem dX10_unroll_178 : decode cX10_unroll 178 = .ok (.aload 7, 2) := by decide +kernel
theorem dX10_unroll_180 : decode cX10_unroll 180 = .ok (.aload 5, 2) := by decide +kernel
theorem dX10_unroll_182 : decode cX10_unroll 182 = .ok (.invokestatic 106, 3) := by decide +kernel
theorem dX10_unroll_185 : decode cX10_unroll 185 = .ok (.aload_n 2, 1) := by decide +kernel
theorem dX10_unroll_186 : decode cX10_unroll 186 = .ok (.iload 8, 2) := by decide +kernel
theorem dX10_unroll_188 : decode cX10_unroll 188 = .ok (.aaload, 1) := by decide +kernel
theorem dX10_unroll_189 : decode cX10_unroll 189 = .ok (.iload 9, 2) := by decide +kernel
theorem dX10_unroll_191 : decode cX10_unroll 191 = .ok (.aaload, 1) := by decide +kernel
theorem dX10_unroll_192 : decode cX10_unroll 192 = .ok (.aload_n 2, 1) := by decide +kernel
theorem dX10_unroll_193 : decode cX10_unroll 193 = .ok (.iload 8, 2) := by decide +kernel
theorem dX10_unroll_195 : decode cX10_unroll 195 = .ok (.aaload, 1) := by decide +kernel
theorem dX10_unroll_196 : decode cX10_unroll 196 = .ok (.iload 9, 2) := by decide +kernel
theorem dX10_unroll_198 : decode cX10_unroll 198 = .ok (.aaload, 1) := by decide +kernel
theorem dX10_unroll_199 : decode cX10_unroll 199 = .ok (.ldc_w 720, 3) := by decide +kernel
theorem dX10_unroll_202 : decode cX10_unroll 202 = .ok (.invokestatic 70, 3) := by decide +kernel
theorem dX10_unroll_205 : decode cX10_unroll 205 = .ok (.iload 9, 2) := by decide +kernel
theorem dX10_unroll_207 : decode cX10_unroll 207 = .ok (.ifCond .le 71, 3) := by decide +kernel
theorem dX10_unroll_210 : decode cX10_unroll 210 = .ok (.aload_n 0, 1) := by decide +kernel
theorem dX10_unroll_211 : decode cX10_unroll 211 = .ok (.invokevirtual 74, 3) := by decide +kernel
theorem dX10_unroll_214 : decode cX10_unroll 214 = .ok (.astore 10, 2) := by decide +kernel
theorem dX10_unroll_216 : decode cX10_unroll 216 = .ok (.aload_n 0, 1) := by decide +kernel
theorem dX10_unroll_217 : decode cX10_unroll 217 = .ok (.invokevirtual 74, 3) := by decide +kernel
theorem dX10_unroll_220 : decode cX10_unroll 220 = .ok (.astore 11, 2) := by decide +kernel
theorem dX10_unroll_222 : decode cX10_unroll 222 = .ok (.aload 10, 2) := by decide +kernel
theorem dX10_unroll_224 : decode cX10_unroll 224 = .ok (.aload_n 2, 1) := by decide +kernel
theorem dX10_unroll_225 : decode cX10_unroll 225 = .ok (.iload 8, 2) := by decide +kernel
theorem dX10_unroll_227 : decode cX10_unroll 227 = .ok (.iconst 1, 1) := by decide +kernel
theorem dX10_unroll_228 : decode cX10_unroll 228 = .ok (.isub, 1) := by decide +kernel
theorem dX10_unroll_229 : decode cX10_unroll 229 = .ok (.aaload, 1) := by decide +kernel
theorem dX10_unroll_230 : decode cX10_unroll 230 = .ok (.iload 9, 2) := by decide +kernel
theorem dX10_unroll_232 : decode cX10_unroll 232 = .ok (.iconst 1, 1) := by decide +kernel
theorem dX10_unroll_233 : decode cX10_unroll 233 = .ok (.isub, 1) := by decide +kernel
theorem dX10_unroll_234 : decode cX10_unroll 234 = .ok (.aaload, 1) := by decide +kernel
theorem dX10_unroll_235 : decode cX10_unroll 235 = .ok (.iconst 1, 1) := by decide +kernel
theorem dX10_unroll_236 : decode cX10_unroll 236 = .ok (.invokestatic 116, 3) := by decide +kernel
theorem dX10_unroll_239 : decode cX10_unroll 239 = .ok (.aload 11, 2) := by decide +kernel
theorem dX10_unroll_241 : decode cX10_unroll 241 = .ok (.aload 10, 2) := by decide +kernel
theorem dX10_unroll_243 : decode cX10_unroll 243 = .ok (.aload 6, 2) := by decide +kernel
theorem dX10_unroll_245 : decode cX10_unroll 245 = .ok (.invokestatic 106, 3) := by decide +kernel
theorem dX10_unroll_248 : decode cX10_unroll 248 = .ok (.aload_n 2, 1) := by decide +kernel
theorem dX10_unroll_249 : decode cX10_unroll 249 = .ok (.iload 8, 2) := by decide +kernel
theorem dX10_unroll_251 : decode cX10_unroll 251 = .ok (.aaload, 1) := by decide +kernel
theorem dX10_unroll_252 : decode cX10_unroll 252 = .ok (.iload 9, 2) := by decide +kernel
theorem dX10_unroll_254 : decode cX10_unroll 254 = .ok (.aaload, 1) := by decide +kernel
theorem dX10_unroll_255 : decode cX10_unroll 255 = .ok (.aload_n 2, 1) := by decide +kernel
theorem dX10_unroll_256 : decode cX10_unroll 256 = .ok (.iload 8, 2) := by decide +kernel
theorem dX10_unroll_258 : decode cX10_unroll 258 = .ok (.aaload, 1) := by decide +kernel
theorem dX10_unroll_259 : decode cX10_unroll 259 = .ok (.iload 9, 2) := by decide +kernel
theorem dX10_unroll_261 : decode cX10_unroll 261 = .ok (.aaload, 1) := by decide +kernel
theorem dX10_unroll_262 : decode cX10_unroll 262 = .ok (.aload 11, 2) := by decide +kernel
theorem dX10_unroll_264 : decode cX10_unroll 264 = .ok (.iconst 0, 1) := by decide +kernel
theorem dX10_unroll_265 : decode cX10_unroll 265 = .ok (.invokestatic 101, 3) := by decide +kernel
theorem dX10_unroll_268 : decode cX10_unroll 268 = .ok (.aload_n 0, 1) := by decide +kernel
theorem dX10_unroll_269 : decode cX10_unroll 269 = .ok (.dup, 1) := by decide +kernel
theorem dX10_unroll_270 : decode cX10_unroll 270 = .ok (.getfield 21, 3) := by decide +kernel
theorem dX10_unroll_273 : decode cX10_unroll 273 = .ok (.iconst 2, 1) := by decide +kernel
theorem dX10_unroll_274 : decode cX10_unroll 274 = .ok (.isub, 1) := by decide +kernel
theorem dX10_unroll_275 : decode cX10_unroll 275 = .ok (.putfield 21, 3) := by decide +kernel
theorem dX10_unroll_278 : decode cX10_unroll 278 = .ok (.iinc 9 1, 3) := by decide +kernel
theorem dX10_unroll_281 : decode cX10_unroll 281 = .ok (.goto (-131), 3) := by decide +kernel
theorem dX10_unroll_284 : decode cX10_unroll 284 = .ok (.aload_n 0, 1) := by decide +kernel
theorem dX10_unroll_285 : decode cX10_unroll 285 = .ok (.aload_n 2, 1) := by decide +kernel
theorem dX10_unroll_286 : decode cX10_unroll 286 = .ok (.iload 8, 2) := by decide +kernel
theorem dX10_unroll_288 : decode cX10_unroll 288 = .ok (.aaload, 1) := by decide +kernel
theorem dX10_unroll_289 : decode cX10_unroll 289 = .ok (.aload_n 3, 1) := by decide +kernel
theorem dX10_unroll_290 : decode cX10_unroll 290 = .ok (.iload 8, 2) := by decide +kernel
theorem dX10_unroll_292 : decode cX10_unroll 292 = .ok (.aaload, 1) := by decide +kernel
theorem dX10_unroll_293 : decode cX10_unroll 293 = .ok (.iload 4, 2) := by decide +kernel
theorem dX10_unroll_295 : decode cX10_unroll 295 = .ok (.invokevirtual 787, 3) := by decide +kernel
theorem dX10_unroll_298 : decode cX10_unroll 298 = .ok (.iinc 8 1, 3) := by decide +kernel
theorem dX10_unroll_301 : decode cX10_unroll 301 = .ok (.goto (-274), 3) := by decide +kernel
theorem dX10_unroll_304 : decode cX10_unroll 304 = .ok (.return_, 1) := by decide +kernel
theorem dX10_lighten_0 : decode cX10_lighten 0 = .ok (.aload_n 0, 1) := by decide +kernel
theorem dX10_lighten_1 : decode cX10_lighten 1 = .ok (.invokevirtual 74, 3) := by decide +kernel
theorem dX10_lighten_4 : decode cX10_lighten 4 = .ok (.astore 4, 2) := by decide +kernel
theorem dX10_lighten_6 : decode cX10_lighten 6 = .ok (.aload 4, 2) := by decide +kernel
theorem dX10_lighten_8 : decode cX10_lighten 8 = .ok (.aload_n 2, 1) := by decide +kernel
theorem dX10_lighten_9 : decode cX10_lighten 9 = .ok (.invokestatic 62, 3) := by decide +kernel
theorem dX10_lighten_12 : decode cX10_lighten 12 = .ok (.iconst 0, 1) := by decide +kernel
theorem dX10_lighten_13 : decode cX10_lighten 13 = .ok (.istore 5, 2) := by decide +kernel
theorem dX10_lighten_15 : decode cX10_lighten 15 = .ok (.iload 5, 2) := by decide +kernel
theorem dX10_lighten_17 : decode cX10_lighten 17 = .ok (.iload_n 3, 1) := by decide +kernel
theorem dX10_lighten_18 : decode cX10_lighten 18 = .ok (.if_icmp .ge 30, 3) := by decide +kernel
theorem dX10_lighten_21 : decode cX10_lighten 21 = .ok (.aload 4, 2) := by decide +kernel
theorem dX10_lighten_23 : decode cX10_lighten 23 = .ok (.getfield 25, 3) := by decide +kernel
theorem dX10_lighten_26 : decode cX10_lighten 26 = .ok (.iconst 1, 1) := by decide +kernel
theorem dX10_lighten_27 : decode cX10_lighten 27 = .ok (.if_icmp .eq 21, 3) := by decide +kernel
theorem dX10_lighten_30 : decode cX10_lighten 30 = .ok (.aload_n 0, 1) := by decide +kernel
theorem dX10_lighten_31 : decode cX10_lighten 31 = .ok (.aload 4, 2) := by decide +kernel
theorem dX10_lighten_33 : decode cX10_lighten 33 = .ok (.aload 4, 2) := by decide +kernel
theorem dX10_lighten_35 : decode cX10_lighten 35 = .ok (.aload_n 1, 1) := by decide +kernel
theorem dX10_lighten_36 : decode cX10_lighten 36 = .ok (.iload 5, 2) := by decide +kernel
theorem dX10_lighten_38 : decode cX10_lighten 38 = .ok (.aaload, 1) := by decide +kernel
theorem dX10_lighten_39 : decode cX10_lighten 39 = .ok (.invokevirtual 125, 3) := by decide +kernel
theorem dX10_lighten_42 : decode cX10_lighten 42 = .ok (.iinc 5 1, 3) := by decide +kernel
theorem dX10_lighten_45 : decode cX10_lighten 45 = .ok (.goto (-30), 3) := by decide +kernel
theorem dX10_lighten_48 : decode cX10_lighten 48 = .ok (.iconst 0, 1) := by decide +kernel
theorem dX10_lighten_49 : decode cX10_lighten 49 = .ok (.istore 5, 2) := by decide +kernel
theorem dX10_lighten_51 : decode cX10_lighten 51 = .ok (.iload 5, 2) := by decide +kernel
theorem dX10_lighten_53 : decode cX10_lighten 53 = .ok (.iload_n 3, 1) := by decide +kernel
theorem dX10_lighten_54 : decode cX10_lighten 54 = .ok (.if_icmp .ge 23, 3) := by decide +kernel
theorem dX10_lighten_57 : decode cX10_lighten 57 = .ok (.aload_n 0, 1) := by decide +kernel
theorem dX10_lighten_58 : decode cX10_lighten 58 = .ok (.aload_n 1, 1) := by decide +kernel
theorem dX10_lighten_59 : decode cX10_lighten 59 = .ok (.iload 5, 2) := by decide +kernel
theorem dX10_lighten_61 : decode cX10_lighten 61 = .ok (.aaload, 1) := by decide +kernel
theorem dX10_lighten_62 : decode cX10_lighten 62 = .ok (.aload_n 1, 1) := by decide +kernel
theorem dX10_lighten_63 : decode cX10_lighten 63 = .ok (.iload 5, 2) := by decide +kernel
theorem dX10_lighten_65 : decode cX10_lighten 65 = .ok (.aaload, 1) := by decide +kernel
theorem dX10_lighten_66 : decode cX10_lighten 66 = .ok (.aload 4, 2) := by decide +kernel
theorem dX10_lighten_68 : decode cX10_lighten 68 = .ok (.invokevirtual 110, 3) := by decide +kernel
theorem dX10_lighten_71 : decode cX10_lighten 71 = .ok (.iinc 5 1, 3) := by decide +kernel
theorem dX10_lighten_74 : decode cX10_lighten 74 = .ok (.goto (-23), 3) := by decide +kernel
theorem dX10_lighten_77 : decode cX10_lighten 77 = .ok (.aload_n 0, 1) := by decide +kernel
theorem dX10_lighten_78 : decode cX10_lighten 78 = .ok (.aload_n 2, 1) := by decide +kernel
theorem dX10_lighten_79 : decode cX10_lighten 79 = .ok (.aload_n 2, 1) := by decide +kernel
theorem dX10_lighten_80 : decode cX10_lighten 80 = .ok (.aload 4, 2) := by decide +kernel
theorem dX10_lighten_82 : decode cX10_lighten 82 = .ok (.invokevirtual 110, 3) := by decide +kernel
theorem dX10_lighten_85 : decode cX10_lighten 85 = .ok (.aload_n 0, 1) := by decide +kernel
theorem dX10_lighten_86 : decode cX10_lighten 86 = .ok (.dup, 1) := by decide +kernel
theorem dX10_lighten_87 : decode cX10_lighten 87 = .ok (.getfield 21, 3) := by decide +kernel
theorem dX10_lighten_90 : decode cX10_lighten 90 = .ok (.iconst 1, 1) := by decide +kernel
theorem dX10_lighten_91 : decode cX10_lighten 91 = .ok (.isub, 1) := by decide +kernel
theorem dX10_lighten_92 : decode cX10_lighten 92 = .ok (.putfield 21, 3) := by decide +kernel
theorem dX10_lighten_95 : decode cX10_lighten 95 = .ok (.return_, 1) := by decide +kernel
theorem dX10_feed_0 : decode cX10_feed 0 = .ok (.aload_n 0, 1) := by decide +kernel
theorem dX10_feed_1 : decode cX10_feed 1 = .ok (.getfield 607, 3) := by decide +kernel
theorem dX10_feed_4 : decode cX10_feed 4 = .ok (.bipush 60, 2) := by decide +kernel
theorem dX10_feed_6 : decode cX10_feed 6 = .ok (.if_icmp .ne 6, 3) := by decide +kernel
theorem dX10_feed_9 : decode cX10_feed 9 = .ok (.bipush (-2), 2) := by decide +kernel
theorem dX10_feed_11 : decode cX10_feed 11 = .ok (.ireturn, 1) := by decide +kernel
theorem dX10_feed_12 : decode cX10_feed 12 = .ok (.aload_n 0, 1) := by decide +kernel
theorem dX10_feed_13 : decode cX10_feed 13 = .ok (.getfield 465, 3) := by decide +kernel
theorem dX10_feed_16 : decode cX10_feed 16 = .ok (.aload_n 0, 1) := by decide +kernel
theorem dX10_feed_17 : decode cX10_feed 17 = .ok (.dup, 1) := by decide +kernel
theorem dX10_feed_18 : decode cX10_feed 18 = .ok (.getfield 607, 3) := by decide +kernel
theorem dX10_feed_21 : decode cX10_feed 21 = .ok (.dup_x1, 1) := by decide +kernel
theorem dX10_feed_22 : decode cX10_feed 22 = .ok (.iconst 1, 1) := by decide +kernel
theorem dX10_feed_23 : decode cX10_feed 23 = .ok (.iadd, 1) := by decide +kernel
theorem dX10_feed_24 : decode cX10_feed 24 = .ok (.putfield 607, 3) := by decide +kernel
theorem dX10_feed_27 : decode cX10_feed 27 = .ok (.iload_n 1, 1) := by decide +kernel
theorem dX10_feed_28 : decode cX10_feed 28 = .ok (.invokestatic 600, 3) := by decide +kernel
theorem dX10_feed_31 : decode cX10_feed 31 = .ok (.iastore, 1) := by decide +kernel
theorem dX10_feed_32 : decode cX10_feed 32 = .ok (.aload_n 0, 1) := by decide +kernel
theorem dX10_feed_33 : decode cX10_feed 33 = .ok (.getfield 607, 3) := by decide +kernel
theorem dX10_feed_36 : decode cX10_feed 36 = .ok (.ireturn, 1) := by decide +kernel
theorem dX10_clear_2_0 : decode cX10_clear_2 0 = .ok (.aload_n 0, 1) := by decide +kernel
theorem dX10_clear_2_1 : decode cX10_clear_2 1 = .ok (.getfield 607, 3) := by decide +kernel
theorem dX10_clear_2_4 : decode cX10_clear_2 4 = .ok (.istore_n 1, 1) := by decide +kernel
theorem dX10_clear_2_5 : decode cX10_clear_2 5 = .ok (.aload_n 0, 1) := by decide +kernel
theorem dX10_clear_2_6 : decode cX10_clear_2 6 = .ok (.iconst 0, 1) := by decide +kernel
theorem dX10_clear_2_7 : decode cX10_clear_2 7 = .ok (.putfield 607, 3) := by decide +kernel
theorem dX10_clear_2_10 : decode cX10_clear_2 10 = .ok (.iload_n 1, 1) := by decide +kernel
theorem dX10_clear_2_11 : decode cX10_clear_2 11 = .ok (.ireturn, 1) := by decide +kernel
theorem dX10_guess_0 : decode cX10_guess 0 = .ok (.iload_n 1, 1) := by decide +kernel
theorem dX10_guess_1 : decode cX10_guess 1 = .ok (.invokestatic 551, 3) := by decide +kernel
theorem dX10_guess_4 : decode cX10_guess 4 = .ok (.ifCond .ne 5, 3) := by decide +kernel
theorem dX10_guess_7 : decode cX10_guess 7 = .ok (.iconst (-1), 1) := by decide +kernel
theorem dX10_guess_8 : decode cX10_guess 8 = .ok (.ireturn, 1) := by decide +kernel
theorem dX10_guess_9 : decode cX10_guess 9 = .ok (.aload_n 0, 1) := by decide +kernel
theorem dX10_guess_10 : decode cX10_guess 10 = .ok (.invokevirtual 555, 3) := by decide +kernel
theorem dX10_guess_13 : decode cX10_guess 13 = .ok (.iconst 1, 1) := by decide +kernel
theorem dX10_guess_14 : decode cX10_guess 14 = .ok (.istore_n 2, 1) := by decide +kernel
theorem dX10_guess_15 : decode cX10_guess 15 = .ok (.iload_n 2, 1) := by decide +kernel
theorem dX10_guess_16 : decode cX10_guess 16 = .ok (.iconst 4, 1) := by decide +kernel
theorem dX10_guess_17 : decode cX10_guess 17 = .ok (.if_icmp .gt 58, 3) := by decide +kernel
theorem dX10_guess_20 : decode cX10_guess 20 = .ok (.iconst 0, 1) := by decide +kernel
theorem dX10_guess_21 : decode cX10_guess 21 = .ok (.istore_n 3, 1) := by decide +kernel
theorem dX10_guess_22 : decode cX10_guess 22 = .ok (.iload_n 3, 1) := by decide +kernel
theorem dX10_guess_23 : decode cX10_guess 23 = .ok (.bipush 8, 2) := by decide +kernel
theorem dX10_guess_25 : decode cX10_guess 25 = .ok (.if_icmp .gt 44, 3) := by decide +kernel
theorem dX10_guess_28 : decode cX10_guess 28 = .ok (.iload_n 2, 1) := by decide +kernel
theorem dX10_guess_29 : decode cX10_guess 29 = .ok (.iconst 1, 1) := by decide +kernel
theorem dX10_guess_30 : decode cX10_guess 30 = .ok (.iadd, 1) := by decide +kernel
theorem dX10_guess_31 : decode cX10_guess 31 = .ok (.iload_n 3, 1) := by decide +kernel
theorem dX10_guess_32 : decode cX10_guess 32 = .ok (.iconst 1, 1) := by decide +kernel
theorem dX10_guess_33 : decode cX10_guess 33 = .ok (.iadd, 1) := by decide +kernel
theorem dX10_guess_34 : decode cX10_guess 34 = .ok (.imul, 1) := by decide +kernel
theorem dX10_guess_35 : decode cX10_guess 35 = .ok (.iconst 4, 1) := by decide +kernel
theorem dX10_guess_36 : decode cX10_guess 36 = .ok (.iadd, 1) := by decide +kernel
theorem dX10_guess_37 : decode cX10_guess 37 = .ok (.aload_n 0, 1) := by decide +kernel
theorem dX10_guess_38 : decode cX10_guess 38 = .ok (.getfield 607, 3) := by decide +kernel
theorem dX10_guess_41 : decode cX10_guess 41 = .ok (.iload_n 2, 1) := by decide +kernel
theorem dX10_guess_42 : decode cX10_guess 42 = .ok (.isub, 1) := by decide +kernel
theorem dX10_guess_43 : decode cX10_guess 43 = .ok (.if_icmp .gt 26, 3) := by decide +kernel
theorem dX10_guess_46 : decode cX10_guess 46 = .ok (.aload_n 0, 1) := by decide +kernel
theorem dX10_guess_47 : decode cX10_guess 47 = .ok (.iload_n 2, 1) := by decide +kernel
theorem dX10_guess_48 : decode cX10_guess 48 = .ok (.iload_n 3, 1) := by decide +kernel
theorem dX10_guess_49 : decode cX10_guess 49 = .ok (.invokevirtual 806, 3) := by decide +kernel
theorem dX10_guess_52 : decode cX10_guess 52 = .ok (.ifCond .eq 11, 3) := by decide +kernel
theorem dX10_guess_55 : decode cX10_guess 55 = .ok (.aload_n 0, 1) := by decide +kernel
theorem dX10_guess_56 : decode cX10_guess 56 = .ok (.iload_n 2, 1) := by decide +kernel
theorem dX10_guess_57 : decode cX10_guess 57 = .ok (.iload_n 3, 1) := by decide +kernel
theorem dX10_guess_58 : decode cX10_guess 58 = .ok (.iload_n 1, 1) := by decide +kernel
theorem dX10_guess_59 : decode cX10_guess 59 = .ok (.invokevirtual 810, 3) := by decide +kernel
theorem dX10_guess_62 : decode cX10_guess 62 = .ok (.ireturn, 1) := by decide +kernel
theorem dX10_guess_63 : decode cX10_guess 63 = .ok (.iinc 3 1, 3) := by decide +kernel
theorem dX10_guess_66 : decode cX10_guess 66 = .ok (.goto (-44), 3) := by decide +kernel
theorem dX10_guess_69 : decode cX10_guess 69 = .ok (.iinc 2 1, 3) := by decide +kernel
theorem dX10_guess_72 : decode cX10_guess 72 = .ok (.goto (-57), 3) := by decide +kernel
theorem dX10_guess_75 : decode cX10_guess 75 = .ok (.iconst (-1), 1) := by decide +kernel
theorem dX10_guess_76 : decode cX10_guess 76 = .ok (.ireturn, 1) := by decide +kernel
theorem dX10_guessed_0 : decode cX10_guessed 0 = .ok (.iconst 0, 1) := by decide +kernel
theorem dX10_guessed_1 : decode cX10_guessed 1 = .ok (.istore 4, 2) := by decide +kernel
theorem dX10_guessed_3 : decode cX10_guessed 3 = .ok (.iload 4, 2) := by decide +kernel
theorem dX10_guessed_5 : decode cX10_guessed 5 = .ok (.iload_n 1, 1) := by decide +kernel
theorem dX10_guessed_6 : decode cX10_guessed 6 = .ok (.if_icmp .gt 85, 3) := by decide +kernel
theorem dX10_guessed_9 : decode cX10_guessed 9 = .ok (.aload_n 0, 1) := by decide +kernel
theorem dX10_guessed_10 : decode cX10_guessed 10 = .ok (.getfield 517, 3) := by decide +kernel
theorem dX10_guessed_13 : decode cX10_guessed 13 = .ok (.iload 4, 2) := by decide +kernel
theorem dX10_guessed_15 : decode cX10_guessed 15 = .ok (.aload_n 0, 1) := by decide +kernel
theorem dX10_guessed_16 : decode cX10_guessed 16 = .ok (.invokevirtual 74, 3) := by decide +kernel
theorem dX10_guessed_19 : decode cX10_guessed 19 = .ok (.aastore, 1) := by decide +kernel
theorem dX10_guessed_20 : decode cX10_guessed 20 = .ok (.iconst 0, 1) := by decide +kernel
theorem dX10_guessed_21 : decode cX10_guessed 21 = .ok (.istore 5, 2) := by decide +kernel
theorem dX10_guessed_23 : decode cX10_guessed 23 = .ok (.iload 5, 2) := by decide +kernel
theorem dX10_guessed_25 : decode cX10_guessed 25 = .ok (.iload_n 2, 1) := by decide +kernel
theorem dX10_guessed_26 : decode cX10_guessed 26 = .ok (.if_icmp .gt 36, 3) := by decide +kernel
theorem dX10_guessed_29 : decode cX10_guessed 29 = .ok (.aload_n 0, 1) := by decide +kernel
theorem dX10_guessed_30 : decode cX10_guessed 30 = .ok (.getfield 517, 3) := by decide +kernel
theorem dX10_guessed_33 : decode cX10_guessed 33 = .ok (.iload 4, 2) := by decide +kernel
theorem dX10_guessed_35 : decode cX10_guessed 35 = .ok (.aaload, 1) := by decide +kernel
theorem dX10_guessed_36 : decode cX10_guessed 36 = .ok (.getfield 30, 3) := by decide +kernel
theorem dX10_guessed_39 : decode cX10_guessed 39 = .ok (.iload 5, 2) := by decide +kernel
theorem dX10_guessed_41 : decode cX10_guessed 41 = .ok (.aload_n 0, 1) := by decide +kernel
theorem dX10_guessed_42 : decode cX10_guessed 42 = .ok (.getfield 535, 3) := by decide +kernel
theorem dX10_guessed_45 : decode cX10_guessed 45 = .ok (.iload 4, 2) := by decide +kernel
theorem dX10_guessed_47 : decode cX10_guessed 47 = .ok (.iload_n 2, 1) := by decide +kernel
theorem dX10_guessed_48 : decode cX10_guessed 48 = .ok (.iconst 1, 1) := by decide +kernel
theorem dX10_guessed_49 : decode cX10_guessed 49 = .ok (.iadd, 1) := by decide +kernel
theorem dX10_guessed_50 : decode cX10_guessed 50 = .ok (.imul, 1) := by decide +kernel
theorem dX10_guessed_51 : decode cX10_guessed 51 = .ok (.iload 5, 2) := by decide +kernel
theorem dX10_guessed_53 : decode cX10_guessed 53 = .ok (.iadd, 1) := by decide +kernel
theorem dX10_guessed_54 : decode cX10_guessed 54 = .ok (.iaload, 1) := by decide +kernel
theorem dX10_guessed_55 : decode cX10_guessed 55 = .ok (.iastore, 1) := by decide +kernel
theorem dX10_guessed_56 : decode cX10_guessed 56 = .ok (.iinc 5 1, 3) := by decide +kernel
theorem dX10_guessed_59 : decode cX10_guessed 59 = .ok (.goto (-36), 3) := by decide +kernel
theorem dX10_guessed_62 : decode cX10_guessed 62 = .ok (.aload_n 0, 1) := by decide +kernel
theorem dX10_guessed_63 : decode cX10_guessed 63 = .ok (.getfield 517, 3) := by decide +kernel
theorem dX10_guessed_66 : decode cX10_guessed 66 = .ok (.iload 4, 2) := by decide +kernel
theorem dX10_guessed_68 : decode cX10_guessed 68 = .ok (.aaload, 1) := by decide +kernel
theorem dX10_guessed_69 : decode cX10_guessed 69 = .ok (.iload_n 2, 1) := by decide +kernel
theorem dX10_guessed_70 : decode cX10_guessed 70 = .ok (.iconst 1, 1) := by decide +kernel
theorem dX10_guessed_71 : decode cX10_guessed 71 = .ok (.iadd, 1) := by decide +kernel
theorem dX10_guessed_72 : decode cX10_guessed 72 = .ok (.putfield 25, 3) := by decide +kernel
theorem dX10_guessed_75 : decode cX10_guessed 75 = .ok (.aload_n 0, 1) := by decide +kernel
theorem dX10_guessed_76 : decode cX10_guessed 76 = .ok (.getfield 517, 3) := by decide +kernel
theorem dX10_guessed_79 : decode cX10_guessed 79 = .ok (.iload 4, 2) := by decide +kernel
theorem dX10_guessed_81 : decode cX10_guessed 81 = .ok (.aaload, 1) := by decide +kernel
theorem dX10_guessed_82 : decode cX10_guessed 82 = .ok (.invokevirtual 52, 3) := by decide +kernel
theorem dX10_guessed_85 : decode cX10_guessed 85 = .ok (.iinc 4 1, 3) := by decide +kernel
theorem dX10_guessed_88 : decode cX10_guessed 88 = .ok (.goto (-85), 3) := by decide +kernel
theorem dX10_guessed_91 : decode cX10_guessed 91 = .ok (.aload_n 0, 1) := by decide +kernel
theorem dX10_guessed_92 : decode cX10_guessed 92 = .ok (.getfield 517, 3) := by decide +kernel
theorem dX10_guessed_95 : decode cX10_guessed 95 = .ok (.iload_n 1, 1) := by decide +kernel
theorem dX10_guessed_96 : decode cX10_guessed 96 = .ok (.aaload, 1) := by decide +kernel
theorem dX10_guessed_97 : decode cX10_guessed 97 = .ok (.getfield 25, 3) := by decide +kernel
theorem dX10_guessed_100 : decode cX10_guessed 100 = .ok (.ifCond .ne 5, 3) := by decide +kernel
theorem dX10_guessed_103 : decode cX10_guessed 103 = .ok (.iconst (-1), 1) := by decide +kernel
theorem dX10_guessed_104 : decode cX10_guessed 104 = .ok (.ireturn, 1) := by decide +kernel
theorem dX10_guessed_105 : decode cX10_guessed 105 = .ok (.aload_n 0, 1) := by decide +kernel
theorem dX10_guessed_106 : decode cX10_guessed 106 = .ok (.aload_n 0, 1) := by decide +kernel
theorem dX10_guessed_107 : decode cX10_guessed 107 = .ok (.getfield 517, 3) := by decide +kernel
theorem dX10_guessed_110 : decode cX10_guessed 110 = .ok (.iload_n 1, 1) := by decide +kernel
theorem dX10_guessed_111 : decode cX10_guessed 111 = .ok (.invokevirtual 777, 3) := by decide +kernel
theorem dX10_guessed_114 : decode cX10_guessed 114 = .ok (.istore 4, 2) := by decide +kernel
theorem dX10_guessed_116 : decode cX10_guessed 116 = .ok (.aload_n 0, 1) := by decide +kernel
theorem dX10_guessed_117 : decode cX10_guessed 117 = .ok (.getfield 453, 3) := by decide +kernel
theorem dX10_guessed_120 : decode cX10_guessed 120 = .ok (.aload_n 0, 1) := by decide +kernel
theorem dX10_guessed_121 : decode cX10_guessed 121 = .ok (.getfield 453, 3) := by decide +kernel
theorem dX10_guessed_124 : decode cX10_guessed 124 = .ok (.getfield 237, 3) := by decide +kernel
theorem dX10_guessed_127 : decode cX10_guessed 127 = .ok (.iload_n 1, 1) := by decide +kernel
theorem dX10_guessed_128 : decode cX10_guessed 128 = .ok (.iconst 0, 1) := by decide +kernel
theorem dX10_guessed_129 : decode cX10_guessed 129 = .ok (.invokestatic 781, 3) := by decide +kernel
theorem dX10_guessed_132 : decode cX10_guessed 132 = .ok (.putfield 240, 3) := by decide +kernel
theorem dX10_guessed_135 : decode cX10_guessed 135 = .ok (.aload_n 0, 1) := by decide +kernel
theorem dX10_guessed_136 : decode cX10_guessed 136 = .ok (.getfield 453, 3) := by decide +kernel
theorem dX10_guessed_139 : decode cX10_guessed 139 = .ok (.getfield 240, 3) := by decide +kernel
theorem dX10_guessed_142 : decode cX10_guessed 142 = .ok (.bipush 60, 2) := by decide +kernel
theorem dX10_guessed_144 : decode cX10_guessed 144 = .ok (.if_icmp .gt 17, 3) := by decide +kernel
theorem dX10_guessed_147 : decode cX10_guessed 147 = .ok (.aload_n 0, 1) := by decide +kernel
theorem dX10_guessed_148 : decode cX10_guessed 148 = .ok (.getfield 453, 3) := by decide +kernel
theorem dX10_guessed_151 : decode cX10_guessed 151 = .ok (.getfield 240, 3) := by decide +kernel
theorem dX10_guessed_154 : decode cX10_guessed 154 = .ok (.aload_n 0, 1) := by decide +kernel
theorem dX10_guessed_155 : decode cX10_guessed 155 = .ok (.getfield 607, 3) := by decide +kernel
theorem dX10_guessed_158 : decode cX10_guessed 158 = .ok (.if_icmp .le 5, 3) := by decide +kernel
theorem dX10_guessed_161 : decode cX10_guessed 161 = .ok (.iconst (-1), 1) := by decide +kernel
theorem dX10_guessed_162 : decode cX10_guessed 162 = .ok (.ireturn, 1) := by decide +kernel
theorem dX10_guessed_163 : decode cX10_guessed 163 = .ok (.iconst 0, 1) := by decide +kernel
theorem dX10_guessed_164 : decode cX10_guessed 164 = .ok (.istore 5, 2) := by decide +kernel
theorem dX10_guessed_166 : decode cX10_guessed 166 = .ok (.iload 5, 2) := by decide +kernel
theorem dX10_guessed_168 : decode cX10_guessed 168 = .ok (.aload_n 0, 1) := by decide +kernel
theorem dX10_guessed_169 : decode cX10_guessed 169 = .ok (.getfield 453, 3) := by decide +kernel
theorem dX10_guessed_172 : decode cX10_guessed 172 = .ok (.getfield 240, 3) := by decide +kernel
theorem dX10_guessed_175 : decode cX10_guessed 175 = .ok (.if_icmp .ge 26, 3) := by decide +kernel
theorem dX10_guessed_178 : decode cX10_guessed 178 = .ok (.aload_n 0, 1) := by decide +kernel
theorem dX10_guessed_179 : decode cX10_guessed 179 = .ok (.getfield 453, 3) := by decide +kernel
theorem dX10_guessed_182 : decode cX10_guessed 182 = .ok (.getfield 246, 3) := by decide +kernel
theorem dX10_guessed_185 : decode cX10_guessed 185 = .ok (.iload 5, 2) := by decide +kernel
theorem dX10_guessed_187 : decode cX10_guessed 187 = .ok (.aload_n 0, 1) := by decide +kernel
theorem dX10_guessed_188 : decode cX10_guessed 188 = .ok (.getfield 465, 3) := by decide +kernel
theorem dX10_guessed_191 : decode cX10_guessed 191 = .ok (.iload 5, 2) := by decide +kernel
theorem dX10_guessed_193 : decode cX10_guessed 193 = .ok (.iaload, 1) := by decide +kernel
theorem dX10_guessed_194 : decode cX10_guessed 194 = .ok (.iastore, 1) := by decide +kernel
theorem dX10_guessed_195 : decode cX10_guessed 195 = .ok (.iinc 5 1, 3) := by decide +kernel
theorem dX10_guessed_198 : decode cX10_guessed 198 = .ok (.goto (-32), 3) := by decide +kernel
theorem dX10_guessed_201 : decode cX10_guessed 201 = .ok (.aload_n 0, 1) := by decide +kernel
theorem dX10_guessed_202 : decode cX10_guessed 202 = .ok (.getfield 453, 3) := by decide +kernel
theorem dX10_guessed_205 : decode cX10_guessed 205 = .ok (.aload_n 0, 1) := by decide +kernel
theorem dX10_guessed_206 : decode cX10_guessed 206 = .ok (.getfield 453, 3) := by decide +kernel
theorem dX10_guessed_209 : decode cX10_guessed 209 = .ok (.getfield 240, 3) := by decide +kernel
theorem dX10_guessed_212 : decode cX10_guessed 212 = .ok (.putfield 243, 3) := by decide +kernel
theorem dX10_guessed_215 : decode cX10_guessed 215 = .ok (.aload_n 0, 1) := by decide +kernel
theorem dX10_guessed_216 : decode cX10_guessed 216 = .ok (.getfield 453, 3) := by decide +kernel
theorem dX10_guessed_219 : decode cX10_guessed 219 = .ok (.invokestatic 784, 3) := by decide +kernel
theorem dX10_guessed_222 : decode cX10_guessed 222 = .ok (.aload_n 0, 1) := by decide +kernel
theorem dX10_guessed_223 : decode cX10_guessed 223 = .ok (.getfield 450, 3) := by decide +kernel
theorem dX10_guessed_226 : decode cX10_guessed 226 = .ok (.iload_n 3, 1) := by decide +kernel
theorem dX10_guessed_227 : decode cX10_guessed 227 = .ok (.aaload, 1) := by decide +kernel
theorem dX10_guessed_228 : decode cX10_guessed 228 = .ok (.aload_n 0, 1) := by decide +kernel
theorem dX10_guessed_229 : decode cX10_guessed 229 = .ok (.getfield 453, 3) := by decide +kernel
theorem dX10_guessed_232 : decode cX10_guessed 232 = .ok (.invokestatic 547, 3) := by decide +kernel
theorem dX10_guessed_235 : decode cX10_guessed 235 = .ok (.iload_n 1, 1) := by decide +kernel
theorem dX10_guessed_236 : decode cX10_guessed 236 = .ok (.ireturn, 1) := by decide +kernel
theorem dX10_roots_0 : decode cX10_roots 0 = .ok (.iload_n 1, 1) := by decide +kernel
theorem dX10_roots_1 : decode cX10_roots 1 = .ok (.invokestatic 551, 3) := by decide +kernel
theorem dX10_roots_4 : decode cX10_roots 4 = .ok (.ifCond .ne 5, 3) := by decide +kernel
theorem dX10_roots_7 : decode cX10_roots 7 = .ok (.iconst (-1), 1) := by decide +kernel
theorem dX10_roots_8 : decode cX10_roots 8 = .ok (.ireturn, 1) := by decide +kernel
theorem dX10_roots_9 : decode cX10_roots 9 = .ok (.aload_n 0, 1) := by decide +kernel
theorem dX10_roots_10 : decode cX10_roots 10 = .ok (.getfield 450, 3) := by decide +kernel
theorem dX10_roots_13 : decode cX10_roots 13 = .ok (.iload_n 1, 1) := by decide +kernel
theorem dX10_roots_14 : decode cX10_roots 14 = .ok (.aaload, 1) := by decide +kernel
theorem dX10_roots_15 : decode cX10_roots 15 = .ok (.astore_n 2, 1) := by decide +kernel
theorem dX10_roots_16 : decode cX10_roots 16 = .ok (.aload_n 2, 1) := by decide +kernel
theorem dX10_roots_17 : decode cX10_roots 17 = .ok (.invokestatic 637, 3) := by decide +kernel
theorem dX10_roots_20 : decode cX10_roots 20 = .ok (.ifCond .eq 21, 3) := by decide +kernel
theorem dX10_roots_23 : decode cX10_roots 23 = .ok (.aload_n 2, 1) := by decide +kernel
theorem dX10_roots_24 : decode cX10_roots 24 = .ok (.invokestatic 288, 3) := by decide +kernel
theorem dX10_roots_27 : decode cX10_roots 27 = .ok (.ifCond .ne 14, 3) := by decide +kernel
theorem dX10_roots_30 : decode cX10_roots 30 = .ok (.aload_n 2, 1) := by decide +kernel
theorem dX10_roots_31 : decode cX10_roots 31 = .ok (.getfield 207, 3) := by decide +kernel
theorem dX10_roots_34 : decode cX10_roots 34 = .ok (.iconst 1, 1) := by decide +kernel
theorem dX10_roots_35 : decode cX10_roots 35 = .ok (.invokestatic 603, 3) := by decide +kernel
theorem dX10_roots_38 : decode cX10_roots 38 = .ok (.ifCond .le 6, 3) := by decide +kernel
theorem dX10_roots_41 : decode cX10_roots 41 = .ok (.bipush (-3), 2) := by decide +kernel
theorem dX10_roots_43 : decode cX10_roots 43 = .ok (.ireturn, 1) := by decide +kernel
theorem dX10_roots_44 : decode cX10_roots 44 = .ok (.aload_n 0, 1) := by decide +kernel
theorem dX10_roots_45 : decode cX10_roots 45 = .ok (.invokevirtual 555, 3) := by decide +kernel
theorem dX10_roots_48 : decode cX10_roots 48 = .ok (.aload_n 0, 1) := by decide +kernel
theorem dX10_roots_49 : decode cX10_roots 49 = .ok (.invokevirtual 74, 3) := by decide +kernel
theorem dX10_roots_52 : decode cX10_roots 52 = .ok (.astore_n 3, 1) := by decide +kernel
theorem dX10_roots_53 : decode cX10_roots 53 = .ok (.aload_n 0, 1) := by decide +kernel
theorem dX10_roots_54 : decode cX10_roots 54 = .ok (.invokevirtual 74, 3) := by decide +kernel
theorem dX10_roots_57 : decode cX10_roots 57 = .ok (.astore 4, 2) := by decide +kernel
theorem dX10_roots_59 : decode cX10_roots 59 = .ok (.aload_n 0, 1) := by decide +kernel
theorem dX10_roots_60 : decode cX10_roots 60 = .ok (.invokevirtual 74, 3) := by decide +kernel
theorem dX10_roots_63 : decode cX10_roots 63 = .ok (.astore 5, 2) := by decide +kernel
theorem dX10_roots_65 : decode cX10_roots 65 = .ok (.aload_n 0, 1) := by decide +kernel
theorem dX10_roots_66 : decode cX10_roots 66 = .ok (.invokevirtual 74, 3) := by decide +kernel
theorem dX10_roots_69 : decode cX10_roots 69 = .ok (.astore 6, 2) := by decide +kernel
theorem dX10_roots_71 : decode cX10_roots 71 = .ok (.aload_n 0, 1) := by decide +kernel
theorem dX10_roots_72 : decode cX10_roots 72 = .ok (.invokevirtual 74, 3) := by decide +kernel
theorem dX10_roots_75 : decode cX10_roots 75 = .ok (.astore 7, 2) := by decide +kernel
theorem dX10_roots_77 : decode cX10_roots 77 = .ok (.aload_n 3, 1) := by decide +kernel
theorem dX10_roots_78 : decode cX10_roots 78 = .ok (.aload_n 2, 1) := by decide +kernel
theorem dX10_roots_79 : decode cX10_roots 79 = .ok (.getfield 207, 3) := by decide +kernel
theorem dX10_roots_82 : decode cX10_roots 82 = .ok (.iconst 0, 1) := by decide +kernel
theorem dX10_roots_83 : decode cX10_roots 83 = .ok (.invokestatic 775, 3) := by decide +kernel
theorem dX10_roots_86 : decode cX10_roots 86 = .ok (.aload_n 0, 1) := by decide +kernel
theorem dX10_roots_87 : decode cX10_roots 87 = .ok (.iconst 0, 1) := by decide +kernel
theorem dX10_roots_88 : decode cX10_roots 88 = .ok (.putfield 814, 3) := by decide +kernel
theorem dX10_roots_91 : decode cX10_roots 91 = .ok (.aload_n 0, 1) := by decide +kernel
theorem dX10_roots_92 : decode cX10_roots 92 = .ok (.iconst 0, 1) := by decide +kernel
theorem dX10_roots_93 : decode cX10_roots 93 = .ok (.putfield 610, 3) := by decide +kernel
theorem dX10_roots_96 : decode cX10_roots 96 = .ok (.aload_n 3, 1) := by decide +kernel
theorem dX10_roots_97 : decode cX10_roots 97 = .ok (.getfield 25, 3) := by decide +kernel
theorem dX10_roots_100 : decode cX10_roots 100 = .ok (.iconst 1, 1) := by decide +kernel
theorem dX10_roots_101 : decode cX10_roots 101 = .ok (.if_icmp .le 63, 3) := by decide +kernel
theorem dX10_roots_104 : decode cX10_roots 104 = .ok (.aload 5, 2) := by decide +kernel
theorem dX10_roots_106 : decode cX10_roots 106 = .ok (.getfield 30, 3) := by decide +kernel
theorem dX10_roots_109 : decode cX10_roots 109 = .ok (.iconst 0, 1) := by decide +kernel
theorem dX10_roots_110 : decode cX10_roots 110 = .ok (.iconst 0, 1) := by decide +kernel
theorem dX10_roots_111 : decode cX10_roots 111 = .ok (.iastore, 1) := by decide +kernel
theorem dX10_roots_112 : decode cX10_roots 112 = .ok (.aload 5, 2) := by decide +kernel
theorem dX10_roots_114 : decode cX10_roots 114 = .ok (.getfield 30, 3) := by decide +kernel
theorem dX10_roots_117 : decode cX10_roots 117 = .ok (.iconst 1, 1) := by decide +kernel
theorem dX10_roots_118 : decode cX10_roots 118 = .ok (.iconst 1, 1) := by decide +kernel
theorem dX10_roots_119 : decode cX10_roots 119 = .ok (.iastore, 1) := by decide +kernel
theorem dX10_roots_120 : decode cX10_roots 120 = .ok (.aload 5, 2) := by decide +kernel
theorem dX10_roots_122 : decode cX10_roots 122 = .ok (.iconst 2, 1) := by decide +kernel
theorem dX10_roots_123 : decode cX10_roots 123 = .ok (.putfield 25, 3) := by decide +kernel
theorem dX10_roots_126 : decode cX10_roots 126 = .ok (.aload_n 0, 1) := by decide +kernel
theorem dX10_roots_127 : decode cX10_roots 127 = .ok (.aload 4, 2) := by decide +kernel
theorem dX10_roots_129 : decode cX10_roots 129 = .ok (.aload 5, 2) := by decide +kernel
theorem dX10_roots_131 : decode cX10_roots 131 = .ok (.ldc2_w 3, 3) := by decide +kernel
theorem dX10_roots_134 : decode cX10_roots 134 = .ok (.aload_n 3, 1) := by decide +kernel
theorem dX10_roots_135 : decode cX10_roots 135 = .ok (.invokevirtual 819, 3) := by decide +kernel
theorem dX10_roots_138 : decode cX10_roots 138 = .ok (.aload 4, 2) := by decide +kernel
theorem dX10_roots_140 : decode cX10_roots 140 = .ok (.aload 4, 2) := by decide +kernel
theorem dX10_roots_142 : decode cX10_roots 142 = .ok (.aload 5, 2) := by decide +kernel
theorem dX10_roots_144 : decode cX10_roots 144 = .ok (.iconst 1, 1) := by decide +kernel
theorem dX10_roots_145 : decode cX10_roots 145 = .ok (.invokestatic 101, 3) := by decide +kernel
theorem dX10_roots_148 : decode cX10_roots 148 = .ok (.aload_n 0, 1) := by decide +kernel
theorem dX10_roots_149 : decode cX10_roots 149 = .ok (.aload 4, 2) := by decide +kernel
theorem dX10_roots_151 : decode cX10_roots 151 = .ok (.aload 4, 2) := by decide +kernel
theorem dX10_roots_153 : decode cX10_roots 153 = .ok (.aload_n 3, 1) := by decide +kernel
theorem dX10_roots_154 : decode cX10_roots 154 = .ok (.invokevirtual 125, 3) := by decide +kernel
theorem dX10_roots_157 : decode cX10_roots 157 = .ok (.aload_n 0, 1) := by decide +kernel
theorem dX10_roots_158 : decode cX10_roots 158 = .ok (.aload 4, 2) := by decide +kernel
theorem dX10_roots_160 : decode cX10_roots 160 = .ok (.iconst 0, 1) := by decide +kernel
theorem dX10_roots_161 : decode cX10_roots 161 = .ok (.invokevirtual 823, 3) := by decide +kernel
theorem dX10_roots_164 : decode cX10_roots 164 = .ok (.iconst 0, 1) := by decide +kernel
theorem dX10_roots_165 : decode cX10_roots 165 = .ok (.istore 8, 2) := by decide +kernel
theorem dX10_roots_167 : decode cX10_roots 167 = .ok (.iload 8, 2) := by decide +kernel
theorem dX10_roots_169 : decode cX10_roots 169 = .ok (.aload_n 0, 1) := by decide +kernel
theorem dX10_roots_170 : decode cX10_roots 170 = .ok (.getfield 814, 3) := by decide +kernel
theorem dX10_roots_173 : decode cX10_roots 173 = .ok (.if_icmp .ge 72, 3) := by decide +kernel
theorem dX10_roots_176 : decode cX10_roots 176 = .ok (.iload 8, 2) := by decide +kernel
theorem dX10_roots_178 : decode cX10_roots 178 = .ok (.istore 9, 2) := by decide +kernel
theorem dX10_roots_180 : decode cX10_roots 180 = .ok (.aload_n 0, 1) := by decide +kernel
theorem dX10_roots_181 : decode cX10_roots 181 = .ok (.getfield 538, 3) := by decide +kernel
theorem dX10_roots_184 : decode cX10_roots 184 = .ok (.iload 8, 2) := by decide +kernel
theorem dX10_roots_186 : decode cX10_roots 186 = .ok (.iaload, 1) := by decide +kernel
theorem dX10_roots_187 : decode cX10_roots 187 = .ok (.istore 10, 2) := by decide +kernel
theorem dX10_roots_189 : decode cX10_roots 189 = .ok (.iload 9, 2) := by decide +kernel
theorem dX10_roots_191 : decode cX10_roots 191 = .ok (.ifCond .le 39, 3) := by decide +kernel
theorem dX10_roots_194 : decode cX10_roots 194 = .ok (.aload_n 0, 1) := by decide +kernel
theorem dX10_roots_195 : decode cX10_roots 195 = .ok (.getfield 538, 3) := by decide +kernel
theorem dX10_roots_198 : decode cX10_roots 198 = .ok (.iload 9, 2) := by decide +kernel
theorem dX10_roots_200 : decode cX10_roots 200 = .ok (.iconst 1, 1) := by decide +kernel
theorem dX10_roots_201 : decode cX10_roots 201 = .ok (.isub, 1) := by decide +kernel
theorem dX10_roots_202 : decode cX10_roots 202 = .ok (.iaload, 1) := by decide +kernel
theorem dX10_roots_203 : decode cX10_roots 203 = .ok (.iload 10, 2) := by decide +kernel
theorem dX10_roots_205 : decode cX10_roots 205 = .ok (.if_icmp .le 25, 3) := by decide +kernel
theorem dX10_roots_208 : decode cX10_roots 208 = .ok (.aload_n 0, 1) := by decide +kernel
theorem dX10_roots_209 : decode cX10_roots 209 = .ok (.getfield 538, 3) := by decide +kernel
theorem dX10_roots_212 : decode cX10_roots 212 = .ok (.iload 9, 2) := by decide +kernel
theorem dX10_roots_214 : decode cX10_roots 214 = .ok (.aload_n 0, 1) := by decide +kernel
theorem dX10_roots_215 : decode cX10_roots 215 = .ok (.getfield 538, 3) := by decide +kernel
theorem dX10_roots_218 : decode cX10_roots 218 = .ok (.iload 9, 2) := by decide +kernel
theorem dX10_roots_220 : decode cX10_roots 220 = .ok (.iconst 1, 1) := by decide +kernel
theorem dX10_roots_221 : decode cX10_roots 221 = .ok (.isub, 1) := by decide +kernel
theorem dX10_roots_222 : decode cX10_roots 222 = .ok (.iaload, 1) := by decide +kernel
theorem dX10_roots_223 : decode cX10_roots 223 = .ok (.iastore, 1) := by decide +kernel
theorem dX10_roots_224 : decode cX10_roots 224 = .ok (.iinc 9 (-1), 3) := by decide +kernel
theorem dX10_roots_227 : decode cX10_roots 227 = .ok (.goto (-38), 3) := by decide +kernel
theorem dX10_roots_230 : decode cX10_roots 230 = .ok (.aload_n 0, 1) := by decide +kernel
theorem dX10_roots_231 : decode cX10_roots 231 = .ok (.getfield 538, 3) := by decide +kernel
theorem dX10_roots_234 : decode cX10_roots 234 = .ok (.iload 9, 2) := by decide +kernel
theorem dX10_roots_236 : decode cX10_roots 236 = .ok (.iload 10, 2) := by decide +kernel
theorem dX10_roots_238 : decode cX10_roots 238 = .ok (.iastore, 1) := by decide +kernel
theorem dX10_roots_239 : decode cX10_roots 239 = .ok (.iinc 8 1, 3) := by decide +kernel
theorem dX10_roots_242 : decode cX10_roots 242 = .ok (.goto (-75), 3) := by decide +kernel
theorem dX10_roots_245 : decode cX10_roots 245 = .ok (.iconst 0, 1) := by decide +kernel
theorem dX10_roots_246 : decode cX10_roots 246 = .ok (.istore 8, 2) := by decide +kernel
theorem dX10_roots_248 : decode cX10_roots 248 = .ok (.iload 8, 2) := by decide +kernel
theorem dX10_roots_250 : decode cX10_roots 250 = .ok (.aload_n 0, 1) := by decide +kernel
theorem dX10_roots_251 : decode cX10_roots 251 = .ok (.getfield 814, 3) := by decide +kernel
theorem dX10_roots_254 : decode cX10_roots 254 = .ok (.if_icmp .ge 109, 3) := by decide +kernel
theorem dX10_roots_257 : decode cX10_roots 257 = .ok (.aload 5, 2) := by decide +kernel
theorem dX10_roots_259 : decode cX10_roots 259 = .ok (.getfield 30, 3) := by decide +kernel
theorem dX10_roots_262 : decode cX10_roots 262 = .ok (.iconst 0, 1) := by decide +kernel
theorem dX10_roots_263 : decode cX10_roots 263 = .ok (.iconst 0, 1) := by decide +kernel
theorem dX10_roots_264 : decode cX10_roots 264 = .ok (.aload_n 0, 1) := by decide +kernel
theorem dX10_roots_265 : decode cX10_roots 265 = .ok (.getfield 538, 3) := by decide +kernel
theorem dX10_roots_268 : decode cX10_roots 268 = .ok (.iload 8, 2) := by decide +kernel
theorem dX10_roots_270 : decode cX10_roots 270 = .ok (.iaload, 1) := by decide +kernel
theorem dX10_roots_271 : decode cX10_roots 271 = .ok (.invokestatic 46, 3) := by decide +kernel
theorem dX10_roots_274 : decode cX10_roots 274 = .ok (.iastore, 1) := by decide +kernel
theorem dX10_roots_275 : decode cX10_roots 275 = .ok (.aload 5, 2) := by decide +kernel
theorem dX10_roots_277 : decode cX10_roots 277 = .ok (.getfield 30, 3) := by decide +kernel
theorem dX10_roots_280 : decode cX10_roots 280 = .ok (.iconst 1, 1) := by decide +kernel
theorem dX10_roots_281 : decode cX10_roots 281 = .ok (.iconst 1, 1) := by decide +kernel
theorem dX10_roots_282 : decode cX10_roots 282 = .ok (.iastore, 1) := by decide +kernel
theorem dX10_roots_283 : decode cX10_roots 283 = .ok (.aload 5, 2) := by decide +kernel
theorem dX10_roots_285 : decode cX10_roots 285 = .ok (.iconst 2, 1) := by decide +kernel
theorem dX10_roots_286 : decode cX10_roots 286 = .ok (.putfield 25, 3) := by decide +kernel
theorem dX10_roots_289 : decode cX10_roots 289 = .ok (.aload 6, 2) := by decide +kernel
theorem dX10_roots_291 : decode cX10_roots 291 = .ok (.aload 7, 2) := by decide +kernel
theorem dX10_roots_293 : decode cX10_roots 293 = .ok (.aload_n 3, 1) := by decide +kernel
theorem dX10_roots_294 : decode cX10_roots 294 = .ok (.aload 5, 2) := by decide +kernel
theorem dX10_roots_296 : decode cX10_roots 296 = .ok (.invokestatic 78, 3) := by decide +kernel
theorem dX10_roots_299 : decode cX10_roots 299 = .ok (.aload 7, 2) := by decide +kernel
theorem dX10_roots_301 : decode cX10_roots 301 = .ok (.getfield 25, 3) := by decide +kernel
theorem dX10_roots_304 : decode cX10_roots 304 = .ok (.ifCond .ne 53, 3) := by decide +kernel
theorem dX10_roots_307 : decode cX10_roots 307 = .ok (.aload_n 0, 1) := by decide +kernel
theorem dX10_roots_308 : decode cX10_roots 308 = .ok (.getfield 468, 3) := by decide +kernel
theorem dX10_roots_311 : decode cX10_roots 311 = .ok (.aload_n 0, 1) := by decide +kernel
theorem dX10_roots_312 : decode cX10_roots 312 = .ok (.dup, 1) := by decide +kernel
theorem dX10_roots_313 : decode cX10_roots 313 = .ok (.getfield 610, 3) := by decide +kernel
theorem dX10_roots_316 : decode cX10_roots 316 = .ok (.dup_x1, 1) := by decide +kernel
theorem dX10_roots_317 : decode cX10_roots 317 = .ok (.iconst 1, 1) := by decide +kernel
theorem dX10_roots_318 : decode cX10_roots 318 = .ok (.iadd, 1) := by decide +kernel
theorem dX10_roots_319 : decode cX10_roots 319 = .ok (.putfield 610, 3) := by decide +kernel
theorem dX10_roots_322 : decode cX10_roots 322 = .ok (.aload_n 0, 1) := by decide +kernel
theorem dX10_roots_323 : decode cX10_roots 323 = .ok (.getfield 538, 3) := by decide +kernel
theorem dX10_roots_326 : decode cX10_roots 326 = .ok (.iload 8, 2) := by decide +kernel
theorem dX10_roots_328 : decode cX10_roots 328 = .ok (.iaload, 1) := by decide +kernel
theorem dX10_roots_329 : decode cX10_roots 329 = .ok (.iastore, 1) := by decide +kernel
theorem dX10_roots_330 : decode cX10_roots 330 = .ok (.aload_n 3, 1) := by decide +kernel
theorem dX10_roots_331 : decode cX10_roots 331 = .ok (.aload 6, 2) := by decide +kernel
theorem dX10_roots_333 : decode cX10_roots 333 = .ok (.invokestatic 62, 3) := by decide +kernel
theorem dX10_roots_336 : decode cX10_roots 336 = .ok (.aload 6, 2) := by decide +kernel
theorem dX10_roots_338 : decode cX10_roots 338 = .ok (.aload 7, 2) := by decide +kernel
theorem dX10_roots_340 : decode cX10_roots 340 = .ok (.aload_n 3, 1) := by decide +kernel
theorem dX10_roots_341 : decode cX10_roots 341 = .ok (.aload 5, 2) := by decide +kernel
theorem dX10_roots_343 : decode cX10_roots 343 = .ok (.invokestatic 78, 3) := by decide +kernel
theorem dX10_roots_346 : decode cX10_roots 346 = .ok (.aload_n 3, 1) := by decide +kernel
theorem dX10_roots_347 : decode cX10_roots 347 = .ok (.getfield 25, 3) := by decide +kernel
theorem dX10_roots_350 : decode cX10_roots 350 = .ok (.iconst 1, 1) := by decide +kernel
theorem dX10_roots_351 : decode cX10_roots 351 = .ok (.if_icmp .gt (-52), 3) := by decide +kernel
theorem dX10_roots_354 : decode cX10_roots 354 = .ok (.goto 3, 3) := by decide +kernel
theorem dX10_roots_357 : decode cX10_roots 357 = .ok (.iinc 8 1, 3) := by decide +kernel
theorem dX10_roots_360 : decode cX10_roots 360 = .ok (.goto (-112), 3) := by decide +kernel
theorem dX10_roots_363 : decode cX10_roots 363 = .ok (.aload_n 0, 1) := by decide +kernel
theorem dX10_roots_364 : decode cX10_roots 364 = .ok (.getfield 610, 3) := by decide +kernel
theorem dX10_roots_367 : decode cX10_roots 367 = .ok (.ireturn, 1) := by decide +kernel
theorem dX10_powerOf_0 : decode cX10_powerOf 0 = .ok (.aload_n 0, 1) := by decide +kernel
theorem dX10_powerOf_1 : decode cX10_powerOf 1 = .ok (.getfield 21, 3) := by decide +kernel
theorem dX10_powerOf_4 : decode cX10_powerOf 4 = .ok (.istore 6, 2) := by decide +kernel
theorem dX10_powerOf_6 : decode cX10_powerOf 6 = .ok (.aload_n 0, 1) := by decide +kernel
theorem dX10_powerOf_7 : decode cX10_powerOf 7 = .ok (.invokevirtual 74, 3) := by decide +kernel
theorem dX10_powerOf_10 : decode cX10_powerOf 10 = .ok (.astore 7, 2) := by decide +kernel
theorem dX10_powerOf_12 : decode cX10_powerOf 12 = .ok (.aload_n 0, 1) := by decide +kernel
theorem dX10_powerOf_13 : decode cX10_powerOf 13 = .ok (.invokevirtual 74, 3) := by decide +kernel
theorem dX10_powerOf_16 : decode cX10_powerOf 16 = .ok (.astore 8, 2) := by decide +kernel
theorem dX10_powerOf_18 : decode cX10_powerOf 18 = .ok (.aload_n 0, 1) := by decide +kernel
theorem dX10_powerOf_19 : decode cX10_powerOf 19 = .ok (.invokevirtual 74, 3) := by decide +kernel
theorem dX10_powerOf_22 : decode cX10_powerOf 22 = .ok (.astore 9, 2) := by decide +kernel
theorem dX10_powerOf_24 : decode cX10_powerOf 24 = .ok (.aload 7, 2) := by decide +kernel
theorem dX10_powerOf_26 : decode cX10_powerOf 26 = .ok (.iconst 1, 1) := by decide +kernel
theorem dX10_powerOf_27 : decode cX10_powerOf 27 = .ok (.invokevirtual 147, 3) := by decide +kernel
theorem dX10_powerOf_30 : decode cX10_powerOf 30 = .ok (.aconst_null, 1) := by decide +kernel
theorem dX10_powerOf_31 : decode cX10_powerOf 31 = .ok (.aload 9, 2) := by decide +kernel
theorem dX10_powerOf_33 : decode cX10_powerOf 33 = .ok (.aload_n 2, 1) := by decide +kernel
theorem dX10_powerOf_34 : decode cX10_powerOf 34 = .ok (.aload 5, 2) := by decide +kernel
theorem dX10_powerOf_36 : decode cX10_powerOf 36 = .ok (.invokestatic 78, 3) := by decide +kernel
theorem dX10_powerOf_39 : decode cX10_powerOf 39 = .ok (.lload_n 3, 1) := by decide +kernel
theorem dX10_powerOf_40 : decode cX10_powerOf 40 = .ok (.lstore 10, 2) := by decide +kernel
theorem dX10_powerOf_42 : decode cX10_powerOf 42 = .ok (.lload 10, 2) := by decide +kernel
theorem dX10_powerOf_44 : decode cX10_powerOf 44 = .ok (.lconst 0, 1) := by decide +kernel
theorem dX10_powerOf_45 : decode cX10_powerOf 45 = .ok (.lcmp, 1) := by decide +kernel
theorem dX10_powerOf_46 : decode cX10_powerOf 46 = .ok (.ifCond .le 59, 3) := by decide +kernel
theorem dX10_powerOf_49 : decode cX10_powerOf 49 = .ok (.lload 10, 2) := by decide +kernel
theorem dX10_powerOf_51 : decode cX10_powerOf 51 = .ok (.lconst 1, 1) := by decide +kernel
theorem dX10_powerOf_52 : decode cX10_powerOf 52 = .ok (.land, 1) := by decide +kernel
theorem dX10_powerOf_53 : decode cX10_powerOf 53 = .ok (.lconst 1, 1) := by decide +kernel
theorem dX10_powerOf_54 : decode cX10_powerOf 54 = .ok (.lcmp, 1) := by decide +kernel
theorem dX10_powerOf_55 : decode cX10_powerOf 55 = .ok (.ifCond .ne 22, 3) := by decide +kernel
theorem dX10_powerOf_58 : decode cX10_powerOf 58 = .ok (.aload 8, 2) := by decide +kernel
theorem dX10_powerOf_60 : decode cX10_powerOf 60 = .ok (.aload 7, 2) := by decide +kernel
theorem dX10_powerOf_62 : decode cX10_powerOf 62 = .ok (.aload 9, 2) := by decide +kernel
theorem dX10_powerOf_64 : decode cX10_powerOf 64 = .ok (.invokestatic 106, 3) := by decide +kernel
theorem dX10_powerOf_67 : decode cX10_powerOf 67 = .ok (.aconst_null, 1) := by decide +kernel
theorem dX10_powerOf_68 : decode cX10_powerOf 68 = .ok (.aload 7, 2) := by decide +kernel
theorem dX10_powerOf_70 : decode cX10_powerOf 70 = .ok (.aload 8, 2) := by decide +kernel
theorem dX10_powerOf_72 : decode cX10_powerOf 72 = .ok (.aload 5, 2) := by decide +kernel
theorem dX10_powerOf_74 : decode cX10_powerOf 74 = .ok (.invokestatic 78, 3) := by decide +kernel
theorem dX10_powerOf_77 : decode cX10_powerOf 77 = .ok (.aload 8, 2) := by decide +kernel
theorem dX10_powerOf_79 : decode cX10_powerOf 79 = .ok (.aload 9, 2) := by decide +kernel
theorem dX10_powerOf_81 : decode cX10_powerOf 81 = .ok (.aload 9, 2) := by decide +kernel
theorem dX10_powerOf_83 : decode cX10_powerOf 83 = .ok (.invokestatic 106, 3) := by decide +kernel
theorem dX10_powerOf_86 : decode cX10_powerOf 86 = .ok (.aconst_null, 1) := by decide +kernel
theorem dX10_powerOf_87 : decode cX10_powerOf 87 = .ok (.aload 9, 2) := by decide +kernel
theorem dX10_powerOf_89 : decode cX10_powerOf 89 = .ok (.aload 8, 2) := by decide +kernel
theorem dX10_powerOf_91 : decode cX10_powerOf 91 = .ok (.aload 5, 2) := by decide +kernel
theorem dX10_powerOf_93 : decode cX10_powerOf 93 = .ok (.invokestatic 78, 3) := by decide +kernel
theorem dX10_powerOf_96 : decode cX10_powerOf 96 = .ok (.lload 10, 2) := by decide +kernel
theorem dX10_powerOf_98 : decode cX10_powerOf 98 = .ok (.iconst 1, 1) := by decide +kernel
theorem dX10_powerOf_99 : decode cX10_powerOf 99 = .ok (.lshr, 1) := by decide +kernel
theorem dX10_powerOf_100 : decode cX10_powerOf 100 = .ok (.lstore 10, 2) := by decide +kernel
theorem dX10_powerOf_102 : decode cX10_powerOf 102 = .ok (.goto (-60), 3) := by decide +kernel
theorem dX10_powerOf_105 : decode cX10_powerOf 105 = .ok (.aload_n 1, 1) := by decide +kernel
theorem dX10_powerOf_106 : decode cX10_powerOf 106 = .ok (.aload 7, 2) := by decide +kernel
theorem dX10_powerOf_108 : decode cX10_powerOf 108 = .ok (.invokestatic 62, 3) := by decide +kernel
theorem dX10_powerOf_111 : decode cX10_powerOf 111 = .ok (.aload_n 0, 1) := by decide +kernel
theorem dX10_powerOf_112 : decode cX10_powerOf 112 = .ok (.iload 6, 2) := by decide +kernel
theorem dX10_powerOf_114 : decode cX10_powerOf 114 = .ok (.putfield 21, 3) := by decide +kernel
theorem dX10_powerOf_117 : decode cX10_powerOf 117 = .ok (.return_, 1) := by decide +kernel
theorem dX10_split_0 : decode cX10_split 0 = .ok (.aload_n 1, 1) := by decide +kernel
theorem dX10_split_1 : decode cX10_split 1 = .ok (.getfield 25, 3) := by decide +kernel
theorem dX10_split_4 : decode cX10_split 4 = .ok (.iconst 1, 1) := by decide +kernel
theorem dX10_split_5 : decode cX10_split 5 = .ok (.if_icmp .gt 4, 3) := by decide +kernel
theorem dX10_split_8 : decode cX10_split 8 = .ok (.return_, 1) := by decide +kernel
theorem dX10_split_9 : decode cX10_split 9 = .ok (.aload_n 1, 1) := by decide +kernel
theorem dX10_split_10 : decode cX10_split 10 = .ok (.getfield 25, 3) := by decide +kernel
theorem dX10_split_13 : decode cX10_split 13 = .ok (.iconst 2, 1) := by decide +kernel
theorem dX10_split_14 : decode cX10_split 14 = .ok (.if_icmp .ne 42, 3) := by decide +kernel
theorem dX10_split_17 : decode cX10_split 17 = .ok (.aload_n 0, 1) := by decide +kernel
theorem dX10_split_18 : decode cX10_split 18 = .ok (.getfield 538, 3) := by decide +kernel
theorem dX10_split_21 : decode cX10_split 21 = .ok (.aload_n 0, 1) := by decide +kernel
theorem dX10_split_22 : decode cX10_split 22 = .ok (.dup, 1) := by decide +kernel
theorem dX10_split_23 : decode cX10_split 23 = .ok (.getfield 814, 3) := by decide +kernel
theorem dX10_split_26 : decode cX10_split 26 = .ok (.dup_x1, 1) := by decide +kernel
theorem dX10_split_27 : decode cX10_split 27 = .ok (.iconst 1, 1) := by decide +kernel
theorem dX10_split_28 : decode cX10_split 28 = .ok (.iadd, 1) := by decide +kernel
theorem dX10_split_29 : decode cX10_split 29 = .ok (.putfield 814, 3) := by decide +kernel
theorem dX10_split_32 : decode cX10_split 32 = .ok (.iconst 0, 1) := by decide +kernel
theorem dX10_split_33 : decode cX10_split 33 = .ok (.aload_n 1, 1) := by decide +kernel
theorem dX10_split_34 : decode cX10_split 34 = .ok (.getfield 30, 3) := by decide +kernel
theorem dX10_split_37 : decode cX10_split 37 = .ok (.iconst 0, 1) := by decide +kernel
theorem dX10_split_38 : decode cX10_split 38 = .ok (.iaload, 1) := by decide +kernel
theorem dX10_split_39 : decode cX10_split 39 = .ok (.invokestatic 46, 3) := by decide +kernel
theorem dX10_split_42 : decode cX10_split 42 = .ok (.aload_n 1, 1) := by decide +kernel
theorem dX10_split_43 : decode cX10_split 43 = .ok (.getfield 30, 3) := by decide +kernel
theorem dX10_split_46 : decode cX10_split 46 = .ok (.iconst 1, 1) := by decide +kernel
theorem dX10_split_47 : decode cX10_split 47 = .ok (.iaload, 1) := by decide +kernel
theorem dX10_split_48 : decode cX10_split 48 = .ok (.invokestatic 13, 3) := by decide +kernel
theorem dX10_split_51 : decode cX10_split 51 = .ok (.invokestatic 56, 3) := by decide +kernel
theorem dX10_split_54 : decode cX10_split 54 = .ok (.iastore, 1) := by decide +kernel
theorem dX10_split_55 : decode cX10_split 55 = .ok (.return_, 1) := by decide +kernel
theorem dX10_split_56 : decode cX10_split 56 = .ok (.aload_n 0, 1) := by decide +kernel
theorem dX10_split_57 : decode cX10_split 57 = .ok (.getfield 21, 3) := by decide +kernel
theorem dX10_split_60 : decode cX10_split 60 = .ok (.istore_n 3, 1) := by decide +kernel
theorem dX10_split_61 : decode cX10_split 61 = .ok (.aload_n 0, 1) := by decide +kernel
theorem dX10_split_62 : decode cX10_split 62 = .ok (.invokevirtual 74, 3) := by decide +kernel
theorem dX10_split_65 : decode cX10_split 65 = .ok (.astore 4, 2) := by decide +kernel
theorem dX10_split_67 : decode cX10_split 67 = .ok (.aload_n 0, 1) := by decide +kernel
theorem dX10_split_68 : decode cX10_split 68 = .ok (.invokevirtual 74, 3) := by decide +kernel
theorem dX10_split_71 : decode cX10_split 71 = .ok (.astore 5, 2) := by decide +kernel
theorem dX10_split_73 : decode cX10_split 73 = .ok (.aload_n 0, 1) := by decide +kernel
theorem dX10_split_74 : decode cX10_split 74 = .ok (.invokevirtual 74, 3) := by decide +kernel
theorem dX10_split_77 : decode cX10_split 77 = .ok (.astore 6, 2) := by decide +kernel
theorem dX10_split_79 : decode cX10_split 79 = .ok (.iload_n 2, 1) := by decide +kernel
theorem dX10_split_80 : decode cX10_split 80 = .ok (.istore 7, 2) := by decide +kernel
theorem dX10_split_82 : decode cX10_split 82 = .ok (.iconst 0, 1) := by decide +kernel
theorem dX10_split_83 : decode cX10_split 83 = .ok (.istore 8, 2) := by decide +kernel
theorem dX10_split_85 : decode cX10_split 85 = .ok (.iload 8, 2) := by decide +kernel
theorem dX10_split_87 : decode cX10_split 87 = .ok (.ifCond .ne 97, 3) := by decide +kernel
theorem dX10_split_90 : decode cX10_split 90 = .ok (.aload 4, 2) := by decide +kernel
theorem dX10_split_92 : decode cX10_split 92 = .ok (.getfield 30, 3) := by decide +kernel
theorem dX10_split_95 : decode cX10_split 95 = .ok (.iconst 0, 1) := by decide +kernel
theorem dX10_split_96 : decode cX10_split 96 = .ok (.iload 7, 2) := by decide +kernel
theorem dX10_split_98 : decode cX10_split 98 = .ok (.iastore, 1) := by decide +kernel
theorem dX10_split_99 : decode cX10_split 99 = .ok (.aload 4, 2) := by decide +kernel
theorem dX10_split_101 : decode cX10_split 101 = .ok (.getfield 30, 3) := by decide +kernel
theorem dX10_split_104 : decode cX10_split 104 = .ok (.iconst 1, 1) := by decide +kernel
theorem dX10_split_105 : decode cX10_split 105 = .ok (.iconst 1, 1) := by decide +kernel
theorem dX10_split_106 : decode cX10_split 106 = .ok (.iastore, 1) := by decide +kernel
theorem dX10_split_107 : decode cX10_split 107 = .ok (.aload 4, 2) := by decide +kernel
theorem dX10_split_109 : decode cX10_split 109 = .ok (.iconst 2, 1) := by decide +kernel
theorem dX10_split_110 : decode cX10_split 110 = .ok (.putfield 25, 3) := by decide +kernel
theorem dX10_split_113 : decode cX10_split 113 = .ok (.aload_n 0, 1) := by decide +kernel
theorem dX10_split_114 : decode cX10_split 114 = .ok (.aload 5, 2) := by decide +kernel
theorem dX10_split_116 : decode cX10_split 116 = .ok (.aload 4, 2) := by decide +kernel
theorem dX10_split_118 : decode cX10_split 118 = .ok (.ldc2_w 817, 3) := by decide +kernel
theorem dX10_split_121 : decode cX10_split 121 = .ok (.aload_n 1, 1) := by decide +kernel
theorem dX10_split_122 : decode cX10_split 122 = .ok (.invokevirtual 819, 3) := by decide +kernel
theorem dX10_split_125 : decode cX10_split 125 = .ok (.aload 6, 2) := by decide +kernel
theorem dX10_split_127 : decode cX10_split 127 = .ok (.iconst 1, 1) := by decide +kernel
theorem dX10_split_128 : decode cX10_split 128 = .ok (.invokevirtual 147, 3) := by decide +kernel
theorem dX10_split_131 : decode cX10_split 131 = .ok (.aload 5, 2) := by decide +kernel
theorem dX10_split_133 : decode cX10_split 133 = .ok (.aload 5, 2) := by decide +kernel
theorem dX10_split_135 : decode cX10_split 135 = .ok (.aload 6, 2) := by decide +kernel
theorem dX10_split_137 : decode cX10_split 137 = .ok (.iconst 1, 1) := by decide +kernel
theorem dX10_split_138 : decode cX10_split 138 = .ok (.invokestatic 101, 3) := by decide +kernel
theorem dX10_split_141 : decode cX10_split 141 = .ok (.aload_n 0, 1) := by decide +kernel
theorem dX10_split_142 : decode cX10_split 142 = .ok (.aload 6, 2) := by decide +kernel
theorem dX10_split_144 : decode cX10_split 144 = .ok (.aload 5, 2) := by decide +kernel
theorem dX10_split_146 : decode cX10_split 146 = .ok (.aload_n 1, 1) := by decide +kernel
theorem dX10_split_147 : decode cX10_split 147 = .ok (.invokevirtual 125, 3) := by decide +kernel
theorem dX10_split_150 : decode cX10_split 150 = .ok (.aload 6, 2) := by decide +kernel
theorem dX10_split_152 : decode cX10_split 152 = .ok (.getfield 25, 3) := by decide +kernel
theorem dX10_split_155 : decode cX10_split 155 = .ok (.iconst 1, 1) := by decide +kernel
theorem dX10_split_156 : decode cX10_split 156 = .ok (.if_icmp .le 19, 3) := by decide +kernel
theorem dX10_split_159 : decode cX10_split 159 = .ok (.aload 6, 2) := by decide +kernel
theorem dX10_split_161 : decode cX10_split 161 = .ok (.getfield 25, 3) := by decide +kernel
theorem dX10_split_164 : decode cX10_split 164 = .ok (.aload_n 1, 1) := by decide +kernel
theorem dX10_split_165 : decode cX10_split 165 = .ok (.getfield 25, 3) := by decide +kernel
theorem dX10_split_168 : decode cX10_split 168 = .ok (.if_icmp .ge 7, 3) := by decide +kernel
theorem dX10_split_171 : decode cX10_split 171 = .ok (.iconst 1, 1) := by decide +kernel
theorem dX10_split_172 : decode cX10_split 172 = .ok (.goto 4, 3) := by decide +kernel
theorem dX10_split_175 : decode cX10_split 175 = .ok (.iconst 0, 1) := by decide +kernel
theorem dX10_split_176 : decode cX10_split 176 = .ok (.istore 8, 2) := by decide +kernel
theorem dX10_split_178 : decode cX10_split 178 = .ok (.iinc 7 1, 3) := by decide +kernel
theorem dX10_split_181 : decode cX10_split 181 = .ok (.goto (-96), 3) := by decide +kernel
theorem dX10_split_184 : decode cX10_split 184 = .ok (.aload_n 0, 1) := by decide +kernel
theorem dX10_split_185 : decode cX10_split 185 = .ok (.aload 5, 2) := by decide +kernel
theorem dX10_split_187 : decode cX10_split 187 = .ok (.aload_n 1, 1) := by decide +kernel
theorem dX10_split_188 : decode cX10_split 188 = .ok (.aload 6, 2) := by decide +kernel
theorem dX10_split_190 : decode cX10_split 190 = .ok (.invokevirtual 110, 3) := by decide +kernel
theorem dX10_split_193 : decode cX10_split 193 = .ok (.aload_n 0, 1) := by decide +kernel
theorem dX10_split_194 : decode cX10_split 194 = .ok (.aload 6, 2) := by decide +kernel
theorem dX10_split_196 : decode cX10_split 196 = .ok (.iload 7, 2) := by decide +kernel
theorem dX10_split_198 : decode cX10_split 198 = .ok (.invokevirtual 823, 3) := by decide +kernel
theorem dX10_split_201 : decode cX10_split 201 = .ok (.aload_n 0, 1) := by decide +kernel
theorem dX10_split_202 : decode cX10_split 202 = .ok (.aload 5, 2) := by decide +kernel
theorem dX10_split_204 : decode cX10_split 204 = .ok (.iload 7, 2) := by decide +kernel
theorem dX10_split_206 : decode cX10_split 206 = .ok (.invokevirtual 823, 3) := by decide +kernel
theorem dX10_split_209 : decode cX10_split 209 = .ok (.aload_n 0, 1) := by decide +kernel
theorem dX10_split_210 : decode cX10_split 210 = .ok (.iload_n 3, 1) := by decide +kernel
theorem dX10_split_211 : decode cX10_split 211 = .ok (.putfield 21, 3) := by decide +kernel
theorem dX10_split_214 : decode cX10_split 214 = .ok (.return_, 1) := by decide +kernel
theorem dX10_root_0 : decode cX10_root 0 = .ok (.iload_n 1, 1) := by decide +kernel
theorem dX10_root_1 : decode cX10_root 1 = .ok (.ifCond .lt 20, 3) := by decide +kernel
theorem dX10_root_4 : decode cX10_root 4 = .ok (.iload_n 1, 1) := by decide +kernel
theorem dX10_root_5 : decode cX10_root 5 = .ok (.aload_n 0, 1) := by decide +kernel
theorem dX10_root_6 : decode cX10_root 6 = .ok (.getfield 610, 3) := by decide +kernel
theorem dX10_root_9 : decode cX10_root 9 = .ok (.if_icmp .ge 12, 3) := by decide +kernel
theorem dX10_root_12 : decode cX10_root 12 = .ok (.aload_n 0, 1) := by decide +kernel
theorem dX10_root_13 : decode cX10_root 13 = .ok (.getfield 468, 3) := by decide +kernel
theorem dX10_root_16 : decode cX10_root 16 = .ok (.iload_n 1, 1) := by decide +kernel
theorem dX10_root_17 : decode cX10_root 17 = .ok (.iaload, 1) := by decide +kernel
theorem dX10_root_18 : decode cX10_root 18 = .ok (.goto 4, 3) := by decide +kernel
theorem dX10_root_21 : decode cX10_root 21 = .ok (.iconst (-1), 1) := by decide +kernel
theorem dX10_root_22 : decode cX10_root 22 = .ok (.ireturn, 1) := by decide +kernel
theorem dX10_solve_0 : decode cX10_solve 0 = .ok (.iload_n 1, 1) := by decide +kernel
theorem dX10_solve_1 : decode cX10_solve 1 = .ok (.invokestatic 551, 3) := by decide +kernel
theorem dX10_solve_4 : decode cX10_solve 4 = .ok (.ifCond .eq 10, 3) := by decide +kernel
theorem dX10_solve_7 : decode cX10_solve 7 = .ok (.iload_n 2, 1) := by decide +kernel
theorem dX10_solve_8 : decode cX10_solve 8 = .ok (.invokestatic 551, 3) := by decide +kernel
theorem dX10_solve_11 : decode cX10_solve 11 = .ok (.ifCond .ne 5, 3) := by decide +kernel
theorem dX10_solve_14 : decode cX10_solve 14 = .ok (.iconst (-1), 1) := by decide +kernel
theorem dX10_solve_15 : decode cX10_solve 15 = .ok (.ireturn, 1) := by decide +kernel
theorem dX10_solve_16 : decode cX10_solve 16 = .ok (.aload_n 0, 1) := by decide +kernel
theorem dX10_solve_17 : decode cX10_solve 17 = .ok (.getfield 450, 3) := by decide +kernel
theorem dX10_solve_20 : decode cX10_solve 20 = .ok (.iload_n 1, 1) := by decide +kernel
theorem dX10_solve_21 : decode cX10_solve 21 = .ok (.aaload, 1) := by decide +kernel
theorem dX10_solve_22 : decode cX10_solve 22 = .ok (.astore_n 3, 1) := by decide +kernel
theorem dX10_solve_23 : decode cX10_solve 23 = .ok (.aload_n 3, 1) := by decide +kernel
theorem dX10_solve_24 : decode cX10_solve 24 = .ok (.getfield 202, 3) := by decide +kernel
theorem dX10_solve_27 : decode cX10_solve 27 = .ok (.iconst 3, 1) := by decide +kernel
theorem dX10_solve_28 : decode cX10_solve 28 = .ok (.if_icmp .eq 14, 3) := by decide +kernel
theorem dX10_solve_31 : decode cX10_solve 31 = .ok (.aload_n 3, 1) := by decide +kernel
theorem dX10_solve_32 : decode cX10_solve 32 = .ok (.getfield 202, 3) := by decide +kernel
theorem dX10_solve_35 : decode cX10_solve 35 = .ok (.iconst 4, 1) := by decide +kernel
theorem dX10_solve_36 : decode cX10_solve 36 = .ok (.if_icmp .eq 6, 3) := by decide +kernel
theorem dX10_solve_39 : decode cX10_solve 39 = .ok (.bipush (-3), 2) := by decide +kernel
theorem dX10_solve_41 : decode cX10_solve 41 = .ok (.ireturn, 1) := by decide +kernel
theorem dX10_solve_42 : decode cX10_solve 42 = .ok (.aload_n 3, 1) := by decide +kernel
theorem dX10_solve_43 : decode cX10_solve 43 = .ok (.getfield 234, 3) := by decide +kernel
theorem dX10_solve_46 : decode cX10_solve 46 = .ok (.iconst 1, 1) := by decide +kernel
theorem dX10_solve_47 : decode cX10_solve 47 = .ok (.if_icmp .eq 5, 3) := by decide +kernel
theorem dX10_solve_50 : decode cX10_solve 50 = .ok (.iconst (-1), 1) := by decide +kernel
theorem dX10_solve_51 : decode cX10_solve 51 = .ok (.ireturn, 1) := by decide +kernel
theorem dX10_solve_52 : decode cX10_solve 52 = .ok (.aload_n 0, 1) := by decide +kernel
theorem dX10_solve_53 : decode cX10_solve 53 = .ok (.invokevirtual 555, 3) := by decide +kernel
theorem dX10_solve_56 : decode cX10_solve 56 = .ok (.aload_n 0, 1) := by decide +kernel
theorem dX10_solve_57 : decode cX10_solve 57 = .ok (.invokevirtual 74, 3) := by decide +kernel
theorem dX10_solve_60 : decode cX10_solve 60 = .ok (.astore 4, 2) := by decide +kernel
theorem dX10_solve_62 : decode cX10_solve 62 = .ok (.aload_n 0, 1) := by decide +kernel
theorem dX10_solve_63 : decode cX10_solve 63 = .ok (.invokevirtual 74, 3) := by decide +kernel
theorem dX10_solve_66 : decode cX10_solve 66 = .ok (.astore 5, 2) := by decide +kernel
theorem dX10_solve_68 : decode cX10_solve 68 = .ok (.aload 4, 2) := by decide +kernel
theorem dX10_solve_70 : decode cX10_solve 70 = .ok (.aload_n 3, 1) := by decide +kernel
theorem dX10_solve_71 : decode cX10_solve 71 = .ok (.getfield 237, 3) := by decide +kernel
theorem dX10_solve_74 : decode cX10_solve 74 = .ok (.iconst 0, 1) := by decide +kernel
theorem dX10_solve_75 : decode cX10_solve 75 = .ok (.invokestatic 775, 3) := by decide +kernel
theorem dX10_solve_78 : decode cX10_solve 78 = .ok (.aload 5, 2) := by decide +kernel
theorem dX10_solve_80 : decode cX10_solve 80 = .ok (.aload_n 3, 1) := by decide +kernel
theorem dX10_solve_81 : decode cX10_solve 81 = .ok (.getfield 237, 3) := by decide +kernel
theorem dX10_solve_84 : decode cX10_solve 84 = .ok (.bipush 25, 2) := by decide +kernel
theorem dX10_solve_86 : decode cX10_solve 86 = .ok (.invokestatic 775, 3) := by decide +kernel
theorem dX10_solve_89 : decode cX10_solve 89 = .ok (.aload 4, 2) := by decide +kernel
theorem dX10_solve_91 : decode cX10_solve 91 = .ok (.getfield 25, 3) := by decide +kernel
theorem dX10_solve_94 : decode cX10_solve 94 = .ok (.ifCond .eq 11, 3) := by decide +kernel
theorem dX10_solve_97 : decode cX10_solve 97 = .ok (.aload 5, 2) := by decide +kernel
theorem dX10_solve_99 : decode cX10_solve 99 = .ok (.getfield 25, 3) := by decide +kernel
theorem dX10_solve_102 : decode cX10_solve 102 = .ok (.ifCond .ne 5, 3) := by decide +kernel
theorem dX10_solve_105 : decode cX10_solve 105 = .ok (.iconst (-1), 1) := by decide +kernel
theorem dX10_solve_106 : decode cX10_solve 106 = .ok (.ireturn, 1) := by decide +kernel
theorem dX10_solve_107 : decode cX10_solve 107 = .ok (.aload_n 0, 1) := by decide +kernel
theorem dX10_solve_108 : decode cX10_solve 108 = .ok (.aload_n 0, 1) := by decide +kernel
theorem dX10_solve_109 : decode cX10_solve 109 = .ok (.getfield 453, 3) := by decide +kernel
theorem dX10_solve_112 : decode cX10_solve 112 = .ok (.iconst 1, 1) := by decide +kernel
theorem dX10_solve_113 : decode cX10_solve 113 = .ok (.invokevirtual 292, 3) := by decide +kernel
theorem dX10_solve_116 : decode cX10_solve 116 = .ok (.aload_n 0, 1) := by decide +kernel
theorem dX10_solve_117 : decode cX10_solve 117 = .ok (.getfield 453, 3) := by decide +kernel
theorem dX10_solve_120 : decode cX10_solve 120 = .ok (.iconst 0, 1) := by decide +kernel
theorem dX10_solve_121 : decode cX10_solve 121 = .ok (.aload 4, 2) := by decide +kernel
theorem dX10_solve_123 : decode cX10_solve 123 = .ok (.invokevirtual 66, 3) := by decide +kernel
theorem dX10_solve_126 : decode cX10_solve 126 = .ok (.invokestatic 46, 3) := by decide +kernel
theorem dX10_solve_129 : decode cX10_solve 129 = .ok (.aload 5, 2) := by decide +kernel
theorem dX10_solve_131 : decode cX10_solve 131 = .ok (.invokevirtual 66, 3) := by decide +kernel
theorem dX10_solve_134 : decode cX10_solve 134 = .ok (.invokestatic 13, 3) := by decide +kernel
theorem dX10_solve_137 : decode cX10_solve 137 = .ok (.invokestatic 56, 3) := by decide +kernel
theorem dX10_solve_140 : decode cX10_solve 140 = .ok (.putfield 213, 3) := by decide +kernel
theorem dX10_solve_143 : decode cX10_solve 143 = .ok (.aload_n 0, 1) := by decide +kernel
theorem dX10_solve_144 : decode cX10_solve 144 = .ok (.getfield 541, 3) := by decide +kernel
theorem dX10_solve_147 : decode cX10_solve 147 = .ok (.astore 6, 2) := by decide +kernel
theorem dX10_solve_149 : decode cX10_solve 149 = .ok (.bipush (-49), 2) := by decide +kernel
theorem dX10_solve_151 : decode cX10_solve 151 = .ok (.istore 7, 2) := by decide +kernel
theorem dX10_solve_153 : decode cX10_solve 153 = .ok (.iload 7, 2) := by decide +kernel
theorem dX10_solve_155 : decode cX10_solve 155 = .ok (.bipush 51, 2) := by decide +kernel
theorem dX10_solve_157 : decode cX10_solve 157 = .ok (.if_icmp .gt 34, 3) := by decide +kernel
theorem dX10_solve_160 : decode cX10_solve 160 = .ok (.aload 6, 2) := by decide +kernel
theorem dX10_solve_162 : decode cX10_solve 162 = .ok (.iload 7, 2) := by decide +kernel
theorem dX10_solve_164 : decode cX10_solve 164 = .ok (.bipush 49, 2) := by decide +kernel
theorem dX10_solve_166 : decode cX10_solve 166 = .ok (.iadd, 1) := by decide +kernel
theorem dX10_solve_167 : decode cX10_solve 167 = .ok (.aload_n 0, 1) := by decide +kernel
theorem dX10_solve_168 : decode cX10_solve 168 = .ok (.aload 4, 2) := by decide +kernel
theorem dX10_solve_170 : decode cX10_solve 170 = .ok (.iload 7, 2) := by decide +kernel
theorem dX10_solve_172 : decode cX10_solve 172 = .ok (.invokevirtual 827, 3) := by decide +kernel
theorem dX10_solve_175 : decode cX10_solve 175 = .ok (.aload_n 0, 1) := by decide +kernel
theorem dX10_solve_176 : decode cX10_solve 176 = .ok (.aload 5, 2) := by decide +kernel
theorem dX10_solve_178 : decode cX10_solve 178 = .ok (.iload 7, 2) := by decide +kernel
theorem dX10_solve_180 : decode cX10_solve 180 = .ok (.invokevirtual 827, 3) := by decide +kernel
theorem dX10_solve_183 : decode cX10_solve 183 = .ok (.isub, 1) := by decide +kernel
theorem dX10_solve_184 : decode cX10_solve 184 = .ok (.iastore, 1) := by decide +kernel
theorem dX10_solve_185 : decode cX10_solve 185 = .ok (.iinc 7 1, 3) := by decide +kernel
theorem dX10_solve_188 : decode cX10_solve 188 = .ok (.goto (-35), 3) := by decide +kernel
theorem dX10_solve_191 : decode cX10_solve 191 = .ok (.aload 4, 2) := by decide +kernel
theorem dX10_solve_193 : decode cX10_solve 193 = .ok (.getfield 25, 3) := by decide +kernel
theorem dX10_solve_196 : decode cX10_solve 196 = .ok (.iconst 1, 1) := by decide +kernel
theorem dX10_solve_197 : decode cX10_solve 197 = .ok (.if_icmp .ne 12, 3) := by decide +kernel
theorem dX10_solve_200 : decode cX10_solve 200 = .ok (.aload 5, 2) := by decide +kernel
theorem dX10_solve_202 : decode cX10_solve 202 = .ok (.getfield 25, 3) := by decide +kernel
theorem dX10_solve_205 : decode cX10_solve 205 = .ok (.iconst 1, 1) := by decide +kernel
theorem dX10_solve_206 : decode cX10_solve 206 = .ok (.if_icmp .eq 5, 3) := by decide +kernel
theorem dX10_solve_209 : decode cX10_solve 209 = .ok (.iconst (-1), 1) := by decide +kernel
theorem dX10_solve_210 : decode cX10_solve 210 = .ok (.ireturn, 1) := by decide +kernel
theorem dX10_solve_211 : decode cX10_solve 211 = .ok (.iconst 0, 1) := by decide +kernel
theorem dX10_solve_212 : decode cX10_solve 212 = .ok (.istore 7, 2) := by decide +kernel
theorem dX10_solve_214 : decode cX10_solve 214 = .ok (.iconst 0, 1) := by decide +kernel
theorem dX10_solve_215 : decode cX10_solve 215 = .ok (.istore 8, 2) := by decide +kernel
theorem dX10_solve_217 : decode cX10_solve 217 = .ok (.iload 8, 2) := by decide +kernel
theorem dX10_solve_219 : decode cX10_solve 219 = .ok (.bipush 100, 2) := by decide +kernel
theorem dX10_solve_221 : decode cX10_solve 221 = .ok (.if_icmp .gt 22, 3) := by decide +kernel
theorem dX10_solve_224 : decode cX10_solve 224 = .ok (.iload 7, 2) := by decide +kernel
theorem dX10_solve_226 : decode cX10_solve 226 = .ok (.aload 6, 2) := by decide +kernel
theorem dX10_solve_228 : decode cX10_solve 228 = .ok (.iload 8, 2) := by decide +kernel
theorem dX10_solve_230 : decode cX10_solve 230 = .ok (.iaload, 1) := by decide +kernel
theorem dX10_solve_231 : decode cX10_solve 231 = .ok (.invokestatic 273, 3) := by decide +kernel
theorem dX10_solve_234 : decode cX10_solve 234 = .ok (.iadd, 1) := by decide +kernel
theorem dX10_solve_235 : decode cX10_solve 235 = .ok (.istore 7, 2) := by decide +kernel
theorem dX10_solve_237 : decode cX10_solve 237 = .ok (.iinc 8 1, 3) := by decide +kernel
theorem dX10_solve_240 : decode cX10_solve 240 = .ok (.goto (-23), 3) := by decide +kernel
theorem dX10_solve_243 : decode cX10_solve 243 = .ok (.iload 7, 2) := by decide +kernel
theorem dX10_solve_245 : decode cX10_solve 245 = .ok (.bipush 12, 2) := by decide +kernel
theorem dX10_solve_247 : decode cX10_solve 247 = .ok (.if_icmp .le 5, 3) := by decide +kernel
theorem dX10_solve_250 : decode cX10_solve 250 = .ok (.iconst (-1), 1) := by decide +kernel
theorem dX10_solve_251 : decode cX10_solve 251 = .ok (.ireturn, 1) := by decide +kernel
theorem dX10_solve_252 : decode cX10_solve 252 = .ok (.bipush (-49), 2) := by decide +kernel
theorem dX10_solve_254 : decode cX10_solve 254 = .ok (.istore 8, 2) := by decide +kernel
theorem dX10_solve_256 : decode cX10_solve 256 = .ok (.iload 8, 2) := by decide +kernel
theorem dX10_solve_258 : decode cX10_solve 258 = .ok (.bipush 51, 2) := by decide +kernel
theorem dX10_solve_260 : decode cX10_solve 260 = .ok (.if_icmp .gt 41, 3) := by decide +kernel
theorem dX10_solve_263 : decode cX10_solve 263 = .ok (.aload 6, 2) := by decide +kernel
theorem dX10_solve_265 : decode cX10_solve 265 = .ok (.iload 8, 2) := by decide +kernel
theorem dX10_solve_267 : decode cX10_solve 267 = .ok (.bipush 49, 2) := by decide +kernel
theorem dX10_solve_269 : decode cX10_solve 269 = .ok (.iadd, 1) := by decide +kernel
theorem dX10_solve_270 : decode cX10_solve 270 = .ok (.iaload, 1) := by decide +kernel
theorem dX10_solve_271 : decode cX10_solve 271 = .ok (.ifCond .eq 24, 3) := by decide +kernel
theorem dX10_solve_274 : decode cX10_solve 274 = .ok (.aload_n 0, 1) := by decide +kernel
theorem dX10_solve_275 : decode cX10_solve 275 = .ok (.getfield 453, 3) := by decide +kernel
theorem dX10_solve_278 : decode cX10_solve 278 = .ok (.iconst 1, 1) := by decide +kernel
theorem dX10_solve_279 : decode cX10_solve 279 = .ok (.iconst 0, 1) := by decide +kernel
theorem dX10_solve_280 : decode cX10_solve 280 = .ok (.iload 8, 2) := by decide +kernel
theorem dX10_solve_282 : decode cX10_solve 282 = .ok (.iconst 1, 1) := by decide +kernel
theorem dX10_solve_283 : decode cX10_solve 283 = .ok (.isub, 1) := by decide +kernel
theorem dX10_solve_284 : decode cX10_solve 284 = .ok (.aload 6, 2) := by decide +kernel
theorem dX10_solve_286 : decode cX10_solve 286 = .ok (.iload 8, 2) := by decide +kernel
theorem dX10_solve_288 : decode cX10_solve 288 = .ok (.bipush 49, 2) := by decide +kernel
theorem dX10_solve_290 : decode cX10_solve 290 = .ok (.iadd, 1) := by decide +kernel
theorem dX10_solve_291 : decode cX10_solve 291 = .ok (.iaload, 1) := by decide +kernel
theorem dX10_solve_292 : decode cX10_solve 292 = .ok (.invokestatic 284, 3) := by decide +kernel
theorem dX10_solve_295 : decode cX10_solve 295 = .ok (.iinc 8 1, 3) := by decide +kernel
theorem dX10_solve_298 : decode cX10_solve 298 = .ok (.goto (-42), 3) := by decide +kernel
theorem dX10_solve_301 : decode cX10_solve 301 = .ok (.aload_n 0, 1) := by decide +kernel
theorem dX10_solve_302 : decode cX10_solve 302 = .ok (.getfield 453, 3) := by decide +kernel
theorem dX10_solve_305 : decode cX10_solve 305 = .ok (.invokestatic 307, 3) := by decide +kernel
theorem dX10_solve_308 : decode cX10_solve 308 = .ok (.aload_n 0, 1) := by decide +kernel
theorem dX10_solve_309 : decode cX10_solve 309 = .ok (.iload_n 2, 1) := by decide +kernel
theorem dX10_solve_310 : decode cX10_solve 310 = .ok (.invokevirtual 558, 3) := by decide +kernel
theorem dX10_solve_313 : decode cX10_solve 313 = .ok (.ireturn, 1) := by decide +kernel
theorem dX10_strip_0 : decode cX10_strip 0 = .ok (.iconst 0, 1) := by decide +kernel
theorem dX10_strip_1 : decode cX10_strip 1 = .ok (.istore_n 3, 1) := by decide +kernel
theorem dX10_strip_2 : decode cX10_strip 2 = .ok (.aload_n 0, 1) := by decide +kernel
theorem dX10_strip_3 : decode cX10_strip 3 = .ok (.invokevirtual 74, 3) := by decide +kernel
theorem dX10_strip_6 : decode cX10_strip 6 = .ok (.astore 4, 2) := by decide +kernel
theorem dX10_strip_8 : decode cX10_strip 8 = .ok (.aload_n 0, 1) := by decide +kernel
theorem dX10_strip_9 : decode cX10_strip 9 = .ok (.invokevirtual 74, 3) := by decide +kernel
theorem dX10_strip_12 : decode cX10_strip 12 = .ok (.astore 5, 2) := by decide +kernel
theorem dX10_strip_14 : decode cX10_strip 14 = .ok (.aload_n 0, 1) := by decide +kernel
theorem dX10_strip_15 : decode cX10_strip 15 = .ok (.invokevirtual 74, 3) := by decide +kernel
theorem dX10_strip_18 : decode cX10_strip 18 = .ok (.astore 6, 2) := by decide +kernel
theorem dX10_strip_20 : decode cX10_strip 20 = .ok (.aload 4, 2) := by decide +kernel
theorem dX10_strip_22 : decode cX10_strip 22 = .ok (.getfield 30, 3) := by decide +kernel
theorem dX10_strip_25 : decode cX10_strip 25 = .ok (.iconst 0, 1) := by decide +kernel
theorem dX10_strip_26 : decode cX10_strip 26 = .ok (.iload_n 2, 1) := by decide +kernel
theorem dX10_strip_27 : decode cX10_strip 27 = .ok (.invokestatic 600, 3) := by decide +kernel
theorem dX10_strip_30 : decode cX10_strip 30 = .ok (.iastore, 1) := by decide +kernel
theorem dX10_strip_31 : decode cX10_strip 31 = .ok (.aload 4, 2) := by decide +kernel
theorem dX10_strip_33 : decode cX10_strip 33 = .ok (.getfield 30, 3) := by decide +kernel
theorem dX10_strip_36 : decode cX10_strip 36 = .ok (.iconst 1, 1) := by decide +kernel
theorem dX10_strip_37 : decode cX10_strip 37 = .ok (.iconst 1, 1) := by decide +kernel
theorem dX10_strip_38 : decode cX10_strip 38 = .ok (.iastore, 1) := by decide +kernel
theorem dX10_strip_39 : decode cX10_strip 39 = .ok (.aload 4, 2) := by decide +kernel
theorem dX10_strip_41 : decode cX10_strip 41 = .ok (.iconst 2, 1) := by decide +kernel
theorem dX10_strip_42 : decode cX10_strip 42 = .ok (.putfield 25, 3) := by decide +kernel
theorem dX10_strip_45 : decode cX10_strip 45 = .ok (.aload_n 1, 1) := by decide +kernel
theorem dX10_strip_46 : decode cX10_strip 46 = .ok (.getfield 25, 3) := by decide +kernel
theorem dX10_strip_49 : decode cX10_strip 49 = .ok (.iconst 1, 1) := by decide +kernel
theorem dX10_strip_50 : decode cX10_strip 50 = .ok (.if_icmp .le 7, 3) := by decide +kernel
theorem dX10_strip_53 : decode cX10_strip 53 = .ok (.iconst 1, 1) := by decide +kernel
theorem dX10_strip_54 : decode cX10_strip 54 = .ok (.goto 4, 3) := by decide +kernel
theorem dX10_strip_57 : decode cX10_strip 57 = .ok (.iconst 0, 1) := by decide +kernel
theorem dX10_strip_58 : decode cX10_strip 58 = .ok (.istore 7, 2) := by decide +kernel
theorem dX10_strip_60 : decode cX10_strip 60 = .ok (.iload 7, 2) := by decide +kernel
theorem dX10_strip_62 : decode cX10_strip 62 = .ok (.ifCond .eq 60, 3) := by decide +kernel
theorem dX10_strip_65 : decode cX10_strip 65 = .ok (.aload 5, 2) := by decide +kernel
theorem dX10_strip_67 : decode cX10_strip 67 = .ok (.aload 6, 2) := by decide +kernel
theorem dX10_strip_69 : decode cX10_strip 69 = .ok (.aload_n 1, 1) := by decide +kernel
theorem dX10_strip_70 : decode cX10_strip 70 = .ok (.aload 4, 2) := by decide +kernel
theorem dX10_strip_72 : decode cX10_strip 72 = .ok (.invokestatic 78, 3) := by decide +kernel
theorem dX10_strip_75 : decode cX10_strip 75 = .ok (.aload 6, 2) := by decide +kernel
theorem dX10_strip_77 : decode cX10_strip 77 = .ok (.getfield 25, 3) := by decide +kernel
theorem dX10_strip_80 : decode cX10_strip 80 = .ok (.ifCond .ne 7, 3) := by decide +kernel
theorem dX10_strip_83 : decode cX10_strip 83 = .ok (.iconst 1, 1) := by decide +kernel
theorem dX10_strip_84 : decode cX10_strip 84 = .ok (.goto 4, 3) := by decide +kernel
theorem dX10_strip_87 : decode cX10_strip 87 = .ok (.iconst 0, 1) := by decide +kernel
theorem dX10_strip_88 : decode cX10_strip 88 = .ok (.istore 7, 2) := by decide +kernel
theorem dX10_strip_90 : decode cX10_strip 90 = .ok (.iload 7, 2) := by decide +kernel
theorem dX10_strip_92 : decode cX10_strip 92 = .ok (.ifCond .eq (-32), 3) := by decide +kernel
theorem dX10_strip_95 : decode cX10_strip 95 = .ok (.aload_n 1, 1) := by decide +kernel
theorem dX10_strip_96 : decode cX10_strip 96 = .ok (.aload 5, 2) := by decide +kernel
theorem dX10_strip_98 : decode cX10_strip 98 = .ok (.invokestatic 62, 3) := by decide +kernel
theorem dX10_strip_101 : decode cX10_strip 101 = .ok (.iinc 3 1, 3) := by decide +kernel
theorem dX10_strip_104 : decode cX10_strip 104 = .ok (.aload_n 1, 1) := by decide +kernel
theorem dX10_strip_105 : decode cX10_strip 105 = .ok (.getfield 25, 3) := by decide +kernel
theorem dX10_strip_108 : decode cX10_strip 108 = .ok (.iconst 1, 1) := by decide +kernel
theorem dX10_strip_109 : decode cX10_strip 109 = .ok (.if_icmp .le 7, 3) := by decide +kernel
theorem dX10_strip_112 : decode cX10_strip 112 = .ok (.iconst 1, 1) := by decide +kernel
theorem dX10_strip_113 : decode cX10_strip 113 = .ok (.goto 4, 3) := by decide +kernel
theorem dX10_strip_116 : decode cX10_strip 116 = .ok (.iconst 0, 1) := by decide +kernel
theorem dX10_strip_117 : decode cX10_strip 117 = .ok (.istore 7, 2) := by decide +kernel
theorem dX10_strip_119 : decode cX10_strip 119 = .ok (.goto (-59), 3) := by decide +kernel
theorem dX10_strip_122 : decode cX10_strip 122 = .ok (.aload_n 0, 1) := by decide +kernel
theorem dX10_strip_123 : decode cX10_strip 123 = .ok (.dup, 1) := by decide +kernel
theorem dX10_strip_124 : decode cX10_strip 124 = .ok (.getfield 21, 3) := by decide +kernel
theorem dX10_strip_127 : decode cX10_strip 127 = .ok (.iconst 3, 1) := by decide +kernel
theorem dX10_strip_128 : decode cX10_strip 128 = .ok (.isub, 1) := by decide +kernel
theorem dX10_strip_129 : decode cX10_strip 129 = .ok (.putfield 21, 3) := by decide +kernel
theorem dX10_strip_132 : decode cX10_strip 132 = .ok (.iload_n 3, 1) := by decide +kernel
theorem dX10_strip_133 : decode cX10_strip 133 = .ok (.ireturn, 1) := by decide +kernel
abbrev W_X10_combine (g : GX) (d : Nat) (av : List Value) (Q : QT) (n : Nat) (pc : Nat) (ls : LV) (stk : List Value) (h : Hp) : Prop := RJ g m_X10_combine (d + 1) 0 0 av Q pc ls stk n h 0 0
theorem s_X10_combine_0 {g : GX} {d : Nat} {av : List Value} {Q : QT} {n : Nat} {h : Hp} {x1 : Int32} {a2 : Nat} {a3 : Nat} {x4 : Int32} (hp : g.2.2.2.2 = true) (t2 : lay a2 = (0, 11, 15)) (t3 : lay a3 = (0, 11, 15)) (H : CallV g m_X10_unroll d [.ref 2759, .ref a2, .ref 2953, .ref 2969] n h (fun h1 => ((((2 : Int32) < x1) → (W_X10_combine g d av Q n 31 [some (.ref 2759), some (.int x1), some (.ref a2), some (.ref a3), some (.int x4), none, none, none, none, none, none] [] h1)) ∧ ((¬ (2 : Int32) < x1) → (CallV g m_X10_unroll d [.ref 2759, .ref a3, .ref 2961, .ref 2970] n h1 (fun h2 => (W_X10_combine g d av Q n 31 [some (.ref 2759), some (.int x1), some (.ref a2), some (.ref a3), some (.int x4), none, none, none, none, none, none] [] h2))))))) : W_X10_combine g d av Q n 0 [some (.ref 2759), some (.int x1), some (.ref a2), some (.ref a3), some (.int x4), none, none, none, none, none, none] [] h := by
  refine r_aload_n dX10_combine_0 rfl rfl ?_
  refine r_aload_n dX10_combine_1 rfl rfl ?_
  refine r_aload_n dX10_combine_2 rfl rfl ?_
  refine m_getF (x := 2953) hp fw_X10_520 dX10_combine_3 rfl ly_10 (ff_10_56 ly_10) ?_
  refine r_aload_n dX10_combine_6 rfl rfl ?_
  refine m_getF (x := 2969) hp fw_X10_526 dX10_combine_7 rfl ly_10 (ff_10_58 ly_10) ?_
  refine k_VV (As := [.ref a2, .ref 2953, .ref 2969]) (stk := []) hp cv_X10_802 dX10_combine_10 rfl (Nat.le_of_ble_eq_true rfl) ly_10 (H.mono (fun h1 H => ?_)) ⟨Nat.le_refl _, Nat.le_refl _⟩
  refine r_iload_n dX10_combine_13 rfl rfl ?_
  refine r_iconst (v := (2 : Int32)) dX10_combine_14 rfl ?_
  refine r_icmp_gt (tgt := 31) dX10_combine_15 rfl (fun cH => ?_) (fun cH => ?_)
  · replace H := H.1 cH
    exact H
  · replace H := H.2 cH
    refine r_aload_n dX10_combine_18 rfl rfl ?_
    refine r_aload_n dX10_combine_19 rfl rfl ?_
    refine r_aload_n dX10_combine_20 rfl rfl ?_
    refine m_getF (x := 2961) hp fw_X10_523 dX10_combine_21 rfl ly_10 (ff_10_57 ly_10) ?_
    refine r_aload_n dX10_combine_24 rfl rfl ?_
    refine m_getF (x := 2970) hp fw_X10_529 dX10_combine_25 rfl ly_10 (ff_10_59 ly_10) ?_
    refine k_VV (As := [.ref a3, .ref 2961, .ref 2970]) (stk := []) hp cv_X10_802 dX10_combine_28 rfl (Nat.le_of_ble_eq_true rfl) ly_10 (H.mono (fun h2 H => ?_)) ⟨Nat.le_refl _, Nat.le_refl _⟩
    exact H
theorem s_X10_combine_31 {g : GX} {d : Nat} {av : List Value} {Q : QT} {n : Nat} {h : Hp} {x1 : Int32} {a2 : Nat} {a3 : Nat} {x4 : Int32} (hp : g.2.2.2.2 = true) (t2 : lay a2 = (0, 11, 15)) (t3 : lay a3 = (0, 11, 15)) (H : CallR g m_X10_newU d [.ref 2759] n h (fun v1 h1 => (lay v1 = (0, 13, 2) ∧ (CallR g m_X10_newU d [.ref 2759] n h1 (fun v2 h2 => (lay v2 = (0, 13, 2) ∧ (CallR g m_X10_newU d [.ref 2759] n h2 (fun v3 h3 => (lay v3 = (0, 13, 2) ∧ (∀ h4, h4 = wi h3 2759 48 x4 → (W_X10_combine g d av Q n 58 [some (.ref 2759), some (.int x1), some (.ref a2), some (.ref a3), some (.int x4), some (.ref v1), some (.ref v2), some (.ref v3), some (.int (0 : Int32)), none, none] [] h4))))))))))) : W_X10_combine g d av Q n 31 [some (.ref 2759), some (.int x1), some (.ref a2), some (.ref a3), some (.int x4), none, none, none, none, none, none] [] h := by
  refine r_aload_n dX10_combine_31 rfl rfl ?_
  refine k_VR (As := []) (stk := []) hp cv_X10_74 dX10_combine_32 rfl (Nat.le_of_ble_eq_true rfl) ly_10 (H.mono (fun v1 h1 H => ?_)) ⟨Nat.le_refl _, Nat.le_refl _⟩
  obtain ⟨tv1, H⟩ := H
  refine r_astore (ls2 := [some (.ref 2759), some (.int x1), some (.ref a2), some (.ref a3), some (.int x4), some (.ref v1), none, none, none, none, none]) dX10_combine_35 (by decide) rfl ?_
  refine r_aload_n dX10_combine_37 rfl rfl ?_
  refine k_VR (As := []) (stk := []) hp cv_X10_74 dX10_combine_38 rfl (Nat.le_of_ble_eq_true rfl) ly_10 (H.mono (fun v2 h2 H => ?_)) ⟨Nat.le_refl _, Nat.le_refl _⟩
  obtain ⟨tv2, H⟩ := H
  refine r_astore (ls2 := [some (.ref 2759), some (.int x1), some (.ref a2), some (.ref a3), some (.int x4), some (.ref v1), some (.ref v2), none, none, none, none]) dX10_combine_41 (by decide) rfl ?_
  refine r_aload_n dX10_combine_43 rfl rfl ?_
  refine k_VR (As := []) (stk := []) hp cv_X10_74 dX10_combine_44 rfl (Nat.le_of_ble_eq_true rfl) ly_10 (H.mono (fun v3 h3 H => ?_)) ⟨Nat.le_refl _, Nat.le_refl _⟩
  obtain ⟨tv3, H⟩ := H
  refine r_astore (ls2 := [some (.ref 2759), some (.int x1), some (.ref a2), some (.ref a3), some (.int x4), some (.ref v1), some (.ref v2), some (.ref v3), none, none, none]) dX10_combine_47 (by decide) rfl ?_
  refine r_aload_n dX10_combine_49 rfl rfl ?_
  refine r_iload dX10_combine_50 rfl ?_
  refine m_putI hp fw_X10_721 dX10_combine_52 rfl rfl ly_10 (fun h4 eh4 => ?_)
  replace H := H h4 eh4
  refine r_iconst (v := (0 : Int32)) dX10_combine_55 rfl ?_
  refine r_istore (ls2 := [some (.ref 2759), some (.int x1), some (.ref a2), some (.ref a3), some (.int x4), some (.ref v1), some (.ref v2), some (.ref v3), some (.int (0 : Int32)), none, none]) dX10_combine_56 (by decide) rfl ?_
  exact H
theorem s_X10_combine_58 {g : GX} {d : Nat} {av : List Value} {Q : QT} {n : Nat} {h : Hp} {x1 : Int32} {a2 : Nat} {a3 : Nat} {x4 : Int32} {a5 : Nat} {a6 : Nat} {a7 : Nat} {x8 : Int32} (hp : g.2.2.2.2 = true) (t2 : lay a2 = (0, 11, 15)) (t3 : lay a3 = (0, 11, 15)) (t5 : lay a5 = (0, 13, 2)) (t6 : lay a6 = (0, 13, 2)) (t7 : lay a7 = (0, 13, 2)) (H : (((7 : Int32) ≤ x8) → (CallR g m_X10_clear d [.ref 2759, .int (7 : Int32)] n h (fun v1 h1 => (lay v1 = (0, 13, 2) ∧ (W_X10_combine g d av Q n 278 [some (.ref 2759), some (.int x1), none, none, none, none, some (.ref a6), some (.ref a7), some (.ref v1), some (.int (1 : Int32)), none] [] h1))))) ∧ ((¬ (7 : Int32) ≤ x8) → (((¬ x1 = (5 : Int32)) → (W_X10_combine g d av Q n 89 [some (.ref 2759), some (.int x1), some (.ref a2), some (.ref a3), some (.int x4), some (.ref a5), some (.ref a6), some (.ref a7), some (.int x8), none, none] [] h)) ∧ ((x1 = (5 : Int32)) → (CallV g m_X10_load_2 d [.ref a5, .ref (a3 + 1), .int (0 : Int32)] n h (fun h2 => (CallV g m_X10_shift d [.ref a5, .ref a5, .int x8] n h2 (fun h3 => (W_X10_combine g d av Q n 89 [some (.ref 2759), some (.int x1), some (.ref a2), some (.ref a3), some (.int x4), some (.ref a5), some (.ref a6), some (.ref a7), some (.int x8), none, none] [] h3))))))))) : W_X10_combine g d av Q n 58 [some (.ref 2759), some (.int x1), some (.ref a2), some (.ref a3), some (.int x4), some (.ref a5), some (.ref a6), some (.ref a7), some (.int x8), none, none] [] h := by
  refine r_iload dX10_combine_58 rfl ?_
  refine r_bipush (v := (7 : Int32)) dX10_combine_60 rfl ?_
  refine r_icmp_ge (tgt := 267) dX10_combine_62 rfl (fun cH => ?_) (fun cH => ?_)
  · replace H := H.1 cH
    refine r_aload_n dX10_combine_267 rfl rfl ?_
    refine r_bipush (v := (7 : Int32)) dX10_combine_268 rfl ?_
    refine k_VR (As := [.int (7 : Int32)]) (stk := []) hp cv_X10_735 dX10_combine_270 rfl (Nat.le_of_ble_eq_true rfl) ly_10 (H.mono (fun v1 h1 H => ?_)) ⟨Nat.le_refl _, Nat.le_refl _⟩
    obtain ⟨tv1, H⟩ := H
    refine r_astore (ls2 := [some (.ref 2759), some (.int x1), some (.ref a2), some (.ref a3), some (.int x4), some (.ref a5), some (.ref a6), some (.ref a7), some (.ref v1), none, none]) dX10_combine_273 (by decide) rfl ?_
    refine r_iconst (v := (1 : Int32)) dX10_combine_275 rfl ?_
    refine r_istore (ls2 := [some (.ref 2759), some (.int x1), some (.ref a2), some (.ref a3), some (.int x4), some (.ref a5), some (.ref a6), some (.ref a7), some (.ref v1), some (.int (1 : Int32)), none]) dX10_combine_276 (by decide) rfl ?_
    refine r_prune [true, true, false, false, false, false, true, true, true, true, false] (ls2 := [some (.ref 2759), some (.int x1), none, none, none, none, some (.ref a6), some (.ref a7), some (.ref v1), some (.int (1 : Int32)), none]) rfl ?_
    exact H
  · replace H := H.2 cH
    refine r_iload_n dX10_combine_65 rfl rfl ?_
    refine r_iconst (v := (5 : Int32)) dX10_combine_66 rfl ?_
    refine r_icmp_ne (tgt := 89) dX10_combine_67 rfl (fun cH => ?_) (fun cH => ?_)
    · replace H := H.1 cH
      exact H
    · replace H := H.2 cH
      refine r_aload dX10_combine_70 rfl ?_
      refine r_aload_n dX10_combine_72 rfl rfl ?_
      refine m_getF (x := (a3 + 1)) hp fw_X10_207 dX10_combine_73 rfl t3 (ff_11_1 t3) ?_
      refine r_iconst (v := (0 : Int32)) dX10_combine_76 rfl ?_
      refine k_SV (As := [.ref a5, .ref (a3 + 1), .int (0 : Int32)]) (stk := []) cs_X10_775 dX10_combine_77 rfl (Nat.le_of_ble_eq_true rfl) (H.mono (fun h2 H => ?_)) ⟨Nat.le_refl _, Nat.le_refl _⟩
      refine r_aload dX10_combine_80 rfl ?_
      refine r_aload dX10_combine_82 rfl ?_
      refine r_iload dX10_combine_84 rfl ?_
      refine k_SV (As := [.ref a5, .ref a5, .int x8]) (stk := []) cs_X10_116 dX10_combine_86 rfl (Nat.le_of_ble_eq_true rfl) (H.mono (fun h3 H => ?_)) ⟨Nat.le_refl _, Nat.le_refl _⟩
      exact H
theorem s_X10_combine_89 {g : GX} {d : Nat} {av : List Value} {Q : QT} {n : Nat} {h : Hp} {x1 : Int32} {a2 : Nat} {a3 : Nat} {x4 : Int32} {a5 : Nat} {a6 : Nat} {a7 : Nat} {x8 : Int32} (hp : g.2.2.2.2 = true) (t2 : lay a2 = (0, 11, 15)) (t3 : lay a3 = (0, 11, 15)) (t5 : lay a5 = (0, 13, 2)) (t6 : lay a6 = (0, 13, 2)) (t7 : lay a7 = (0, 13, 2)) (H : W_X10_combine g d av Q n 92 [some (.ref 2759), some (.int x1), some (.ref a2), some (.ref a3), some (.int x4), some (.ref a5), some (.ref a6), some (.ref a7), some (.int x8), some (.int (0 : Int32)), none] [] h) : W_X10_combine g d av Q n 89 [some (.ref 2759), some (.int x1), some (.ref a2), some (.ref a3), some (.int x4), some (.ref a5), some (.ref a6), some (.ref a7), some (.int x8), none, none] [] h := by
  refine r_iconst (v := (0 : Int32)) dX10_combine_89 rfl ?_
  refine r_istore (ls2 := [some (.ref 2759), some (.int x1), some (.ref a2), some (.ref a3), some (.int x4), some (.ref a5), some (.ref a6), some (.ref a7), some (.int x8), some (.int (0 : Int32)), none]) dX10_combine_90 (by decide) rfl ?_
  exact H
theorem s_X10_combine_92 {g : GX} {d : Nat} {av : List Value} {Q : QT} {n : Nat} {h : Hp} {x1 : Int32} {a2 : Nat} {a3 : Nat} {x4 : Int32} {a5 : Nat} {a6 : Nat} {a7 : Nat} {x8 : Int32} {x9 : Int32} (hp : g.2.2.2.2 = true) (t2 : lay a2 = (0, 11, 15)) (t3 : lay a3 = (0, 11, 15)) (t5 : lay a5 = (0, 13, 2)) (t6 : lay a6 = (0, 13, 2)) (t7 : lay a7 = (0, 13, 2)) (H : ((x4 ≤ x9) → (W_X10_combine g d av Q n 58 [some (.ref 2759), some (.int x1), some (.ref a2), some (.ref a3), some (.int x4), some (.ref a5), some (.ref a6), some (.ref a7), some (.int (x8 + (1 : Int32))), none, none] [] h)) ∧ ((¬ x4 ≤ x9) → (vp_in x9 26 ∧ ∃ r1 Lr1, rr h 2908 (x9).toNatClampNeg = some r1 ∧ (lay r1 = (2, Lr1, 10) ∧ r1 < N0) ∧ (vp_in x8 Lr1 ∧ ∃ r2, rr h r1 (x8).toNatClampNeg = some r2 ∧ lay r2 = (0, 13, 2) ∧ (((¬ x1 = (5 : Int32)) → (((¬ x1 = (2 : Int32)) → ((((ri h a2 10) ≤ x9) → (vp_in x8 7 ∧ ∀ r3, r3 = 2962 + 1 * (x8).toNatClampNeg → (vp_in (x9 - (ri h a2 10)) 6 ∧ ∃ r4, rr h r3 ((x9 - (ri h a2 10))).toNatClampNeg = some r4 ∧ lay r4 = (0, 13, 2) ∧ (vp_in x8 7 ∧ ∃ r5, rr h 2969 (x8).toNatClampNeg = some r5 ∧ lay r5 = (0, 13, 2) ∧ (CallV g m_X10_times_2 d [.ref r2, .ref r4, .ref r5] n h (fun h6 => (((¬ x1 = (1 : Int32)) → (W_X10_combine g d av Q n 255 [some (.ref 2759), some (.int x1), some (.ref a2), some (.ref a3), some (.int x4), some (.ref a5), some (.ref a6), some (.ref a7), some (.int x8), some (.int x9), none] [] h6)) ∧ ((x1 = (1 : Int32)) → (CallV g m_X10_scale_2 d [.ref r2, .ref r2, .int (2147483646 : Int32)] n h6 (fun h7 => (W_X10_combine g d av Q n 255 [some (.ref 2759), some (.int x1), some (.ref a2), some (.ref a3), some (.int x4), some (.ref a5), some (.ref a6), some (.ref a7), some (.int x8), some (.int x9), none] [] h7))))))))))) ∧ ((¬ (ri h a2 10) ≤ x9) → (vp_in x8 7 ∧ ∀ r8, r8 = 2954 + 1 * (x8).toNatClampNeg → (vp_in x9 6 ∧ ∃ r9, rr h r8 (x9).toNatClampNeg = some r9 ∧ lay r9 = (0, 13, 2) ∧ (vp_in x8 7 ∧ ∃ r10, rr h 2970 (x8).toNatClampNeg = some r10 ∧ lay r10 = (0, 13, 2) ∧ (CallV g m_X10_times_2 d [.ref r2, .ref r9, .ref r10] n h (fun h11 => (W_X10_combine g d av Q n 255 [some (.ref 2759), some (.int x1), some (.ref a2), some (.ref a3), some (.int x4), some (.ref a5), some (.ref a6), some (.ref a7), some (.int x8), some (.int x9), none] [] h11))))))))) ∧ ((x1 = (2 : Int32)) → (vp_in x8 7 ∧ ∀ r12, r12 = 2954 + 1 * (x8).toNatClampNeg → ((¬ (ri h a3 10) = 0) ∧ (vp_in (x9 / (ri h a3 10)) 6 ∧ ∃ r13, rr h r12 ((x9 / (ri h a3 10))).toNatClampNeg = some r13 ∧ lay r13 = (0, 13, 2) ∧ (vp_in x8 7 ∧ ∀ r14, r14 = 2962 + 1 * (x8).toNatClampNeg → ((¬ (ri h a3 10) = 0) ∧ (vp_in (x9 - x9 / (ri h a3 10) * (ri h a3 10)) 6 ∧ ∃ r15, rr h r14 ((x9 - x9 / (ri h a3 10) * (ri h a3 10))).toNatClampNeg = some r15 ∧ lay r15 = (0, 13, 2) ∧ (CallV g m_X10_times_2 d [.ref r2, .ref r13, .ref r15] n h (fun h16 => (W_X10_combine g d av Q n 255 [some (.ref 2759), some (.int x1), some (.ref a2), some (.ref a3), some (.int x4), some (.ref a5), some (.ref a6), some (.ref a7), some (.int x8), some (.int x9), none] [] h16)))))))))))) ∧ ((x1 = (5 : Int32)) → (vp_in x8 7 ∧ ∀ r17, r17 = 2954 + 1 * (x8).toNatClampNeg → (vp_in x9 6 ∧ ∃ r18, rr h r17 (x9).toNatClampNeg = some r18 ∧ lay r18 = (0, 13, 2) ∧ (CallV g m_X10_times_2 d [.ref r2, .ref r18, .ref a5] n h (fun h19 => (W_X10_combine g d av Q n 255 [some (.ref 2759), some (.int x1), some (.ref a2), some (.ref a3), some (.int x4), some (.ref a5), some (.ref a6), some (.ref a7), some (.int x8), some (.int x9), none] [] h19))))))))))) : W_X10_combine g d av Q n 92 [some (.ref 2759), some (.int x1), some (.ref a2), some (.ref a3), some (.int x4), some (.ref a5), some (.ref a6), some (.ref a7), some (.int x8), some (.int x9), none] [] h := by
  refine r_iload dX10_combine_92 rfl ?_
  refine r_iload dX10_combine_94 rfl ?_
  refine r_icmp_ge (tgt := 261) dX10_combine_96 rfl (fun cH => ?_) (fun cH => ?_)
  · replace H := H.1 cH
    refine r_iinc (v := (x8 + (1 : Int32))) (ls2 := [some (.ref 2759), some (.int x1), some (.ref a2), some (.ref a3), some (.int x4), some (.ref a5), some (.ref a6), some (.ref a7), some (.int (x8 + (1 : Int32))), some (.int x9), none]) dX10_combine_261 rfl rfl (by decide) rfl ?_
    refine r_goto (tgt := 58) dX10_combine_264 rfl ?_
    refine r_prune [true, true, true, true, true, true, true, true, true, false, false] (ls2 := [some (.ref 2759), some (.int x1), some (.ref a2), some (.ref a3), some (.int x4), some (.ref a5), some (.ref a6), some (.ref a7), some (.int (x8 + (1 : Int32))), none, none]) rfl ?_
    exact H
  · replace H := H.2 cH
    refine r_aload_n dX10_combine_99 rfl rfl ?_
    refine m_getF (x := 2908) hp fw_X10_487 dX10_combine_100 rfl ly_10 (ff_10_44 ly_10) ?_
    refine r_iload dX10_combine_103 rfl ?_
    have hir1 := H.1
    obtain ⟨r1, Lr1, er1, tr1, H⟩ := H.2
    refine m_aalM (x := r1) hp dX10_combine_105 (lf_10_44 ly_10) rfl rfl (lu_10_44 ly_10) hir1 er1 ?_
    refine r_iload dX10_combine_106 rfl ?_
    have hir2 := H.1
    obtain ⟨r2, er2, tr2, H⟩ := H.2
    refine m_aalM (x := r2) hp dX10_combine_108 tr1.1 rfl rfl tr1.2 hir2 er2 ?_
    refine r_astore (ls2 := [some (.ref 2759), some (.int x1), some (.ref a2), some (.ref a3), some (.int x4), some (.ref a5), some (.ref a6), some (.ref a7), some (.int x8), some (.int x9), some (.ref r2)]) dX10_combine_109 (by decide) rfl ?_
    refine r_iload_n dX10_combine_111 rfl rfl ?_
    refine r_iconst (v := (5 : Int32)) dX10_combine_112 rfl ?_
    refine r_icmp_ne (tgt := 136) dX10_combine_113 rfl (fun cH => ?_) (fun cH => ?_)
    · replace H := H.1 cH
      refine r_iload_n dX10_combine_136 rfl rfl ?_
      refine r_iconst (v := (2 : Int32)) dX10_combine_137 rfl ?_
      refine r_icmp_ne (tgt := 179) dX10_combine_138 rfl (fun cH => ?_) (fun cH => ?_)
      · replace H := H.1 cH
        refine r_iload dX10_combine_179 rfl ?_
        refine r_aload_n dX10_combine_181 rfl rfl ?_
        refine m_getI hp fw_X10_234 dX10_combine_182 rfl t2 ?_
        refine r_icmp_ge (tgt := 213) dX10_combine_185 rfl (fun cH => ?_) (fun cH => ?_)
        · replace H := H.1 cH
          refine r_aload dX10_combine_213 rfl ?_
          refine r_aload_n dX10_combine_215 rfl rfl ?_
          refine m_getF (x := 2961) hp fw_X10_523 dX10_combine_216 rfl ly_10 (ff_10_57 ly_10) ?_
          refine r_iload dX10_combine_219 rfl ?_
          obtain ⟨r3, er3⟩ : ∃ y, y = 2962 + 1 * (x8).toNatClampNeg := ⟨_, rfl⟩
          have hir3 := H.1
          replace H := H.2 r3 er3
          have tLr3 := la_2961 hir3 er3
          have tUr3 := lau_2961 hir3 er3
          refine m_aalF (x := r3) hp dX10_combine_221 (lf_10_57 ly_10) rfl rfl (lu_10_57 ly_10) hir3 (fa_2961 hir3 er3) ?_
          refine r_iload dX10_combine_222 rfl ?_
          refine r_aload_n dX10_combine_224 rfl rfl ?_
          refine m_getI hp fw_X10_234 dX10_combine_225 rfl t2 ?_
          refine r_isub dX10_combine_228 ?_
          have hir4 := H.1
          obtain ⟨r4, er4, tr4, H⟩ := H.2
          refine m_aalM (x := r4) hp dX10_combine_229 tLr3 rfl rfl tUr3 hir4 er4 ?_
          refine r_aload_n dX10_combine_230 rfl rfl ?_
          refine m_getF (x := 2969) hp fw_X10_526 dX10_combine_231 rfl ly_10 (ff_10_58 ly_10) ?_
          refine r_iload dX10_combine_234 rfl ?_
          have hir5 := H.1
          obtain ⟨r5, er5, tr5, H⟩ := H.2
          refine m_aalM (x := r5) hp dX10_combine_236 (lf_10_58 ly_10) rfl rfl (lu_10_58 ly_10) hir5 er5 ?_
          refine k_SV (As := [.ref r2, .ref r4, .ref r5]) (stk := []) cs_X10_106 dX10_combine_237 rfl (Nat.le_of_ble_eq_true rfl) (H.mono (fun h6 H => ?_)) ⟨Nat.le_refl _, Nat.le_refl _⟩
          refine r_iload_n dX10_combine_240 rfl rfl ?_
          refine r_iconst (v := (1 : Int32)) dX10_combine_241 rfl ?_
          refine r_icmp_ne (tgt := 255) dX10_combine_242 rfl (fun cH => ?_) (fun cH => ?_)
          · replace H := H.1 cH
            refine r_prune [true, true, true, true, true, true, true, true, true, true, false] (ls2 := [some (.ref 2759), some (.int x1), some (.ref a2), some (.ref a3), some (.int x4), some (.ref a5), some (.ref a6), some (.ref a7), some (.int x8), some (.int x9), none]) rfl ?_
            exact H
          · replace H := H.2 cH
            refine r_aload dX10_combine_245 rfl ?_
            refine r_aload dX10_combine_247 rfl ?_
            refine r_ldcw (own := "") (v := (2147483646 : Int32)) dX10_combine_249 q2644 ?_
            refine k_SV (As := [.ref r2, .ref r2, .int (2147483646 : Int32)]) (stk := []) cs_X10_70 dX10_combine_252 rfl (Nat.le_of_ble_eq_true rfl) (H.mono (fun h7 H => ?_)) ⟨Nat.le_refl _, Nat.le_refl _⟩
            refine r_prune [true, true, true, true, true, true, true, true, true, true, false] (ls2 := [some (.ref 2759), some (.int x1), some (.ref a2), some (.ref a3), some (.int x4), some (.ref a5), some (.ref a6), some (.ref a7), some (.int x8), some (.int x9), none]) rfl ?_
            exact H
        · replace H := H.2 cH
          refine r_aload dX10_combine_188 rfl ?_
          refine r_aload_n dX10_combine_190 rfl rfl ?_
          refine m_getF (x := 2953) hp fw_X10_520 dX10_combine_191 rfl ly_10 (ff_10_56 ly_10) ?_
          refine r_iload dX10_combine_194 rfl ?_
          obtain ⟨r8, er8⟩ : ∃ y, y = 2954 + 1 * (x8).toNatClampNeg := ⟨_, rfl⟩
          have hir8 := H.1
          replace H := H.2 r8 er8
          have tLr8 := la_2953 hir8 er8
          have tUr8 := lau_2953 hir8 er8
          refine m_aalF (x := r8) hp dX10_combine_196 (lf_10_56 ly_10) rfl rfl (lu_10_56 ly_10) hir8 (fa_2953 hir8 er8) ?_
          refine r_iload dX10_combine_197 rfl ?_
          have hir9 := H.1
          obtain ⟨r9, er9, tr9, H⟩ := H.2
          refine m_aalM (x := r9) hp dX10_combine_199 tLr8 rfl rfl tUr8 hir9 er9 ?_
          refine r_aload_n dX10_combine_200 rfl rfl ?_
          refine m_getF (x := 2970) hp fw_X10_529 dX10_combine_201 rfl ly_10 (ff_10_59 ly_10) ?_
          refine r_iload dX10_combine_204 rfl ?_
          have hir10 := H.1
          obtain ⟨r10, er10, tr10, H⟩ := H.2
          refine m_aalM (x := r10) hp dX10_combine_206 (lf_10_59 ly_10) rfl rfl (lu_10_59 ly_10) hir10 er10 ?_
          refine k_SV (As := [.ref r2, .ref r9, .ref r10]) (stk := []) cs_X10_106 dX10_combine_207 rfl (Nat.le_of_ble_eq_true rfl) (H.mono (fun h11 H => ?_)) ⟨Nat.le_refl _, Nat.le_refl _⟩
          refine r_goto (tgt := 255) dX10_combine_210 rfl ?_
          refine r_prune [true, true, true, true, true, true, true, true, true, true, false] (ls2 := [some (.ref 2759), some (.int x1), some (.ref a2), some (.ref a3), some (.int x4), some (.ref a5), some (.ref a6), some (.ref a7), some (.int x8), some (.int x9), none]) rfl ?_
          exact H
      · replace H := H.2 cH
        refine r_aload dX10_combine_141 rfl ?_
        refine r_aload_n dX10_combine_143 rfl rfl ?_
        refine m_getF (x := 2953) hp fw_X10_520 dX10_combine_144 rfl ly_10 (ff_10_56 ly_10) ?_
        refine r_iload dX10_combine_147 rfl ?_
        obtain ⟨r12, er12⟩ : ∃ y, y = 2954 + 1 * (x8).toNatClampNeg := ⟨_, rfl⟩
        have hir12 := H.1
        replace H := H.2 r12 er12
        have tLr12 := la_2953 hir12 er12
        have tUr12 := lau_2953 hir12 er12
        refine m_aalF (x := r12) hp dX10_combine_149 (lf_10_56 ly_10) rfl rfl (lu_10_56 ly_10) hir12 (fa_2953 hir12 er12) ?_
        refine r_iload dX10_combine_150 rfl ?_
        refine r_aload_n dX10_combine_152 rfl rfl ?_
        refine m_getI hp fw_X10_234 dX10_combine_153 rfl t3 ?_
        refine r_idiv dX10_combine_156 H.1 ?_
        replace H := H.2
        have hir13 := H.1
        obtain ⟨r13, er13, tr13, H⟩ := H.2
        refine m_aalM (x := r13) hp dX10_combine_157 tLr12 rfl rfl tUr12 hir13 er13 ?_
        refine r_aload_n dX10_combine_158 rfl rfl ?_
        refine m_getF (x := 2961) hp fw_X10_523 dX10_combine_159 rfl ly_10 (ff_10_57 ly_10) ?_
        refine r_iload dX10_combine_162 rfl ?_
        obtain ⟨r14, er14⟩ : ∃ y, y = 2962 + 1 * (x8).toNatClampNeg := ⟨_, rfl⟩
        have hir14 := H.1
        replace H := H.2 r14 er14
        have tLr14 := la_2961 hir14 er14
        have tUr14 := lau_2961 hir14 er14
        refine m_aalF (x := r14) hp dX10_combine_164 (lf_10_57 ly_10) rfl rfl (lu_10_57 ly_10) hir14 (fa_2961 hir14 er14) ?_
        refine r_iload dX10_combine_165 rfl ?_
        refine r_aload_n dX10_combine_167 rfl rfl ?_
        refine m_getI hp fw_X10_234 dX10_combine_168 rfl t3 ?_
        refine r_irem dX10_combine_171 H.1 ?_
        replace H := H.2
        have hir15 := H.1
        obtain ⟨r15, er15, tr15, H⟩ := H.2
        refine m_aalM (x := r15) hp dX10_combine_172 tLr14 rfl rfl tUr14 hir15 er15 ?_
        refine k_SV (As := [.ref r2, .ref r13, .ref r15]) (stk := []) cs_X10_106 dX10_combine_173 rfl (Nat.le_of_ble_eq_true rfl) (H.mono (fun h16 H => ?_)) ⟨Nat.le_refl _, Nat.le_refl _⟩
        refine r_goto (tgt := 255) dX10_combine_176 rfl ?_
        refine r_prune [true, true, true, true, true, true, true, true, true, true, false] (ls2 := [some (.ref 2759), some (.int x1), some (.ref a2), some (.ref a3), some (.int x4), some (.ref a5), some (.ref a6), some (.ref a7), some (.int x8), some (.int x9), none]) rfl ?_
        exact H
    · replace H := H.2 cH
      refine r_aload dX10_combine_116 rfl ?_
      refine r_aload_n dX10_combine_118 rfl rfl ?_
      refine m_getF (x := 2953) hp fw_X10_520 dX10_combine_119 rfl ly_10 (ff_10_56 ly_10) ?_
      refine r_iload dX10_combine_122 rfl ?_
      obtain ⟨r17, er17⟩ : ∃ y, y = 2954 + 1 * (x8).toNatClampNeg := ⟨_, rfl⟩
      have hir17 := H.1
      replace H := H.2 r17 er17
      have tLr17 := la_2953 hir17 er17
      have tUr17 := lau_2953 hir17 er17
      refine m_aalF (x := r17) hp dX10_combine_124 (lf_10_56 ly_10) rfl rfl (lu_10_56 ly_10) hir17 (fa_2953 hir17 er17) ?_
      refine r_iload dX10_combine_125 rfl ?_
      have hir18 := H.1
      obtain ⟨r18, er18, tr18, H⟩ := H.2
      refine m_aalM (x := r18) hp dX10_combine_127 tLr17 rfl rfl tUr17 hir18 er18 ?_
      refine r_aload dX10_combine_128 rfl ?_
      refine k_SV (As := [.ref r2, .ref r18, .ref a5]) (stk := []) cs_X10_106 dX10_combine_130 rfl (Nat.le_of_ble_eq_true rfl) (H.mono (fun h19 H => ?_)) ⟨Nat.le_refl _, Nat.le_refl _⟩
      refine r_goto (tgt := 255) dX10_combine_133 rfl ?_
      refine r_prune [true, true, true, true, true, true, true, true, true, true, false] (ls2 := [some (.ref 2759), some (.int x1), some (.ref a2), some (.ref a3), some (.int x4), some (.ref a5), some (.ref a6), some (.ref a7), some (.int x8), some (.int x9), none]) rfl ?_
      exact H
theorem s_X10_combine_255 {g : GX} {d : Nat} {av : List Value} {Q : QT} {n : Nat} {h : Hp} {x1 : Int32} {a2 : Nat} {a3 : Nat} {x4 : Int32} {a5 : Nat} {a6 : Nat} {a7 : Nat} {x8 : Int32} {x9 : Int32} (hp : g.2.2.2.2 = true) (t2 : lay a2 = (0, 11, 15)) (t3 : lay a3 = (0, 11, 15)) (t5 : lay a5 = (0, 13, 2)) (t6 : lay a6 = (0, 13, 2)) (t7 : lay a7 = (0, 13, 2)) (H : W_X10_combine g d av Q n 92 [some (.ref 2759), some (.int x1), some (.ref a2), some (.ref a3), some (.int x4), some (.ref a5), some (.ref a6), some (.ref a7), some (.int x8), some (.int (x9 + (1 : Int32))), none] [] h) : W_X10_combine g d av Q n 255 [some (.ref 2759), some (.int x1), some (.ref a2), some (.ref a3), some (.int x4), some (.ref a5), some (.ref a6), some (.ref a7), some (.int x8), some (.int x9), none] [] h := by
  refine r_iinc (v := (x9 + (1 : Int32))) (ls2 := [some (.ref 2759), some (.int x1), some (.ref a2), some (.ref a3), some (.int x4), some (.ref a5), some (.ref a6), some (.ref a7), some (.int x8), some (.int (x9 + (1 : Int32))), none]) dX10_combine_255 rfl rfl (by decide) rfl ?_
  refine r_goto (tgt := 92) dX10_combine_258 rfl ?_
  exact H
theorem s_X10_combine_278 {g : GX} {d : Nat} {av : List Value} {Q : QT} {n : Nat} {h : Hp} {x1 : Int32} {a6 : Nat} {a7 : Nat} {a8 : Nat} {x9 : Int32} (hp : g.2.2.2.2 = true) (t6 : lay a6 = (0, 13, 2)) (t7 : lay a7 = (0, 13, 2)) (t8 : lay a8 = (0, 13, 2)) (H : vp_in x9 14 ∧ ((((ri h 2936 (x9).toNatClampNeg) = (0 : Int32)) → (CallV g m_X10_solveBy d [.ref 2759, .int x9, .int (7 : Int32), .ref a8] n h (fun h1 => (W_X10_combine g d av Q n 307 [some (.ref 2759), some (.int x1), none, none, none, none, some (.ref a6), some (.ref a7), none, some (.int x9), some (.int (0 : Int32))] [] h1)))) ∧ ((¬ (ri h 2936 (x9).toNatClampNeg) = (0 : Int32)) → (W_X10_combine g d av Q n 278 [some (.ref 2759), some (.int x1), none, none, none, none, some (.ref a6), some (.ref a7), some (.ref a8), some (.int (x9 + (1 : Int32))), none] [] h)))) : W_X10_combine g d av Q n 278 [some (.ref 2759), some (.int x1), none, none, none, none, some (.ref a6), some (.ref a7), some (.ref a8), some (.int x9), none] [] h := by
  refine r_aload_n dX10_combine_278 rfl rfl ?_
  refine m_getF (x := 2936) hp fw_X10_493 dX10_combine_279 rfl ly_10 (ff_10_46 ly_10) ?_
  refine r_iload dX10_combine_282 rfl ?_
  refine m_zald hp dX10_combine_284 (lf_10_46 ly_10) H.1 ?_
  replace H := H.2
  refine r_if_eq (tgt := 294) dX10_combine_285 rfl (fun cH => ?_) (fun cH => ?_)
  · replace H := H.1 cH
    refine r_aload_n dX10_combine_294 rfl rfl ?_
    refine r_iload dX10_combine_295 rfl ?_
    refine r_bipush (v := (7 : Int32)) dX10_combine_297 rfl ?_
    refine r_aload dX10_combine_299 rfl ?_
    refine k_VV (As := [.int x9, .int (7 : Int32), .ref a8]) (stk := []) hp cv_X10_739 dX10_combine_301 rfl (Nat.le_of_ble_eq_true rfl) ly_10 (H.mono (fun h1 H => ?_)) ⟨Nat.le_refl _, Nat.le_refl _⟩
    refine r_iconst (v := (0 : Int32)) dX10_combine_304 rfl ?_
    refine r_istore (ls2 := [some (.ref 2759), some (.int x1), none, none, none, none, some (.ref a6), some (.ref a7), some (.ref a8), some (.int x9), some (.int (0 : Int32))]) dX10_combine_305 (by decide) rfl ?_
    refine r_prune [true, true, false, false, false, false, true, true, false, true, true] (ls2 := [some (.ref 2759), some (.int x1), none, none, none, none, some (.ref a6), some (.ref a7), none, some (.int x9), some (.int (0 : Int32))]) rfl ?_
    exact H
  · replace H := H.2 cH
    refine r_iinc (v := (x9 + (1 : Int32))) (ls2 := [some (.ref 2759), some (.int x1), none, none, none, none, some (.ref a6), some (.ref a7), some (.ref a8), some (.int (x9 + (1 : Int32))), none]) dX10_combine_288 rfl rfl (by decide) rfl ?_
    refine r_goto (tgt := 278) dX10_combine_291 rfl ?_
    exact H
theorem s_X10_combine_307 {g : GX} {d : Nat} {av : List Value} {Q : QT} {n : Nat} {h : Hp} {x1 : Int32} {a6 : Nat} {a7 : Nat} {x9 : Int32} {x10 : Int32} (hp : g.2.2.2.2 = true) (t6 : lay a6 = (0, 13, 2)) (t7 : lay a7 = (0, 13, 2)) (H : ((x9 < x10) → (Q (some (.int x9)) n h)) ∧ ((¬ x9 < x10) → (CallR g m_X10_newU d [.ref 2759] n h (fun v1 h1 => (lay v1 = (0, 13, 2) ∧ (vp_in x10 8 ∧ fin 2952 (x10).toNatClampNeg = none ∧ ∀ h2, h2 = wr h1 2952 (x10).toNatClampNeg (some v1) → (vp_in x10 7 ∧ ∃ r3, rr h2 2969 (x10).toNatClampNeg = some r3 ∧ lay r3 = (0, 13, 2) ∧ (CallV g m_X10_set_2 d [.ref a6, .ref r3] n h2 (fun h4 => ((((2 : Int32) < x1) → (W_X10_combine g d av Q n 363 [some (.ref 2759), some (.int x1), none, none, none, none, some (.ref a6), some (.ref a7), none, some (.int x9), some (.int x10)] [] h4)) ∧ ((¬ (2 : Int32) < x1) → (vp_in x10 7 ∧ ∃ r5, rr h4 2970 (x10).toNatClampNeg = some r5 ∧ lay r5 = (0, 13, 2) ∧ (CallV g m_X10_times_2 d [.ref a7, .ref a6, .ref r5] n h4 (fun h6 => (CallV g m_X10_set_2 d [.ref a6, .ref a7] n h6 (fun h7 => (W_X10_combine g d av Q n 363 [some (.ref 2759), some (.int x1), none, none, none, none, some (.ref a6), some (.ref a7), none, some (.int x9), some (.int x10)] [] h7))))))))))))))))) : W_X10_combine g d av Q n 307 [some (.ref 2759), some (.int x1), none, none, none, none, some (.ref a6), some (.ref a7), none, some (.int x9), some (.int x10)] [] h := by
  refine r_iload dX10_combine_307 rfl ?_
  refine r_iload dX10_combine_309 rfl ?_
  refine r_icmp_gt (tgt := 395) dX10_combine_311 rfl (fun cH => ?_) (fun cH => ?_)
  · replace H := H.1 cH
    refine r_iload dX10_combine_395 rfl ?_
    exact r_zret dX10_combine_397 rfl rfl (Nat.le_refl _) (Nat.le_refl _) H
  · replace H := H.2 cH
    refine r_aload_n dX10_combine_314 rfl rfl ?_
    refine m_getF (x := 2952) hp fw_X10_517 dX10_combine_315 rfl ly_10 (ff_10_55 ly_10) ?_
    refine r_iload dX10_combine_318 rfl ?_
    refine r_aload_n dX10_combine_320 rfl rfl ?_
    refine k_VR (As := []) (stk := [.int x10, .ref 2952]) hp cv_X10_74 dX10_combine_321 rfl (Nat.le_of_ble_eq_true rfl) ly_10 (H.mono (fun v1 h1 H => ?_)) ⟨Nat.le_refl _, Nat.le_refl _⟩
    obtain ⟨tv1, H⟩ := H
    refine m_aast (nf := 0) hp dX10_combine_324 (lf_10_55 ly_10) rfl (cw13).1 tv1 (lu_10_55 ly_10) H.1 H.2.1 (fun h2 eh2 => ?_)
    replace H := H.2.2 h2 eh2
    refine r_aload dX10_combine_325 rfl ?_
    refine r_aload_n dX10_combine_327 rfl rfl ?_
    refine m_getF (x := 2969) hp fw_X10_526 dX10_combine_328 rfl ly_10 (ff_10_58 ly_10) ?_
    refine r_iload dX10_combine_331 rfl ?_
    have hir3 := H.1
    obtain ⟨r3, er3, tr3, H⟩ := H.2
    refine m_aalM (x := r3) hp dX10_combine_333 (lf_10_58 ly_10) rfl rfl (lu_10_58 ly_10) hir3 er3 ?_
    refine k_SV (As := [.ref a6, .ref r3]) (stk := []) cs_X10_62 dX10_combine_334 rfl (Nat.le_of_ble_eq_true rfl) (H.mono (fun h4 H => ?_)) ⟨Nat.le_refl _, Nat.le_refl _⟩
    refine r_iload_n dX10_combine_337 rfl rfl ?_
    refine r_iconst (v := (2 : Int32)) dX10_combine_338 rfl ?_
    refine r_icmp_gt (tgt := 363) dX10_combine_339 rfl (fun cH => ?_) (fun cH => ?_)
    · replace H := H.1 cH
      exact H
    · replace H := H.2 cH
      refine r_aload dX10_combine_342 rfl ?_
      refine r_aload dX10_combine_344 rfl ?_
      refine r_aload_n dX10_combine_346 rfl rfl ?_
      refine m_getF (x := 2970) hp fw_X10_529 dX10_combine_347 rfl ly_10 (ff_10_59 ly_10) ?_
      refine r_iload dX10_combine_350 rfl ?_
      have hir5 := H.1
      obtain ⟨r5, er5, tr5, H⟩ := H.2
      refine m_aalM (x := r5) hp dX10_combine_352 (lf_10_59 ly_10) rfl rfl (lu_10_59 ly_10) hir5 er5 ?_
      refine k_SV (As := [.ref a7, .ref a6, .ref r5]) (stk := []) cs_X10_106 dX10_combine_353 rfl (Nat.le_of_ble_eq_true rfl) (H.mono (fun h6 H => ?_)) ⟨Nat.le_refl _, Nat.le_refl _⟩
      refine r_aload dX10_combine_356 rfl ?_
      refine r_aload dX10_combine_358 rfl ?_
      refine k_SV (As := [.ref a6, .ref a7]) (stk := []) cs_X10_62 dX10_combine_360 rfl (Nat.le_of_ble_eq_true rfl) (H.mono (fun h7 H => ?_)) ⟨Nat.le_refl _, Nat.le_refl _⟩
      exact H
theorem s_X10_combine_363 {g : GX} {d : Nat} {av : List Value} {Q : QT} {n : Nat} {h : Hp} {x1 : Int32} {a6 : Nat} {a7 : Nat} {x9 : Int32} {x10 : Int32} (hp : g.2.2.2.2 = true) (t6 : lay a6 = (0, 13, 2)) (t7 : lay a7 = (0, 13, 2)) (H : vp_in x10 14 ∧ ∃ r1, rr h 2935 (x10).toNatClampNeg = some r1 ∧ lay r1 = (0, 13, 2) ∧ (CallV g m_X10_times_2 d [.ref a7, .ref r1, .ref a6] n h (fun h2 => (vp_in x10 8 ∧ ∃ r3, rr h2 2952 (x10).toNatClampNeg = some r3 ∧ lay r3 = (0, 13, 2) ∧ (CallV g m_X10_set_2 d [.ref r3, .ref a7] n h2 (fun h4 => (W_X10_combine g d av Q n 307 [some (.ref 2759), some (.int x1), none, none, none, none, some (.ref a6), some (.ref a7), none, some (.int x9), some (.int (x10 + (1 : Int32)))] [] h4))))))) : W_X10_combine g d av Q n 363 [some (.ref 2759), some (.int x1), none, none, none, none, some (.ref a6), some (.ref a7), none, some (.int x9), some (.int x10)] [] h := by
  refine r_aload dX10_combine_363 rfl ?_
  refine r_aload_n dX10_combine_365 rfl rfl ?_
  refine m_getF (x := 2935) hp fw_X10_490 dX10_combine_366 rfl ly_10 (ff_10_45 ly_10) ?_
  refine r_iload dX10_combine_369 rfl ?_
  have hir1 := H.1
  obtain ⟨r1, er1, tr1, H⟩ := H.2
  refine m_aalM (x := r1) hp dX10_combine_371 (lf_10_45 ly_10) rfl rfl (lu_10_45 ly_10) hir1 er1 ?_
  refine r_aload dX10_combine_372 rfl ?_
  refine k_SV (As := [.ref a7, .ref r1, .ref a6]) (stk := []) cs_X10_106 dX10_combine_374 rfl (Nat.le_of_ble_eq_true rfl) (H.mono (fun h2 H => ?_)) ⟨Nat.le_refl _, Nat.le_refl _⟩
  refine r_aload_n dX10_combine_377 rfl rfl ?_
  refine m_getF (x := 2952) hp fw_X10_517 dX10_combine_378 rfl ly_10 (ff_10_55 ly_10) ?_
  refine r_iload dX10_combine_381 rfl ?_
  have hir3 := H.1
  obtain ⟨r3, er3, tr3, H⟩ := H.2
  refine m_aalM (x := r3) hp dX10_combine_383 (lf_10_55 ly_10) rfl rfl (lu_10_55 ly_10) hir3 er3 ?_
  refine r_aload dX10_combine_384 rfl ?_
  refine k_SV (As := [.ref r3, .ref a7]) (stk := []) cs_X10_62 dX10_combine_386 rfl (Nat.le_of_ble_eq_true rfl) (H.mono (fun h4 H => ?_)) ⟨Nat.le_refl _, Nat.le_refl _⟩
  refine r_iinc (v := (x10 + (1 : Int32))) (ls2 := [some (.ref 2759), some (.int x1), none, none, none, none, some (.ref a6), some (.ref a7), none, some (.int x9), some (.int (x10 + (1 : Int32)))]) dX10_combine_389 rfl rfl (by decide) rfl ?_
  refine r_goto (tgt := 307) dX10_combine_392 rfl ?_
  exact H
abbrev W_X10_unroll (g : GX) (d : Nat) (av : List Value) (Q : QT) (n : Nat) (pc : Nat) (ls : LV) (stk : List Value) (h : Hp) : Prop := RJ g m_X10_unroll (d + 1) 0 0 av Q pc ls stk n h 0 0
theorem s_X10_unroll_0 {g : GX} {d : Nat} {av : List Value} {Q : QT} {n : Nat} {h : Hp} {a1 : Nat} {a2 : Nat} {L2 : Nat} {a3 : Nat} {L3 : Nat} (hp : g.2.2.2.2 = true) (t1 : lay a1 = (0, 11, 15)) (t2 : lay a2 = (2, L2, 13)) (u2 : a2 < N0) (t3 : lay a3 = (2, L3, 10)) (u3 : a3 < N0) (H : CallR g m_X10_newU d [.ref 2759] n h (fun v1 h1 => (lay v1 = (0, 13, 2) ∧ (CallR g m_X10_newU d [.ref 2759] n h1 (fun v2 h2 => (lay v2 = (0, 13, 2) ∧ (CallR g m_X10_newU d [.ref 2759] n h2 (fun v3 h3 => (lay v3 = (0, 13, 2) ∧ (W_X10_unroll g d av Q n 27 [some (.ref 2759), some (.ref a1), some (.ref a2), some (.ref a3), some (.int (ri h a1 10)), some (.ref v1), some (.ref v2), some (.ref v3), some (.int (0 : Int32)), none, none, none] [] h3)))))))))) : W_X10_unroll g d av Q n 0 [some (.ref 2759), some (.ref a1), some (.ref a2), some (.ref a3), none, none, none, none, none, none, none, none] [] h := by
  refine r_aload_n dX10_unroll_0 rfl rfl ?_
  refine m_getI hp fw_X10_234 dX10_unroll_1 rfl t1 ?_
  refine r_istore (ls2 := [some (.ref 2759), some (.ref a1), some (.ref a2), some (.ref a3), some (.int (ri h a1 10)), none, none, none, none, none, none, none]) dX10_unroll_4 (by decide) rfl ?_
  refine r_aload_n dX10_unroll_6 rfl rfl ?_
  refine k_VR (As := []) (stk := []) hp cv_X10_74 dX10_unroll_7 rfl (Nat.le_of_ble_eq_true rfl) ly_10 (H.mono (fun v1 h1 H => ?_)) ⟨Nat.le_refl _, Nat.le_refl _⟩
  obtain ⟨tv1, H⟩ := H
  refine r_astore (ls2 := [some (.ref 2759), some (.ref a1), some (.ref a2), some (.ref a3), some (.int (ri h a1 10)), some (.ref v1), none, none, none, none, none, none]) dX10_unroll_10 (by decide) rfl ?_
  refine r_aload_n dX10_unroll_12 rfl rfl ?_
  refine k_VR (As := []) (stk := []) hp cv_X10_74 dX10_unroll_13 rfl (Nat.le_of_ble_eq_true rfl) ly_10 (H.mono (fun v2 h2 H => ?_)) ⟨Nat.le_refl _, Nat.le_refl _⟩
  obtain ⟨tv2, H⟩ := H
  refine r_astore (ls2 := [some (.ref 2759), some (.ref a1), some (.ref a2), some (.ref a3), some (.int (ri h a1 10)), some (.ref v1), some (.ref v2), none, none, none, none, none]) dX10_unroll_16 (by decide) rfl ?_
  refine r_aload_n dX10_unroll_18 rfl rfl ?_
  refine k_VR (As := []) (stk := []) hp cv_X10_74 dX10_unroll_19 rfl (Nat.le_of_ble_eq_true rfl) ly_10 (H.mono (fun v3 h3 H => ?_)) ⟨Nat.le_refl _, Nat.le_refl _⟩
  obtain ⟨tv3, H⟩ := H
  refine r_astore (ls2 := [some (.ref 2759), some (.ref a1), some (.ref a2), some (.ref a3), some (.int (ri h a1 10)), some (.ref v1), some (.ref v2), some (.ref v3), none, none, none, none]) dX10_unroll_22 (by decide) rfl ?_
  refine r_iconst (v := (0 : Int32)) dX10_unroll_24 rfl ?_
  refine r_istore (ls2 := [some (.ref 2759), some (.ref a1), some (.ref a2), some (.ref a3), some (.int (ri h a1 10)), some (.ref v1), some (.ref v2), some (.ref v3), some (.int (0 : Int32)), none, none, none]) dX10_unroll_25 (by decide) rfl ?_
  exact H
theorem s_X10_unroll_27 {g : GX} {d : Nat} {av : List Value} {Q : QT} {n : Nat} {h : Hp} {a1 : Nat} {a2 : Nat} {L2 : Nat} {a3 : Nat} {L3 : Nat} {x4 : Int32} {a5 : Nat} {a6 : Nat} {a7 : Nat} {x8 : Int32} (hp : g.2.2.2.2 = true) (t1 : lay a1 = (0, 11, 15)) (t2 : lay a2 = (2, L2, 13)) (u2 : a2 < N0) (t3 : lay a3 = (2, L3, 10)) (u3 : a3 < N0) (t5 : lay a5 = (0, 13, 2)) (t6 : lay a6 = (0, 13, 2)) (t7 : lay a7 = (0, 13, 2)) (H : (((7 : Int32) ≤ x8) → (Q none n h)) ∧ ((¬ (7 : Int32) ≤ x8) → (CallR g m_X10_newU d [.ref 2759] n h (fun v1 h1 => (lay v1 = (0, 13, 2) ∧ (vp_in x8 L3 ∧ fin a3 (x8).toNatClampNeg = none ∧ ∀ h2, h2 = wr h1 a3 (x8).toNatClampNeg (some v1) → (W_X10_unroll g d av Q n 45 [some (.ref 2759), some (.ref a1), some (.ref a2), some (.ref a3), some (.int x4), some (.ref a5), some (.ref a6), some (.ref a7), some (.int x8), some (.int (0 : Int32)), none, none] [] h2))))))) : W_X10_unroll g d av Q n 27 [some (.ref 2759), some (.ref a1), some (.ref a2), some (.ref a3), some (.int x4), some (.ref a5), some (.ref a6), some (.ref a7), some (.int x8), none, none, none] [] h := by
  refine r_iload dX10_unroll_27 rfl ?_
  refine r_bipush (v := (7 : Int32)) dX10_unroll_29 rfl ?_
  refine r_icmp_ge (tgt := 304) dX10_unroll_31 rfl (fun cH => ?_) (fun cH => ?_)
  · replace H := H.1 cH
    exact r_vret dX10_unroll_304 rfl (Nat.le_refl _) (Nat.le_refl _) H
  · replace H := H.2 cH
    refine r_aload_n dX10_unroll_34 rfl rfl ?_
    refine r_iload dX10_unroll_35 rfl ?_
    refine r_aload_n dX10_unroll_37 rfl rfl ?_
    refine k_VR (As := []) (stk := [.int x8, .ref a3]) hp cv_X10_74 dX10_unroll_38 rfl (Nat.le_of_ble_eq_true rfl) ly_10 (H.mono (fun v1 h1 H => ?_)) ⟨Nat.le_refl _, Nat.le_refl _⟩
    obtain ⟨tv1, H⟩ := H
    refine m_aast (nf := 0) hp dX10_unroll_41 t3 rfl (cw13).1 tv1 u3 H.1 H.2.1 (fun h2 eh2 => ?_)
    replace H := H.2.2 h2 eh2
    refine r_iconst (v := (0 : Int32)) dX10_unroll_42 rfl ?_
    refine r_istore (ls2 := [some (.ref 2759), some (.ref a1), some (.ref a2), some (.ref a3), some (.int x4), some (.ref a5), some (.ref a6), some (.ref a7), some (.int x8), some (.int (0 : Int32)), none, none]) dX10_unroll_43 (by decide) rfl ?_
    exact H
theorem s_X10_unroll_45 {g : GX} {d : Nat} {av : List Value} {Q : QT} {n : Nat} {h : Hp} {a1 : Nat} {a2 : Nat} {L2 : Nat} {a3 : Nat} {L3 : Nat} {x4 : Int32} {a5 : Nat} {a6 : Nat} {a7 : Nat} {x8 : Int32} {x9 : Int32} (hp : g.2.2.2.2 = true) (t1 : lay a1 = (0, 11, 15)) (t2 : lay a2 = (2, L2, 13)) (u2 : a2 < N0) (t3 : lay a3 = (2, L3, 10)) (u3 : a3 < N0) (t5 : lay a5 = (0, 13, 2)) (t6 : lay a6 = (0, 13, 2)) (t7 : lay a7 = (0, 13, 2)) (H : ((x4 ≤ x9) → (((¬ x8 = (0 : Int32)) → (vp_in (x8 - (1 : Int32)) L3 ∧ ∃ r1, rr h a3 ((x8 - (1 : Int32))).toNatClampNeg = some r1 ∧ lay r1 = (0, 13, 2) ∧ (CallV g m_X10_shift d [.ref a5, .ref r1, .int (1 : Int32)] n h (fun h2 => (CallV g m_X10_load_2 d [.ref a6, .ref (a1 + 7), .int ((25 : Int32) * x4)] n h2 (fun h3 => (vp_in x8 L3 ∧ ∃ r4, rr h3 a3 (x8).toNatClampNeg = some r4 ∧ lay r4 = (0, 13, 2) ∧ (CallV g m_X10_times_2 d [.ref r4, .ref a5, .ref a6] n h3 (fun h5 => (vp_in (x8 - (1 : Int32)) L2 ∧ ∃ r6 Lr6, rr h5 a2 ((x8 - (1 : Int32))).toNatClampNeg = some r6 ∧ (lay r6 = (2, Lr6, 10) ∧ r6 < N0) ∧ (vp_in (x4 - (1 : Int32)) Lr6 ∧ ∃ r7, rr h5 r6 ((x4 - (1 : Int32))).toNatClampNeg = some r7 ∧ lay r7 = (0, 13, 2) ∧ (CallV g m_X10_shift d [.ref a7, .ref r7, .int (1 : Int32)] n h5 (fun h8 => (W_X10_unroll g d av Q n 150 [some (.ref 2759), some (.ref a1), some (.ref a2), some (.ref a3), some (.int x4), some (.ref a5), some (.ref a6), some (.ref a7), some (.int x8), some (.int (0 : Int32)), none, none] [] h8)))))))))))))) ∧ ((x8 = (0 : Int32)) → (vp_in (0 : Int32) L2 ∧ ∃ r9 Lr9, rr h a2 ((0 : Int32)).toNatClampNeg = some r9 ∧ (lay r9 = (2, Lr9, 10) ∧ r9 < N0) ∧ (vp_in (0 : Int32) Lr9 ∧ ∃ r10, rr h r9 ((0 : Int32)).toNatClampNeg = some r10 ∧ lay r10 = (0, 13, 2) ∧ (CallV g m_X13_number d [.ref r10, .int (1 : Int32)] n h (fun h11 => (vp_in (0 : Int32) L3 ∧ ∃ r12, rr h11 a3 ((0 : Int32)).toNatClampNeg = some r12 ∧ lay r12 = (0, 13, 2) ∧ (CallV g m_X13_number d [.ref r12, .int (1 : Int32)] n h11 (fun h13 => (W_X10_unroll g d av Q n 298 [some (.ref 2759), some (.ref a1), some (.ref a2), some (.ref a3), some (.int x4), some (.ref a5), some (.ref a6), some (.ref a7), some (.int x8), none, none, none] [] h13))))))))))) ∧ ((¬ x4 ≤ x9) → (vp_in x8 L2 ∧ ∃ r14 Lr14, rr h a2 (x8).toNatClampNeg = some r14 ∧ (lay r14 = (2, Lr14, 10) ∧ r14 < N0) ∧ (CallR g m_X10_newU d [.ref 2759] n h (fun v15 h15 => (lay v15 = (0, 13, 2) ∧ (vp_in x9 Lr14 ∧ fin r14 (x9).toNatClampNeg = none ∧ ∀ h16, h16 = wr h15 r14 (x9).toNatClampNeg (some v15) → (W_X10_unroll g d av Q n 45 [some (.ref 2759), some (.ref a1), some (.ref a2), some (.ref a3), some (.int x4), some (.ref a5), some (.ref a6), some (.ref a7), some (.int x8), some (.int (x9 + (1 : Int32))), none, none] [] h16)))))))) : W_X10_unroll g d av Q n 45 [some (.ref 2759), some (.ref a1), some (.ref a2), some (.ref a3), some (.int x4), some (.ref a5), some (.ref a6), some (.ref a7), some (.int x8), some (.int x9), none, none] [] h := by
  refine r_iload dX10_unroll_45 rfl ?_
  refine r_iload dX10_unroll_47 rfl ?_
  refine r_icmp_ge (tgt := 69) dX10_unroll_49 rfl (fun cH => ?_) (fun cH => ?_)
  · replace H := H.1 cH
    refine r_iload dX10_unroll_69 rfl ?_
    refine r_if_ne (tgt := 93) dX10_unroll_71 rfl (fun cH => ?_) (fun cH => ?_)
    · replace H := H.1 cH
      refine r_aload dX10_unroll_93 rfl ?_
      refine r_aload_n dX10_unroll_95 rfl rfl ?_
      refine r_iload dX10_unroll_96 rfl ?_
      refine r_iconst (v := (1 : Int32)) dX10_unroll_98 rfl ?_
      refine r_isub dX10_unroll_99 ?_
      have hir1 := H.1
      obtain ⟨r1, er1, tr1, H⟩ := H.2
      refine m_aalM (x := r1) hp dX10_unroll_100 t3 rfl rfl u3 hir1 er1 ?_
      refine r_iconst (v := (1 : Int32)) dX10_unroll_101 rfl ?_
      refine k_SV (As := [.ref a5, .ref r1, .int (1 : Int32)]) (stk := []) cs_X10_116 dX10_unroll_102 rfl (Nat.le_of_ble_eq_true rfl) (H.mono (fun h2 H => ?_)) ⟨Nat.le_refl _, Nat.le_refl _⟩
      refine r_aload dX10_unroll_105 rfl ?_
      refine r_aload_n dX10_unroll_107 rfl rfl ?_
      refine m_getF (x := (a1 + 7)) hp fw_X10_237 dX10_unroll_108 rfl t1 (ff_11_11 t1) ?_
      refine r_bipush (v := (25 : Int32)) dX10_unroll_111 rfl ?_
      refine r_iload dX10_unroll_113 rfl ?_
      refine r_imul dX10_unroll_115 ?_
      refine k_SV (As := [.ref a6, .ref (a1 + 7), .int ((25 : Int32) * x4)]) (stk := []) cs_X10_775 dX10_unroll_116 rfl (Nat.le_of_ble_eq_true rfl) (H.mono (fun h3 H => ?_)) ⟨Nat.le_refl _, Nat.le_refl _⟩
      refine r_aload_n dX10_unroll_119 rfl rfl ?_
      refine r_iload dX10_unroll_120 rfl ?_
      have hir4 := H.1
      obtain ⟨r4, er4, tr4, H⟩ := H.2
      refine m_aalM (x := r4) hp dX10_unroll_122 t3 rfl rfl u3 hir4 er4 ?_
      refine r_aload dX10_unroll_123 rfl ?_
      refine r_aload dX10_unroll_125 rfl ?_
      refine k_SV (As := [.ref r4, .ref a5, .ref a6]) (stk := []) cs_X10_106 dX10_unroll_127 rfl (Nat.le_of_ble_eq_true rfl) (H.mono (fun h5 H => ?_)) ⟨Nat.le_refl _, Nat.le_refl _⟩
      refine r_aload dX10_unroll_130 rfl ?_
      refine r_aload_n dX10_unroll_132 rfl rfl ?_
      refine r_iload dX10_unroll_133 rfl ?_
      refine r_iconst (v := (1 : Int32)) dX10_unroll_135 rfl ?_
      refine r_isub dX10_unroll_136 ?_
      have hir6 := H.1
      obtain ⟨r6, Lr6, er6, tr6, H⟩ := H.2
      refine m_aalM (x := r6) hp dX10_unroll_137 t2 rfl rfl u2 hir6 er6 ?_
      refine r_iload dX10_unroll_138 rfl ?_
      refine r_iconst (v := (1 : Int32)) dX10_unroll_140 rfl ?_
      refine r_isub dX10_unroll_141 ?_
      have hir7 := H.1
      obtain ⟨r7, er7, tr7, H⟩ := H.2
      refine m_aalM (x := r7) hp dX10_unroll_142 tr6.1 rfl rfl tr6.2 hir7 er7 ?_
      refine r_iconst (v := (1 : Int32)) dX10_unroll_143 rfl ?_
      refine k_SV (As := [.ref a7, .ref r7, .int (1 : Int32)]) (stk := []) cs_X10_116 dX10_unroll_144 rfl (Nat.le_of_ble_eq_true rfl) (H.mono (fun h8 H => ?_)) ⟨Nat.le_refl _, Nat.le_refl _⟩
      refine r_iconst (v := (0 : Int32)) dX10_unroll_147 rfl ?_
      refine r_istore (ls2 := [some (.ref 2759), some (.ref a1), some (.ref a2), some (.ref a3), some (.int x4), some (.ref a5), some (.ref a6), some (.ref a7), some (.int x8), some (.int (0 : Int32)), none, none]) dX10_unroll_148 (by decide) rfl ?_
      exact H
    · replace H := H.2 cH
      refine r_aload_n dX10_unroll_74 rfl rfl ?_
      refine r_iconst (v := (0 : Int32)) dX10_unroll_75 rfl ?_
      have hir9 := H.1
      obtain ⟨r9, Lr9, er9, tr9, H⟩ := H.2
      refine m_aalM (x := r9) hp dX10_unroll_76 t2 rfl rfl u2 hir9 er9 ?_
      refine r_iconst (v := (0 : Int32)) dX10_unroll_77 rfl ?_
      have hir10 := H.1
      obtain ⟨r10, er10, tr10, H⟩ := H.2
      refine m_aalM (x := r10) hp dX10_unroll_78 tr9.1 rfl rfl tr9.2 hir10 er10 ?_
      refine r_iconst (v := (1 : Int32)) dX10_unroll_79 rfl ?_
      refine k_VV (As := [.int (1 : Int32)]) (stk := []) hp cv_X10_147 dX10_unroll_80 rfl (Nat.le_of_ble_eq_true rfl) tr10 (H.mono (fun h11 H => ?_)) ⟨Nat.le_refl _, Nat.le_refl _⟩
      refine r_aload_n dX10_unroll_83 rfl rfl ?_
      refine r_iconst (v := (0 : Int32)) dX10_unroll_84 rfl ?_
      have hir12 := H.1
      obtain ⟨r12, er12, tr12, H⟩ := H.2
      refine m_aalM (x := r12) hp dX10_unroll_85 t3 rfl rfl u3 hir12 er12 ?_
      refine r_iconst (v := (1 : Int32)) dX10_unroll_86 rfl ?_
      refine k_VV (As := [.int (1 : Int32)]) (stk := []) hp cv_X10_147 dX10_unroll_87 rfl (Nat.le_of_ble_eq_true rfl) tr12 (H.mono (fun h13 H => ?_)) ⟨Nat.le_refl _, Nat.le_refl _⟩
      refine r_goto (tgt := 298) dX10_unroll_90 rfl ?_
      refine r_prune [true, true, true, true, true, true, true, true, true, false, false, false] (ls2 := [some (.ref 2759), some (.ref a1), some (.ref a2), some (.ref a3), some (.int x4), some (.ref a5), some (.ref a6), some (.ref a7), some (.int x8), none, none, none]) rfl ?_
      exact H
  · replace H := H.2 cH
    refine r_aload_n dX10_unroll_52 rfl rfl ?_
    refine r_iload dX10_unroll_53 rfl ?_
    have hir14 := H.1
    obtain ⟨r14, Lr14, er14, tr14, H⟩ := H.2
    refine m_aalM (x := r14) hp dX10_unroll_55 t2 rfl rfl u2 hir14 er14 ?_
    refine r_iload dX10_unroll_56 rfl ?_
    refine r_aload_n dX10_unroll_58 rfl rfl ?_
    refine k_VR (As := []) (stk := [.int x9, .ref r14]) hp cv_X10_74 dX10_unroll_59 rfl (Nat.le_of_ble_eq_true rfl) ly_10 (H.mono (fun v15 h15 H => ?_)) ⟨Nat.le_refl _, Nat.le_refl _⟩
    obtain ⟨tv15, H⟩ := H
    refine m_aast (nf := 0) hp dX10_unroll_62 tr14.1 rfl (cw13).1 tv15 tr14.2 H.1 H.2.1 (fun h16 eh16 => ?_)
    replace H := H.2.2 h16 eh16
    refine r_iinc (v := (x9 + (1 : Int32))) (ls2 := [some (.ref 2759), some (.ref a1), some (.ref a2), some (.ref a3), some (.int x4), some (.ref a5), some (.ref a6), some (.ref a7), some (.int x8), some (.int (x9 + (1 : Int32))), none, none]) dX10_unroll_63 rfl rfl (by decide) rfl ?_
    refine r_goto (tgt := 45) dX10_unroll_66 rfl ?_
    exact H
theorem s_X10_unroll_150 {g : GX} {d : Nat} {av : List Value} {Q : QT} {n : Nat} {h : Hp} {a1 : Nat} {a2 : Nat} {L2 : Nat} {a3 : Nat} {L3 : Nat} {x4 : Int32} {a5 : Nat} {a6 : Nat} {a7 : Nat} {x8 : Int32} {x9 : Int32} (hp : g.2.2.2.2 = true) (t1 : lay a1 = (0, 11, 15)) (t2 : lay a2 = (2, L2, 13)) (u2 : a2 < N0) (t3 : lay a3 = (2, L3, 10)) (u3 : a3 < N0) (t5 : lay a5 = (0, 13, 2)) (t6 : lay a6 = (0, 13, 2)) (t7 : lay a7 = (0, 13, 2)) (H : ((x4 ≤ x9) → (vp_in x8 L2 ∧ ∃ r1 Lr1, rr h a2 (x8).toNatClampNeg = some r1 ∧ (lay r1 = (2, Lr1, 10) ∧ r1 < N0) ∧ (vp_in x8 L3 ∧ ∃ r2, rr h a3 (x8).toNatClampNeg = some r2 ∧ lay r2 = (0, 13, 2) ∧ (CallV g m_X10_lighten d [.ref 2759, .ref r1, .ref r2, .int x4] n h (fun h3 => (W_X10_unroll g d av Q n 298 [some (.ref 2759), some (.ref a1), some (.ref a2), some (.ref a3), some (.int x4), some (.ref a5), some (.ref a6), some (.ref a7), some (.int x8), none, none, none] [] h3)))))) ∧ ((¬ x4 ≤ x9) → (CallV g m_X10_load_2 d [.ref a5, .ref (a1 + 7), .int ((25 : Int32) * x9)] n h (fun h4 => (vp_in x8 L2 ∧ ∃ r5 Lr5, rr h4 a2 (x8).toNatClampNeg = some r5 ∧ (lay r5 = (2, Lr5, 10) ∧ r5 < N0) ∧ (vp_in x9 Lr5 ∧ ∃ r6, rr h4 r5 (x9).toNatClampNeg = some r6 ∧ lay r6 = (0, 13, 2) ∧ (CallV g m_X10_times_2 d [.ref r6, .ref a7, .ref a5] n h4 (fun h7 => (vp_in x8 L2 ∧ ∃ r8 Lr8, rr h7 a2 (x8).toNatClampNeg = some r8 ∧ (lay r8 = (2, Lr8, 10) ∧ r8 < N0) ∧ (vp_in x9 Lr8 ∧ ∃ r9, rr h7 r8 (x9).toNatClampNeg = some r9 ∧ lay r9 = (0, 13, 2) ∧ (vp_in x8 L2 ∧ ∃ r10 Lr10, rr h7 a2 (x8).toNatClampNeg = some r10 ∧ (lay r10 = (2, Lr10, 10) ∧ r10 < N0) ∧ (vp_in x9 Lr10 ∧ ∃ r11, rr h7 r10 (x9).toNatClampNeg = some r11 ∧ lay r11 = (0, 13, 2) ∧ (CallV g m_X10_scale_2 d [.ref r9, .ref r11, .int (2147483646 : Int32)] n h7 (fun h12 => (((x9 ≤ (0 : Int32)) → (W_X10_unroll g d av Q n 278 [some (.ref 2759), some (.ref a1), some (.ref a2), some (.ref a3), some (.int x4), some (.ref a5), some (.ref a6), some (.ref a7), some (.int x8), some (.int x9), none, none] [] h12)) ∧ ((¬ x9 ≤ (0 : Int32)) → (CallR g m_X10_newU d [.ref 2759] n h12 (fun v13 h13 => (lay v13 = (0, 13, 2) ∧ (CallR g m_X10_newU d [.ref 2759] n h13 (fun v14 h14 => (lay v14 = (0, 13, 2) ∧ (vp_in (x8 - (1 : Int32)) L2 ∧ ∃ r15 Lr15, rr h14 a2 ((x8 - (1 : Int32))).toNatClampNeg = some r15 ∧ (lay r15 = (2, Lr15, 10) ∧ r15 < N0) ∧ (vp_in (x9 - (1 : Int32)) Lr15 ∧ ∃ r16, rr h14 r15 ((x9 - (1 : Int32))).toNatClampNeg = some r16 ∧ lay r16 = (0, 13, 2) ∧ (CallV g m_X10_shift d [.ref v13, .ref r16, .int (1 : Int32)] n h14 (fun h17 => (CallV g m_X10_times_2 d [.ref v14, .ref v13, .ref a6] n h17 (fun h18 => (vp_in x8 L2 ∧ ∃ r19 Lr19, rr h18 a2 (x8).toNatClampNeg = some r19 ∧ (lay r19 = (2, Lr19, 10) ∧ r19 < N0) ∧ (vp_in x9 Lr19 ∧ ∃ r20, rr h18 r19 (x9).toNatClampNeg = some r20 ∧ lay r20 = (0, 13, 2) ∧ (vp_in x8 L2 ∧ ∃ r21 Lr21, rr h18 a2 (x8).toNatClampNeg = some r21 ∧ (lay r21 = (2, Lr21, 10) ∧ r21 < N0) ∧ (vp_in x9 Lr21 ∧ ∃ r22, rr h18 r21 (x9).toNatClampNeg = some r22 ∧ lay r22 = (0, 13, 2) ∧ (CallV g m_X10_plus d [.ref r20, .ref r22, .ref v14, .int (0 : Int32)] n h18 (fun h23 => (∀ h24, h24 = wi h23 2759 1 ((ri h23 2759 1) - (2 : Int32)) → (W_X10_unroll g d av Q n 278 [some (.ref 2759), some (.ref a1), some (.ref a2), some (.ref a3), some (.int x4), some (.ref a5), some (.ref a6), some (.ref a7), some (.int x8), some (.int x9), none, none] [] h24)))))))))))))))))))))))))))))))))))) : W_X10_unroll g d av Q n 150 [some (.ref 2759), some (.ref a1), some (.ref a2), some (.ref a3), some (.int x4), some (.ref a5), some (.ref a6), some (.ref a7), some (.int x8), some (.int x9), none, none] [] h := by
  refine r_iload dX10_unroll_150 rfl ?_
  refine r_iload dX10_unroll_152 rfl ?_
  refine r_icmp_ge (tgt := 284) dX10_unroll_154 rfl (fun cH => ?_) (fun cH => ?_)
  · replace H := H.1 cH
    refine r_aload_n dX10_unroll_284 rfl rfl ?_
    refine r_aload_n dX10_unroll_285 rfl rfl ?_
    refine r_iload dX10_unroll_286 rfl ?_
    have hir1 := H.1
    obtain ⟨r1, Lr1, er1, tr1, H⟩ := H.2
    refine m_aalM (x := r1) hp dX10_unroll_288 t2 rfl rfl u2 hir1 er1 ?_
    refine r_aload_n dX10_unroll_289 rfl rfl ?_
    refine r_iload dX10_unroll_290 rfl ?_
    have hir2 := H.1
    obtain ⟨r2, er2, tr2, H⟩ := H.2
    refine m_aalM (x := r2) hp dX10_unroll_292 t3 rfl rfl u3 hir2 er2 ?_
    refine r_iload dX10_unroll_293 rfl ?_
    refine k_VV (As := [.ref r1, .ref r2, .int x4]) (stk := []) hp cv_X10_787 dX10_unroll_295 rfl (Nat.le_of_ble_eq_true rfl) ly_10 (H.mono (fun h3 H => ?_)) ⟨Nat.le_refl _, Nat.le_refl _⟩
    refine r_prune [true, true, true, true, true, true, true, true, true, false, false, false] (ls2 := [some (.ref 2759), some (.ref a1), some (.ref a2), some (.ref a3), some (.int x4), some (.ref a5), some (.ref a6), some (.ref a7), some (.int x8), none, none, none]) rfl ?_
    exact H
  · replace H := H.2 cH
    refine r_aload dX10_unroll_157 rfl ?_
    refine r_aload_n dX10_unroll_159 rfl rfl ?_
    refine m_getF (x := (a1 + 7)) hp fw_X10_237 dX10_unroll_160 rfl t1 (ff_11_11 t1) ?_
    refine r_bipush (v := (25 : Int32)) dX10_unroll_163 rfl ?_
    refine r_iload dX10_unroll_165 rfl ?_
    refine r_imul dX10_unroll_167 ?_
    refine k_SV (As := [.ref a5, .ref (a1 + 7), .int ((25 : Int32) * x9)]) (stk := []) cs_X10_775 dX10_unroll_168 rfl (Nat.le_of_ble_eq_true rfl) (H.mono (fun h4 H => ?_)) ⟨Nat.le_refl _, Nat.le_refl _⟩
    refine r_aload_n dX10_unroll_171 rfl rfl ?_
    refine r_iload dX10_unroll_172 rfl ?_
    have hir5 := H.1
    obtain ⟨r5, Lr5, er5, tr5, H⟩ := H.2
    refine m_aalM (x := r5) hp dX10_unroll_174 t2 rfl rfl u2 hir5 er5 ?_
    refine r_iload dX10_unroll_175 rfl ?_
    have hir6 := H.1
    obtain ⟨r6, er6, tr6, H⟩ := H.2
    refine m_aalM (x := r6) hp dX10_unroll_177 tr5.1 rfl rfl tr5.2 hir6 er6 ?_
    refine r_aload dX10_unroll_178 rfl ?_
    refine r_aload dX10_unroll_180 rfl ?_
    refine k_SV (As := [.ref r6, .ref a7, .ref a5]) (stk := []) cs_X10_106 dX10_unroll_182 rfl (Nat.le_of_ble_eq_true rfl) (H.mono (fun h7 H => ?_)) ⟨Nat.le_refl _, Nat.le_refl _⟩
    refine r_aload_n dX10_unroll_185 rfl rfl ?_
    refine r_iload dX10_unroll_186 rfl ?_
    have hir8 := H.1
    obtain ⟨r8, Lr8, er8, tr8, H⟩ := H.2
    refine m_aalM (x := r8) hp dX10_unroll_188 t2 rfl rfl u2 hir8 er8 ?_
    refine r_iload dX10_unroll_189 rfl ?_
    have hir9 := H.1
    obtain ⟨r9, er9, tr9, H⟩ := H.2
    refine m_aalM (x := r9) hp dX10_unroll_191 tr8.1 rfl rfl tr8.2 hir9 er9 ?_
    refine r_aload_n dX10_unroll_192 rfl rfl ?_
    refine r_iload dX10_unroll_193 rfl ?_
    have hir10 := H.1
    obtain ⟨r10, Lr10, er10, tr10, H⟩ := H.2
    refine m_aalM (x := r10) hp dX10_unroll_195 t2 rfl rfl u2 hir10 er10 ?_
    refine r_iload dX10_unroll_196 rfl ?_
    have hir11 := H.1
    obtain ⟨r11, er11, tr11, H⟩ := H.2
    refine m_aalM (x := r11) hp dX10_unroll_198 tr10.1 rfl rfl tr10.2 hir11 er11 ?_
    refine r_ldcw (own := "") (v := (2147483646 : Int32)) dX10_unroll_199 q2644 ?_
    refine k_SV (As := [.ref r9, .ref r11, .int (2147483646 : Int32)]) (stk := []) cs_X10_70 dX10_unroll_202 rfl (Nat.le_of_ble_eq_true rfl) (H.mono (fun h12 H => ?_)) ⟨Nat.le_refl _, Nat.le_refl _⟩
    refine r_iload dX10_unroll_205 rfl ?_
    refine r_if_le (tgt := 278) dX10_unroll_207 rfl (fun cH => ?_) (fun cH => ?_)
    · replace H := H.1 cH
      exact H
    · replace H := H.2 cH
      refine r_aload_n dX10_unroll_210 rfl rfl ?_
      refine k_VR (As := []) (stk := []) hp cv_X10_74 dX10_unroll_211 rfl (Nat.le_of_ble_eq_true rfl) ly_10 (H.mono (fun v13 h13 H => ?_)) ⟨Nat.le_refl _, Nat.le_refl _⟩
      obtain ⟨tv13, H⟩ := H
      refine r_astore (ls2 := [some (.ref 2759), some (.ref a1), some (.ref a2), some (.ref a3), some (.int x4), some (.ref a5), some (.ref a6), some (.ref a7), some (.int x8), some (.int x9), some (.ref v13), none]) dX10_unroll_214 (by decide) rfl ?_
      refine r_aload_n dX10_unroll_216 rfl rfl ?_
      refine k_VR (As := []) (stk := []) hp cv_X10_74 dX10_unroll_217 rfl (Nat.le_of_ble_eq_true rfl) ly_10 (H.mono (fun v14 h14 H => ?_)) ⟨Nat.le_refl _, Nat.le_refl _⟩
      obtain ⟨tv14, H⟩ := H
      refine r_astore (ls2 := [some (.ref 2759), some (.ref a1), some (.ref a2), some (.ref a3), some (.int x4), some (.ref a5), some (.ref a6), some (.ref a7), some (.int x8), some (.int x9), some (.ref v13), some (.ref v14)]) dX10_unroll_220 (by decide) rfl ?_
      refine r_aload dX10_unroll_222 rfl ?_
      refine r_aload_n dX10_unroll_224 rfl rfl ?_
      refine r_iload dX10_unroll_225 rfl ?_
      refine r_iconst (v := (1 : Int32)) dX10_unroll_227 rfl ?_
      refine r_isub dX10_unroll_228 ?_
      have hir15 := H.1
      obtain ⟨r15, Lr15, er15, tr15, H⟩ := H.2
      refine m_aalM (x := r15) hp dX10_unroll_229 t2 rfl rfl u2 hir15 er15 ?_
      refine r_iload dX10_unroll_230 rfl ?_
      refine r_iconst (v := (1 : Int32)) dX10_unroll_232 rfl ?_
      refine r_isub dX10_unroll_233 ?_
      have hir16 := H.1
      obtain ⟨r16, er16, tr16, H⟩ := H.2
      refine m_aalM (x := r16) hp dX10_unroll_234 tr15.1 rfl rfl tr15.2 hir16 er16 ?_
      refine r_iconst (v := (1 : Int32)) dX10_unroll_235 rfl ?_
      refine k_SV (As := [.ref v13, .ref r16, .int (1 : Int32)]) (stk := []) cs_X10_116 dX10_unroll_236 rfl (Nat.le_of_ble_eq_true rfl) (H.mono (fun h17 H => ?_)) ⟨Nat.le_refl _, Nat.le_refl _⟩
      refine r_aload dX10_unroll_239 rfl ?_
      refine r_aload dX10_unroll_241 rfl ?_
      refine r_aload dX10_unroll_243 rfl ?_
      refine k_SV (As := [.ref v14, .ref v13, .ref a6]) (stk := []) cs_X10_106 dX10_unroll_245 rfl (Nat.le_of_ble_eq_true rfl) (H.mono (fun h18 H => ?_)) ⟨Nat.le_refl _, Nat.le_refl _⟩
      refine r_aload_n dX10_unroll_248 rfl rfl ?_
      refine r_iload dX10_unroll_249 rfl ?_
      have hir19 := H.1
      obtain ⟨r19, Lr19, er19, tr19, H⟩ := H.2
      refine m_aalM (x := r19) hp dX10_unroll_251 t2 rfl rfl u2 hir19 er19 ?_
      refine r_iload dX10_unroll_252 rfl ?_
      have hir20 := H.1
      obtain ⟨r20, er20, tr20, H⟩ := H.2
      refine m_aalM (x := r20) hp dX10_unroll_254 tr19.1 rfl rfl tr19.2 hir20 er20 ?_
      refine r_aload_n dX10_unroll_255 rfl rfl ?_
      refine r_iload dX10_unroll_256 rfl ?_
      have hir21 := H.1
      obtain ⟨r21, Lr21, er21, tr21, H⟩ := H.2
      refine m_aalM (x := r21) hp dX10_unroll_258 t2 rfl rfl u2 hir21 er21 ?_
      refine r_iload dX10_unroll_259 rfl ?_
      have hir22 := H.1
      obtain ⟨r22, er22, tr22, H⟩ := H.2
      refine m_aalM (x := r22) hp dX10_unroll_261 tr21.1 rfl rfl tr21.2 hir22 er22 ?_
      refine r_aload dX10_unroll_262 rfl ?_
      refine r_iconst (v := (0 : Int32)) dX10_unroll_264 rfl ?_
      refine k_SV (As := [.ref r20, .ref r22, .ref v14, .int (0 : Int32)]) (stk := []) cs_X10_101 dX10_unroll_265 rfl (Nat.le_of_ble_eq_true rfl) (H.mono (fun h23 H => ?_)) ⟨Nat.le_refl _, Nat.le_refl _⟩
      refine r_aload_n dX10_unroll_268 rfl rfl ?_
      refine r_dup dX10_unroll_269 rfl ?_
      refine m_getI hp fw_X10_21 dX10_unroll_270 rfl ly_10 ?_
      refine r_iconst (v := (2 : Int32)) dX10_unroll_273 rfl ?_
      refine r_isub dX10_unroll_274 ?_
      refine m_putI hp fw_X10_21 dX10_unroll_275 rfl rfl ly_10 (fun h24 eh24 => ?_)
      replace H := H h24 eh24
      refine r_prune [true, true, true, true, true, true, true, true, true, true, false, false] (ls2 := [some (.ref 2759), some (.ref a1), some (.ref a2), some (.ref a3), some (.int x4), some (.ref a5), some (.ref a6), some (.ref a7), some (.int x8), some (.int x9), none, none]) rfl ?_
      exact H
theorem s_X10_unroll_278 {g : GX} {d : Nat} {av : List Value} {Q : QT} {n : Nat} {h : Hp} {a1 : Nat} {a2 : Nat} {L2 : Nat} {a3 : Nat} {L3 : Nat} {x4 : Int32} {a5 : Nat} {a6 : Nat} {a7 : Nat} {x8 : Int32} {x9 : Int32} (hp : g.2.2.2.2 = true) (t1 : lay a1 = (0, 11, 15)) (t2 : lay a2 = (2, L2, 13)) (u2 : a2 < N0) (t3 : lay a3 = (2, L3, 10)) (u3 : a3 < N0) (t5 : lay a5 = (0, 13, 2)) (t6 : lay a6 = (0, 13, 2)) (t7 : lay a7 = (0, 13, 2)) (H : W_X10_unroll g d av Q n 150 [some (.ref 2759), some (.ref a1), some (.ref a2), some (.ref a3), some (.int x4), some (.ref a5), some (.ref a6), some (.ref a7), some (.int x8), some (.int (x9 + (1 : Int32))), none, none] [] h) : W_X10_unroll g d av Q n 278 [some (.ref 2759), some (.ref a1), some (.ref a2), some (.ref a3), some (.int x4), some (.ref a5), some (.ref a6), some (.ref a7), some (.int x8), some (.int x9), none, none] [] h := by
  refine r_iinc (v := (x9 + (1 : Int32))) (ls2 := [some (.ref 2759), some (.ref a1), some (.ref a2), some (.ref a3), some (.int x4), some (.ref a5), some (.ref a6), some (.ref a7), some (.int x8), some (.int (x9 + (1 : Int32))), none, none]) dX10_unroll_278 rfl rfl (by decide) rfl ?_
  refine r_goto (tgt := 150) dX10_unroll_281 rfl ?_
  exact H
theorem s_X10_unroll_298 {g : GX} {d : Nat} {av : List Value} {Q : QT} {n : Nat} {h : Hp} {a1 : Nat} {a2 : Nat} {L2 : Nat} {a3 : Nat} {L3 : Nat} {x4 : Int32} {a5 : Nat} {a6 : Nat} {a7 : Nat} {x8 : Int32} (hp : g.2.2.2.2 = true) (t1 : lay a1 = (0, 11, 15)) (t2 : lay a2 = (2, L2, 13)) (u2 : a2 < N0) (t3 : lay a3 = (2, L3, 10)) (u3 : a3 < N0) (t5 : lay a5 = (0, 13, 2)) (t6 : lay a6 = (0, 13, 2)) (t7 : lay a7 = (0, 13, 2)) (H : W_X10_unroll g d av Q n 27 [some (.ref 2759), some (.ref a1), some (.ref a2), some (.ref a3), some (.int x4), some (.ref a5), some (.ref a6), some (.ref a7), some (.int (x8 + (1 : Int32))), none, none, none] [] h) : W_X10_unroll g d av Q n 298 [some (.ref 2759), some (.ref a1), some (.ref a2), some (.ref a3), some (.int x4), some (.ref a5), some (.ref a6), some (.ref a7), some (.int x8), none, none, none] [] h := by
  refine r_iinc (v := (x8 + (1 : Int32))) (ls2 := [some (.ref 2759), some (.ref a1), some (.ref a2), some (.ref a3), some (.int x4), some (.ref a5), some (.ref a6), some (.ref a7), some (.int (x8 + (1 : Int32))), none, none, none]) dX10_unroll_298 rfl rfl (by decide) rfl ?_
  refine r_goto (tgt := 27) dX10_unroll_301 rfl ?_
  exact H
abbrev W_X10_lighten (g : GX) (d : Nat) (av : List Value) (Q : QT) (n : Nat) (pc : Nat) (ls : LV) (stk : List Value) (h : Hp) : Prop := RJ g m_X10_lighten (d + 1) 0 0 av Q pc ls stk n h 0 0
theorem s_X10_lighten_0 {g : GX} {d : Nat} {av : List Value} {Q : QT} {n : Nat} {h : Hp} {a1 : Nat} {L1 : Nat} {a2 : Nat} {x3 : Int32} (hp : g.2.2.2.2 = true) (t1 : lay a1 = (2, L1, 10)) (u1 : a1 < N0) (t2 : lay a2 = (0, 13, 2)) (H : CallR g m_X10_newU d [.ref 2759] n h (fun v1 h1 => (lay v1 = (0, 13, 2) ∧ (CallV g m_X10_set_2 d [.ref v1, .ref a2] n h1 (fun h2 => (W_X10_lighten g d av Q n 15 [some (.ref 2759), some (.ref a1), some (.ref a2), some (.int x3), some (.ref v1), some (.int (0 : Int32))] [] h2)))))) : W_X10_lighten g d av Q n 0 [some (.ref 2759), some (.ref a1), some (.ref a2), some (.int x3), none, none] [] h := by
  refine r_aload_n dX10_lighten_0 rfl rfl ?_
  refine k_VR (As := []) (stk := []) hp cv_X10_74 dX10_lighten_1 rfl (Nat.le_of_ble_eq_true rfl) ly_10 (H.mono (fun v1 h1 H => ?_)) ⟨Nat.le_refl _, Nat.le_refl _⟩
  obtain ⟨tv1, H⟩ := H
  refine r_astore (ls2 := [some (.ref 2759), some (.ref a1), some (.ref a2), some (.int x3), some (.ref v1), none]) dX10_lighten_4 (by decide) rfl ?_
  refine r_aload dX10_lighten_6 rfl ?_
  refine r_aload_n dX10_lighten_8 rfl rfl ?_
  refine k_SV (As := [.ref v1, .ref a2]) (stk := []) cs_X10_62 dX10_lighten_9 rfl (Nat.le_of_ble_eq_true rfl) (H.mono (fun h2 H => ?_)) ⟨Nat.le_refl _, Nat.le_refl _⟩
  refine r_iconst (v := (0 : Int32)) dX10_lighten_12 rfl ?_
  refine r_istore (ls2 := [some (.ref 2759), some (.ref a1), some (.ref a2), some (.int x3), some (.ref v1), some (.int (0 : Int32))]) dX10_lighten_13 (by decide) rfl ?_
  exact H
theorem s_X10_lighten_15 {g : GX} {d : Nat} {av : List Value} {Q : QT} {n : Nat} {h : Hp} {a1 : Nat} {L1 : Nat} {a2 : Nat} {x3 : Int32} {a4 : Nat} {x5 : Int32} (hp : g.2.2.2.2 = true) (t1 : lay a1 = (2, L1, 10)) (u1 : a1 < N0) (t2 : lay a2 = (0, 13, 2)) (t4 : lay a4 = (0, 13, 2)) (H : ((x3 ≤ x5) → (W_X10_lighten g d av Q n 48 [some (.ref 2759), some (.ref a1), some (.ref a2), some (.int x3), some (.ref a4), none] [] h)) ∧ ((¬ x3 ≤ x5) → ((((ri h a4 1) = (1 : Int32)) → (W_X10_lighten g d av Q n 48 [some (.ref 2759), some (.ref a1), some (.ref a2), some (.int x3), some (.ref a4), none] [] h)) ∧ ((¬ (ri h a4 1) = (1 : Int32)) → (vp_in x5 L1 ∧ ∃ r1, rr h a1 (x5).toNatClampNeg = some r1 ∧ lay r1 = (0, 13, 2) ∧ (CallV g m_X10_gcd_2 d [.ref 2759, .ref a4, .ref a4, .ref r1] n h (fun h2 => (W_X10_lighten g d av Q n 15 [some (.ref 2759), some (.ref a1), some (.ref a2), some (.int x3), some (.ref a4), some (.int (x5 + (1 : Int32)))] [] h2)))))))) : W_X10_lighten g d av Q n 15 [some (.ref 2759), some (.ref a1), some (.ref a2), some (.int x3), some (.ref a4), some (.int x5)] [] h := by
  refine r_iload dX10_lighten_15 rfl ?_
  refine r_iload_n dX10_lighten_17 rfl rfl ?_
  refine r_icmp_ge (tgt := 48) dX10_lighten_18 rfl (fun cH => ?_) (fun cH => ?_)
  · replace H := H.1 cH
    refine r_prune [true, true, true, true, true, false] (ls2 := [some (.ref 2759), some (.ref a1), some (.ref a2), some (.int x3), some (.ref a4), none]) rfl ?_
    exact H
  · replace H := H.2 cH
    refine r_aload dX10_lighten_21 rfl ?_
    refine m_getI hp fw_X10_25 dX10_lighten_23 rfl t4 ?_
    refine r_iconst (v := (1 : Int32)) dX10_lighten_26 rfl ?_
    refine r_icmp_eq (tgt := 48) dX10_lighten_27 rfl (fun cH => ?_) (fun cH => ?_)
    · replace H := H.1 cH
      refine r_prune [true, true, true, true, true, false] (ls2 := [some (.ref 2759), some (.ref a1), some (.ref a2), some (.int x3), some (.ref a4), none]) rfl ?_
      exact H
    · replace H := H.2 cH
      refine r_aload_n dX10_lighten_30 rfl rfl ?_
      refine r_aload dX10_lighten_31 rfl ?_
      refine r_aload dX10_lighten_33 rfl ?_
      refine r_aload_n dX10_lighten_35 rfl rfl ?_
      refine r_iload dX10_lighten_36 rfl ?_
      have hir1 := H.1
      obtain ⟨r1, er1, tr1, H⟩ := H.2
      refine m_aalM (x := r1) hp dX10_lighten_38 t1 rfl rfl u1 hir1 er1 ?_
      refine k_VV (As := [.ref a4, .ref a4, .ref r1]) (stk := []) hp cv_X10_125 dX10_lighten_39 rfl (Nat.le_of_ble_eq_true rfl) ly_10 (H.mono (fun h2 H => ?_)) ⟨Nat.le_refl _, Nat.le_refl _⟩
      refine r_iinc (v := (x5 + (1 : Int32))) (ls2 := [some (.ref 2759), some (.ref a1), some (.ref a2), some (.int x3), some (.ref a4), some (.int (x5 + (1 : Int32)))]) dX10_lighten_42 rfl rfl (by decide) rfl ?_
      refine r_goto (tgt := 15) dX10_lighten_45 rfl ?_
      exact H
theorem s_X10_lighten_48 {g : GX} {d : Nat} {av : List Value} {Q : QT} {n : Nat} {h : Hp} {a1 : Nat} {L1 : Nat} {a2 : Nat} {x3 : Int32} {a4 : Nat} (hp : g.2.2.2.2 = true) (t1 : lay a1 = (2, L1, 10)) (u1 : a1 < N0) (t2 : lay a2 = (0, 13, 2)) (t4 : lay a4 = (0, 13, 2)) (H : W_X10_lighten g d av Q n 51 [some (.ref 2759), some (.ref a1), some (.ref a2), some (.int x3), some (.ref a4), some (.int (0 : Int32))] [] h) : W_X10_lighten g d av Q n 48 [some (.ref 2759), some (.ref a1), some (.ref a2), some (.int x3), some (.ref a4), none] [] h := by
  refine r_iconst (v := (0 : Int32)) dX10_lighten_48 rfl ?_
  refine r_istore (ls2 := [some (.ref 2759), some (.ref a1), some (.ref a2), some (.int x3), some (.ref a4), some (.int (0 : Int32))]) dX10_lighten_49 (by decide) rfl ?_
  exact H
theorem s_X10_lighten_51 {g : GX} {d : Nat} {av : List Value} {Q : QT} {n : Nat} {h : Hp} {a1 : Nat} {L1 : Nat} {a2 : Nat} {x3 : Int32} {a4 : Nat} {x5 : Int32} (hp : g.2.2.2.2 = true) (t1 : lay a1 = (2, L1, 10)) (u1 : a1 < N0) (t2 : lay a2 = (0, 13, 2)) (t4 : lay a4 = (0, 13, 2)) (H : ((x3 ≤ x5) → (CallV g m_X10_exact d [.ref 2759, .ref a2, .ref a2, .ref a4] n h (fun h1 => (∀ h2, h2 = wi h1 2759 1 ((ri h1 2759 1) - (1 : Int32)) → (Q none n h2))))) ∧ ((¬ x3 ≤ x5) → (vp_in x5 L1 ∧ ∃ r3, rr h a1 (x5).toNatClampNeg = some r3 ∧ lay r3 = (0, 13, 2) ∧ (vp_in x5 L1 ∧ ∃ r4, rr h a1 (x5).toNatClampNeg = some r4 ∧ lay r4 = (0, 13, 2) ∧ (CallV g m_X10_exact d [.ref 2759, .ref r3, .ref r4, .ref a4] n h (fun h5 => (W_X10_lighten g d av Q n 51 [some (.ref 2759), some (.ref a1), some (.ref a2), some (.int x3), some (.ref a4), some (.int (x5 + (1 : Int32)))] [] h5))))))) : W_X10_lighten g d av Q n 51 [some (.ref 2759), some (.ref a1), some (.ref a2), some (.int x3), some (.ref a4), some (.int x5)] [] h := by
  refine r_iload dX10_lighten_51 rfl ?_
  refine r_iload_n dX10_lighten_53 rfl rfl ?_
  refine r_icmp_ge (tgt := 77) dX10_lighten_54 rfl (fun cH => ?_) (fun cH => ?_)
  · replace H := H.1 cH
    refine r_aload_n dX10_lighten_77 rfl rfl ?_
    refine r_aload_n dX10_lighten_78 rfl rfl ?_
    refine r_aload_n dX10_lighten_79 rfl rfl ?_
    refine r_aload dX10_lighten_80 rfl ?_
    refine k_VV (As := [.ref a2, .ref a2, .ref a4]) (stk := []) hp cv_X10_110 dX10_lighten_82 rfl (Nat.le_of_ble_eq_true rfl) ly_10 (H.mono (fun h1 H => ?_)) ⟨Nat.le_refl _, Nat.le_refl _⟩
    refine r_aload_n dX10_lighten_85 rfl rfl ?_
    refine r_dup dX10_lighten_86 rfl ?_
    refine m_getI hp fw_X10_21 dX10_lighten_87 rfl ly_10 ?_
    refine r_iconst (v := (1 : Int32)) dX10_lighten_90 rfl ?_
    refine r_isub dX10_lighten_91 ?_
    refine m_putI hp fw_X10_21 dX10_lighten_92 rfl rfl ly_10 (fun h2 eh2 => ?_)
    replace H := H h2 eh2
    exact r_vret dX10_lighten_95 rfl (Nat.le_refl _) (Nat.le_refl _) H
  · replace H := H.2 cH
    refine r_aload_n dX10_lighten_57 rfl rfl ?_
    refine r_aload_n dX10_lighten_58 rfl rfl ?_
    refine r_iload dX10_lighten_59 rfl ?_
    have hir3 := H.1
    obtain ⟨r3, er3, tr3, H⟩ := H.2
    refine m_aalM (x := r3) hp dX10_lighten_61 t1 rfl rfl u1 hir3 er3 ?_
    refine r_aload_n dX10_lighten_62 rfl rfl ?_
    refine r_iload dX10_lighten_63 rfl ?_
    have hir4 := H.1
    obtain ⟨r4, er4, tr4, H⟩ := H.2
    refine m_aalM (x := r4) hp dX10_lighten_65 t1 rfl rfl u1 hir4 er4 ?_
    refine r_aload dX10_lighten_66 rfl ?_
    refine k_VV (As := [.ref r3, .ref r4, .ref a4]) (stk := []) hp cv_X10_110 dX10_lighten_68 rfl (Nat.le_of_ble_eq_true rfl) ly_10 (H.mono (fun h5 H => ?_)) ⟨Nat.le_refl _, Nat.le_refl _⟩
    refine r_iinc (v := (x5 + (1 : Int32))) (ls2 := [some (.ref 2759), some (.ref a1), some (.ref a2), some (.int x3), some (.ref a4), some (.int (x5 + (1 : Int32)))]) dX10_lighten_71 rfl rfl (by decide) rfl ?_
    refine r_goto (tgt := 51) dX10_lighten_74 rfl ?_
    exact H
abbrev W_X10_feed (g : GX) (d : Nat) (av : List Value) (Q : QT) (n : Nat) (pc : Nat) (ls : LV) (stk : List Value) (h : Hp) : Prop := RJ g m_X10_feed (d + 1) 0 0 av Q pc ls stk n h 0 0
theorem s_X10_feed_0 {g : GX} {d : Nat} {av : List Value} {Q : QT} {n : Nat} {h : Hp} {x1 : Int32} (hp : g.2.2.2.2 = true)  (H : ((¬ (ri h 2759 29) = (60 : Int32)) → (∀ h1, h1 = wi h 2759 29 ((ri h 2759 29) + (1 : Int32)) → (CallI g m_X10_rest d [.int x1] n h1 (fun v2 h2 => (vp_in (ri h 2759 29) 60 ∧ ∀ h3, h3 = wi h2 2853 ((ri h 2759 29)).toNatClampNeg v2 → (Q (some (.int (ri h3 2759 29))) n h3)))))) ∧ (((ri h 2759 29) = (60 : Int32)) → (Q (some (.int (-2 : Int32))) n h))) : W_X10_feed g d av Q n 0 [some (.ref 2759), some (.int x1)] [] h := by
  refine r_aload_n dX10_feed_0 rfl rfl ?_
  refine m_getI hp fw_X10_607 dX10_feed_1 rfl ly_10 ?_
  refine r_bipush (v := (60 : Int32)) dX10_feed_4 rfl ?_
  refine r_icmp_ne (tgt := 12) dX10_feed_6 rfl (fun cH => ?_) (fun cH => ?_)
  · replace H := H.1 cH
    refine r_aload_n dX10_feed_12 rfl rfl ?_
    refine m_getF (x := 2853) hp fw_X10_465 dX10_feed_13 rfl ly_10 (ff_10_28 ly_10) ?_
    refine r_aload_n dX10_feed_16 rfl rfl ?_
    refine r_dup dX10_feed_17 rfl ?_
    refine m_getI hp fw_X10_607 dX10_feed_18 rfl ly_10 ?_
    refine r_dup_x1 dX10_feed_21 rfl rfl ?_
    refine r_iconst (v := (1 : Int32)) dX10_feed_22 rfl ?_
    refine r_iadd dX10_feed_23 ?_
    refine m_putI hp fw_X10_607 dX10_feed_24 rfl rfl ly_10 (fun h1 eh1 => ?_)
    replace H := H h1 eh1
    refine r_iload_n dX10_feed_27 rfl rfl ?_
    refine k_SI (As := [.int x1]) (stk := [.int (ri h 2759 29), .ref 2853]) cs_X10_600 dX10_feed_28 rfl (Nat.le_of_ble_eq_true rfl) (H.mono (fun v2 h2 H => ?_)) ⟨Nat.le_refl _, Nat.le_refl _⟩
    refine m_iast hp dX10_feed_31 (lf_10_28 ly_10) H.1 (fun h3 eh3 => ?_)
    replace H := H.2 h3 eh3
    refine r_aload_n dX10_feed_32 rfl rfl ?_
    refine m_getI hp fw_X10_607 dX10_feed_33 rfl ly_10 ?_
    exact r_zret dX10_feed_36 rfl rfl (Nat.le_refl _) (Nat.le_refl _) H
  · replace H := H.2 cH
    refine r_bipush (v := (-2 : Int32)) dX10_feed_9 rfl ?_
    exact r_zret dX10_feed_11 rfl rfl (Nat.le_refl _) (Nat.le_refl _) H
abbrev W_X10_clear_2 (g : GX) (d : Nat) (av : List Value) (Q : QT) (n : Nat) (pc : Nat) (ls : LV) (stk : List Value) (h : Hp) : Prop := RJ g m_X10_clear_2 d 0 0 av Q pc ls stk n h 0 0
theorem s_X10_clear_2_0 {g : GX} {d : Nat} {av : List Value} {Q : QT} {n : Nat} {h : Hp}  (hp : g.2.2.2.2 = true)  (H : ∀ h1, h1 = wi h 2759 29 (0 : Int32) → (Q (some (.int (ri h 2759 29))) n h1)) : W_X10_clear_2 g d av Q n 0 [some (.ref 2759), none] [] h := by
  refine r_aload_n dX10_clear_2_0 rfl rfl ?_
  refine m_getI hp fw_X10_607 dX10_clear_2_1 rfl ly_10 ?_
  refine r_istore_n (ls2 := [some (.ref 2759), some (.int (ri h 2759 29))]) dX10_clear_2_4 rfl (by decide) rfl ?_
  refine r_aload_n dX10_clear_2_5 rfl rfl ?_
  refine r_iconst (v := (0 : Int32)) dX10_clear_2_6 rfl ?_
  refine m_putI hp fw_X10_607 dX10_clear_2_7 rfl rfl ly_10 (fun h1 eh1 => ?_)
  replace H := H h1 eh1
  refine r_iload_n dX10_clear_2_10 rfl rfl ?_
  exact r_zret dX10_clear_2_11 rfl rfl (Nat.le_refl _) (Nat.le_refl _) H
abbrev W_X10_guess (g : GX) (d : Nat) (av : List Value) (Q : QT) (n : Nat) (pc : Nat) (ls : LV) (stk : List Value) (h : Hp) : Prop := RJ g m_X10_guess (d + 1) 0 0 av Q pc ls stk n h 0 0
theorem s_X10_guess_0 {g : GX} {d : Nat} {av : List Value} {Q : QT} {n : Nat} {h : Hp} {x1 : Int32} (hp : g.2.2.2.2 = true)  (H : CallI g m_X10_isSlot d [.int x1] n h (fun v1 h1 => (((¬ v1 = (0 : Int32)) → (CallV g m_X10_begin d [.ref 2759] n h1 (fun h2 => (W_X10_guess g d av Q n 15 [some (.ref 2759), some (.int x1), some (.int (1 : Int32)), none] [] h2)))) ∧ ((v1 = (0 : Int32)) → (Q (some (.int (-1 : Int32))) n h1))))) : W_X10_guess g d av Q n 0 [some (.ref 2759), some (.int x1), none, none] [] h := by
  refine r_iload_n dX10_guess_0 rfl rfl ?_
  refine k_SI (As := [.int x1]) (stk := []) cs_X10_551 dX10_guess_1 rfl (Nat.le_of_ble_eq_true rfl) (H.mono (fun v1 h1 H => ?_)) ⟨Nat.le_refl _, Nat.le_refl _⟩
  refine r_if_ne (tgt := 9) dX10_guess_4 rfl (fun cH => ?_) (fun cH => ?_)
  · replace H := H.1 cH
    refine r_aload_n dX10_guess_9 rfl rfl ?_
    refine k_VV (As := []) (stk := []) hp cv_X10_555 dX10_guess_10 rfl (Nat.le_of_ble_eq_true rfl) ly_10 (H.mono (fun h2 H => ?_)) ⟨Nat.le_refl _, Nat.le_refl _⟩
    refine r_iconst (v := (1 : Int32)) dX10_guess_13 rfl ?_
    refine r_istore_n (ls2 := [some (.ref 2759), some (.int x1), some (.int (1 : Int32)), none]) dX10_guess_14 rfl (by decide) rfl ?_
    exact H
  · replace H := H.2 cH
    refine r_iconst (v := (-1 : Int32)) dX10_guess_7 rfl ?_
    exact r_zret dX10_guess_8 rfl rfl (Nat.le_refl _) (Nat.le_refl _) H
theorem s_X10_guess_15 {g : GX} {d : Nat} {av : List Value} {Q : QT} {n : Nat} {h : Hp} {x1 : Int32} {x2 : Int32} (hp : g.2.2.2.2 = true)  (H : (((4 : Int32) < x2) → (Q (some (.int (-1 : Int32))) n h)) ∧ ((¬ (4 : Int32) < x2) → (W_X10_guess g d av Q n 22 [some (.ref 2759), some (.int x1), some (.int x2), some (.int (0 : Int32))] [] h))) : W_X10_guess g d av Q n 15 [some (.ref 2759), some (.int x1), some (.int x2), none] [] h := by
  refine r_iload_n dX10_guess_15 rfl rfl ?_
  refine r_iconst (v := (4 : Int32)) dX10_guess_16 rfl ?_
  refine r_icmp_gt (tgt := 75) dX10_guess_17 rfl (fun cH => ?_) (fun cH => ?_)
  · replace H := H.1 cH
    refine r_iconst (v := (-1 : Int32)) dX10_guess_75 rfl ?_
    exact r_zret dX10_guess_76 rfl rfl (Nat.le_refl _) (Nat.le_refl _) H
  · replace H := H.2 cH
    refine r_iconst (v := (0 : Int32)) dX10_guess_20 rfl ?_
    refine r_istore_n (ls2 := [some (.ref 2759), some (.int x1), some (.int x2), some (.int (0 : Int32))]) dX10_guess_21 rfl (by decide) rfl ?_
    exact H
theorem s_X10_guess_22 {g : GX} {d : Nat} {av : List Value} {Q : QT} {n : Nat} {h : Hp} {x1 : Int32} {x2 : Int32} {x3 : Int32} (hp : g.2.2.2.2 = true)  (H : (((8 : Int32) < x3) → (W_X10_guess g d av Q n 69 [some (.ref 2759), some (.int x1), some (.int x2), none] [] h)) ∧ ((¬ (8 : Int32) < x3) → (((((ri h 2759 29) - x2) < (((x2 + (1 : Int32)) * (x3 + (1 : Int32))) + (4 : Int32))) → (W_X10_guess g d av Q n 69 [some (.ref 2759), some (.int x1), some (.int x2), none] [] h)) ∧ ((¬ ((ri h 2759 29) - x2) < (((x2 + (1 : Int32)) * (x3 + (1 : Int32))) + (4 : Int32))) → (CallI g m_X10_tries d [.ref 2759, .int x2, .int x3] n h (fun v1 h1 => (((v1 = (0 : Int32)) → (W_X10_guess g d av Q n 22 [some (.ref 2759), some (.int x1), some (.int x2), some (.int (x3 + (1 : Int32)))] [] h1)) ∧ ((¬ v1 = (0 : Int32)) → (CallI g m_X10_guessed d [.ref 2759, .int x2, .int x3, .int x1] n h1 (fun v2 h2 => (Q (some (.int v2)) n h2))))))))))) : W_X10_guess g d av Q n 22 [some (.ref 2759), some (.int x1), some (.int x2), some (.int x3)] [] h := by
  refine r_iload_n dX10_guess_22 rfl rfl ?_
  refine r_bipush (v := (8 : Int32)) dX10_guess_23 rfl ?_
  refine r_icmp_gt (tgt := 69) dX10_guess_25 rfl (fun cH => ?_) (fun cH => ?_)
  · replace H := H.1 cH
    refine r_prune [true, true, true, false] (ls2 := [some (.ref 2759), some (.int x1), some (.int x2), none]) rfl ?_
    exact H
  · replace H := H.2 cH
    refine r_iload_n dX10_guess_28 rfl rfl ?_
    refine r_iconst (v := (1 : Int32)) dX10_guess_29 rfl ?_
    refine r_iadd dX10_guess_30 ?_
    refine r_iload_n dX10_guess_31 rfl rfl ?_
    refine r_iconst (v := (1 : Int32)) dX10_guess_32 rfl ?_
    refine r_iadd dX10_guess_33 ?_
    refine r_imul dX10_guess_34 ?_
    refine r_iconst (v := (4 : Int32)) dX10_guess_35 rfl ?_
    refine r_iadd dX10_guess_36 ?_
    refine r_aload_n dX10_guess_37 rfl rfl ?_
    refine m_getI hp fw_X10_607 dX10_guess_38 rfl ly_10 ?_
    refine r_iload_n dX10_guess_41 rfl rfl ?_
    refine r_isub dX10_guess_42 ?_
    refine r_icmp_gt (tgt := 69) dX10_guess_43 rfl (fun cH => ?_) (fun cH => ?_)
    · replace H := H.1 cH
      refine r_prune [true, true, true, false] (ls2 := [some (.ref 2759), some (.int x1), some (.int x2), none]) rfl ?_
      exact H
    · replace H := H.2 cH
      refine r_aload_n dX10_guess_46 rfl rfl ?_
      refine r_iload_n dX10_guess_47 rfl rfl ?_
      refine r_iload_n dX10_guess_48 rfl rfl ?_
      refine k_VI (As := [.int x2, .int x3]) (stk := []) hp cv_X10_806 dX10_guess_49 rfl (Nat.le_of_ble_eq_true rfl) ly_10 (H.mono (fun v1 h1 H => ?_)) ⟨Nat.le_refl _, Nat.le_refl _⟩
      refine r_if_eq (tgt := 63) dX10_guess_52 rfl (fun cH => ?_) (fun cH => ?_)
      · replace H := H.1 cH
        refine r_iinc (v := (x3 + (1 : Int32))) (ls2 := [some (.ref 2759), some (.int x1), some (.int x2), some (.int (x3 + (1 : Int32)))]) dX10_guess_63 rfl rfl (by decide) rfl ?_
        refine r_goto (tgt := 22) dX10_guess_66 rfl ?_
        exact H
      · replace H := H.2 cH
        refine r_aload_n dX10_guess_55 rfl rfl ?_
        refine r_iload_n dX10_guess_56 rfl rfl ?_
        refine r_iload_n dX10_guess_57 rfl rfl ?_
        refine r_iload_n dX10_guess_58 rfl rfl ?_
        refine k_VI (As := [.int x2, .int x3, .int x1]) (stk := []) hp cv_X10_810 dX10_guess_59 rfl (Nat.le_of_ble_eq_true rfl) ly_10 (H.mono (fun v2 h2 H => ?_)) ⟨Nat.le_refl _, Nat.le_refl _⟩
        exact r_zret dX10_guess_62 rfl rfl (Nat.le_refl _) (Nat.le_refl _) H
theorem s_X10_guess_69 {g : GX} {d : Nat} {av : List Value} {Q : QT} {n : Nat} {h : Hp} {x1 : Int32} {x2 : Int32} (hp : g.2.2.2.2 = true)  (H : W_X10_guess g d av Q n 15 [some (.ref 2759), some (.int x1), some (.int (x2 + (1 : Int32))), none] [] h) : W_X10_guess g d av Q n 69 [some (.ref 2759), some (.int x1), some (.int x2), none] [] h := by
  refine r_iinc (v := (x2 + (1 : Int32))) (ls2 := [some (.ref 2759), some (.int x1), some (.int (x2 + (1 : Int32))), none]) dX10_guess_69 rfl rfl (by decide) rfl ?_
  refine r_goto (tgt := 15) dX10_guess_72 rfl ?_
  exact H
abbrev W_X10_guessed (g : GX) (d : Nat) (av : List Value) (Q : QT) (n : Nat) (pc : Nat) (ls : LV) (stk : List Value) (h : Hp) : Prop := RJ g m_X10_guessed (d + 1) 0 0 av Q pc ls stk n h 0 0
theorem s_X10_guessed_0 {g : GX} {d : Nat} {av : List Value} {Q : QT} {n : Nat} {h : Hp} {x1 : Int32} {x2 : Int32} {x3 : Int32} (hp : g.2.2.2.2 = true)  (H : W_X10_guessed g d av Q n 3 [some (.ref 2759), some (.int x1), some (.int x2), some (.int x3), some (.int (0 : Int32)), none] [] h) : W_X10_guessed g d av Q n 0 [some (.ref 2759), some (.int x1), some (.int x2), some (.int x3), none, none] [] h := by
  refine r_iconst (v := (0 : Int32)) dX10_guessed_0 rfl ?_
  refine r_istore (ls2 := [some (.ref 2759), some (.int x1), some (.int x2), some (.int x3), some (.int (0 : Int32)), none]) dX10_guessed_1 (by decide) rfl ?_
  exact H
theorem s_X10_guessed_3 {g : GX} {d : Nat} {av : List Value} {Q : QT} {n : Nat} {h : Hp} {x1 : Int32} {x2 : Int32} {x3 : Int32} {x4 : Int32} (hp : g.2.2.2.2 = true)  (H : ((x1 < x4) → (vp_in x1 8 ∧ ∃ r1, rr h 2952 (x1).toNatClampNeg = some r1 ∧ lay r1 = (0, 13, 2) ∧ (((¬ (ri h r1 1) = (0 : Int32)) → (CallI g m_X10_makeRow d [.ref 2759, .ref 2952, .int x1] n h (fun v2 h2 => (CallI g m_X10_needsOf d [.ref 2849, .int x1, .int (0 : Int32)] n h2 (fun v3 h3 => (∀ h4, h4 = wi h3 2842 12 v3 → ((((60 : Int32) < (ri h4 2842 12)) → (Q (some (.int (-1 : Int32))) n h4)) ∧ ((¬ (60 : Int32) < (ri h4 2842 12)) → ((((ri h4 2842 12) ≤ (ri h4 2759 29)) → (W_X10_guessed g d av Q n 166 [some (.ref 2759), some (.int x1), none, some (.int x3), none, some (.int (0 : Int32))] [] h4)) ∧ ((¬ (ri h4 2842 12) ≤ (ri h4 2759 29)) → (Q (some (.int (-1 : Int32))) n h4))))))))))) ∧ (((ri h r1 1) = (0 : Int32)) → (Q (some (.int (-1 : Int32))) n h))))) ∧ ((¬ x1 < x4) → (CallR g m_X10_newU d [.ref 2759] n h (fun v5 h5 => (lay v5 = (0, 13, 2) ∧ (vp_in x4 8 ∧ fin 2952 (x4).toNatClampNeg = none ∧ ∀ h6, h6 = wr h5 2952 (x4).toNatClampNeg (some v5) → (W_X10_guessed g d av Q n 23 [some (.ref 2759), some (.int x1), some (.int x2), some (.int x3), some (.int x4), some (.int (0 : Int32))] [] h6))))))) : W_X10_guessed g d av Q n 3 [some (.ref 2759), some (.int x1), some (.int x2), some (.int x3), some (.int x4), none] [] h := by
  refine r_iload dX10_guessed_3 rfl ?_
  refine r_iload_n dX10_guessed_5 rfl rfl ?_
  refine r_icmp_gt (tgt := 91) dX10_guessed_6 rfl (fun cH => ?_) (fun cH => ?_)
  · replace H := H.1 cH
    refine r_aload_n dX10_guessed_91 rfl rfl ?_
    refine m_getF (x := 2952) hp fw_X10_517 dX10_guessed_92 rfl ly_10 (ff_10_55 ly_10) ?_
    refine r_iload_n dX10_guessed_95 rfl rfl ?_
    have hir1 := H.1
    obtain ⟨r1, er1, tr1, H⟩ := H.2
    refine m_aalM (x := r1) hp dX10_guessed_96 (lf_10_55 ly_10) rfl rfl (lu_10_55 ly_10) hir1 er1 ?_
    refine m_getI hp fw_X10_25 dX10_guessed_97 rfl tr1 ?_
    refine r_if_ne (tgt := 105) dX10_guessed_100 rfl (fun cH => ?_) (fun cH => ?_)
    · replace H := H.1 cH
      refine r_aload_n dX10_guessed_105 rfl rfl ?_
      refine r_aload_n dX10_guessed_106 rfl rfl ?_
      refine m_getF (x := 2952) hp fw_X10_517 dX10_guessed_107 rfl ly_10 (ff_10_55 ly_10) ?_
      refine r_iload_n dX10_guessed_110 rfl rfl ?_
      refine k_VI (As := [.ref 2952, .int x1]) (stk := []) hp cv_X10_777 dX10_guessed_111 rfl (Nat.le_of_ble_eq_true rfl) ly_10 (H.mono (fun v2 h2 H => ?_)) ⟨Nat.le_refl _, Nat.le_refl _⟩
      refine r_istore (ls2 := [some (.ref 2759), some (.int x1), some (.int x2), some (.int x3), some (.int v2), none]) dX10_guessed_114 (by decide) rfl ?_
      refine r_aload_n dX10_guessed_116 rfl rfl ?_
      refine m_getF (x := 2842) hp fw_X10_453 dX10_guessed_117 rfl ly_10 (ff_10_21 ly_10) ?_
      refine r_aload_n dX10_guessed_120 rfl rfl ?_
      refine m_getF (x := 2842) hp fw_X10_453 dX10_guessed_121 rfl ly_10 (ff_10_21 ly_10) ?_
      refine m_getF (x := 2849) hp fw_X10_237 dX10_guessed_124 rfl (lf_10_21 ly_10) (ff_11_11 (lf_10_21 ly_10)) ?_
      refine r_iload_n dX10_guessed_127 rfl rfl ?_
      refine r_iconst (v := (0 : Int32)) dX10_guessed_128 rfl ?_
      refine k_SI (As := [.ref 2849, .int x1, .int (0 : Int32)]) (stk := [.ref 2842]) cs_X10_781 dX10_guessed_129 rfl (Nat.le_of_ble_eq_true rfl) (H.mono (fun v3 h3 H => ?_)) ⟨Nat.le_refl _, Nat.le_refl _⟩
      refine m_putI hp fw_X10_240 dX10_guessed_132 rfl rfl (lf_10_21 ly_10) (fun h4 eh4 => ?_)
      replace H := H h4 eh4
      refine r_aload_n dX10_guessed_135 rfl rfl ?_
      refine m_getF (x := 2842) hp fw_X10_453 dX10_guessed_136 rfl ly_10 (ff_10_21 ly_10) ?_
      refine m_getI hp fw_X10_240 dX10_guessed_139 rfl (lf_10_21 ly_10) ?_
      refine r_bipush (v := (60 : Int32)) dX10_guessed_142 rfl ?_
      refine r_icmp_gt (tgt := 161) dX10_guessed_144 rfl (fun cH => ?_) (fun cH => ?_)
      · replace H := H.1 cH
        refine r_iconst (v := (-1 : Int32)) dX10_guessed_161 rfl ?_
        exact r_zret dX10_guessed_162 rfl rfl (Nat.le_refl _) (Nat.le_refl _) H
      · replace H := H.2 cH
        refine r_aload_n dX10_guessed_147 rfl rfl ?_
        refine m_getF (x := 2842) hp fw_X10_453 dX10_guessed_148 rfl ly_10 (ff_10_21 ly_10) ?_
        refine m_getI hp fw_X10_240 dX10_guessed_151 rfl (lf_10_21 ly_10) ?_
        refine r_aload_n dX10_guessed_154 rfl rfl ?_
        refine m_getI hp fw_X10_607 dX10_guessed_155 rfl ly_10 ?_
        refine r_icmp_le (tgt := 163) dX10_guessed_158 rfl (fun cH => ?_) (fun cH => ?_)
        · replace H := H.1 cH
          refine r_iconst (v := (0 : Int32)) dX10_guessed_163 rfl ?_
          refine r_istore (ls2 := [some (.ref 2759), some (.int x1), some (.int x2), some (.int x3), some (.int v2), some (.int (0 : Int32))]) dX10_guessed_164 (by decide) rfl ?_
          refine r_prune [true, true, false, true, false, true] (ls2 := [some (.ref 2759), some (.int x1), none, some (.int x3), none, some (.int (0 : Int32))]) rfl ?_
          exact H
        · replace H := H.2 cH
          refine r_iconst (v := (-1 : Int32)) dX10_guessed_161 rfl ?_
          exact r_zret dX10_guessed_162 rfl rfl (Nat.le_refl _) (Nat.le_refl _) H
    · replace H := H.2 cH
      refine r_iconst (v := (-1 : Int32)) dX10_guessed_103 rfl ?_
      exact r_zret dX10_guessed_104 rfl rfl (Nat.le_refl _) (Nat.le_refl _) H
  · replace H := H.2 cH
    refine r_aload_n dX10_guessed_9 rfl rfl ?_
    refine m_getF (x := 2952) hp fw_X10_517 dX10_guessed_10 rfl ly_10 (ff_10_55 ly_10) ?_
    refine r_iload dX10_guessed_13 rfl ?_
    refine r_aload_n dX10_guessed_15 rfl rfl ?_
    refine k_VR (As := []) (stk := [.int x4, .ref 2952]) hp cv_X10_74 dX10_guessed_16 rfl (Nat.le_of_ble_eq_true rfl) ly_10 (H.mono (fun v5 h5 H => ?_)) ⟨Nat.le_refl _, Nat.le_refl _⟩
    obtain ⟨tv5, H⟩ := H
    refine m_aast (nf := 0) hp dX10_guessed_19 (lf_10_55 ly_10) rfl (cw13).1 tv5 (lu_10_55 ly_10) H.1 H.2.1 (fun h6 eh6 => ?_)
    replace H := H.2.2 h6 eh6
    refine r_iconst (v := (0 : Int32)) dX10_guessed_20 rfl ?_
    refine r_istore (ls2 := [some (.ref 2759), some (.int x1), some (.int x2), some (.int x3), some (.int x4), some (.int (0 : Int32))]) dX10_guessed_21 (by decide) rfl ?_
    exact H
theorem s_X10_guessed_23 {g : GX} {d : Nat} {av : List Value} {Q : QT} {n : Nat} {h : Hp} {x1 : Int32} {x2 : Int32} {x3 : Int32} {x4 : Int32} {x5 : Int32} (hp : g.2.2.2.2 = true)  (H : ((x2 < x5) → (vp_in x4 8 ∧ ∃ r1, rr h 2952 (x4).toNatClampNeg = some r1 ∧ lay r1 = (0, 13, 2) ∧ (∀ h2, h2 = wi h r1 1 (x2 + (1 : Int32)) → (vp_in x4 8 ∧ ∃ r3, rr h2 2952 (x4).toNatClampNeg = some r3 ∧ lay r3 = (0, 13, 2) ∧ (CallV g m_X13_trim d [.ref r3] n h2 (fun h4 => (W_X10_guessed g d av Q n 3 [some (.ref 2759), some (.int x1), some (.int x2), some (.int x3), some (.int (x4 + (1 : Int32))), none] [] h4))))))) ∧ ((¬ x2 < x5) → (vp_in x4 8 ∧ ∃ r5, rr h 2952 (x4).toNatClampNeg = some r5 ∧ lay r5 = (0, 13, 2) ∧ (vp_in ((x4 * (x2 + (1 : Int32))) + x5) 46 ∧ (vp_in x5 (rm (r5 + 1)) ∧ ∀ h6, h6 = wi h (r5 + 1) (x5).toNatClampNeg (ri h 3032 (((x4 * (x2 + (1 : Int32))) + x5)).toNatClampNeg) → (W_X10_guessed g d av Q n 23 [some (.ref 2759), some (.int x1), some (.int x2), some (.int x3), some (.int x4), some (.int (x5 + (1 : Int32)))] [] h6)))))) : W_X10_guessed g d av Q n 23 [some (.ref 2759), some (.int x1), some (.int x2), some (.int x3), some (.int x4), some (.int x5)] [] h := by
  refine r_iload dX10_guessed_23 rfl ?_
  refine r_iload_n dX10_guessed_25 rfl rfl ?_
  refine r_icmp_gt (tgt := 62) dX10_guessed_26 rfl (fun cH => ?_) (fun cH => ?_)
  · replace H := H.1 cH
    refine r_aload_n dX10_guessed_62 rfl rfl ?_
    refine m_getF (x := 2952) hp fw_X10_517 dX10_guessed_63 rfl ly_10 (ff_10_55 ly_10) ?_
    refine r_iload dX10_guessed_66 rfl ?_
    have hir1 := H.1
    obtain ⟨r1, er1, tr1, H⟩ := H.2
    refine m_aalM (x := r1) hp dX10_guessed_68 (lf_10_55 ly_10) rfl rfl (lu_10_55 ly_10) hir1 er1 ?_
    refine r_iload_n dX10_guessed_69 rfl rfl ?_
    refine r_iconst (v := (1 : Int32)) dX10_guessed_70 rfl ?_
    refine r_iadd dX10_guessed_71 ?_
    refine m_putI hp fw_X10_25 dX10_guessed_72 rfl rfl tr1 (fun h2 eh2 => ?_)
    replace H := H h2 eh2
    refine r_aload_n dX10_guessed_75 rfl rfl ?_
    refine m_getF (x := 2952) hp fw_X10_517 dX10_guessed_76 rfl ly_10 (ff_10_55 ly_10) ?_
    refine r_iload dX10_guessed_79 rfl ?_
    have hir3 := H.1
    obtain ⟨r3, er3, tr3, H⟩ := H.2
    refine m_aalM (x := r3) hp dX10_guessed_81 (lf_10_55 ly_10) rfl rfl (lu_10_55 ly_10) hir3 er3 ?_
    refine k_VV (As := []) (stk := []) hp cv_X10_52 dX10_guessed_82 rfl (Nat.le_of_ble_eq_true rfl) tr3 (H.mono (fun h4 H => ?_)) ⟨Nat.le_refl _, Nat.le_refl _⟩
    refine r_iinc (v := (x4 + (1 : Int32))) (ls2 := [some (.ref 2759), some (.int x1), some (.int x2), some (.int x3), some (.int (x4 + (1 : Int32))), some (.int x5)]) dX10_guessed_85 rfl rfl (by decide) rfl ?_
    refine r_goto (tgt := 3) dX10_guessed_88 rfl ?_
    refine r_prune [true, true, true, true, true, false] (ls2 := [some (.ref 2759), some (.int x1), some (.int x2), some (.int x3), some (.int (x4 + (1 : Int32))), none]) rfl ?_
    exact H
  · replace H := H.2 cH
    refine r_aload_n dX10_guessed_29 rfl rfl ?_
    refine m_getF (x := 2952) hp fw_X10_517 dX10_guessed_30 rfl ly_10 (ff_10_55 ly_10) ?_
    refine r_iload dX10_guessed_33 rfl ?_
    have hir5 := H.1
    obtain ⟨r5, er5, tr5, H⟩ := H.2
    refine m_aalM (x := r5) hp dX10_guessed_35 (lf_10_55 ly_10) rfl rfl (lu_10_55 ly_10) hir5 er5 ?_
    refine m_getF (x := (r5 + 1)) hp fw_X10_30 dX10_guessed_36 rfl tr5 (ff_13_0 tr5) ?_
    refine r_iload dX10_guessed_39 rfl ?_
    refine r_aload_n dX10_guessed_41 rfl rfl ?_
    refine m_getF (x := 3032) hp fw_X10_535 dX10_guessed_42 rfl ly_10 (ff_10_61 ly_10) ?_
    refine r_iload dX10_guessed_45 rfl ?_
    refine r_iload_n dX10_guessed_47 rfl rfl ?_
    refine r_iconst (v := (1 : Int32)) dX10_guessed_48 rfl ?_
    refine r_iadd dX10_guessed_49 ?_
    refine r_imul dX10_guessed_50 ?_
    refine r_iload dX10_guessed_51 rfl ?_
    refine r_iadd dX10_guessed_53 ?_
    refine m_iald hp dX10_guessed_54 (lf_10_61 ly_10) H.1 ?_
    replace H := H.2
    refine m_iast hp dX10_guessed_55 (lf_13_0 tr5) H.1 (fun h6 eh6 => ?_)
    replace H := H.2 h6 eh6
    refine r_iinc (v := (x5 + (1 : Int32))) (ls2 := [some (.ref 2759), some (.int x1), some (.int x2), some (.int x3), some (.int x4), some (.int (x5 + (1 : Int32)))]) dX10_guessed_56 rfl rfl (by decide) rfl ?_
    refine r_goto (tgt := 23) dX10_guessed_59 rfl ?_
    exact H
theorem s_X10_guessed_166 {g : GX} {d : Nat} {av : List Value} {Q : QT} {n : Nat} {h : Hp} {x1 : Int32} {x3 : Int32} {x5 : Int32} (hp : g.2.2.2.2 = true)  (H : (((ri h 2842 12) ≤ x5) → (∀ h1, h1 = wi h 2842 13 (ri h 2842 12) → (CallV g m_X10_fill d [.ref 2842] n h1 (fun h2 => (vp_in x3 12 ∧ ∀ r3, r3 = 10245 + 9 * (x3).toNatClampNeg → (CallV g m_X10_copy d [.ref r3, .ref 2842] n h2 (fun h4 => (Q (some (.int x1)) n h4)))))))) ∧ ((¬ (ri h 2842 12) ≤ x5) → (vp_in x5 60 ∧ (vp_in x5 361 ∧ ∀ h5, h5 = wi h 2850 (x5).toNatClampNeg (ri h 2853 (x5).toNatClampNeg) → (W_X10_guessed g d av Q n 166 [some (.ref 2759), some (.int x1), none, some (.int x3), none, some (.int (x5 + (1 : Int32)))] [] h5))))) : W_X10_guessed g d av Q n 166 [some (.ref 2759), some (.int x1), none, some (.int x3), none, some (.int x5)] [] h := by
  refine r_iload dX10_guessed_166 rfl ?_
  refine r_aload_n dX10_guessed_168 rfl rfl ?_
  refine m_getF (x := 2842) hp fw_X10_453 dX10_guessed_169 rfl ly_10 (ff_10_21 ly_10) ?_
  refine m_getI hp fw_X10_240 dX10_guessed_172 rfl (lf_10_21 ly_10) ?_
  refine r_icmp_ge (tgt := 201) dX10_guessed_175 rfl (fun cH => ?_) (fun cH => ?_)
  · replace H := H.1 cH
    refine r_aload_n dX10_guessed_201 rfl rfl ?_
    refine m_getF (x := 2842) hp fw_X10_453 dX10_guessed_202 rfl ly_10 (ff_10_21 ly_10) ?_
    refine r_aload_n dX10_guessed_205 rfl rfl ?_
    refine m_getF (x := 2842) hp fw_X10_453 dX10_guessed_206 rfl ly_10 (ff_10_21 ly_10) ?_
    refine m_getI hp fw_X10_240 dX10_guessed_209 rfl (lf_10_21 ly_10) ?_
    refine m_putI hp fw_X10_243 dX10_guessed_212 rfl rfl (lf_10_21 ly_10) (fun h1 eh1 => ?_)
    replace H := H h1 eh1
    refine r_aload_n dX10_guessed_215 rfl rfl ?_
    refine m_getF (x := 2842) hp fw_X10_453 dX10_guessed_216 rfl ly_10 (ff_10_21 ly_10) ?_
    refine k_SV (As := [.ref 2842]) (stk := []) cs_X10_784 dX10_guessed_219 rfl (Nat.le_of_ble_eq_true rfl) (H.mono (fun h2 H => ?_)) ⟨Nat.le_refl _, Nat.le_refl _⟩
    refine r_aload_n dX10_guessed_222 rfl rfl ?_
    refine m_getF (x := 2841) hp fw_X10_450 dX10_guessed_223 rfl ly_10 (ff_10_20 ly_10) ?_
    refine r_iload_n dX10_guessed_226 rfl rfl ?_
    obtain ⟨r3, er3⟩ : ∃ y, y = 10245 + 9 * (x3).toNatClampNeg := ⟨_, rfl⟩
    have hir3 := H.1
    replace H := H.2 r3 er3
    have tLr3 := la_2841 hir3 er3
    refine m_aalF (x := r3) hp dX10_guessed_227 (lf_10_20 ly_10) rfl rfl (lu_10_20 ly_10) hir3 (fa_2841 hir3 er3) ?_
    refine r_aload_n dX10_guessed_228 rfl rfl ?_
    refine m_getF (x := 2842) hp fw_X10_453 dX10_guessed_229 rfl ly_10 (ff_10_21 ly_10) ?_
    refine k_SV (As := [.ref r3, .ref 2842]) (stk := []) cs_X10_547 dX10_guessed_232 rfl (Nat.le_of_ble_eq_true rfl) (H.mono (fun h4 H => ?_)) ⟨Nat.le_refl _, Nat.le_refl _⟩
    refine r_iload_n dX10_guessed_235 rfl rfl ?_
    exact r_zret dX10_guessed_236 rfl rfl (Nat.le_refl _) (Nat.le_refl _) H
  · replace H := H.2 cH
    refine r_aload_n dX10_guessed_178 rfl rfl ?_
    refine m_getF (x := 2842) hp fw_X10_453 dX10_guessed_179 rfl ly_10 (ff_10_21 ly_10) ?_
    refine m_getF (x := 2850) hp fw_X10_246 dX10_guessed_182 rfl (lf_10_21 ly_10) (ff_11_14 (lf_10_21 ly_10)) ?_
    refine r_iload dX10_guessed_185 rfl ?_
    refine r_aload_n dX10_guessed_187 rfl rfl ?_
    refine m_getF (x := 2853) hp fw_X10_465 dX10_guessed_188 rfl ly_10 (ff_10_28 ly_10) ?_
    refine r_iload dX10_guessed_191 rfl ?_
    refine m_iald hp dX10_guessed_193 (lf_10_28 ly_10) H.1 ?_
    replace H := H.2
    refine m_iast hp dX10_guessed_194 (lf_11_14 (lf_10_21 ly_10)) H.1 (fun h5 eh5 => ?_)
    replace H := H.2 h5 eh5
    refine r_iinc (v := (x5 + (1 : Int32))) (ls2 := [some (.ref 2759), some (.int x1), none, some (.int x3), none, some (.int (x5 + (1 : Int32)))]) dX10_guessed_195 rfl rfl (by decide) rfl ?_
    refine r_goto (tgt := 166) dX10_guessed_198 rfl ?_
    exact H
abbrev W_X10_roots (g : GX) (d : Nat) (av : List Value) (Q : QT) (n : Nat) (pc : Nat) (ls : LV) (stk : List Value) (h : Hp) : Prop := RJ g m_X10_roots (d + 1) 0 0 av Q pc ls stk n h 0 0
theorem s_X10_roots_0 {g : GX} {d : Nat} {av : List Value} {Q : QT} {n : Nat} {h : Hp} {x1 : Int32} (hp : g.2.2.2.2 = true)  (H : CallI g m_X10_isSlot d [.int x1] n h (fun v1 h1 => (((¬ v1 = (0 : Int32)) → (vp_in x1 12 ∧ ∀ r2, r2 = 10245 + 9 * (x1).toNatClampNeg → (CallI g m_X10_isPolynomial d [.ref r2] n h1 (fun v3 h3 => (((v3 = (0 : Int32)) → (Q (some (.int (-3 : Int32))) n h3)) ∧ ((¬ v3 = (0 : Int32)) → (CallI g m_X10_isZero d [.ref r2] n h3 (fun v4 h4 => (((¬ v4 = (0 : Int32)) → (Q (some (.int (-3 : Int32))) n h4)) ∧ ((v4 = (0 : Int32)) → (CallI g m_X10_degree_2 d [.ref (r2 + 1), .int (1 : Int32)] n h4 (fun v5 h5 => (((v5 ≤ (0 : Int32)) → (CallV g m_X10_begin d [.ref 2759] n h5 (fun h6 => (CallR g m_X10_newU d [.ref 2759] n h6 (fun v7 h7 => (lay v7 = (0, 13, 2) ∧ (CallR g m_X10_newU d [.ref 2759] n h7 (fun v8 h8 => (lay v8 = (0, 13, 2) ∧ (CallR g m_X10_newU d [.ref 2759] n h8 (fun v9 h9 => (lay v9 = (0, 13, 2) ∧ (CallR g m_X10_newU d [.ref 2759] n h9 (fun v10 h10 => (lay v10 = (0, 13, 2) ∧ (CallR g m_X10_newU d [.ref 2759] n h10 (fun v11 h11 => (lay v11 = (0, 13, 2) ∧ (CallV g m_X10_load_2 d [.ref v7, .ref (r2 + 1), .int (0 : Int32)] n h11 (fun h12 => (∀ h13, h13 = wi h12 2759 63 (0 : Int32) → (∀ h14, h14 = wi h13 2759 31 (0 : Int32) → ((((ri h14 v7 1) ≤ (1 : Int32)) → (W_X10_roots g d av Q n 164 [some (.ref 2759), none, none, some (.ref v7), none, some (.ref v9), some (.ref v10), some (.ref v11), none, none, none] [] h14)) ∧ ((¬ (ri h14 v7 1) ≤ (1 : Int32)) → (vp_in (0 : Int32) (rm (v9 + 1)) ∧ ∀ h15, h15 = wi h14 (v9 + 1) ((0 : Int32)).toNatClampNeg (0 : Int32) → (vp_in (1 : Int32) (rm (v9 + 1)) ∧ ∀ h16, h16 = wi h15 (v9 + 1) ((1 : Int32)).toNatClampNeg (1 : Int32) → (∀ h17, h17 = wi h16 v9 1 (2 : Int32) → (CallV g m_X10_powerOf d [.ref 2759, .ref v8, .ref v9, .long (2147483647 : Int64), .ref v7] n h17 (fun h18 => (CallV g m_X10_plus d [.ref v8, .ref v8, .ref v9, .int (1 : Int32)] n h18 (fun h19 => (CallV g m_X10_gcd_2 d [.ref 2759, .ref v8, .ref v8, .ref v7] n h19 (fun h20 => (CallV g m_X10_split d [.ref 2759, .ref v8, .int (0 : Int32)] n h20 (fun h21 => (W_X10_roots g d av Q n 164 [some (.ref 2759), none, none, some (.ref v7), none, some (.ref v9), some (.ref v10), some (.ref v11), none, none, none] [] h21)))))))))))))))))))))))))))))))))))) ∧ ((¬ v5 ≤ (0 : Int32)) → (Q (some (.int (-3 : Int32))) n h5))))))))))))))) ∧ ((v1 = (0 : Int32)) → (Q (some (.int (-1 : Int32))) n h1))))) : W_X10_roots g d av Q n 0 [some (.ref 2759), some (.int x1), none, none, none, none, none, none, none, none, none] [] h := by
  refine r_iload_n dX10_roots_0 rfl rfl ?_
  refine k_SI (As := [.int x1]) (stk := []) cs_X10_551 dX10_roots_1 rfl (Nat.le_of_ble_eq_true rfl) (H.mono (fun v1 h1 H => ?_)) ⟨Nat.le_refl _, Nat.le_refl _⟩
  refine r_if_ne (tgt := 9) dX10_roots_4 rfl (fun cH => ?_) (fun cH => ?_)
  · replace H := H.1 cH
    refine r_aload_n dX10_roots_9 rfl rfl ?_
    refine m_getF (x := 2841) hp fw_X10_450 dX10_roots_10 rfl ly_10 (ff_10_20 ly_10) ?_
    refine r_iload_n dX10_roots_13 rfl rfl ?_
    obtain ⟨r2, er2⟩ : ∃ y, y = 10245 + 9 * (x1).toNatClampNeg := ⟨_, rfl⟩
    have hir2 := H.1
    replace H := H.2 r2 er2
    have tLr2 := la_2841 hir2 er2
    refine m_aalF (x := r2) hp dX10_roots_14 (lf_10_20 ly_10) rfl rfl (lu_10_20 ly_10) hir2 (fa_2841 hir2 er2) ?_
    refine r_astore_n (ls2 := [some (.ref 2759), some (.int x1), some (.ref r2), none, none, none, none, none, none, none, none]) dX10_roots_15 rfl (by decide) rfl ?_
    refine r_aload_n dX10_roots_16 rfl rfl ?_
    refine k_SI (As := [.ref r2]) (stk := []) cs_X10_637 dX10_roots_17 rfl (Nat.le_of_ble_eq_true rfl) (H.mono (fun v3 h3 H => ?_)) ⟨Nat.le_refl _, Nat.le_refl _⟩
    refine r_if_eq (tgt := 41) dX10_roots_20 rfl (fun cH => ?_) (fun cH => ?_)
    · replace H := H.1 cH
      refine r_bipush (v := (-3 : Int32)) dX10_roots_41 rfl ?_
      exact r_zret dX10_roots_43 rfl rfl (Nat.le_refl _) (Nat.le_refl _) H
    · replace H := H.2 cH
      refine r_aload_n dX10_roots_23 rfl rfl ?_
      refine k_SI (As := [.ref r2]) (stk := []) cs_X10_288 dX10_roots_24 rfl (Nat.le_of_ble_eq_true rfl) (H.mono (fun v4 h4 H => ?_)) ⟨Nat.le_refl _, Nat.le_refl _⟩
      refine r_if_ne (tgt := 41) dX10_roots_27 rfl (fun cH => ?_) (fun cH => ?_)
      · replace H := H.1 cH
        refine r_bipush (v := (-3 : Int32)) dX10_roots_41 rfl ?_
        exact r_zret dX10_roots_43 rfl rfl (Nat.le_refl _) (Nat.le_refl _) H
      · replace H := H.2 cH
        refine r_aload_n dX10_roots_30 rfl rfl ?_
        refine m_getF (x := (r2 + 1)) hp fw_X10_207 dX10_roots_31 rfl tLr2 (ff_11_1 tLr2) ?_
        refine r_iconst (v := (1 : Int32)) dX10_roots_34 rfl ?_
        refine k_SI (As := [.ref (r2 + 1), .int (1 : Int32)]) (stk := []) cs_X10_603 dX10_roots_35 rfl (Nat.le_of_ble_eq_true rfl) (H.mono (fun v5 h5 H => ?_)) ⟨Nat.le_refl _, Nat.le_refl _⟩
        refine r_if_le (tgt := 44) dX10_roots_38 rfl (fun cH => ?_) (fun cH => ?_)
        · replace H := H.1 cH
          refine r_aload_n dX10_roots_44 rfl rfl ?_
          refine k_VV (As := []) (stk := []) hp cv_X10_555 dX10_roots_45 rfl (Nat.le_of_ble_eq_true rfl) ly_10 (H.mono (fun h6 H => ?_)) ⟨Nat.le_refl _, Nat.le_refl _⟩
          refine r_aload_n dX10_roots_48 rfl rfl ?_
          refine k_VR (As := []) (stk := []) hp cv_X10_74 dX10_roots_49 rfl (Nat.le_of_ble_eq_true rfl) ly_10 (H.mono (fun v7 h7 H => ?_)) ⟨Nat.le_refl _, Nat.le_refl _⟩
          obtain ⟨tv7, H⟩ := H
          refine r_astore_n (ls2 := [some (.ref 2759), some (.int x1), some (.ref r2), some (.ref v7), none, none, none, none, none, none, none]) dX10_roots_52 rfl (by decide) rfl ?_
          refine r_aload_n dX10_roots_53 rfl rfl ?_
          refine k_VR (As := []) (stk := []) hp cv_X10_74 dX10_roots_54 rfl (Nat.le_of_ble_eq_true rfl) ly_10 (H.mono (fun v8 h8 H => ?_)) ⟨Nat.le_refl _, Nat.le_refl _⟩
          obtain ⟨tv8, H⟩ := H
          refine r_astore (ls2 := [some (.ref 2759), some (.int x1), some (.ref r2), some (.ref v7), some (.ref v8), none, none, none, none, none, none]) dX10_roots_57 (by decide) rfl ?_
          refine r_aload_n dX10_roots_59 rfl rfl ?_
          refine k_VR (As := []) (stk := []) hp cv_X10_74 dX10_roots_60 rfl (Nat.le_of_ble_eq_true rfl) ly_10 (H.mono (fun v9 h9 H => ?_)) ⟨Nat.le_refl _, Nat.le_refl _⟩
          obtain ⟨tv9, H⟩ := H
          refine r_astore (ls2 := [some (.ref 2759), some (.int x1), some (.ref r2), some (.ref v7), some (.ref v8), some (.ref v9), none, none, none, none, none]) dX10_roots_63 (by decide) rfl ?_
          refine r_aload_n dX10_roots_65 rfl rfl ?_
          refine k_VR (As := []) (stk := []) hp cv_X10_74 dX10_roots_66 rfl (Nat.le_of_ble_eq_true rfl) ly_10 (H.mono (fun v10 h10 H => ?_)) ⟨Nat.le_refl _, Nat.le_refl _⟩
          obtain ⟨tv10, H⟩ := H
          refine r_astore (ls2 := [some (.ref 2759), some (.int x1), some (.ref r2), some (.ref v7), some (.ref v8), some (.ref v9), some (.ref v10), none, none, none, none]) dX10_roots_69 (by decide) rfl ?_
          refine r_aload_n dX10_roots_71 rfl rfl ?_
          refine k_VR (As := []) (stk := []) hp cv_X10_74 dX10_roots_72 rfl (Nat.le_of_ble_eq_true rfl) ly_10 (H.mono (fun v11 h11 H => ?_)) ⟨Nat.le_refl _, Nat.le_refl _⟩
          obtain ⟨tv11, H⟩ := H
          refine r_astore (ls2 := [some (.ref 2759), some (.int x1), some (.ref r2), some (.ref v7), some (.ref v8), some (.ref v9), some (.ref v10), some (.ref v11), none, none, none]) dX10_roots_75 (by decide) rfl ?_
          refine r_aload_n dX10_roots_77 rfl rfl ?_
          refine r_aload_n dX10_roots_78 rfl rfl ?_
          refine m_getF (x := (r2 + 1)) hp fw_X10_207 dX10_roots_79 rfl tLr2 (ff_11_1 tLr2) ?_
          refine r_iconst (v := (0 : Int32)) dX10_roots_82 rfl ?_
          refine k_SV (As := [.ref v7, .ref (r2 + 1), .int (0 : Int32)]) (stk := []) cs_X10_775 dX10_roots_83 rfl (Nat.le_of_ble_eq_true rfl) (H.mono (fun h12 H => ?_)) ⟨Nat.le_refl _, Nat.le_refl _⟩
          refine r_aload_n dX10_roots_86 rfl rfl ?_
          refine r_iconst (v := (0 : Int32)) dX10_roots_87 rfl ?_
          refine m_putI hp fw_X10_814 dX10_roots_88 rfl rfl ly_10 (fun h13 eh13 => ?_)
          replace H := H h13 eh13
          refine r_aload_n dX10_roots_91 rfl rfl ?_
          refine r_iconst (v := (0 : Int32)) dX10_roots_92 rfl ?_
          refine m_putI hp fw_X10_610 dX10_roots_93 rfl rfl ly_10 (fun h14 eh14 => ?_)
          replace H := H h14 eh14
          refine r_aload_n dX10_roots_96 rfl rfl ?_
          refine m_getI hp fw_X10_25 dX10_roots_97 rfl tv7 ?_
          refine r_iconst (v := (1 : Int32)) dX10_roots_100 rfl ?_
          refine r_icmp_le (tgt := 164) dX10_roots_101 rfl (fun cH => ?_) (fun cH => ?_)
          · replace H := H.1 cH
            refine r_prune [true, false, false, true, false, true, true, true, false, false, false] (ls2 := [some (.ref 2759), none, none, some (.ref v7), none, some (.ref v9), some (.ref v10), some (.ref v11), none, none, none]) rfl ?_
            exact H
          · replace H := H.2 cH
            refine r_aload dX10_roots_104 rfl ?_
            refine m_getF (x := (v9 + 1)) hp fw_X10_30 dX10_roots_106 rfl tv9 (ff_13_0 tv9) ?_
            refine r_iconst (v := (0 : Int32)) dX10_roots_109 rfl ?_
            refine r_iconst (v := (0 : Int32)) dX10_roots_110 rfl ?_
            refine m_iast hp dX10_roots_111 (lf_13_0 tv9) H.1 (fun h15 eh15 => ?_)
            replace H := H.2 h15 eh15
            refine r_aload dX10_roots_112 rfl ?_
            refine m_getF (x := (v9 + 1)) hp fw_X10_30 dX10_roots_114 rfl tv9 (ff_13_0 tv9) ?_
            refine r_iconst (v := (1 : Int32)) dX10_roots_117 rfl ?_
            refine r_iconst (v := (1 : Int32)) dX10_roots_118 rfl ?_
            refine m_iast hp dX10_roots_119 (lf_13_0 tv9) H.1 (fun h16 eh16 => ?_)
            replace H := H.2 h16 eh16
            refine r_aload dX10_roots_120 rfl ?_
            refine r_iconst (v := (2 : Int32)) dX10_roots_122 rfl ?_
            refine m_putI hp fw_X10_25 dX10_roots_123 rfl rfl tv9 (fun h17 eh17 => ?_)
            replace H := H h17 eh17
            refine r_aload_n dX10_roots_126 rfl rfl ?_
            refine r_aload dX10_roots_127 rfl ?_
            refine r_aload dX10_roots_129 rfl ?_
            refine r_ldc2 (own := "") (v := (2147483647 : Int64)) dX10_roots_131 q2239 ?_
            refine r_aload_n dX10_roots_134 rfl rfl ?_
            refine k_VV (As := [.ref v8, .ref v9, .long (2147483647 : Int64), .ref v7]) (stk := []) hp cv_X10_819 dX10_roots_135 rfl (Nat.le_of_ble_eq_true rfl) ly_10 (H.mono (fun h18 H => ?_)) ⟨Nat.le_refl _, Nat.le_refl _⟩
            refine r_aload dX10_roots_138 rfl ?_
            refine r_aload dX10_roots_140 rfl ?_
            refine r_aload dX10_roots_142 rfl ?_
            refine r_iconst (v := (1 : Int32)) dX10_roots_144 rfl ?_
            refine k_SV (As := [.ref v8, .ref v8, .ref v9, .int (1 : Int32)]) (stk := []) cs_X10_101 dX10_roots_145 rfl (Nat.le_of_ble_eq_true rfl) (H.mono (fun h19 H => ?_)) ⟨Nat.le_refl _, Nat.le_refl _⟩
            refine r_aload_n dX10_roots_148 rfl rfl ?_
            refine r_aload dX10_roots_149 rfl ?_
            refine r_aload dX10_roots_151 rfl ?_
            refine r_aload_n dX10_roots_153 rfl rfl ?_
            refine k_VV (As := [.ref v8, .ref v8, .ref v7]) (stk := []) hp cv_X10_125 dX10_roots_154 rfl (Nat.le_of_ble_eq_true rfl) ly_10 (H.mono (fun h20 H => ?_)) ⟨Nat.le_refl _, Nat.le_refl _⟩
            refine r_aload_n dX10_roots_157 rfl rfl ?_
            refine r_aload dX10_roots_158 rfl ?_
            refine r_iconst (v := (0 : Int32)) dX10_roots_160 rfl ?_
            refine k_VV (As := [.ref v8, .int (0 : Int32)]) (stk := []) hp cv_X10_823 dX10_roots_161 rfl (Nat.le_of_ble_eq_true rfl) ly_10 (H.mono (fun h21 H => ?_)) ⟨Nat.le_refl _, Nat.le_refl _⟩
            refine r_prune [true, false, false, true, false, true, true, true, false, false, false] (ls2 := [some (.ref 2759), none, none, some (.ref v7), none, some (.ref v9), some (.ref v10), some (.ref v11), none, none, none]) rfl ?_
            exact H
        · replace H := H.2 cH
          refine r_bipush (v := (-3 : Int32)) dX10_roots_41 rfl ?_
          exact r_zret dX10_roots_43 rfl rfl (Nat.le_refl _) (Nat.le_refl _) H
  · replace H := H.2 cH
    refine r_iconst (v := (-1 : Int32)) dX10_roots_7 rfl ?_
    exact r_zret dX10_roots_8 rfl rfl (Nat.le_refl _) (Nat.le_refl _) H
theorem s_X10_roots_164 {g : GX} {d : Nat} {av : List Value} {Q : QT} {n : Nat} {h : Hp} {a3 : Nat} {a5 : Nat} {a6 : Nat} {a7 : Nat} (hp : g.2.2.2.2 = true) (t3 : lay a3 = (0, 13, 2)) (t5 : lay a5 = (0, 13, 2)) (t6 : lay a6 = (0, 13, 2)) (t7 : lay a7 = (0, 13, 2)) (H : W_X10_roots g d av Q n 167 [some (.ref 2759), none, none, some (.ref a3), none, some (.ref a5), some (.ref a6), some (.ref a7), some (.int (0 : Int32)), none, none] [] h) : W_X10_roots g d av Q n 164 [some (.ref 2759), none, none, some (.ref a3), none, some (.ref a5), some (.ref a6), some (.ref a7), none, none, none] [] h := by
  refine r_iconst (v := (0 : Int32)) dX10_roots_164 rfl ?_
  refine r_istore (ls2 := [some (.ref 2759), none, none, some (.ref a3), none, some (.ref a5), some (.ref a6), some (.ref a7), some (.int (0 : Int32)), none, none]) dX10_roots_165 (by decide) rfl ?_
  exact H
theorem s_X10_roots_167 {g : GX} {d : Nat} {av : List Value} {Q : QT} {n : Nat} {h : Hp} {a3 : Nat} {a5 : Nat} {a6 : Nat} {a7 : Nat} {x8 : Int32} (hp : g.2.2.2.2 = true) (t3 : lay a3 = (0, 13, 2)) (t5 : lay a5 = (0, 13, 2)) (t6 : lay a6 = (0, 13, 2)) (t7 : lay a7 = (0, 13, 2)) (H : (((ri h 2759 63) ≤ x8) → (W_X10_roots g d av Q n 248 [some (.ref 2759), none, none, some (.ref a3), none, some (.ref a5), some (.ref a6), some (.ref a7), some (.int (0 : Int32)), none, none] [] h)) ∧ ((¬ (ri h 2759 63) ≤ x8) → (vp_in x8 30 ∧ (W_X10_roots g d av Q n 189 [some (.ref 2759), none, none, some (.ref a3), none, some (.ref a5), some (.ref a6), some (.ref a7), some (.int x8), some (.int x8), some (.int (ri h 3033 (x8).toNatClampNeg))] [] h)))) : W_X10_roots g d av Q n 167 [some (.ref 2759), none, none, some (.ref a3), none, some (.ref a5), some (.ref a6), some (.ref a7), some (.int x8), none, none] [] h := by
  refine r_iload dX10_roots_167 rfl ?_
  refine r_aload_n dX10_roots_169 rfl rfl ?_
  refine m_getI hp fw_X10_814 dX10_roots_170 rfl ly_10 ?_
  refine r_icmp_ge (tgt := 245) dX10_roots_173 rfl (fun cH => ?_) (fun cH => ?_)
  · replace H := H.1 cH
    refine r_iconst (v := (0 : Int32)) dX10_roots_245 rfl ?_
    refine r_istore (ls2 := [some (.ref 2759), none, none, some (.ref a3), none, some (.ref a5), some (.ref a6), some (.ref a7), some (.int (0 : Int32)), none, none]) dX10_roots_246 (by decide) rfl ?_
    exact H
  · replace H := H.2 cH
    refine r_iload dX10_roots_176 rfl ?_
    refine r_istore (ls2 := [some (.ref 2759), none, none, some (.ref a3), none, some (.ref a5), some (.ref a6), some (.ref a7), some (.int x8), some (.int x8), none]) dX10_roots_178 (by decide) rfl ?_
    refine r_aload_n dX10_roots_180 rfl rfl ?_
    refine m_getF (x := 3033) hp fw_X10_538 dX10_roots_181 rfl ly_10 (ff_10_62 ly_10) ?_
    refine r_iload dX10_roots_184 rfl ?_
    refine m_iald hp dX10_roots_186 (lf_10_62 ly_10) H.1 ?_
    replace H := H.2
    refine r_istore (ls2 := [some (.ref 2759), none, none, some (.ref a3), none, some (.ref a5), some (.ref a6), some (.ref a7), some (.int x8), some (.int x8), some (.int (ri h 3033 (x8).toNatClampNeg))]) dX10_roots_187 (by decide) rfl ?_
    exact H
theorem s_X10_roots_189 {g : GX} {d : Nat} {av : List Value} {Q : QT} {n : Nat} {h : Hp} {a3 : Nat} {a5 : Nat} {a6 : Nat} {a7 : Nat} {x8 : Int32} {x9 : Int32} {x10 : Int32} (hp : g.2.2.2.2 = true) (t3 : lay a3 = (0, 13, 2)) (t5 : lay a5 = (0, 13, 2)) (t6 : lay a6 = (0, 13, 2)) (t7 : lay a7 = (0, 13, 2)) (H : ((x9 ≤ (0 : Int32)) → (W_X10_roots g d av Q n 230 [some (.ref 2759), none, none, some (.ref a3), none, some (.ref a5), some (.ref a6), some (.ref a7), some (.int x8), some (.int x9), some (.int x10)] [] h)) ∧ ((¬ x9 ≤ (0 : Int32)) → (vp_in (x9 - (1 : Int32)) 30 ∧ ((((ri h 3033 ((x9 - (1 : Int32))).toNatClampNeg) ≤ x10) → (W_X10_roots g d av Q n 230 [some (.ref 2759), none, none, some (.ref a3), none, some (.ref a5), some (.ref a6), some (.ref a7), some (.int x8), some (.int x9), some (.int x10)] [] h)) ∧ ((¬ (ri h 3033 ((x9 - (1 : Int32))).toNatClampNeg) ≤ x10) → (vp_in (x9 - (1 : Int32)) 30 ∧ (vp_in x9 30 ∧ ∀ h1, h1 = wi h 3033 (x9).toNatClampNeg (ri h 3033 ((x9 - (1 : Int32))).toNatClampNeg) → (W_X10_roots g d av Q n 189 [some (.ref 2759), none, none, some (.ref a3), none, some (.ref a5), some (.ref a6), some (.ref a7), some (.int x8), some (.int (x9 + (-1 : Int32))), some (.int x10)] [] h1)))))))) : W_X10_roots g d av Q n 189 [some (.ref 2759), none, none, some (.ref a3), none, some (.ref a5), some (.ref a6), some (.ref a7), some (.int x8), some (.int x9), some (.int x10)] [] h := by
  refine r_iload dX10_roots_189 rfl ?_
  refine r_if_le (tgt := 230) dX10_roots_191 rfl (fun cH => ?_) (fun cH => ?_)
  · replace H := H.1 cH
    exact H
  · replace H := H.2 cH
    refine r_aload_n dX10_roots_194 rfl rfl ?_
    refine m_getF (x := 3033) hp fw_X10_538 dX10_roots_195 rfl ly_10 (ff_10_62 ly_10) ?_
    refine r_iload dX10_roots_198 rfl ?_
    refine r_iconst (v := (1 : Int32)) dX10_roots_200 rfl ?_
    refine r_isub dX10_roots_201 ?_
    refine m_iald hp dX10_roots_202 (lf_10_62 ly_10) H.1 ?_
    replace H := H.2
    refine r_iload dX10_roots_203 rfl ?_
    refine r_icmp_le (tgt := 230) dX10_roots_205 rfl (fun cH => ?_) (fun cH => ?_)
    · replace H := H.1 cH
      exact H
    · replace H := H.2 cH
      refine r_aload_n dX10_roots_208 rfl rfl ?_
      refine m_getF (x := 3033) hp fw_X10_538 dX10_roots_209 rfl ly_10 (ff_10_62 ly_10) ?_
      refine r_iload dX10_roots_212 rfl ?_
      refine r_aload_n dX10_roots_214 rfl rfl ?_
      refine m_getF (x := 3033) hp fw_X10_538 dX10_roots_215 rfl ly_10 (ff_10_62 ly_10) ?_
      refine r_iload dX10_roots_218 rfl ?_
      refine r_iconst (v := (1 : Int32)) dX10_roots_220 rfl ?_
      refine r_isub dX10_roots_221 ?_
      refine m_iald hp dX10_roots_222 (lf_10_62 ly_10) H.1 ?_
      replace H := H.2
      refine m_iast hp dX10_roots_223 (lf_10_62 ly_10) H.1 (fun h1 eh1 => ?_)
      replace H := H.2 h1 eh1
      refine r_iinc (v := (x9 + (-1 : Int32))) (ls2 := [some (.ref 2759), none, none, some (.ref a3), none, some (.ref a5), some (.ref a6), some (.ref a7), some (.int x8), some (.int (x9 + (-1 : Int32))), some (.int x10)]) dX10_roots_224 rfl rfl (by decide) rfl ?_
      refine r_goto (tgt := 189) dX10_roots_227 rfl ?_
      exact H
theorem s_X10_roots_230 {g : GX} {d : Nat} {av : List Value} {Q : QT} {n : Nat} {h : Hp} {a3 : Nat} {a5 : Nat} {a6 : Nat} {a7 : Nat} {x8 : Int32} {x9 : Int32} {x10 : Int32} (hp : g.2.2.2.2 = true) (t3 : lay a3 = (0, 13, 2)) (t5 : lay a5 = (0, 13, 2)) (t6 : lay a6 = (0, 13, 2)) (t7 : lay a7 = (0, 13, 2)) (H : vp_in x9 30 ∧ ∀ h1, h1 = wi h 3033 (x9).toNatClampNeg x10 → (W_X10_roots g d av Q n 167 [some (.ref 2759), none, none, some (.ref a3), none, some (.ref a5), some (.ref a6), some (.ref a7), some (.int (x8 + (1 : Int32))), none, none] [] h1)) : W_X10_roots g d av Q n 230 [some (.ref 2759), none, none, some (.ref a3), none, some (.ref a5), some (.ref a6), some (.ref a7), some (.int x8), some (.int x9), some (.int x10)] [] h := by
  refine r_aload_n dX10_roots_230 rfl rfl ?_
  refine m_getF (x := 3033) hp fw_X10_538 dX10_roots_231 rfl ly_10 (ff_10_62 ly_10) ?_
  refine r_iload dX10_roots_234 rfl ?_
  refine r_iload dX10_roots_236 rfl ?_
  refine m_iast hp dX10_roots_238 (lf_10_62 ly_10) H.1 (fun h1 eh1 => ?_)
  replace H := H.2 h1 eh1
  refine r_iinc (v := (x8 + (1 : Int32))) (ls2 := [some (.ref 2759), none, none, some (.ref a3), none, some (.ref a5), some (.ref a6), some (.ref a7), some (.int (x8 + (1 : Int32))), some (.int x9), some (.int x10)]) dX10_roots_239 rfl rfl (by decide) rfl ?_
  refine r_goto (tgt := 167) dX10_roots_242 rfl ?_
  refine r_prune [true, false, false, true, false, true, true, true, true, false, false] (ls2 := [some (.ref 2759), none, none, some (.ref a3), none, some (.ref a5), some (.ref a6), some (.ref a7), some (.int (x8 + (1 : Int32))), none, none]) rfl ?_
  exact H
theorem s_X10_roots_248 {g : GX} {d : Nat} {av : List Value} {Q : QT} {n : Nat} {h : Hp} {a3 : Nat} {a5 : Nat} {a6 : Nat} {a7 : Nat} {x8 : Int32} (hp : g.2.2.2.2 = true) (t3 : lay a3 = (0, 13, 2)) (t5 : lay a5 = (0, 13, 2)) (t6 : lay a6 = (0, 13, 2)) (t7 : lay a7 = (0, 13, 2)) (H : (((ri h 2759 63) ≤ x8) → (Q (some (.int (ri h 2759 31))) n h)) ∧ ((¬ (ri h 2759 63) ≤ x8) → (vp_in x8 30 ∧ (CallI g m_X10_sub d [.int (0 : Int32), .int (ri h 3033 (x8).toNatClampNeg)] n h (fun v1 h1 => (vp_in (0 : Int32) (rm (a5 + 1)) ∧ ∀ h2, h2 = wi h1 (a5 + 1) ((0 : Int32)).toNatClampNeg v1 → (vp_in (1 : Int32) (rm (a5 + 1)) ∧ ∀ h3, h3 = wi h2 (a5 + 1) ((1 : Int32)).toNatClampNeg (1 : Int32) → (∀ h4, h4 = wi h3 a5 1 (2 : Int32) → (CallV g m_X10_divide d [.ref a6, .ref a7, .ref a3, .ref a5] n h4 (fun h5 => (W_X10_roots g d av Q n 299 [some (.ref 2759), none, none, some (.ref a3), none, some (.ref a5), some (.ref a6), some (.ref a7), some (.int x8), none, none] [] h5))))))))))) : W_X10_roots g d av Q n 248 [some (.ref 2759), none, none, some (.ref a3), none, some (.ref a5), some (.ref a6), some (.ref a7), some (.int x8), none, none] [] h := by
  refine r_iload dX10_roots_248 rfl ?_
  refine r_aload_n dX10_roots_250 rfl rfl ?_
  refine m_getI hp fw_X10_814 dX10_roots_251 rfl ly_10 ?_
  refine r_icmp_ge (tgt := 363) dX10_roots_254 rfl (fun cH => ?_) (fun cH => ?_)
  · replace H := H.1 cH
    refine r_aload_n dX10_roots_363 rfl rfl ?_
    refine m_getI hp fw_X10_610 dX10_roots_364 rfl ly_10 ?_
    exact r_zret dX10_roots_367 rfl rfl (Nat.le_refl _) (Nat.le_refl _) H
  · replace H := H.2 cH
    refine r_aload dX10_roots_257 rfl ?_
    refine m_getF (x := (a5 + 1)) hp fw_X10_30 dX10_roots_259 rfl t5 (ff_13_0 t5) ?_
    refine r_iconst (v := (0 : Int32)) dX10_roots_262 rfl ?_
    refine r_iconst (v := (0 : Int32)) dX10_roots_263 rfl ?_
    refine r_aload_n dX10_roots_264 rfl rfl ?_
    refine m_getF (x := 3033) hp fw_X10_538 dX10_roots_265 rfl ly_10 (ff_10_62 ly_10) ?_
    refine r_iload dX10_roots_268 rfl ?_
    refine m_iald hp dX10_roots_270 (lf_10_62 ly_10) H.1 ?_
    replace H := H.2
    refine k_SI (As := [.int (0 : Int32), .int (ri h 3033 (x8).toNatClampNeg)]) (stk := [.int (0 : Int32), .ref (a5 + 1)]) cs_X10_46 dX10_roots_271 rfl (Nat.le_of_ble_eq_true rfl) (H.mono (fun v1 h1 H => ?_)) ⟨Nat.le_refl _, Nat.le_refl _⟩
    refine m_iast hp dX10_roots_274 (lf_13_0 t5) H.1 (fun h2 eh2 => ?_)
    replace H := H.2 h2 eh2
    refine r_aload dX10_roots_275 rfl ?_
    refine m_getF (x := (a5 + 1)) hp fw_X10_30 dX10_roots_277 rfl t5 (ff_13_0 t5) ?_
    refine r_iconst (v := (1 : Int32)) dX10_roots_280 rfl ?_
    refine r_iconst (v := (1 : Int32)) dX10_roots_281 rfl ?_
    refine m_iast hp dX10_roots_282 (lf_13_0 t5) H.1 (fun h3 eh3 => ?_)
    replace H := H.2 h3 eh3
    refine r_aload dX10_roots_283 rfl ?_
    refine r_iconst (v := (2 : Int32)) dX10_roots_285 rfl ?_
    refine m_putI hp fw_X10_25 dX10_roots_286 rfl rfl t5 (fun h4 eh4 => ?_)
    replace H := H h4 eh4
    refine r_aload dX10_roots_289 rfl ?_
    refine r_aload dX10_roots_291 rfl ?_
    refine r_aload_n dX10_roots_293 rfl rfl ?_
    refine r_aload dX10_roots_294 rfl ?_
    refine k_SV (As := [.ref a6, .ref a7, .ref a3, .ref a5]) (stk := []) cs_X10_78 dX10_roots_296 rfl (Nat.le_of_ble_eq_true rfl) (H.mono (fun h5 H => ?_)) ⟨Nat.le_refl _, Nat.le_refl _⟩
    exact H
theorem s_X10_roots_299 {g : GX} {d : Nat} {av : List Value} {Q : QT} {n : Nat} {h : Hp} {a3 : Nat} {a5 : Nat} {a6 : Nat} {a7 : Nat} {x8 : Int32} (hp : g.2.2.2.2 = true) (t3 : lay a3 = (0, 13, 2)) (t5 : lay a5 = (0, 13, 2)) (t6 : lay a6 = (0, 13, 2)) (t7 : lay a7 = (0, 13, 2)) (H : ((¬ (ri h a7 1) = (0 : Int32)) → (W_X10_roots g d av Q n 357 [some (.ref 2759), none, none, some (.ref a3), none, some (.ref a5), some (.ref a6), some (.ref a7), some (.int x8), none, none] [] h)) ∧ (((ri h a7 1) = (0 : Int32)) → (∀ h1, h1 = wi h 2759 31 ((ri h 2759 31) + (1 : Int32)) → (vp_in x8 30 ∧ (vp_in (ri h 2759 31) 30 ∧ ∀ h2, h2 = wi h1 2854 ((ri h 2759 31)).toNatClampNeg (ri h1 3033 (x8).toNatClampNeg) → (CallV g m_X10_set_2 d [.ref a3, .ref a6] n h2 (fun h3 => (CallV g m_X10_divide d [.ref a6, .ref a7, .ref a3, .ref a5] n h3 (fun h4 => ((((1 : Int32) < (ri h4 a3 1)) → (W_X10_roots g d av Q n 299 [some (.ref 2759), none, none, some (.ref a3), none, some (.ref a5), some (.ref a6), some (.ref a7), some (.int x8), none, none] [] h4)) ∧ ((¬ (1 : Int32) < (ri h4 a3 1)) → (W_X10_roots g d av Q n 357 [some (.ref 2759), none, none, some (.ref a3), none, some (.ref a5), some (.ref a6), some (.ref a7), some (.int x8), none, none] [] h4)))))))))))) : W_X10_roots g d av Q n 299 [some (.ref 2759), none, none, some (.ref a3), none, some (.ref a5), some (.ref a6), some (.ref a7), some (.int x8), none, none] [] h := by
  refine r_aload dX10_roots_299 rfl ?_
  refine m_getI hp fw_X10_25 dX10_roots_301 rfl t7 ?_
  refine r_if_ne (tgt := 357) dX10_roots_304 rfl (fun cH => ?_) (fun cH => ?_)
  · replace H := H.1 cH
    exact H
  · replace H := H.2 cH
    refine r_aload_n dX10_roots_307 rfl rfl ?_
    refine m_getF (x := 2854) hp fw_X10_468 dX10_roots_308 rfl ly_10 (ff_10_30 ly_10) ?_
    refine r_aload_n dX10_roots_311 rfl rfl ?_
    refine r_dup dX10_roots_312 rfl ?_
    refine m_getI hp fw_X10_610 dX10_roots_313 rfl ly_10 ?_
    refine r_dup_x1 dX10_roots_316 rfl rfl ?_
    refine r_iconst (v := (1 : Int32)) dX10_roots_317 rfl ?_
    refine r_iadd dX10_roots_318 ?_
    refine m_putI hp fw_X10_610 dX10_roots_319 rfl rfl ly_10 (fun h1 eh1 => ?_)
    replace H := H h1 eh1
    refine r_aload_n dX10_roots_322 rfl rfl ?_
    refine m_getF (x := 3033) hp fw_X10_538 dX10_roots_323 rfl ly_10 (ff_10_62 ly_10) ?_
    refine r_iload dX10_roots_326 rfl ?_
    refine m_iald hp dX10_roots_328 (lf_10_62 ly_10) H.1 ?_
    replace H := H.2
    refine m_iast hp dX10_roots_329 (lf_10_30 ly_10) H.1 (fun h2 eh2 => ?_)
    replace H := H.2 h2 eh2
    refine r_aload_n dX10_roots_330 rfl rfl ?_
    refine r_aload dX10_roots_331 rfl ?_
    refine k_SV (As := [.ref a3, .ref a6]) (stk := []) cs_X10_62 dX10_roots_333 rfl (Nat.le_of_ble_eq_true rfl) (H.mono (fun h3 H => ?_)) ⟨Nat.le_refl _, Nat.le_refl _⟩
    refine r_aload dX10_roots_336 rfl ?_
    refine r_aload dX10_roots_338 rfl ?_
    refine r_aload_n dX10_roots_340 rfl rfl ?_
    refine r_aload dX10_roots_341 rfl ?_
    refine k_SV (As := [.ref a6, .ref a7, .ref a3, .ref a5]) (stk := []) cs_X10_78 dX10_roots_343 rfl (Nat.le_of_ble_eq_true rfl) (H.mono (fun h4 H => ?_)) ⟨Nat.le_refl _, Nat.le_refl _⟩
    refine r_aload_n dX10_roots_346 rfl rfl ?_
    refine m_getI hp fw_X10_25 dX10_roots_347 rfl t3 ?_
    refine r_iconst (v := (1 : Int32)) dX10_roots_350 rfl ?_
    refine r_icmp_gt (tgt := 299) dX10_roots_351 rfl (fun cH => ?_) (fun cH => ?_)
    · replace H := H.1 cH
      exact H
    · replace H := H.2 cH
      refine r_goto (tgt := 357) dX10_roots_354 rfl ?_
      exact H
theorem s_X10_roots_357 {g : GX} {d : Nat} {av : List Value} {Q : QT} {n : Nat} {h : Hp} {a3 : Nat} {a5 : Nat} {a6 : Nat} {a7 : Nat} {x8 : Int32} (hp : g.2.2.2.2 = true) (t3 : lay a3 = (0, 13, 2)) (t5 : lay a5 = (0, 13, 2)) (t6 : lay a6 = (0, 13, 2)) (t7 : lay a7 = (0, 13, 2)) (H : W_X10_roots g d av Q n 248 [some (.ref 2759), none, none, some (.ref a3), none, some (.ref a5), some (.ref a6), some (.ref a7), some (.int (x8 + (1 : Int32))), none, none] [] h) : W_X10_roots g d av Q n 357 [some (.ref 2759), none, none, some (.ref a3), none, some (.ref a5), some (.ref a6), some (.ref a7), some (.int x8), none, none] [] h := by
  refine r_iinc (v := (x8 + (1 : Int32))) (ls2 := [some (.ref 2759), none, none, some (.ref a3), none, some (.ref a5), some (.ref a6), some (.ref a7), some (.int (x8 + (1 : Int32))), none, none]) dX10_roots_357 rfl rfl (by decide) rfl ?_
  refine r_goto (tgt := 248) dX10_roots_360 rfl ?_
  exact H
abbrev W_X10_powerOf (g : GX) (d : Nat) (av : List Value) (Q : QT) (n : Nat) (pc : Nat) (ls : LV) (stk : List Value) (h : Hp) : Prop := RJ g m_X10_powerOf (d + 1) 0 0 av Q pc ls stk n h 0 0
theorem s_X10_powerOf_0 {g : GX} {d : Nat} {av : List Value} {Q : QT} {n : Nat} {h : Hp} {a1 : Nat} {a2 : Nat} {y3 : Int64} {a5 : Nat} (hp : g.2.2.2.2 = true) (t1 : lay a1 = (0, 13, 2)) (t2 : lay a2 = (0, 13, 2)) (t5 : lay a5 = (0, 13, 2)) (H : CallR g m_X10_newU d [.ref 2759] n h (fun v1 h1 => (lay v1 = (0, 13, 2) ∧ (CallR g m_X10_newU d [.ref 2759] n h1 (fun v2 h2 => (lay v2 = (0, 13, 2) ∧ (CallR g m_X10_newU d [.ref 2759] n h2 (fun v3 h3 => (lay v3 = (0, 13, 2) ∧ (CallV g m_X13_number d [.ref v1, .int (1 : Int32)] n h3 (fun h4 => (CallV g m_X10_divide d [.null, .ref v3, .ref a2, .ref a5] n h4 (fun h5 => (W_X10_powerOf g d av Q n 42 [some (.ref 2759), some (.ref a1), none, none, none, some (.ref a5), some (.int (ri h 2759 1)), some (.ref v1), some (.ref v2), some (.ref v3), some (.long y3), none] [] h5)))))))))))))) : W_X10_powerOf g d av Q n 0 [some (.ref 2759), some (.ref a1), some (.ref a2), some (.long y3), none, some (.ref a5), none, none, none, none, none, none] [] h := by
  refine r_aload_n dX10_powerOf_0 rfl rfl ?_
  refine m_getI hp fw_X10_21 dX10_powerOf_1 rfl ly_10 ?_
  refine r_istore (ls2 := [some (.ref 2759), some (.ref a1), some (.ref a2), some (.long y3), none, some (.ref a5), some (.int (ri h 2759 1)), none, none, none, none, none]) dX10_powerOf_4 (by decide) rfl ?_
  refine r_aload_n dX10_powerOf_6 rfl rfl ?_
  refine k_VR (As := []) (stk := []) hp cv_X10_74 dX10_powerOf_7 rfl (Nat.le_of_ble_eq_true rfl) ly_10 (H.mono (fun v1 h1 H => ?_)) ⟨Nat.le_refl _, Nat.le_refl _⟩
  obtain ⟨tv1, H⟩ := H
  refine r_astore (ls2 := [some (.ref 2759), some (.ref a1), some (.ref a2), some (.long y3), none, some (.ref a5), some (.int (ri h 2759 1)), some (.ref v1), none, none, none, none]) dX10_powerOf_10 (by decide) rfl ?_
  refine r_aload_n dX10_powerOf_12 rfl rfl ?_
  refine k_VR (As := []) (stk := []) hp cv_X10_74 dX10_powerOf_13 rfl (Nat.le_of_ble_eq_true rfl) ly_10 (H.mono (fun v2 h2 H => ?_)) ⟨Nat.le_refl _, Nat.le_refl _⟩
  obtain ⟨tv2, H⟩ := H
  refine r_astore (ls2 := [some (.ref 2759), some (.ref a1), some (.ref a2), some (.long y3), none, some (.ref a5), some (.int (ri h 2759 1)), some (.ref v1), some (.ref v2), none, none, none]) dX10_powerOf_16 (by decide) rfl ?_
  refine r_aload_n dX10_powerOf_18 rfl rfl ?_
  refine k_VR (As := []) (stk := []) hp cv_X10_74 dX10_powerOf_19 rfl (Nat.le_of_ble_eq_true rfl) ly_10 (H.mono (fun v3 h3 H => ?_)) ⟨Nat.le_refl _, Nat.le_refl _⟩
  obtain ⟨tv3, H⟩ := H
  refine r_astore (ls2 := [some (.ref 2759), some (.ref a1), some (.ref a2), some (.long y3), none, some (.ref a5), some (.int (ri h 2759 1)), some (.ref v1), some (.ref v2), some (.ref v3), none, none]) dX10_powerOf_22 (by decide) rfl ?_
  refine r_aload dX10_powerOf_24 rfl ?_
  refine r_iconst (v := (1 : Int32)) dX10_powerOf_26 rfl ?_
  refine k_VV (As := [.int (1 : Int32)]) (stk := []) hp cv_X10_147 dX10_powerOf_27 rfl (Nat.le_of_ble_eq_true rfl) tv1 (H.mono (fun h4 H => ?_)) ⟨Nat.le_refl _, Nat.le_refl _⟩
  refine r_null dX10_powerOf_30 ?_
  refine r_aload dX10_powerOf_31 rfl ?_
  refine r_aload_n dX10_powerOf_33 rfl rfl ?_
  refine r_aload dX10_powerOf_34 rfl ?_
  refine k_SV (As := [.null, .ref v3, .ref a2, .ref a5]) (stk := []) cs_X10_78 dX10_powerOf_36 rfl (Nat.le_of_ble_eq_true rfl) (H.mono (fun h5 H => ?_)) ⟨Nat.le_refl _, Nat.le_refl _⟩
  refine r_lload_n dX10_powerOf_39 rfl rfl ?_
  refine r_lstore (ls2 := [some (.ref 2759), some (.ref a1), some (.ref a2), some (.long y3), none, some (.ref a5), some (.int (ri h 2759 1)), some (.ref v1), some (.ref v2), some (.ref v3), some (.long y3), none]) dX10_powerOf_40 (by decide) rfl ?_
  refine r_prune [true, true, false, false, false, true, true, true, true, true, true, false] (ls2 := [some (.ref 2759), some (.ref a1), none, none, none, some (.ref a5), some (.int (ri h 2759 1)), some (.ref v1), some (.ref v2), some (.ref v3), some (.long y3), none]) rfl ?_
  exact H
theorem s_X10_powerOf_42 {g : GX} {d : Nat} {av : List Value} {Q : QT} {n : Nat} {h : Hp} {a1 : Nat} {a5 : Nat} {x6 : Int32} {a7 : Nat} {a8 : Nat} {a9 : Nat} {y10 : Int64} (hp : g.2.2.2.2 = true) (t1 : lay a1 = (0, 13, 2)) (t5 : lay a5 = (0, 13, 2)) (t7 : lay a7 = (0, 13, 2)) (t8 : lay a8 = (0, 13, 2)) (t9 : lay a9 = (0, 13, 2)) (H : (((lg_cmp y10 (0 : Int64)) ≤ (0 : Int32)) → (CallV g m_X10_set_2 d [.ref a1, .ref a7] n h (fun h1 => (∀ h2, h2 = wi h1 2759 1 x6 → (Q none n h2))))) ∧ ((¬ (lg_cmp y10 (0 : Int64)) ≤ (0 : Int32)) → (((¬ (lg_cmp (y10 &&& (1 : Int64)) (1 : Int64)) = (0 : Int32)) → (W_X10_powerOf g d av Q n 77 [some (.ref 2759), some (.ref a1), none, none, none, some (.ref a5), some (.int x6), some (.ref a7), some (.ref a8), some (.ref a9), some (.long y10), none] [] h)) ∧ (((lg_cmp (y10 &&& (1 : Int64)) (1 : Int64)) = (0 : Int32)) → (CallV g m_X10_times_2 d [.ref a8, .ref a7, .ref a9] n h (fun h3 => (CallV g m_X10_divide d [.null, .ref a7, .ref a8, .ref a5] n h3 (fun h4 => (W_X10_powerOf g d av Q n 77 [some (.ref 2759), some (.ref a1), none, none, none, some (.ref a5), some (.int x6), some (.ref a7), some (.ref a8), some (.ref a9), some (.long y10), none] [] h4))))))))) : W_X10_powerOf g d av Q n 42 [some (.ref 2759), some (.ref a1), none, none, none, some (.ref a5), some (.int x6), some (.ref a7), some (.ref a8), some (.ref a9), some (.long y10), none] [] h := by
  refine r_lload dX10_powerOf_42 rfl ?_
  refine r_lconst (v := (0 : Int64)) dX10_powerOf_44 rfl ?_
  refine r_lcmp dX10_powerOf_45 ?_
  refine r_if_le (tgt := 105) dX10_powerOf_46 rfl (fun cH => ?_) (fun cH => ?_)
  · replace H := H.1 cH
    refine r_aload_n dX10_powerOf_105 rfl rfl ?_
    refine r_aload dX10_powerOf_106 rfl ?_
    refine k_SV (As := [.ref a1, .ref a7]) (stk := []) cs_X10_62 dX10_powerOf_108 rfl (Nat.le_of_ble_eq_true rfl) (H.mono (fun h1 H => ?_)) ⟨Nat.le_refl _, Nat.le_refl _⟩
    refine r_aload_n dX10_powerOf_111 rfl rfl ?_
    refine r_iload dX10_powerOf_112 rfl ?_
    refine m_putI hp fw_X10_21 dX10_powerOf_114 rfl rfl ly_10 (fun h2 eh2 => ?_)
    replace H := H h2 eh2
    exact r_vret dX10_powerOf_117 rfl (Nat.le_refl _) (Nat.le_refl _) H
  · replace H := H.2 cH
    refine r_lload dX10_powerOf_49 rfl ?_
    refine r_lconst (v := (1 : Int64)) dX10_powerOf_51 rfl ?_
    refine r_land dX10_powerOf_52 ?_
    refine r_lconst (v := (1 : Int64)) dX10_powerOf_53 rfl ?_
    refine r_lcmp dX10_powerOf_54 ?_
    refine r_if_ne (tgt := 77) dX10_powerOf_55 rfl (fun cH => ?_) (fun cH => ?_)
    · replace H := H.1 cH
      exact H
    · replace H := H.2 cH
      refine r_aload dX10_powerOf_58 rfl ?_
      refine r_aload dX10_powerOf_60 rfl ?_
      refine r_aload dX10_powerOf_62 rfl ?_
      refine k_SV (As := [.ref a8, .ref a7, .ref a9]) (stk := []) cs_X10_106 dX10_powerOf_64 rfl (Nat.le_of_ble_eq_true rfl) (H.mono (fun h3 H => ?_)) ⟨Nat.le_refl _, Nat.le_refl _⟩
      refine r_null dX10_powerOf_67 ?_
      refine r_aload dX10_powerOf_68 rfl ?_
      refine r_aload dX10_powerOf_70 rfl ?_
      refine r_aload dX10_powerOf_72 rfl ?_
      refine k_SV (As := [.null, .ref a7, .ref a8, .ref a5]) (stk := []) cs_X10_78 dX10_powerOf_74 rfl (Nat.le_of_ble_eq_true rfl) (H.mono (fun h4 H => ?_)) ⟨Nat.le_refl _, Nat.le_refl _⟩
      exact H
theorem s_X10_powerOf_77 {g : GX} {d : Nat} {av : List Value} {Q : QT} {n : Nat} {h : Hp} {a1 : Nat} {a5 : Nat} {x6 : Int32} {a7 : Nat} {a8 : Nat} {a9 : Nat} {y10 : Int64} (hp : g.2.2.2.2 = true) (t1 : lay a1 = (0, 13, 2)) (t5 : lay a5 = (0, 13, 2)) (t7 : lay a7 = (0, 13, 2)) (t8 : lay a8 = (0, 13, 2)) (t9 : lay a9 = (0, 13, 2)) (H : CallV g m_X10_times_2 d [.ref a8, .ref a9, .ref a9] n h (fun h1 => (CallV g m_X10_divide d [.null, .ref a9, .ref a8, .ref a5] n h1 (fun h2 => (W_X10_powerOf g d av Q n 42 [some (.ref 2759), some (.ref a1), none, none, none, some (.ref a5), some (.int x6), some (.ref a7), some (.ref a8), some (.ref a9), some (.long (y10 >>> (((1 : Int32)).toInt64 &&& 63))), none] [] h2))))) : W_X10_powerOf g d av Q n 77 [some (.ref 2759), some (.ref a1), none, none, none, some (.ref a5), some (.int x6), some (.ref a7), some (.ref a8), some (.ref a9), some (.long y10), none] [] h := by
  refine r_aload dX10_powerOf_77 rfl ?_
  refine r_aload dX10_powerOf_79 rfl ?_
  refine r_aload dX10_powerOf_81 rfl ?_
  refine k_SV (As := [.ref a8, .ref a9, .ref a9]) (stk := []) cs_X10_106 dX10_powerOf_83 rfl (Nat.le_of_ble_eq_true rfl) (H.mono (fun h1 H => ?_)) ⟨Nat.le_refl _, Nat.le_refl _⟩
  refine r_null dX10_powerOf_86 ?_
  refine r_aload dX10_powerOf_87 rfl ?_
  refine r_aload dX10_powerOf_89 rfl ?_
  refine r_aload dX10_powerOf_91 rfl ?_
  refine k_SV (As := [.null, .ref a9, .ref a8, .ref a5]) (stk := []) cs_X10_78 dX10_powerOf_93 rfl (Nat.le_of_ble_eq_true rfl) (H.mono (fun h2 H => ?_)) ⟨Nat.le_refl _, Nat.le_refl _⟩
  refine r_lload dX10_powerOf_96 rfl ?_
  refine r_iconst (v := (1 : Int32)) dX10_powerOf_98 rfl ?_
  refine r_lshr dX10_powerOf_99 ?_
  refine r_lstore (ls2 := [some (.ref 2759), some (.ref a1), none, none, none, some (.ref a5), some (.int x6), some (.ref a7), some (.ref a8), some (.ref a9), some (.long (y10 >>> (((1 : Int32)).toInt64 &&& 63))), none]) dX10_powerOf_100 (by decide) rfl ?_
  refine r_goto (tgt := 42) dX10_powerOf_102 rfl ?_
  exact H
abbrev W_X10_split (g : GX) (d : Nat) (av : List Value) (Q : QT) (n : Nat) (pc : Nat) (ls : LV) (stk : List Value) (h : Hp) : Prop := RJ g m_X10_split (d + 1) 0 0 av Q pc ls stk n h 0 0
theorem s_X10_split_0 {g : GX} {d : Nat} {av : List Value} {Q : QT} {n : Nat} {h : Hp} {a1 : Nat} {x2 : Int32} (hp : g.2.2.2.2 = true) (t1 : lay a1 = (0, 13, 2)) (H : (((1 : Int32) < (ri h a1 1)) → (((¬ (ri h a1 1) = (2 : Int32)) → (CallR g m_X10_newU d [.ref 2759] n h (fun v1 h1 => (lay v1 = (0, 13, 2) ∧ (CallR g m_X10_newU d [.ref 2759] n h1 (fun v2 h2 => (lay v2 = (0, 13, 2) ∧ (CallR g m_X10_newU d [.ref 2759] n h2 (fun v3 h3 => (lay v3 = (0, 13, 2) ∧ (W_X10_split g d av Q n 85 [some (.ref 2759), some (.ref a1), none, some (.int (ri h 2759 1)), some (.ref v1), some (.ref v2), some (.ref v3), some (.int x2), some (.int (0 : Int32))] [] h3))))))))))) ∧ (((ri h a1 1) = (2 : Int32)) → (∀ h4, h4 = wi h 2759 63 ((ri h 2759 63) + (1 : Int32)) → (vp_in (0 : Int32) (rm (a1 + 1)) ∧ (CallI g m_X10_sub d [.int (0 : Int32), .int (ri h4 (a1 + 1) ((0 : Int32)).toNatClampNeg)] n h4 (fun v5 h5 => (vp_in (1 : Int32) (rm (a1 + 1)) ∧ (CallI g m_X10_inv d [.int (ri h5 (a1 + 1) ((1 : Int32)).toNatClampNeg)] n h5 (fun v6 h6 => (CallI g m_X10_mul d [.int v5, .int v6] n h6 (fun v7 h7 => (vp_in (ri h 2759 63) 30 ∧ ∀ h8, h8 = wi h7 3033 ((ri h 2759 63)).toNatClampNeg v7 → (Q none n h8)))))))))))))) ∧ ((¬ (1 : Int32) < (ri h a1 1)) → (Q none n h))) : W_X10_split g d av Q n 0 [some (.ref 2759), some (.ref a1), some (.int x2), none, none, none, none, none, none] [] h := by
  refine r_aload_n dX10_split_0 rfl rfl ?_
  refine m_getI hp fw_X10_25 dX10_split_1 rfl t1 ?_
  refine r_iconst (v := (1 : Int32)) dX10_split_4 rfl ?_
  refine r_icmp_gt (tgt := 9) dX10_split_5 rfl (fun cH => ?_) (fun cH => ?_)
  · replace H := H.1 cH
    refine r_aload_n dX10_split_9 rfl rfl ?_
    refine m_getI hp fw_X10_25 dX10_split_10 rfl t1 ?_
    refine r_iconst (v := (2 : Int32)) dX10_split_13 rfl ?_
    refine r_icmp_ne (tgt := 56) dX10_split_14 rfl (fun cH => ?_) (fun cH => ?_)
    · replace H := H.1 cH
      refine r_aload_n dX10_split_56 rfl rfl ?_
      refine m_getI hp fw_X10_21 dX10_split_57 rfl ly_10 ?_
      refine r_istore_n (ls2 := [some (.ref 2759), some (.ref a1), some (.int x2), some (.int (ri h 2759 1)), none, none, none, none, none]) dX10_split_60 rfl (by decide) rfl ?_
      refine r_aload_n dX10_split_61 rfl rfl ?_
      refine k_VR (As := []) (stk := []) hp cv_X10_74 dX10_split_62 rfl (Nat.le_of_ble_eq_true rfl) ly_10 (H.mono (fun v1 h1 H => ?_)) ⟨Nat.le_refl _, Nat.le_refl _⟩
      obtain ⟨tv1, H⟩ := H
      refine r_astore (ls2 := [some (.ref 2759), some (.ref a1), some (.int x2), some (.int (ri h 2759 1)), some (.ref v1), none, none, none, none]) dX10_split_65 (by decide) rfl ?_
      refine r_aload_n dX10_split_67 rfl rfl ?_
      refine k_VR (As := []) (stk := []) hp cv_X10_74 dX10_split_68 rfl (Nat.le_of_ble_eq_true rfl) ly_10 (H.mono (fun v2 h2 H => ?_)) ⟨Nat.le_refl _, Nat.le_refl _⟩
      obtain ⟨tv2, H⟩ := H
      refine r_astore (ls2 := [some (.ref 2759), some (.ref a1), some (.int x2), some (.int (ri h 2759 1)), some (.ref v1), some (.ref v2), none, none, none]) dX10_split_71 (by decide) rfl ?_
      refine r_aload_n dX10_split_73 rfl rfl ?_
      refine k_VR (As := []) (stk := []) hp cv_X10_74 dX10_split_74 rfl (Nat.le_of_ble_eq_true rfl) ly_10 (H.mono (fun v3 h3 H => ?_)) ⟨Nat.le_refl _, Nat.le_refl _⟩
      obtain ⟨tv3, H⟩ := H
      refine r_astore (ls2 := [some (.ref 2759), some (.ref a1), some (.int x2), some (.int (ri h 2759 1)), some (.ref v1), some (.ref v2), some (.ref v3), none, none]) dX10_split_77 (by decide) rfl ?_
      refine r_iload_n dX10_split_79 rfl rfl ?_
      refine r_istore (ls2 := [some (.ref 2759), some (.ref a1), some (.int x2), some (.int (ri h 2759 1)), some (.ref v1), some (.ref v2), some (.ref v3), some (.int x2), none]) dX10_split_80 (by decide) rfl ?_
      refine r_iconst (v := (0 : Int32)) dX10_split_82 rfl ?_
      refine r_istore (ls2 := [some (.ref 2759), some (.ref a1), some (.int x2), some (.int (ri h 2759 1)), some (.ref v1), some (.ref v2), some (.ref v3), some (.int x2), some (.int (0 : Int32))]) dX10_split_83 (by decide) rfl ?_
      refine r_prune [true, true, false, true, true, true, true, true, true] (ls2 := [some (.ref 2759), some (.ref a1), none, some (.int (ri h 2759 1)), some (.ref v1), some (.ref v2), some (.ref v3), some (.int x2), some (.int (0 : Int32))]) rfl ?_
      exact H
    · replace H := H.2 cH
      refine r_aload_n dX10_split_17 rfl rfl ?_
      refine m_getF (x := 3033) hp fw_X10_538 dX10_split_18 rfl ly_10 (ff_10_62 ly_10) ?_
      refine r_aload_n dX10_split_21 rfl rfl ?_
      refine r_dup dX10_split_22 rfl ?_
      refine m_getI hp fw_X10_814 dX10_split_23 rfl ly_10 ?_
      refine r_dup_x1 dX10_split_26 rfl rfl ?_
      refine r_iconst (v := (1 : Int32)) dX10_split_27 rfl ?_
      refine r_iadd dX10_split_28 ?_
      refine m_putI hp fw_X10_814 dX10_split_29 rfl rfl ly_10 (fun h4 eh4 => ?_)
      replace H := H h4 eh4
      refine r_iconst (v := (0 : Int32)) dX10_split_32 rfl ?_
      refine r_aload_n dX10_split_33 rfl rfl ?_
      refine m_getF (x := (a1 + 1)) hp fw_X10_30 dX10_split_34 rfl t1 (ff_13_0 t1) ?_
      refine r_iconst (v := (0 : Int32)) dX10_split_37 rfl ?_
      refine m_iald hp dX10_split_38 (lf_13_0 t1) H.1 ?_
      replace H := H.2
      refine k_SI (As := [.int (0 : Int32), .int (ri h4 (a1 + 1) ((0 : Int32)).toNatClampNeg)]) (stk := [.int (ri h 2759 63), .ref 3033]) cs_X10_46 dX10_split_39 rfl (Nat.le_of_ble_eq_true rfl) (H.mono (fun v5 h5 H => ?_)) ⟨Nat.le_refl _, Nat.le_refl _⟩
      refine r_aload_n dX10_split_42 rfl rfl ?_
      refine m_getF (x := (a1 + 1)) hp fw_X10_30 dX10_split_43 rfl t1 (ff_13_0 t1) ?_
      refine r_iconst (v := (1 : Int32)) dX10_split_46 rfl ?_
      refine m_iald hp dX10_split_47 (lf_13_0 t1) H.1 ?_
      replace H := H.2
      refine k_SI (As := [.int (ri h5 (a1 + 1) ((1 : Int32)).toNatClampNeg)]) (stk := [.int v5, .int (ri h 2759 63), .ref 3033]) cs_X10_13 dX10_split_48 rfl (Nat.le_of_ble_eq_true rfl) (H.mono (fun v6 h6 H => ?_)) ⟨Nat.le_refl _, Nat.le_refl _⟩
      refine k_SI (As := [.int v5, .int v6]) (stk := [.int (ri h 2759 63), .ref 3033]) cs_X10_56 dX10_split_51 rfl (Nat.le_of_ble_eq_true rfl) (H.mono (fun v7 h7 H => ?_)) ⟨Nat.le_refl _, Nat.le_refl _⟩
      refine m_iast hp dX10_split_54 (lf_10_62 ly_10) H.1 (fun h8 eh8 => ?_)
      replace H := H.2 h8 eh8
      exact r_vret dX10_split_55 rfl (Nat.le_refl _) (Nat.le_refl _) H
  · replace H := H.2 cH
    exact r_vret dX10_split_8 rfl (Nat.le_refl _) (Nat.le_refl _) H
theorem s_X10_split_85 {g : GX} {d : Nat} {av : List Value} {Q : QT} {n : Nat} {h : Hp} {a1 : Nat} {x3 : Int32} {a4 : Nat} {a5 : Nat} {a6 : Nat} {x7 : Int32} {x8 : Int32} (hp : g.2.2.2.2 = true) (t1 : lay a1 = (0, 13, 2)) (t4 : lay a4 = (0, 13, 2)) (t5 : lay a5 = (0, 13, 2)) (t6 : lay a6 = (0, 13, 2)) (H : ((¬ x8 = (0 : Int32)) → (CallV g m_X10_exact d [.ref 2759, .ref a5, .ref a1, .ref a6] n h (fun h1 => (CallV g m_X10_split d [.ref 2759, .ref a6, .int x7] n h1 (fun h2 => (CallV g m_X10_split d [.ref 2759, .ref a5, .int x7] n h2 (fun h3 => (∀ h4, h4 = wi h3 2759 1 x3 → (Q none n h4))))))))) ∧ ((x8 = (0 : Int32)) → (vp_in (0 : Int32) (rm (a4 + 1)) ∧ ∀ h5, h5 = wi h (a4 + 1) ((0 : Int32)).toNatClampNeg x7 → (vp_in (1 : Int32) (rm (a4 + 1)) ∧ ∀ h6, h6 = wi h5 (a4 + 1) ((1 : Int32)).toNatClampNeg (1 : Int32) → (∀ h7, h7 = wi h6 a4 1 (2 : Int32) → (CallV g m_X10_powerOf d [.ref 2759, .ref a5, .ref a4, .long (1073741823 : Int64), .ref a1] n h7 (fun h8 => (CallV g m_X13_number d [.ref a6, .int (1 : Int32)] n h8 (fun h9 => (CallV g m_X10_plus d [.ref a5, .ref a5, .ref a6, .int (1 : Int32)] n h9 (fun h10 => (CallV g m_X10_gcd_2 d [.ref 2759, .ref a6, .ref a5, .ref a1] n h10 (fun h11 => ((((ri h11 a6 1) ≤ (1 : Int32)) → (W_X10_split g d av Q n 175 [some (.ref 2759), some (.ref a1), none, some (.int x3), some (.ref a4), some (.ref a5), some (.ref a6), some (.int x7), none] [] h11)) ∧ ((¬ (ri h11 a6 1) ≤ (1 : Int32)) → ((((ri h11 a1 1) ≤ (ri h11 a6 1)) → (W_X10_split g d av Q n 175 [some (.ref 2759), some (.ref a1), none, some (.int x3), some (.ref a4), some (.ref a5), some (.ref a6), some (.int x7), none] [] h11)) ∧ ((¬ (ri h11 a1 1) ≤ (ri h11 a6 1)) → (W_X10_split g d av Q n 176 [some (.ref 2759), some (.ref a1), none, some (.int x3), some (.ref a4), some (.ref a5), some (.ref a6), some (.int x7), none] [.int (1 : Int32)] h11)))))))))))))))))) : W_X10_split g d av Q n 85 [some (.ref 2759), some (.ref a1), none, some (.int x3), some (.ref a4), some (.ref a5), some (.ref a6), some (.int x7), some (.int x8)] [] h := by
  refine r_iload dX10_split_85 rfl ?_
  refine r_if_ne (tgt := 184) dX10_split_87 rfl (fun cH => ?_) (fun cH => ?_)
  · replace H := H.1 cH
    refine r_aload_n dX10_split_184 rfl rfl ?_
    refine r_aload dX10_split_185 rfl ?_
    refine r_aload_n dX10_split_187 rfl rfl ?_
    refine r_aload dX10_split_188 rfl ?_
    refine k_VV (As := [.ref a5, .ref a1, .ref a6]) (stk := []) hp cv_X10_110 dX10_split_190 rfl (Nat.le_of_ble_eq_true rfl) ly_10 (H.mono (fun h1 H => ?_)) ⟨Nat.le_refl _, Nat.le_refl _⟩
    refine r_aload_n dX10_split_193 rfl rfl ?_
    refine r_aload dX10_split_194 rfl ?_
    refine r_iload dX10_split_196 rfl ?_
    refine k_VV (As := [.ref a6, .int x7]) (stk := []) hp cv_X10_823 dX10_split_198 rfl (Nat.le_of_ble_eq_true rfl) ly_10 (H.mono (fun h2 H => ?_)) ⟨Nat.le_refl _, Nat.le_refl _⟩
    refine r_aload_n dX10_split_201 rfl rfl ?_
    refine r_aload dX10_split_202 rfl ?_
    refine r_iload dX10_split_204 rfl ?_
    refine k_VV (As := [.ref a5, .int x7]) (stk := []) hp cv_X10_823 dX10_split_206 rfl (Nat.le_of_ble_eq_true rfl) ly_10 (H.mono (fun h3 H => ?_)) ⟨Nat.le_refl _, Nat.le_refl _⟩
    refine r_aload_n dX10_split_209 rfl rfl ?_
    refine r_iload_n dX10_split_210 rfl rfl ?_
    refine m_putI hp fw_X10_21 dX10_split_211 rfl rfl ly_10 (fun h4 eh4 => ?_)
    replace H := H h4 eh4
    exact r_vret dX10_split_214 rfl (Nat.le_refl _) (Nat.le_refl _) H
  · replace H := H.2 cH
    refine r_aload dX10_split_90 rfl ?_
    refine m_getF (x := (a4 + 1)) hp fw_X10_30 dX10_split_92 rfl t4 (ff_13_0 t4) ?_
    refine r_iconst (v := (0 : Int32)) dX10_split_95 rfl ?_
    refine r_iload dX10_split_96 rfl ?_
    refine m_iast hp dX10_split_98 (lf_13_0 t4) H.1 (fun h5 eh5 => ?_)
    replace H := H.2 h5 eh5
    refine r_aload dX10_split_99 rfl ?_
    refine m_getF (x := (a4 + 1)) hp fw_X10_30 dX10_split_101 rfl t4 (ff_13_0 t4) ?_
    refine r_iconst (v := (1 : Int32)) dX10_split_104 rfl ?_
    refine r_iconst (v := (1 : Int32)) dX10_split_105 rfl ?_
    refine m_iast hp dX10_split_106 (lf_13_0 t4) H.1 (fun h6 eh6 => ?_)
    replace H := H.2 h6 eh6
    refine r_aload dX10_split_107 rfl ?_
    refine r_iconst (v := (2 : Int32)) dX10_split_109 rfl ?_
    refine m_putI hp fw_X10_25 dX10_split_110 rfl rfl t4 (fun h7 eh7 => ?_)
    replace H := H h7 eh7
    refine r_aload_n dX10_split_113 rfl rfl ?_
    refine r_aload dX10_split_114 rfl ?_
    refine r_aload dX10_split_116 rfl ?_
    refine r_ldc2 (own := "") (v := (1073741823 : Int64)) dX10_split_118 q2794 ?_
    refine r_aload_n dX10_split_121 rfl rfl ?_
    refine k_VV (As := [.ref a5, .ref a4, .long (1073741823 : Int64), .ref a1]) (stk := []) hp cv_X10_819 dX10_split_122 rfl (Nat.le_of_ble_eq_true rfl) ly_10 (H.mono (fun h8 H => ?_)) ⟨Nat.le_refl _, Nat.le_refl _⟩
    refine r_aload dX10_split_125 rfl ?_
    refine r_iconst (v := (1 : Int32)) dX10_split_127 rfl ?_
    refine k_VV (As := [.int (1 : Int32)]) (stk := []) hp cv_X10_147 dX10_split_128 rfl (Nat.le_of_ble_eq_true rfl) t6 (H.mono (fun h9 H => ?_)) ⟨Nat.le_refl _, Nat.le_refl _⟩
    refine r_aload dX10_split_131 rfl ?_
    refine r_aload dX10_split_133 rfl ?_
    refine r_aload dX10_split_135 rfl ?_
    refine r_iconst (v := (1 : Int32)) dX10_split_137 rfl ?_
    refine k_SV (As := [.ref a5, .ref a5, .ref a6, .int (1 : Int32)]) (stk := []) cs_X10_101 dX10_split_138 rfl (Nat.le_of_ble_eq_true rfl) (H.mono (fun h10 H => ?_)) ⟨Nat.le_refl _, Nat.le_refl _⟩
    refine r_aload_n dX10_split_141 rfl rfl ?_
    refine r_aload dX10_split_142 rfl ?_
    refine r_aload dX10_split_144 rfl ?_
    refine r_aload_n dX10_split_146 rfl rfl ?_
    refine k_VV (As := [.ref a6, .ref a5, .ref a1]) (stk := []) hp cv_X10_125 dX10_split_147 rfl (Nat.le_of_ble_eq_true rfl) ly_10 (H.mono (fun h11 H => ?_)) ⟨Nat.le_refl _, Nat.le_refl _⟩
    refine r_aload dX10_split_150 rfl ?_
    refine m_getI hp fw_X10_25 dX10_split_152 rfl t6 ?_
    refine r_iconst (v := (1 : Int32)) dX10_split_155 rfl ?_
    refine r_icmp_le (tgt := 175) dX10_split_156 rfl (fun cH => ?_) (fun cH => ?_)
    · replace H := H.1 cH
      refine r_prune [true, true, false, true, true, true, true, true, false] (ls2 := [some (.ref 2759), some (.ref a1), none, some (.int x3), some (.ref a4), some (.ref a5), some (.ref a6), some (.int x7), none]) rfl ?_
      exact H
    · replace H := H.2 cH
      refine r_aload dX10_split_159 rfl ?_
      refine m_getI hp fw_X10_25 dX10_split_161 rfl t6 ?_
      refine r_aload_n dX10_split_164 rfl rfl ?_
      refine m_getI hp fw_X10_25 dX10_split_165 rfl t1 ?_
      refine r_icmp_ge (tgt := 175) dX10_split_168 rfl (fun cH => ?_) (fun cH => ?_)
      · replace H := H.1 cH
        refine r_prune [true, true, false, true, true, true, true, true, false] (ls2 := [some (.ref 2759), some (.ref a1), none, some (.int x3), some (.ref a4), some (.ref a5), some (.ref a6), some (.int x7), none]) rfl ?_
        exact H
      · replace H := H.2 cH
        refine r_iconst (v := (1 : Int32)) dX10_split_171 rfl ?_
        refine r_goto (tgt := 176) dX10_split_172 rfl ?_
        refine r_prune [true, true, false, true, true, true, true, true, false] (ls2 := [some (.ref 2759), some (.ref a1), none, some (.int x3), some (.ref a4), some (.ref a5), some (.ref a6), some (.int x7), none]) rfl ?_
        exact H
theorem s_X10_split_175 {g : GX} {d : Nat} {av : List Value} {Q : QT} {n : Nat} {h : Hp} {a1 : Nat} {x3 : Int32} {a4 : Nat} {a5 : Nat} {a6 : Nat} {x7 : Int32} (hp : g.2.2.2.2 = true) (t1 : lay a1 = (0, 13, 2)) (t4 : lay a4 = (0, 13, 2)) (t5 : lay a5 = (0, 13, 2)) (t6 : lay a6 = (0, 13, 2)) (H : W_X10_split g d av Q n 176 [some (.ref 2759), some (.ref a1), none, some (.int x3), some (.ref a4), some (.ref a5), some (.ref a6), some (.int x7), none] [.int (0 : Int32)] h) : W_X10_split g d av Q n 175 [some (.ref 2759), some (.ref a1), none, some (.int x3), some (.ref a4), some (.ref a5), some (.ref a6), some (.int x7), none] [] h := by
  refine r_iconst (v := (0 : Int32)) dX10_split_175 rfl ?_
  exact H
theorem s_X10_split_176 {g : GX} {d : Nat} {av : List Value} {Q : QT} {n : Nat} {h : Hp} {a1 : Nat} {x3 : Int32} {a4 : Nat} {a5 : Nat} {a6 : Nat} {x7 : Int32} {xs0 : Int32} (hp : g.2.2.2.2 = true) (t1 : lay a1 = (0, 13, 2)) (t4 : lay a4 = (0, 13, 2)) (t5 : lay a5 = (0, 13, 2)) (t6 : lay a6 = (0, 13, 2)) (H : W_X10_split g d av Q n 85 [some (.ref 2759), some (.ref a1), none, some (.int x3), some (.ref a4), some (.ref a5), some (.ref a6), some (.int (x7 + (1 : Int32))), some (.int xs0)] [] h) : W_X10_split g d av Q n 176 [some (.ref 2759), some (.ref a1), none, some (.int x3), some (.ref a4), some (.ref a5), some (.ref a6), some (.int x7), none] [.int xs0] h := by
  refine r_istore (ls2 := [some (.ref 2759), some (.ref a1), none, some (.int x3), some (.ref a4), some (.ref a5), some (.ref a6), some (.int x7), some (.int xs0)]) dX10_split_176 (by decide) rfl ?_
  refine r_iinc (v := (x7 + (1 : Int32))) (ls2 := [some (.ref 2759), some (.ref a1), none, some (.int x3), some (.ref a4), some (.ref a5), some (.ref a6), some (.int (x7 + (1 : Int32))), some (.int xs0)]) dX10_split_178 rfl rfl (by decide) rfl ?_
  refine r_goto (tgt := 85) dX10_split_181 rfl ?_
  exact H
abbrev W_X10_root (g : GX) (d : Nat) (av : List Value) (Q : QT) (n : Nat) (pc : Nat) (ls : LV) (stk : List Value) (h : Hp) : Prop := RJ g m_X10_root d 0 0 av Q pc ls stk n h 0 0
theorem s_X10_root_0 {g : GX} {d : Nat} {av : List Value} {Q : QT} {n : Nat} {h : Hp} {x1 : Int32} (hp : g.2.2.2.2 = true)  (H : ((x1 < (0 : Int32)) → (Q (some (.int (-1 : Int32))) n h)) ∧ ((¬ x1 < (0 : Int32)) → ((((ri h 2759 31) ≤ x1) → (Q (some (.int (-1 : Int32))) n h)) ∧ ((¬ (ri h 2759 31) ≤ x1) → (vp_in x1 30 ∧ (Q (some (.int (ri h 2854 (x1).toNatClampNeg))) n h)))))) : W_X10_root g d av Q n 0 [some (.ref 2759), some (.int x1)] [] h := by
  refine r_iload_n dX10_root_0 rfl rfl ?_
  refine r_if_lt (tgt := 21) dX10_root_1 rfl (fun cH => ?_) (fun cH => ?_)
  · replace H := H.1 cH
    refine r_iconst (v := (-1 : Int32)) dX10_root_21 rfl ?_
    exact r_zret dX10_root_22 rfl rfl (Nat.le_refl _) (Nat.le_refl _) H
  · replace H := H.2 cH
    refine r_iload_n dX10_root_4 rfl rfl ?_
    refine r_aload_n dX10_root_5 rfl rfl ?_
    refine m_getI hp fw_X10_610 dX10_root_6 rfl ly_10 ?_
    refine r_icmp_ge (tgt := 21) dX10_root_9 rfl (fun cH => ?_) (fun cH => ?_)
    · replace H := H.1 cH
      refine r_iconst (v := (-1 : Int32)) dX10_root_21 rfl ?_
      exact r_zret dX10_root_22 rfl rfl (Nat.le_refl _) (Nat.le_refl _) H
    · replace H := H.2 cH
      refine r_aload_n dX10_root_12 rfl rfl ?_
      refine m_getF (x := 2854) hp fw_X10_468 dX10_root_13 rfl ly_10 (ff_10_30 ly_10) ?_
      refine r_iload_n dX10_root_16 rfl rfl ?_
      refine m_iald hp dX10_root_17 (lf_10_30 ly_10) H.1 ?_
      replace H := H.2
      refine r_goto (tgt := 22) dX10_root_18 rfl ?_
      exact r_zret dX10_root_22 rfl rfl (Nat.le_refl _) (Nat.le_refl _) H
abbrev W_X10_solve (g : GX) (d : Nat) (av : List Value) (Q : QT) (n : Nat) (pc : Nat) (ls : LV) (stk : List Value) (h : Hp) : Prop := RJ g m_X10_solve (d + 1) 0 0 av Q pc ls stk n h 0 0
theorem s_X10_solve_0 {g : GX} {d : Nat} {av : List Value} {Q : QT} {n : Nat} {h : Hp} {x1 : Int32} {x2 : Int32} (hp : g.2.2.2.2 = true)  (H : CallI g m_X10_isSlot d [.int x1] n h (fun v1 h1 => (((v1 = (0 : Int32)) → (Q (some (.int (-1 : Int32))) n h1)) ∧ ((¬ v1 = (0 : Int32)) → (CallI g m_X10_isSlot d [.int x2] n h1 (fun v2 h2 => (((¬ v2 = (0 : Int32)) → (vp_in x1 12 ∧ ∀ r3, r3 = 10245 + 9 * (x1).toNatClampNeg → ((((ri h2 r3 0) = (3 : Int32)) → (W_X10_solve g d av Q n 42 [some (.ref 2759), none, some (.int x2), some (.ref r3), none, none, none, none, none] [] h2)) ∧ ((¬ (ri h2 r3 0) = (3 : Int32)) → ((((ri h2 r3 0) = (4 : Int32)) → (W_X10_solve g d av Q n 42 [some (.ref 2759), none, some (.int x2), some (.ref r3), none, none, none, none, none] [] h2)) ∧ ((¬ (ri h2 r3 0) = (4 : Int32)) → (Q (some (.int (-3 : Int32))) n h2))))))) ∧ ((v2 = (0 : Int32)) → (Q (some (.int (-1 : Int32))) n h2))))))))) : W_X10_solve g d av Q n 0 [some (.ref 2759), some (.int x1), some (.int x2), none, none, none, none, none, none] [] h := by
  refine r_iload_n dX10_solve_0 rfl rfl ?_
  refine k_SI (As := [.int x1]) (stk := []) cs_X10_551 dX10_solve_1 rfl (Nat.le_of_ble_eq_true rfl) (H.mono (fun v1 h1 H => ?_)) ⟨Nat.le_refl _, Nat.le_refl _⟩
  refine r_if_eq (tgt := 14) dX10_solve_4 rfl (fun cH => ?_) (fun cH => ?_)
  · replace H := H.1 cH
    refine r_iconst (v := (-1 : Int32)) dX10_solve_14 rfl ?_
    exact r_zret dX10_solve_15 rfl rfl (Nat.le_refl _) (Nat.le_refl _) H
  · replace H := H.2 cH
    refine r_iload_n dX10_solve_7 rfl rfl ?_
    refine k_SI (As := [.int x2]) (stk := []) cs_X10_551 dX10_solve_8 rfl (Nat.le_of_ble_eq_true rfl) (H.mono (fun v2 h2 H => ?_)) ⟨Nat.le_refl _, Nat.le_refl _⟩
    refine r_if_ne (tgt := 16) dX10_solve_11 rfl (fun cH => ?_) (fun cH => ?_)
    · replace H := H.1 cH
      refine r_aload_n dX10_solve_16 rfl rfl ?_
      refine m_getF (x := 2841) hp fw_X10_450 dX10_solve_17 rfl ly_10 (ff_10_20 ly_10) ?_
      refine r_iload_n dX10_solve_20 rfl rfl ?_
      obtain ⟨r3, er3⟩ : ∃ y, y = 10245 + 9 * (x1).toNatClampNeg := ⟨_, rfl⟩
      have hir3 := H.1
      replace H := H.2 r3 er3
      have tLr3 := la_2841 hir3 er3
      refine m_aalF (x := r3) hp dX10_solve_21 (lf_10_20 ly_10) rfl rfl (lu_10_20 ly_10) hir3 (fa_2841 hir3 er3) ?_
      refine r_astore_n (ls2 := [some (.ref 2759), some (.int x1), some (.int x2), some (.ref r3), none, none, none, none, none]) dX10_solve_22 rfl (by decide) rfl ?_
      refine r_aload_n dX10_solve_23 rfl rfl ?_
      refine m_getI hp fw_X10_202 dX10_solve_24 rfl tLr3 ?_
      refine r_iconst (v := (3 : Int32)) dX10_solve_27 rfl ?_
      refine r_icmp_eq (tgt := 42) dX10_solve_28 rfl (fun cH => ?_) (fun cH => ?_)
      · replace H := H.1 cH
        refine r_prune [true, false, true, true, false, false, false, false, false] (ls2 := [some (.ref 2759), none, some (.int x2), some (.ref r3), none, none, none, none, none]) rfl ?_
        exact H
      · replace H := H.2 cH
        refine r_aload_n dX10_solve_31 rfl rfl ?_
        refine m_getI hp fw_X10_202 dX10_solve_32 rfl tLr3 ?_
        refine r_iconst (v := (4 : Int32)) dX10_solve_35 rfl ?_
        refine r_icmp_eq (tgt := 42) dX10_solve_36 rfl (fun cH => ?_) (fun cH => ?_)
        · replace H := H.1 cH
          refine r_prune [true, false, true, true, false, false, false, false, false] (ls2 := [some (.ref 2759), none, some (.int x2), some (.ref r3), none, none, none, none, none]) rfl ?_
          exact H
        · replace H := H.2 cH
          refine r_bipush (v := (-3 : Int32)) dX10_solve_39 rfl ?_
          exact r_zret dX10_solve_41 rfl rfl (Nat.le_refl _) (Nat.le_refl _) H
    · replace H := H.2 cH
      refine r_iconst (v := (-1 : Int32)) dX10_solve_14 rfl ?_
      exact r_zret dX10_solve_15 rfl rfl (Nat.le_refl _) (Nat.le_refl _) H
theorem s_X10_solve_42 {g : GX} {d : Nat} {av : List Value} {Q : QT} {n : Nat} {h : Hp} {x2 : Int32} {a3 : Nat} (hp : g.2.2.2.2 = true) (t3 : lay a3 = (0, 11, 15)) (H : (((ri h a3 10) = (1 : Int32)) → (CallV g m_X10_begin d [.ref 2759] n h (fun h1 => (CallR g m_X10_newU d [.ref 2759] n h1 (fun v2 h2 => (lay v2 = (0, 13, 2) ∧ (CallR g m_X10_newU d [.ref 2759] n h2 (fun v3 h3 => (lay v3 = (0, 13, 2) ∧ (CallV g m_X10_load_2 d [.ref v2, .ref (a3 + 7), .int (0 : Int32)] n h3 (fun h4 => (CallV g m_X10_load_2 d [.ref v3, .ref (a3 + 7), .int (25 : Int32)] n h4 (fun h5 => ((((ri h5 v2 1) = (0 : Int32)) → (Q (some (.int (-1 : Int32))) n h5)) ∧ ((¬ (ri h5 v2 1) = (0 : Int32)) → (((¬ (ri h5 v3 1) = (0 : Int32)) → (CallV g m_X10_number d [.ref 2759, .ref 2842, .int (1 : Int32)] n h5 (fun h6 => (CallI g m_X13_head d [.ref v2] n h6 (fun v7 h7 => (CallI g m_X10_sub d [.int (0 : Int32), .int v7] n h7 (fun v8 h8 => (CallI g m_X13_head d [.ref v3] n h8 (fun v9 h9 => (CallI g m_X10_inv d [.int v9] n h9 (fun v10 h10 => (CallI g m_X10_mul d [.int v8, .int v10] n h10 (fun v11 h11 => (∀ h12, h12 = wi h11 2842 3 v11 → (W_X10_solve g d av Q n 153 [some (.ref 2759), none, some (.int x2), none, some (.ref v2), some (.ref v3), some (.ref 3034), some (.int (-49 : Int32)), none] [] h12))))))))))))))) ∧ (((ri h5 v3 1) = (0 : Int32)) → (Q (some (.int (-1 : Int32))) n h5)))))))))))))))))) ∧ ((¬ (ri h a3 10) = (1 : Int32)) → (Q (some (.int (-1 : Int32))) n h))) : W_X10_solve g d av Q n 42 [some (.ref 2759), none, some (.int x2), some (.ref a3), none, none, none, none, none] [] h := by
  refine r_aload_n dX10_solve_42 rfl rfl ?_
  refine m_getI hp fw_X10_234 dX10_solve_43 rfl t3 ?_
  refine r_iconst (v := (1 : Int32)) dX10_solve_46 rfl ?_
  refine r_icmp_eq (tgt := 52) dX10_solve_47 rfl (fun cH => ?_) (fun cH => ?_)
  · replace H := H.1 cH
    refine r_aload_n dX10_solve_52 rfl rfl ?_
    refine k_VV (As := []) (stk := []) hp cv_X10_555 dX10_solve_53 rfl (Nat.le_of_ble_eq_true rfl) ly_10 (H.mono (fun h1 H => ?_)) ⟨Nat.le_refl _, Nat.le_refl _⟩
    refine r_aload_n dX10_solve_56 rfl rfl ?_
    refine k_VR (As := []) (stk := []) hp cv_X10_74 dX10_solve_57 rfl (Nat.le_of_ble_eq_true rfl) ly_10 (H.mono (fun v2 h2 H => ?_)) ⟨Nat.le_refl _, Nat.le_refl _⟩
    obtain ⟨tv2, H⟩ := H
    refine r_astore (ls2 := [some (.ref 2759), none, some (.int x2), some (.ref a3), some (.ref v2), none, none, none, none]) dX10_solve_60 (by decide) rfl ?_
    refine r_aload_n dX10_solve_62 rfl rfl ?_
    refine k_VR (As := []) (stk := []) hp cv_X10_74 dX10_solve_63 rfl (Nat.le_of_ble_eq_true rfl) ly_10 (H.mono (fun v3 h3 H => ?_)) ⟨Nat.le_refl _, Nat.le_refl _⟩
    obtain ⟨tv3, H⟩ := H
    refine r_astore (ls2 := [some (.ref 2759), none, some (.int x2), some (.ref a3), some (.ref v2), some (.ref v3), none, none, none]) dX10_solve_66 (by decide) rfl ?_
    refine r_aload dX10_solve_68 rfl ?_
    refine r_aload_n dX10_solve_70 rfl rfl ?_
    refine m_getF (x := (a3 + 7)) hp fw_X10_237 dX10_solve_71 rfl t3 (ff_11_11 t3) ?_
    refine r_iconst (v := (0 : Int32)) dX10_solve_74 rfl ?_
    refine k_SV (As := [.ref v2, .ref (a3 + 7), .int (0 : Int32)]) (stk := []) cs_X10_775 dX10_solve_75 rfl (Nat.le_of_ble_eq_true rfl) (H.mono (fun h4 H => ?_)) ⟨Nat.le_refl _, Nat.le_refl _⟩
    refine r_aload dX10_solve_78 rfl ?_
    refine r_aload_n dX10_solve_80 rfl rfl ?_
    refine m_getF (x := (a3 + 7)) hp fw_X10_237 dX10_solve_81 rfl t3 (ff_11_11 t3) ?_
    refine r_bipush (v := (25 : Int32)) dX10_solve_84 rfl ?_
    refine k_SV (As := [.ref v3, .ref (a3 + 7), .int (25 : Int32)]) (stk := []) cs_X10_775 dX10_solve_86 rfl (Nat.le_of_ble_eq_true rfl) (H.mono (fun h5 H => ?_)) ⟨Nat.le_refl _, Nat.le_refl _⟩
    refine r_aload dX10_solve_89 rfl ?_
    refine m_getI hp fw_X10_25 dX10_solve_91 rfl tv2 ?_
    refine r_if_eq (tgt := 105) dX10_solve_94 rfl (fun cH => ?_) (fun cH => ?_)
    · replace H := H.1 cH
      refine r_iconst (v := (-1 : Int32)) dX10_solve_105 rfl ?_
      exact r_zret dX10_solve_106 rfl rfl (Nat.le_refl _) (Nat.le_refl _) H
    · replace H := H.2 cH
      refine r_aload dX10_solve_97 rfl ?_
      refine m_getI hp fw_X10_25 dX10_solve_99 rfl tv3 ?_
      refine r_if_ne (tgt := 107) dX10_solve_102 rfl (fun cH => ?_) (fun cH => ?_)
      · replace H := H.1 cH
        refine r_aload_n dX10_solve_107 rfl rfl ?_
        refine r_aload_n dX10_solve_108 rfl rfl ?_
        refine m_getF (x := 2842) hp fw_X10_453 dX10_solve_109 rfl ly_10 (ff_10_21 ly_10) ?_
        refine r_iconst (v := (1 : Int32)) dX10_solve_112 rfl ?_
        refine k_VV (As := [.ref 2842, .int (1 : Int32)]) (stk := []) hp cv_X10_292 dX10_solve_113 rfl (Nat.le_of_ble_eq_true rfl) ly_10 (H.mono (fun h6 H => ?_)) ⟨Nat.le_refl _, Nat.le_refl _⟩
        refine r_aload_n dX10_solve_116 rfl rfl ?_
        refine m_getF (x := 2842) hp fw_X10_453 dX10_solve_117 rfl ly_10 (ff_10_21 ly_10) ?_
        refine r_iconst (v := (0 : Int32)) dX10_solve_120 rfl ?_
        refine r_aload dX10_solve_121 rfl ?_
        refine k_VI (As := []) (stk := [.int (0 : Int32), .ref 2842]) hp cv_X10_66 dX10_solve_123 rfl (Nat.le_of_ble_eq_true rfl) tv2 (H.mono (fun v7 h7 H => ?_)) ⟨Nat.le_refl _, Nat.le_refl _⟩
        refine k_SI (As := [.int (0 : Int32), .int v7]) (stk := [.ref 2842]) cs_X10_46 dX10_solve_126 rfl (Nat.le_of_ble_eq_true rfl) (H.mono (fun v8 h8 H => ?_)) ⟨Nat.le_refl _, Nat.le_refl _⟩
        refine r_aload dX10_solve_129 rfl ?_
        refine k_VI (As := []) (stk := [.int v8, .ref 2842]) hp cv_X10_66 dX10_solve_131 rfl (Nat.le_of_ble_eq_true rfl) tv3 (H.mono (fun v9 h9 H => ?_)) ⟨Nat.le_refl _, Nat.le_refl _⟩
        refine k_SI (As := [.int v9]) (stk := [.int v8, .ref 2842]) cs_X10_13 dX10_solve_134 rfl (Nat.le_of_ble_eq_true rfl) (H.mono (fun v10 h10 H => ?_)) ⟨Nat.le_refl _, Nat.le_refl _⟩
        refine k_SI (As := [.int v8, .int v10]) (stk := [.ref 2842]) cs_X10_56 dX10_solve_137 rfl (Nat.le_of_ble_eq_true rfl) (H.mono (fun v11 h11 H => ?_)) ⟨Nat.le_refl _, Nat.le_refl _⟩
        refine m_putI hp fw_X10_213 dX10_solve_140 rfl rfl (lf_10_21 ly_10) (fun h12 eh12 => ?_)
        replace H := H h12 eh12
        refine r_aload_n dX10_solve_143 rfl rfl ?_
        refine m_getF (x := 3034) hp fw_X10_541 dX10_solve_144 rfl ly_10 (ff_10_64 ly_10) ?_
        refine r_astore (ls2 := [some (.ref 2759), none, some (.int x2), some (.ref a3), some (.ref v2), some (.ref v3), some (.ref 3034), none, none]) dX10_solve_147 (by decide) rfl ?_
        refine r_bipush (v := (-49 : Int32)) dX10_solve_149 rfl ?_
        refine r_istore (ls2 := [some (.ref 2759), none, some (.int x2), some (.ref a3), some (.ref v2), some (.ref v3), some (.ref 3034), some (.int (-49 : Int32)), none]) dX10_solve_151 (by decide) rfl ?_
        refine r_prune [true, false, true, false, true, true, true, true, false] (ls2 := [some (.ref 2759), none, some (.int x2), none, some (.ref v2), some (.ref v3), some (.ref 3034), some (.int (-49 : Int32)), none]) rfl ?_
        exact H
      · replace H := H.2 cH
        refine r_iconst (v := (-1 : Int32)) dX10_solve_105 rfl ?_
        exact r_zret dX10_solve_106 rfl rfl (Nat.le_refl _) (Nat.le_refl _) H
  · replace H := H.2 cH
    refine r_iconst (v := (-1 : Int32)) dX10_solve_50 rfl ?_
    exact r_zret dX10_solve_51 rfl rfl (Nat.le_refl _) (Nat.le_refl _) H
theorem s_X10_solve_153 {g : GX} {d : Nat} {av : List Value} {Q : QT} {n : Nat} {h : Hp} {x2 : Int32} {a4 : Nat} {a5 : Nat} {a6 : Nat} {L6 : Nat} {x7 : Int32} (hp : g.2.2.2.2 = true) (t4 : lay a4 = (0, 13, 2)) (t5 : lay a5 = (0, 13, 2)) (t6 : lay a6 = (1, L6, 0)) (H : (((51 : Int32) < x7) → (((¬ (ri h a4 1) = (1 : Int32)) → (Q (some (.int (-1 : Int32))) n h)) ∧ (((ri h a4 1) = (1 : Int32)) → ((((ri h a5 1) = (1 : Int32)) → (W_X10_solve g d av Q n 217 [some (.ref 2759), none, some (.int x2), none, none, none, some (.ref a6), some (.int (0 : Int32)), some (.int (0 : Int32))] [] h)) ∧ ((¬ (ri h a5 1) = (1 : Int32)) → (Q (some (.int (-1 : Int32))) n h)))))) ∧ ((¬ (51 : Int32) < x7) → (CallI g m_X10_strip d [.ref 2759, .ref a4, .int x7] n h (fun v1 h1 => (CallI g m_X10_strip d [.ref 2759, .ref a5, .int x7] n h1 (fun v2 h2 => (vp_in (x7 + (49 : Int32)) L6 ∧ ∀ h3, h3 = wi h2 a6 ((x7 + (49 : Int32))).toNatClampNeg (v1 - v2) → (W_X10_solve g d av Q n 153 [some (.ref 2759), none, some (.int x2), none, some (.ref a4), some (.ref a5), some (.ref a6), some (.int (x7 + (1 : Int32))), none] [] h3)))))))) : W_X10_solve g d av Q n 153 [some (.ref 2759), none, some (.int x2), none, some (.ref a4), some (.ref a5), some (.ref a6), some (.int x7), none] [] h := by
  refine r_iload dX10_solve_153 rfl ?_
  refine r_bipush (v := (51 : Int32)) dX10_solve_155 rfl ?_
  refine r_icmp_gt (tgt := 191) dX10_solve_157 rfl (fun cH => ?_) (fun cH => ?_)
  · replace H := H.1 cH
    refine r_aload dX10_solve_191 rfl ?_
    refine m_getI hp fw_X10_25 dX10_solve_193 rfl t4 ?_
    refine r_iconst (v := (1 : Int32)) dX10_solve_196 rfl ?_
    refine r_icmp_ne (tgt := 209) dX10_solve_197 rfl (fun cH => ?_) (fun cH => ?_)
    · replace H := H.1 cH
      refine r_iconst (v := (-1 : Int32)) dX10_solve_209 rfl ?_
      exact r_zret dX10_solve_210 rfl rfl (Nat.le_refl _) (Nat.le_refl _) H
    · replace H := H.2 cH
      refine r_aload dX10_solve_200 rfl ?_
      refine m_getI hp fw_X10_25 dX10_solve_202 rfl t5 ?_
      refine r_iconst (v := (1 : Int32)) dX10_solve_205 rfl ?_
      refine r_icmp_eq (tgt := 211) dX10_solve_206 rfl (fun cH => ?_) (fun cH => ?_)
      · replace H := H.1 cH
        refine r_iconst (v := (0 : Int32)) dX10_solve_211 rfl ?_
        refine r_istore (ls2 := [some (.ref 2759), none, some (.int x2), none, some (.ref a4), some (.ref a5), some (.ref a6), some (.int (0 : Int32)), none]) dX10_solve_212 (by decide) rfl ?_
        refine r_iconst (v := (0 : Int32)) dX10_solve_214 rfl ?_
        refine r_istore (ls2 := [some (.ref 2759), none, some (.int x2), none, some (.ref a4), some (.ref a5), some (.ref a6), some (.int (0 : Int32)), some (.int (0 : Int32))]) dX10_solve_215 (by decide) rfl ?_
        refine r_prune [true, false, true, false, false, false, true, true, true] (ls2 := [some (.ref 2759), none, some (.int x2), none, none, none, some (.ref a6), some (.int (0 : Int32)), some (.int (0 : Int32))]) rfl ?_
        exact H
      · replace H := H.2 cH
        refine r_iconst (v := (-1 : Int32)) dX10_solve_209 rfl ?_
        exact r_zret dX10_solve_210 rfl rfl (Nat.le_refl _) (Nat.le_refl _) H
  · replace H := H.2 cH
    refine r_aload dX10_solve_160 rfl ?_
    refine r_iload dX10_solve_162 rfl ?_
    refine r_bipush (v := (49 : Int32)) dX10_solve_164 rfl ?_
    refine r_iadd dX10_solve_166 ?_
    refine r_aload_n dX10_solve_167 rfl rfl ?_
    refine r_aload dX10_solve_168 rfl ?_
    refine r_iload dX10_solve_170 rfl ?_
    refine k_VI (As := [.ref a4, .int x7]) (stk := [.int (x7 + (49 : Int32)), .ref a6]) hp cv_X10_827 dX10_solve_172 rfl (Nat.le_of_ble_eq_true rfl) ly_10 (H.mono (fun v1 h1 H => ?_)) ⟨Nat.le_refl _, Nat.le_refl _⟩
    refine r_aload_n dX10_solve_175 rfl rfl ?_
    refine r_aload dX10_solve_176 rfl ?_
    refine r_iload dX10_solve_178 rfl ?_
    refine k_VI (As := [.ref a5, .int x7]) (stk := [.int v1, .int (x7 + (49 : Int32)), .ref a6]) hp cv_X10_827 dX10_solve_180 rfl (Nat.le_of_ble_eq_true rfl) ly_10 (H.mono (fun v2 h2 H => ?_)) ⟨Nat.le_refl _, Nat.le_refl _⟩
    refine r_isub dX10_solve_183 ?_
    refine m_iast hp dX10_solve_184 t6 H.1 (fun h3 eh3 => ?_)
    replace H := H.2 h3 eh3
    refine r_iinc (v := (x7 + (1 : Int32))) (ls2 := [some (.ref 2759), none, some (.int x2), none, some (.ref a4), some (.ref a5), some (.ref a6), some (.int (x7 + (1 : Int32))), none]) dX10_solve_185 rfl rfl (by decide) rfl ?_
    refine r_goto (tgt := 153) dX10_solve_188 rfl ?_
    exact H
theorem s_X10_solve_217 {g : GX} {d : Nat} {av : List Value} {Q : QT} {n : Nat} {h : Hp} {x2 : Int32} {a6 : Nat} {L6 : Nat} {x7 : Int32} {x8 : Int32} (hp : g.2.2.2.2 = true) (t6 : lay a6 = (1, L6, 0)) (H : (((100 : Int32) < x8) → (((x7 ≤ (12 : Int32)) → (W_X10_solve g d av Q n 256 [some (.ref 2759), none, some (.int x2), none, none, none, some (.ref a6), none, some (.int (-49 : Int32))] [] h)) ∧ ((¬ x7 ≤ (12 : Int32)) → (Q (some (.int (-1 : Int32))) n h)))) ∧ ((¬ (100 : Int32) < x8) → (vp_in x8 L6 ∧ (CallI g m_J3_abs d [.int (ri h a6 (x8).toNatClampNeg)] n h (fun v1 h1 => (W_X10_solve g d av Q n 217 [some (.ref 2759), none, some (.int x2), none, none, none, some (.ref a6), some (.int (x7 + v1)), some (.int (x8 + (1 : Int32)))] [] h1)))))) : W_X10_solve g d av Q n 217 [some (.ref 2759), none, some (.int x2), none, none, none, some (.ref a6), some (.int x7), some (.int x8)] [] h := by
  refine r_iload dX10_solve_217 rfl ?_
  refine r_bipush (v := (100 : Int32)) dX10_solve_219 rfl ?_
  refine r_icmp_gt (tgt := 243) dX10_solve_221 rfl (fun cH => ?_) (fun cH => ?_)
  · replace H := H.1 cH
    refine r_iload dX10_solve_243 rfl ?_
    refine r_bipush (v := (12 : Int32)) dX10_solve_245 rfl ?_
    refine r_icmp_le (tgt := 252) dX10_solve_247 rfl (fun cH => ?_) (fun cH => ?_)
    · replace H := H.1 cH
      refine r_bipush (v := (-49 : Int32)) dX10_solve_252 rfl ?_
      refine r_istore (ls2 := [some (.ref 2759), none, some (.int x2), none, none, none, some (.ref a6), some (.int x7), some (.int (-49 : Int32))]) dX10_solve_254 (by decide) rfl ?_
      refine r_prune [true, false, true, false, false, false, true, false, true] (ls2 := [some (.ref 2759), none, some (.int x2), none, none, none, some (.ref a6), none, some (.int (-49 : Int32))]) rfl ?_
      exact H
    · replace H := H.2 cH
      refine r_iconst (v := (-1 : Int32)) dX10_solve_250 rfl ?_
      exact r_zret dX10_solve_251 rfl rfl (Nat.le_refl _) (Nat.le_refl _) H
  · replace H := H.2 cH
    refine r_iload dX10_solve_224 rfl ?_
    refine r_aload dX10_solve_226 rfl ?_
    refine r_iload dX10_solve_228 rfl ?_
    refine m_iald hp dX10_solve_230 t6 H.1 ?_
    replace H := H.2
    refine k_SI (As := [.int (ri h a6 (x8).toNatClampNeg)]) (stk := [.int x7]) cs_X10_273 dX10_solve_231 rfl (Nat.le_of_ble_eq_true rfl) (H.mono (fun v1 h1 H => ?_)) ⟨Nat.le_refl _, Nat.le_refl _⟩
    refine r_iadd dX10_solve_234 ?_
    refine r_istore (ls2 := [some (.ref 2759), none, some (.int x2), none, none, none, some (.ref a6), some (.int (x7 + v1)), some (.int x8)]) dX10_solve_235 (by decide) rfl ?_
    refine r_iinc (v := (x8 + (1 : Int32))) (ls2 := [some (.ref 2759), none, some (.int x2), none, none, none, some (.ref a6), some (.int (x7 + v1)), some (.int (x8 + (1 : Int32)))]) dX10_solve_237 rfl rfl (by decide) rfl ?_
    refine r_goto (tgt := 217) dX10_solve_240 rfl ?_
    exact H
theorem s_X10_solve_256 {g : GX} {d : Nat} {av : List Value} {Q : QT} {n : Nat} {h : Hp} {x2 : Int32} {a6 : Nat} {L6 : Nat} {x8 : Int32} (hp : g.2.2.2.2 = true) (t6 : lay a6 = (1, L6, 0)) (H : (((51 : Int32) < x8) → (CallV g m_X10_name d [.ref 2842] n h (fun h1 => (CallI g m_X10_keep d [.ref 2759, .int x2] n h1 (fun v2 h2 => (Q (some (.int v2)) n h2)))))) ∧ ((¬ (51 : Int32) < x8) → (vp_in (x8 + (49 : Int32)) L6 ∧ ((((ri h a6 ((x8 + (49 : Int32))).toNatClampNeg) = (0 : Int32)) → (W_X10_solve g d av Q n 295 [some (.ref 2759), none, some (.int x2), none, none, none, some (.ref a6), none, some (.int x8)] [] h)) ∧ ((¬ (ri h a6 ((x8 + (49 : Int32))).toNatClampNeg) = (0 : Int32)) → (vp_in (x8 + (49 : Int32)) L6 ∧ (CallV g m_X10_factor d [.ref 2842, .int (1 : Int32), .int (0 : Int32), .int (x8 - (1 : Int32)), .int (ri h a6 ((x8 + (49 : Int32))).toNatClampNeg)] n h (fun h3 => (W_X10_solve g d av Q n 295 [some (.ref 2759), none, some (.int x2), none, none, none, some (.ref a6), none, some (.int x8)] [] h3))))))))) : W_X10_solve g d av Q n 256 [some (.ref 2759), none, some (.int x2), none, none, none, some (.ref a6), none, some (.int x8)] [] h := by
  refine r_iload dX10_solve_256 rfl ?_
  refine r_bipush (v := (51 : Int32)) dX10_solve_258 rfl ?_
  refine r_icmp_gt (tgt := 301) dX10_solve_260 rfl (fun cH => ?_) (fun cH => ?_)
  · replace H := H.1 cH
    refine r_aload_n dX10_solve_301 rfl rfl ?_
    refine m_getF (x := 2842) hp fw_X10_453 dX10_solve_302 rfl ly_10 (ff_10_21 ly_10) ?_
    refine k_SV (As := [.ref 2842]) (stk := []) cs_X10_307 dX10_solve_305 rfl (Nat.le_of_ble_eq_true rfl) (H.mono (fun h1 H => ?_)) ⟨Nat.le_refl _, Nat.le_refl _⟩
    refine r_aload_n dX10_solve_308 rfl rfl ?_
    refine r_iload_n dX10_solve_309 rfl rfl ?_
    refine k_VI (As := [.int x2]) (stk := []) hp cv_X10_558 dX10_solve_310 rfl (Nat.le_of_ble_eq_true rfl) ly_10 (H.mono (fun v2 h2 H => ?_)) ⟨Nat.le_refl _, Nat.le_refl _⟩
    exact r_zret dX10_solve_313 rfl rfl (Nat.le_refl _) (Nat.le_refl _) H
  · replace H := H.2 cH
    refine r_aload dX10_solve_263 rfl ?_
    refine r_iload dX10_solve_265 rfl ?_
    refine r_bipush (v := (49 : Int32)) dX10_solve_267 rfl ?_
    refine r_iadd dX10_solve_269 ?_
    refine m_iald hp dX10_solve_270 t6 H.1 ?_
    replace H := H.2
    refine r_if_eq (tgt := 295) dX10_solve_271 rfl (fun cH => ?_) (fun cH => ?_)
    · replace H := H.1 cH
      exact H
    · replace H := H.2 cH
      refine r_aload_n dX10_solve_274 rfl rfl ?_
      refine m_getF (x := 2842) hp fw_X10_453 dX10_solve_275 rfl ly_10 (ff_10_21 ly_10) ?_
      refine r_iconst (v := (1 : Int32)) dX10_solve_278 rfl ?_
      refine r_iconst (v := (0 : Int32)) dX10_solve_279 rfl ?_
      refine r_iload dX10_solve_280 rfl ?_
      refine r_iconst (v := (1 : Int32)) dX10_solve_282 rfl ?_
      refine r_isub dX10_solve_283 ?_
      refine r_aload dX10_solve_284 rfl ?_
      refine r_iload dX10_solve_286 rfl ?_
      refine r_bipush (v := (49 : Int32)) dX10_solve_288 rfl ?_
      refine r_iadd dX10_solve_290 ?_
      refine m_iald hp dX10_solve_291 t6 H.1 ?_
      replace H := H.2
      refine k_SV (As := [.ref 2842, .int (1 : Int32), .int (0 : Int32), .int (x8 - (1 : Int32)), .int (ri h a6 ((x8 + (49 : Int32))).toNatClampNeg)]) (stk := []) cs_X10_284 dX10_solve_292 rfl (Nat.le_of_ble_eq_true rfl) (H.mono (fun h3 H => ?_)) ⟨Nat.le_refl _, Nat.le_refl _⟩
      exact H
theorem s_X10_solve_295 {g : GX} {d : Nat} {av : List Value} {Q : QT} {n : Nat} {h : Hp} {x2 : Int32} {a6 : Nat} {L6 : Nat} {x8 : Int32} (hp : g.2.2.2.2 = true) (t6 : lay a6 = (1, L6, 0)) (H : W_X10_solve g d av Q n 256 [some (.ref 2759), none, some (.int x2), none, none, none, some (.ref a6), none, some (.int (x8 + (1 : Int32)))] [] h) : W_X10_solve g d av Q n 295 [some (.ref 2759), none, some (.int x2), none, none, none, some (.ref a6), none, some (.int x8)] [] h := by
  refine r_iinc (v := (x8 + (1 : Int32))) (ls2 := [some (.ref 2759), none, some (.int x2), none, none, none, some (.ref a6), none, some (.int (x8 + (1 : Int32)))]) dX10_solve_295 rfl rfl (by decide) rfl ?_
  refine r_goto (tgt := 256) dX10_solve_298 rfl ?_
  exact H
abbrev W_X10_strip (g : GX) (d : Nat) (av : List Value) (Q : QT) (n : Nat) (pc : Nat) (ls : LV) (stk : List Value) (h : Hp) : Prop := RJ g m_X10_strip (d + 1) 0 0 av Q pc ls stk n h 0 0
theorem s_X10_strip_0 {g : GX} {d : Nat} {av : List Value} {Q : QT} {n : Nat} {h : Hp} {a1 : Nat} {x2 : Int32} (hp : g.2.2.2.2 = true) (t1 : lay a1 = (0, 13, 2)) (H : CallR g m_X10_newU d [.ref 2759] n h (fun v1 h1 => (lay v1 = (0, 13, 2) ∧ (CallR g m_X10_newU d [.ref 2759] n h1 (fun v2 h2 => (lay v2 = (0, 13, 2) ∧ (CallR g m_X10_newU d [.ref 2759] n h2 (fun v3 h3 => (lay v3 = (0, 13, 2) ∧ (CallI g m_X10_rest d [.int x2] n h3 (fun v4 h4 => (vp_in (0 : Int32) (rm (v1 + 1)) ∧ ∀ h5, h5 = wi h4 (v1 + 1) ((0 : Int32)).toNatClampNeg v4 → (vp_in (1 : Int32) (rm (v1 + 1)) ∧ ∀ h6, h6 = wi h5 (v1 + 1) ((1 : Int32)).toNatClampNeg (1 : Int32) → (∀ h7, h7 = wi h6 v1 1 (2 : Int32) → ((((ri h7 a1 1) ≤ (1 : Int32)) → (W_X10_strip g d av Q n 58 [some (.ref 2759), some (.ref a1), none, some (.int (0 : Int32)), some (.ref v1), some (.ref v2), some (.ref v3), none] [.int (0 : Int32)] h7)) ∧ ((¬ (ri h7 a1 1) ≤ (1 : Int32)) → (W_X10_strip g d av Q n 58 [some (.ref 2759), some (.ref a1), none, some (.int (0 : Int32)), some (.ref v1), some (.ref v2), some (.ref v3), none] [.int (1 : Int32)] h7))))))))))))))))) : W_X10_strip g d av Q n 0 [some (.ref 2759), some (.ref a1), some (.int x2), none, none, none, none, none] [] h := by
  refine r_iconst (v := (0 : Int32)) dX10_strip_0 rfl ?_
  refine r_istore_n (ls2 := [some (.ref 2759), some (.ref a1), some (.int x2), some (.int (0 : Int32)), none, none, none, none]) dX10_strip_1 rfl (by decide) rfl ?_
  refine r_aload_n dX10_strip_2 rfl rfl ?_
  refine k_VR (As := []) (stk := []) hp cv_X10_74 dX10_strip_3 rfl (Nat.le_of_ble_eq_true rfl) ly_10 (H.mono (fun v1 h1 H => ?_)) ⟨Nat.le_refl _, Nat.le_refl _⟩
  obtain ⟨tv1, H⟩ := H
  refine r_astore (ls2 := [some (.ref 2759), some (.ref a1), some (.int x2), some (.int (0 : Int32)), some (.ref v1), none, none, none]) dX10_strip_6 (by decide) rfl ?_
  refine r_aload_n dX10_strip_8 rfl rfl ?_
  refine k_VR (As := []) (stk := []) hp cv_X10_74 dX10_strip_9 rfl (Nat.le_of_ble_eq_true rfl) ly_10 (H.mono (fun v2 h2 H => ?_)) ⟨Nat.le_refl _, Nat.le_refl _⟩
  obtain ⟨tv2, H⟩ := H
  refine r_astore (ls2 := [some (.ref 2759), some (.ref a1), some (.int x2), some (.int (0 : Int32)), some (.ref v1), some (.ref v2), none, none]) dX10_strip_12 (by decide) rfl ?_
  refine r_aload_n dX10_strip_14 rfl rfl ?_
  refine k_VR (As := []) (stk := []) hp cv_X10_74 dX10_strip_15 rfl (Nat.le_of_ble_eq_true rfl) ly_10 (H.mono (fun v3 h3 H => ?_)) ⟨Nat.le_refl _, Nat.le_refl _⟩
  obtain ⟨tv3, H⟩ := H
  refine r_astore (ls2 := [some (.ref 2759), some (.ref a1), some (.int x2), some (.int (0 : Int32)), some (.ref v1), some (.ref v2), some (.ref v3), none]) dX10_strip_18 (by decide) rfl ?_
  refine r_aload dX10_strip_20 rfl ?_
  refine m_getF (x := (v1 + 1)) hp fw_X10_30 dX10_strip_22 rfl tv1 (ff_13_0 tv1) ?_
  refine r_iconst (v := (0 : Int32)) dX10_strip_25 rfl ?_
  refine r_iload_n dX10_strip_26 rfl rfl ?_
  refine k_SI (As := [.int x2]) (stk := [.int (0 : Int32), .ref (v1 + 1)]) cs_X10_600 dX10_strip_27 rfl (Nat.le_of_ble_eq_true rfl) (H.mono (fun v4 h4 H => ?_)) ⟨Nat.le_refl _, Nat.le_refl _⟩
  refine m_iast hp dX10_strip_30 (lf_13_0 tv1) H.1 (fun h5 eh5 => ?_)
  replace H := H.2 h5 eh5
  refine r_aload dX10_strip_31 rfl ?_
  refine m_getF (x := (v1 + 1)) hp fw_X10_30 dX10_strip_33 rfl tv1 (ff_13_0 tv1) ?_
  refine r_iconst (v := (1 : Int32)) dX10_strip_36 rfl ?_
  refine r_iconst (v := (1 : Int32)) dX10_strip_37 rfl ?_
  refine m_iast hp dX10_strip_38 (lf_13_0 tv1) H.1 (fun h6 eh6 => ?_)
  replace H := H.2 h6 eh6
  refine r_aload dX10_strip_39 rfl ?_
  refine r_iconst (v := (2 : Int32)) dX10_strip_41 rfl ?_
  refine m_putI hp fw_X10_25 dX10_strip_42 rfl rfl tv1 (fun h7 eh7 => ?_)
  replace H := H h7 eh7
  refine r_aload_n dX10_strip_45 rfl rfl ?_
  refine m_getI hp fw_X10_25 dX10_strip_46 rfl t1 ?_
  refine r_iconst (v := (1 : Int32)) dX10_strip_49 rfl ?_
  refine r_icmp_le (tgt := 57) dX10_strip_50 rfl (fun cH => ?_) (fun cH => ?_)
  · replace H := H.1 cH
    refine r_iconst (v := (0 : Int32)) dX10_strip_57 rfl ?_
    refine r_prune [true, true, false, true, true, true, true, false] (ls2 := [some (.ref 2759), some (.ref a1), none, some (.int (0 : Int32)), some (.ref v1), some (.ref v2), some (.ref v3), none]) rfl ?_
    exact H
  · replace H := H.2 cH
    refine r_iconst (v := (1 : Int32)) dX10_strip_53 rfl ?_
    refine r_goto (tgt := 58) dX10_strip_54 rfl ?_
    refine r_prune [true, true, false, true, true, true, true, false] (ls2 := [some (.ref 2759), some (.ref a1), none, some (.int (0 : Int32)), some (.ref v1), some (.ref v2), some (.ref v3), none]) rfl ?_
    exact H
theorem s_X10_strip_58 {g : GX} {d : Nat} {av : List Value} {Q : QT} {n : Nat} {h : Hp} {a1 : Nat} {x3 : Int32} {a4 : Nat} {a5 : Nat} {a6 : Nat} {xs0 : Int32} (hp : g.2.2.2.2 = true) (t1 : lay a1 = (0, 13, 2)) (t4 : lay a4 = (0, 13, 2)) (t5 : lay a5 = (0, 13, 2)) (t6 : lay a6 = (0, 13, 2)) (H : W_X10_strip g d av Q n 60 [some (.ref 2759), some (.ref a1), none, some (.int x3), some (.ref a4), some (.ref a5), some (.ref a6), some (.int xs0)] [] h) : W_X10_strip g d av Q n 58 [some (.ref 2759), some (.ref a1), none, some (.int x3), some (.ref a4), some (.ref a5), some (.ref a6), none] [.int xs0] h := by
  refine r_istore (ls2 := [some (.ref 2759), some (.ref a1), none, some (.int x3), some (.ref a4), some (.ref a5), some (.ref a6), some (.int xs0)]) dX10_strip_58 (by decide) rfl ?_
  exact H
theorem s_X10_strip_60 {g : GX} {d : Nat} {av : List Value} {Q : QT} {n : Nat} {h : Hp} {a1 : Nat} {x3 : Int32} {a4 : Nat} {a5 : Nat} {a6 : Nat} {x7 : Int32} (hp : g.2.2.2.2 = true) (t1 : lay a1 = (0, 13, 2)) (t4 : lay a4 = (0, 13, 2)) (t5 : lay a5 = (0, 13, 2)) (t6 : lay a6 = (0, 13, 2)) (H : ((x7 = (0 : Int32)) → (∀ h1, h1 = wi h 2759 1 ((ri h 2759 1) - (3 : Int32)) → (Q (some (.int x3)) n h1))) ∧ ((¬ x7 = (0 : Int32)) → (CallV g m_X10_divide d [.ref a5, .ref a6, .ref a1, .ref a4] n h (fun h2 => (((¬ (ri h2 a6 1) = (0 : Int32)) → (W_X10_strip g d av Q n 88 [some (.ref 2759), some (.ref a1), none, some (.int x3), some (.ref a4), some (.ref a5), some (.ref a6), none] [.int (0 : Int32)] h2)) ∧ (((ri h2 a6 1) = (0 : Int32)) → (W_X10_strip g d av Q n 88 [some (.ref 2759), some (.ref a1), none, some (.int x3), some (.ref a4), some (.ref a5), some (.ref a6), none] [.int (1 : Int32)] h2))))))) : W_X10_strip g d av Q n 60 [some (.ref 2759), some (.ref a1), none, some (.int x3), some (.ref a4), some (.ref a5), some (.ref a6), some (.int x7)] [] h := by
  refine r_iload dX10_strip_60 rfl ?_
  refine r_if_eq (tgt := 122) dX10_strip_62 rfl (fun cH => ?_) (fun cH => ?_)
  · replace H := H.1 cH
    refine r_aload_n dX10_strip_122 rfl rfl ?_
    refine r_dup dX10_strip_123 rfl ?_
    refine m_getI hp fw_X10_21 dX10_strip_124 rfl ly_10 ?_
    refine r_iconst (v := (3 : Int32)) dX10_strip_127 rfl ?_
    refine r_isub dX10_strip_128 ?_
    refine m_putI hp fw_X10_21 dX10_strip_129 rfl rfl ly_10 (fun h1 eh1 => ?_)
    replace H := H h1 eh1
    refine r_iload_n dX10_strip_132 rfl rfl ?_
    exact r_zret dX10_strip_133 rfl rfl (Nat.le_refl _) (Nat.le_refl _) H
  · replace H := H.2 cH
    refine r_aload dX10_strip_65 rfl ?_
    refine r_aload dX10_strip_67 rfl ?_
    refine r_aload_n dX10_strip_69 rfl rfl ?_
    refine r_aload dX10_strip_70 rfl ?_
    refine k_SV (As := [.ref a5, .ref a6, .ref a1, .ref a4]) (stk := []) cs_X10_78 dX10_strip_72 rfl (Nat.le_of_ble_eq_true rfl) (H.mono (fun h2 H => ?_)) ⟨Nat.le_refl _, Nat.le_refl _⟩
    refine r_aload dX10_strip_75 rfl ?_
    refine m_getI hp fw_X10_25 dX10_strip_77 rfl t6 ?_
    refine r_if_ne (tgt := 87) dX10_strip_80 rfl (fun cH => ?_) (fun cH => ?_)
    · replace H := H.1 cH
      refine r_iconst (v := (0 : Int32)) dX10_strip_87 rfl ?_
      refine r_prune [true, true, false, true, true, true, true, false] (ls2 := [some (.ref 2759), some (.ref a1), none, some (.int x3), some (.ref a4), some (.ref a5), some (.ref a6), none]) rfl ?_
      exact H
    · replace H := H.2 cH
      refine r_iconst (v := (1 : Int32)) dX10_strip_83 rfl ?_
      refine r_goto (tgt := 88) dX10_strip_84 rfl ?_
      refine r_prune [true, true, false, true, true, true, true, false] (ls2 := [some (.ref 2759), some (.ref a1), none, some (.int x3), some (.ref a4), some (.ref a5), some (.ref a6), none]) rfl ?_
      exact H
theorem s_X10_strip_88 {g : GX} {d : Nat} {av : List Value} {Q : QT} {n : Nat} {h : Hp} {a1 : Nat} {x3 : Int32} {a4 : Nat} {a5 : Nat} {a6 : Nat} {xs0 : Int32} (hp : g.2.2.2.2 = true) (t1 : lay a1 = (0, 13, 2)) (t4 : lay a4 = (0, 13, 2)) (t5 : lay a5 = (0, 13, 2)) (t6 : lay a6 = (0, 13, 2)) (H : ((xs0 = (0 : Int32)) → (W_X10_strip g d av Q n 60 [some (.ref 2759), some (.ref a1), none, some (.int x3), some (.ref a4), some (.ref a5), some (.ref a6), some (.int xs0)] [] h)) ∧ ((¬ xs0 = (0 : Int32)) → (CallV g m_X10_set_2 d [.ref a1, .ref a5] n h (fun h1 => ((((ri h1 a1 1) ≤ (1 : Int32)) → (W_X10_strip g d av Q n 117 [some (.ref 2759), some (.ref a1), none, some (.int (x3 + (1 : Int32))), some (.ref a4), some (.ref a5), some (.ref a6), none] [.int (0 : Int32)] h1)) ∧ ((¬ (ri h1 a1 1) ≤ (1 : Int32)) → (W_X10_strip g d av Q n 117 [some (.ref 2759), some (.ref a1), none, some (.int (x3 + (1 : Int32))), some (.ref a4), some (.ref a5), some (.ref a6), none] [.int (1 : Int32)] h1))))))) : W_X10_strip g d av Q n 88 [some (.ref 2759), some (.ref a1), none, some (.int x3), some (.ref a4), some (.ref a5), some (.ref a6), none] [.int xs0] h := by
  refine r_istore (ls2 := [some (.ref 2759), some (.ref a1), none, some (.int x3), some (.ref a4), some (.ref a5), some (.ref a6), some (.int xs0)]) dX10_strip_88 (by decide) rfl ?_
  refine r_iload dX10_strip_90 rfl ?_
  refine r_if_eq (tgt := 60) dX10_strip_92 rfl (fun cH => ?_) (fun cH => ?_)
  · replace H := H.1 cH
    exact H
  · replace H := H.2 cH
    refine r_aload_n dX10_strip_95 rfl rfl ?_
    refine r_aload dX10_strip_96 rfl ?_
    refine k_SV (As := [.ref a1, .ref a5]) (stk := []) cs_X10_62 dX10_strip_98 rfl (Nat.le_of_ble_eq_true rfl) (H.mono (fun h1 H => ?_)) ⟨Nat.le_refl _, Nat.le_refl _⟩
    refine r_iinc (v := (x3 + (1 : Int32))) (ls2 := [some (.ref 2759), some (.ref a1), none, some (.int (x3 + (1 : Int32))), some (.ref a4), some (.ref a5), some (.ref a6), some (.int xs0)]) dX10_strip_101 rfl rfl (by decide) rfl ?_
    refine r_aload_n dX10_strip_104 rfl rfl ?_
    refine m_getI hp fw_X10_25 dX10_strip_105 rfl t1 ?_
    refine r_iconst (v := (1 : Int32)) dX10_strip_108 rfl ?_
    refine r_icmp_le (tgt := 116) dX10_strip_109 rfl (fun cH => ?_) (fun cH => ?_)
    · replace H := H.1 cH
      refine r_iconst (v := (0 : Int32)) dX10_strip_116 rfl ?_
      refine r_prune [true, true, false, true, true, true, true, false] (ls2 := [some (.ref 2759), some (.ref a1), none, some (.int (x3 + (1 : Int32))), some (.ref a4), some (.ref a5), some (.ref a6), none]) rfl ?_
      exact H
    · replace H := H.2 cH
      refine r_iconst (v := (1 : Int32)) dX10_strip_112 rfl ?_
      refine r_goto (tgt := 117) dX10_strip_113 rfl ?_
      refine r_prune [true, true, false, true, true, true, true, false] (ls2 := [some (.ref 2759), some (.ref a1), none, some (.int (x3 + (1 : Int32))), some (.ref a4), some (.ref a5), some (.ref a6), none]) rfl ?_
      exact H
theorem s_X10_strip_117 {g : GX} {d : Nat} {av : List Value} {Q : QT} {n : Nat} {h : Hp} {a1 : Nat} {x3 : Int32} {a4 : Nat} {a5 : Nat} {a6 : Nat} {xs0 : Int32} (hp : g.2.2.2.2 = true) (t1 : lay a1 = (0, 13, 2)) (t4 : lay a4 = (0, 13, 2)) (t5 : lay a5 = (0, 13, 2)) (t6 : lay a6 = (0, 13, 2)) (H : W_X10_strip g d av Q n 60 [some (.ref 2759), some (.ref a1), none, some (.int x3), some (.ref a4), some (.ref a5), some (.ref a6), some (.int xs0)] [] h) : W_X10_strip g d av Q n 117 [some (.ref 2759), some (.ref a1), none, some (.int x3), some (.ref a4), some (.ref a5), some (.ref a6), none] [.int xs0] h := by
  refine r_istore (ls2 := [some (.ref 2759), some (.ref a1), none, some (.int x3), some (.ref a4), some (.ref a5), some (.ref a6), some (.int xs0)]) dX10_strip_117 (by decide) rfl ?_
  refine r_goto (tgt := 60) dX10_strip_119 rfl ?_
  exact H
