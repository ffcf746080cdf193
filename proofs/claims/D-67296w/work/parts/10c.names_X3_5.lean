set_option maxRecDepth 100000
theorem dX3_bringsOf_22 : decode cX3_bringsOf 22 = .ok (.iadd, 1) := by decide +kernel
theorem dX3_bringsOf_23 : decode cX3_bringsOf 23 = .ok (.sipush 400, 3) := by decide +kernel
theorem dX3_bringsOf_26 : decode cX3_bringsOf 26 = .ok (.if_icmp .gt 370, 3) := by decide +kernel
theorem dX3_bringsOf_29 : decode cX3_bringsOf 29 = .ok (.aload_n 0, 1) := by decide +kernel
theorem dX3_bringsOf_30 : decode cX3_bringsOf 30 = .ok (.getfield 310, 3) := by decide +kernel
theorem dX3_bringsOf_33 : decode cX3_bringsOf 33 = .ok (.iload_n 3, 1) := by decide +kernel
theorem dX3_bringsOf_34 : decode cX3_bringsOf 34 = .ok (.iaload, 1) := by decide +kernel
theorem dX3_bringsOf_35 : decode cX3_bringsOf 35 = .ok (.istore 4, 2) := by decide +kernel
theorem dX3_bringsOf_37 : decode cX3_bringsOf 37 = .ok (.aload_n 0, 1) := by decide +kernel
theorem dX3_bringsOf_38 : decode cX3_bringsOf 38 = .ok (.getfield 33, 3) := by decide +kernel
theorem dX3_bringsOf_41 : decode cX3_bringsOf 41 = .ok (.iload 4, 2) := by decide +kernel
theorem dX3_bringsOf_43 : decode cX3_bringsOf 43 = .ok (.iaload, 1) := by decide +kernel
theorem dX3_bringsOf_44 : decode cX3_bringsOf 44 = .ok (.istore 5, 2) := by decide +kernel
theorem dX3_bringsOf_46 : decode cX3_bringsOf 46 = .ok (.iload 5, 2) := by decide +kernel
theorem dX3_bringsOf_48 : decode cX3_bringsOf 48 = .ok (.bipush 16, 2) := by decide +kernel
theorem dX3_bringsOf_50 : decode cX3_bringsOf 50 = .ok (.if_icmp .ne 39, 3) := by decide +kernel
theorem dX3_bringsOf_53 : decode cX3_bringsOf 53 = .ok (.iconst 0, 1) := by decide +kernel
theorem dX3_bringsOf_54 : decode cX3_bringsOf 54 = .ok (.istore 6, 2) := by decide +kernel
theorem dX3_bringsOf_56 : decode cX3_bringsOf 56 = .ok (.iload 6, 2) := by decide +kernel
theorem dX3_bringsOf_58 : decode cX3_bringsOf 58 = .ok (.aload_n 0, 1) := by decide +kernel
theorem dX3_bringsOf_59 : decode cX3_bringsOf 59 = .ok (.getfield 36, 3) := by decide +kernel
theorem dX3_bringsOf_62 : decode cX3_bringsOf 62 = .ok (.iload 4, 2) := by decide +kernel
theorem dX3_bringsOf_64 : decode cX3_bringsOf 64 = .ok (.iaload, 1) := by decide +kernel
theorem dX3_bringsOf_65 : decode cX3_bringsOf 65 = .ok (.if_icmp .ge 21, 3) := by decide +kernel
theorem dX3_bringsOf_68 : decode cX3_bringsOf 68 = .ok (.aload_n 0, 1) := by decide +kernel
theorem dX3_bringsOf_69 : decode cX3_bringsOf 69 = .ok (.aload_n 0, 1) := by decide +kernel
theorem dX3_bringsOf_70 : decode cX3_bringsOf 70 = .ok (.iload 4, 2) := by decide +kernel
theorem dX3_bringsOf_72 : decode cX3_bringsOf 72 = .ok (.iload 6, 2) := by decide +kernel
theorem dX3_bringsOf_74 : decode cX3_bringsOf 74 = .ok (.invokevirtual 65, 3) := by decide +kernel
theorem dX3_bringsOf_77 : decode cX3_bringsOf 77 = .ok (.invokevirtual 466, 3) := by decide +kernel
theorem dX3_bringsOf_80 : decode cX3_bringsOf 80 = .ok (.iinc 6 1, 3) := by decide +kernel
theorem dX3_bringsOf_83 : decode cX3_bringsOf 83 = .ok (.goto (-27), 3) := by decide +kernel
theorem dX3_bringsOf_86 : decode cX3_bringsOf 86 = .ok (.goto 304, 3) := by decide +kernel
theorem dX3_bringsOf_89 : decode cX3_bringsOf 89 = .ok (.iload 5, 2) := by decide +kernel
theorem dX3_bringsOf_91 : decode cX3_bringsOf 91 = .ok (.bipush 17, 2) := by decide +kernel
theorem dX3_bringsOf_93 : decode cX3_bringsOf 93 = .ok (.if_icmp .ne 65, 3) := by decide +kernel
theorem dX3_bringsOf_96 : decode cX3_bringsOf 96 = .ok (.iconst 0, 1) := by decide +kernel
theorem dX3_bringsOf_97 : decode cX3_bringsOf 97 = .ok (.istore 6, 2) := by decide +kernel
theorem dX3_bringsOf_99 : decode cX3_bringsOf 99 = .ok (.iload 6, 2) := by decide +kernel
theorem dX3_bringsOf_101 : decode cX3_bringsOf 101 = .ok (.aload_n 0, 1) := by decide +kernel
theorem dX3_bringsOf_102 : decode cX3_bringsOf 102 = .ok (.getfield 420, 3) := by decide +kernel
theorem dX3_bringsOf_105 : decode cX3_bringsOf 105 = .ok (.if_icmp .ge 22, 3) := by decide +kernel
theorem dX3_bringsOf_108 : decode cX3_bringsOf 108 = .ok (.aload_n 0, 1) := by decide +kernel
theorem dX3_bringsOf_109 : decode cX3_bringsOf 109 = .ok (.iload 4, 2) := by decide +kernel
theorem dX3_bringsOf_111 : decode cX3_bringsOf 111 = .ok (.aload_n 0, 1) := by decide +kernel
theorem dX3_bringsOf_112 : decode cX3_bringsOf 112 = .ok (.getfield 344, 3) := by decide +kernel
theorem dX3_bringsOf_115 : decode cX3_bringsOf 115 = .ok (.iload 6, 2) := by decide +kernel
theorem dX3_bringsOf_117 : decode cX3_bringsOf 117 = .ok (.iaload, 1) := by decide +kernel
theorem dX3_bringsOf_118 : decode cX3_bringsOf 118 = .ok (.invokevirtual 472, 3) := by decide +kernel
theorem dX3_bringsOf_121 : decode cX3_bringsOf 121 = .ok (.iinc 6 1, 3) := by decide +kernel
theorem dX3_bringsOf_124 : decode cX3_bringsOf 124 = .ok (.goto (-25), 3) := by decide +kernel
theorem dX3_bringsOf_127 : decode cX3_bringsOf 127 = .ok (.iconst 0, 1) := by decide +kernel
theorem dX3_bringsOf_128 : decode cX3_bringsOf 128 = .ok (.istore 6, 2) := by decide +kernel
theorem dX3_bringsOf_130 : decode cX3_bringsOf 130 = .ok (.iload 6, 2) := by decide +kernel
theorem dX3_bringsOf_132 : decode cX3_bringsOf 132 = .ok (.iload_n 2, 1) := by decide +kernel
theorem dX3_bringsOf_133 : decode cX3_bringsOf 133 = .ok (.if_icmp .ge 22, 3) := by decide +kernel
theorem dX3_bringsOf_136 : decode cX3_bringsOf 136 = .ok (.aload_n 0, 1) := by decide +kernel
theorem dX3_bringsOf_137 : decode cX3_bringsOf 137 = .ok (.iload 4, 2) := by decide +kernel
theorem dX3_bringsOf_139 : decode cX3_bringsOf 139 = .ok (.aload_n 0, 1) := by decide +kernel
theorem dX3_bringsOf_140 : decode cX3_bringsOf 140 = .ok (.getfield 436, 3) := by decide +kernel
theorem dX3_bringsOf_143 : decode cX3_bringsOf 143 = .ok (.iload 6, 2) := by decide +kernel
theorem dX3_bringsOf_145 : decode cX3_bringsOf 145 = .ok (.iaload, 1) := by decide +kernel
theorem dX3_bringsOf_146 : decode cX3_bringsOf 146 = .ok (.invokevirtual 472, 3) := by decide +kernel
theorem dX3_bringsOf_149 : decode cX3_bringsOf 149 = .ok (.iinc 6 1, 3) := by decide +kernel
theorem dX3_bringsOf_152 : decode cX3_bringsOf 152 = .ok (.goto (-22), 3) := by decide +kernel
theorem dX3_bringsOf_155 : decode cX3_bringsOf 155 = .ok (.goto 235, 3) := by decide +kernel
theorem dX3_bringsOf_158 : decode cX3_bringsOf 158 = .ok (.iload 5, 2) := by decide +kernel
theorem dX3_bringsOf_160 : decode cX3_bringsOf 160 = .ok (.bipush 15, 2) := by decide +kernel
theorem dX3_bringsOf_162 : decode cX3_bringsOf 162 = .ok (.if_icmp .ne 106, 3) := by decide +kernel
theorem dX3_bringsOf_165 : decode cX3_bringsOf 165 = .ok (.aload_n 0, 1) := by decide +kernel
theorem dX3_bringsOf_166 : decode cX3_bringsOf 166 = .ok (.getfield 33, 3) := by decide +kernel
theorem dX3_bringsOf_169 : decode cX3_bringsOf 169 = .ok (.aload_n 0, 1) := by decide +kernel
theorem dX3_bringsOf_170 : decode cX3_bringsOf 170 = .ok (.iload 4, 2) := by decide +kernel
theorem dX3_bringsOf_172 : decode cX3_bringsOf 172 = .ok (.iconst 0, 1) := by decide +kernel
theorem dX3_bringsOf_173 : decode cX3_bringsOf 173 = .ok (.invokevirtual 65, 3) := by decide +kernel
theorem dX3_bringsOf_176 : decode cX3_bringsOf 176 = .ok (.iaload, 1) := by decide +kernel
theorem dX3_bringsOf_177 : decode cX3_bringsOf 177 = .ok (.bipush 16, 2) := by decide +kernel
theorem dX3_bringsOf_179 : decode cX3_bringsOf 179 = .ok (.if_icmp .ne 89, 3) := by decide +kernel
theorem dX3_bringsOf_182 : decode cX3_bringsOf 182 = .ok (.aload_n 0, 1) := by decide +kernel
theorem dX3_bringsOf_183 : decode cX3_bringsOf 183 = .ok (.iload 4, 2) := by decide +kernel
theorem dX3_bringsOf_185 : decode cX3_bringsOf 185 = .ok (.iconst 0, 1) := by decide +kernel
theorem dX3_bringsOf_186 : decode cX3_bringsOf 186 = .ok (.invokevirtual 65, 3) := by decide +kernel
theorem dX3_bringsOf_189 : decode cX3_bringsOf 189 = .ok (.istore 6, 2) := by decide +kernel
theorem dX3_bringsOf_191 : decode cX3_bringsOf 191 = .ok (.iconst 0, 1) := by decide +kernel
theorem dX3_bringsOf_192 : decode cX3_bringsOf 192 = .ok (.istore 7, 2) := by decide +kernel
theorem dX3_bringsOf_194 : decode cX3_bringsOf 194 = .ok (.iconst 0, 1) := by decide +kernel
theorem dX3_bringsOf_195 : decode cX3_bringsOf 195 = .ok (.istore 8, 2) := by decide +kernel
theorem dX3_bringsOf_197 : decode cX3_bringsOf 197 = .ok (.iconst 0, 1) := by decide +kernel
theorem dX3_bringsOf_198 : decode cX3_bringsOf 198 = .ok (.istore 9, 2) := by decide +kernel
theorem dX3_bringsOf_200 : decode cX3_bringsOf 200 = .ok (.iload 9, 2) := by decide +kernel
theorem dX3_bringsOf_202 : decode cX3_bringsOf 202 = .ok (.aload_n 0, 1) := by decide +kernel
theorem dX3_bringsOf_203 : decode cX3_bringsOf 203 = .ok (.getfield 36, 3) := by decide +kernel
theorem dX3_bringsOf_206 : decode cX3_bringsOf 206 = .ok (.iload 6, 2) := by decide +kernel
theorem dX3_bringsOf_208 : decode cX3_bringsOf 208 = .ok (.iaload, 1) := by decide +kernel
theorem dX3_bringsOf_209 : decode cX3_bringsOf 209 = .ok (.if_icmp .ge 40, 3) := by decide +kernel
theorem dX3_bringsOf_212 : decode cX3_bringsOf 212 = .ok (.aload_n 0, 1) := by decide +kernel
theorem dX3_bringsOf_213 : decode cX3_bringsOf 213 = .ok (.aload_n 0, 1) := by decide +kernel
theorem dX3_bringsOf_214 : decode cX3_bringsOf 214 = .ok (.iload 6, 2) := by decide +kernel
theorem dX3_bringsOf_216 : decode cX3_bringsOf 216 = .ok (.iload 9, 2) := by decide +kernel
theorem dX3_bringsOf_218 : decode cX3_bringsOf 218 = .ok (.invokevirtual 65, 3) := by decide +kernel
theorem dX3_bringsOf_221 : decode cX3_bringsOf 221 = .ok (.invokevirtual 413, 3) := by decide +kernel
theorem dX3_bringsOf_224 : decode cX3_bringsOf 224 = .ok (.ifCond .eq 6, 3) := by decide +kernel
theorem dX3_bringsOf_227 : decode cX3_bringsOf 227 = .ok (.goto 16, 3) := by decide +kernel
theorem dX3_bringsOf_230 : decode cX3_bringsOf 230 = .ok (.iinc 8 1, 3) := by decide +kernel
theorem dX3_bringsOf_233 : decode cX3_bringsOf 233 = .ok (.aload_n 0, 1) := by decide +kernel
theorem dX3_bringsOf_234 : decode cX3_bringsOf 234 = .ok (.iload 6, 2) := by decide +kernel
theorem dX3_bringsOf_236 : decode cX3_bringsOf 236 = .ok (.iload 9, 2) := by decide +kernel
theorem dX3_bringsOf_238 : decode cX3_bringsOf 238 = .ok (.invokevirtual 65, 3) := by decide +kernel
theorem dX3_bringsOf_241 : decode cX3_bringsOf 241 = .ok (.istore 7, 2) := by decide +kernel
theorem dX3_bringsOf_243 : decode cX3_bringsOf 243 = .ok (.iinc 9 1, 3) := by decide +kernel
theorem dX3_bringsOf_246 : decode cX3_bringsOf 246 = .ok (.goto (-46), 3) := by decide +kernel
theorem dX3_bringsOf_249 : decode cX3_bringsOf 249 = .ok (.iload 8, 2) := by decide +kernel
theorem dX3_bringsOf_251 : decode cX3_bringsOf 251 = .ok (.iconst 1, 1) := by decide +kernel
theorem dX3_bringsOf_252 : decode cX3_bringsOf 252 = .ok (.if_icmp .ne 13, 3) := by decide +kernel
theorem dX3_bringsOf_255 : decode cX3_bringsOf 255 = .ok (.aload_n 0, 1) := by decide +kernel
theorem dX3_bringsOf_256 : decode cX3_bringsOf 256 = .ok (.aload_n 0, 1) := by decide +kernel
theorem dX3_bringsOf_257 : decode cX3_bringsOf 257 = .ok (.iload 7, 2) := by decide +kernel
theorem dX3_bringsOf_259 : decode cX3_bringsOf 259 = .ok (.invokevirtual 88, 3) := by decide +kernel
theorem dX3_bringsOf_262 : decode cX3_bringsOf 262 = .ok (.invokevirtual 466, 3) := by decide +kernel
theorem dX3_bringsOf_265 : decode cX3_bringsOf 265 = .ok (.goto 125, 3) := by decide +kernel
theorem dX3_bringsOf_268 : decode cX3_bringsOf 268 = .ok (.iload 5, 2) := by decide +kernel
theorem dX3_bringsOf_270 : decode cX3_bringsOf 270 = .ok (.bipush 15, 2) := by decide +kernel
theorem dX3_bringsOf_272 : decode cX3_bringsOf 272 = .ok (.if_icmp .ne 118, 3) := by decide +kernel
theorem dX3_bringsOf_275 : decode cX3_bringsOf 275 = .ok (.aload_n 0, 1) := by decide +kernel
theorem dX3_bringsOf_276 : decode cX3_bringsOf 276 = .ok (.getfield 33, 3) := by decide +kernel
theorem dX3_bringsOf_279 : decode cX3_bringsOf 279 = .ok (.aload_n 0, 1) := by decide +kernel
theorem dX3_bringsOf_280 : decode cX3_bringsOf 280 = .ok (.iload 4, 2) := by decide +kernel
theorem dX3_bringsOf_282 : decode cX3_bringsOf 282 = .ok (.iconst 0, 1) := by decide +kernel
theorem dX3_bringsOf_283 : decode cX3_bringsOf 283 = .ok (.invokevirtual 65, 3) := by decide +kernel
theorem dX3_bringsOf_286 : decode cX3_bringsOf 286 = .ok (.iaload, 1) := by decide +kernel
theorem dX3_bringsOf_287 : decode cX3_bringsOf 287 = .ok (.bipush 17, 2) := by decide +kernel
theorem dX3_bringsOf_289 : decode cX3_bringsOf 289 = .ok (.if_icmp .ne 101, 3) := by decide +kernel
theorem dX3_bringsOf_292 : decode cX3_bringsOf 292 = .ok (.aload_n 0, 1) := by decide +kernel
theorem dX3_bringsOf_293 : decode cX3_bringsOf 293 = .ok (.iload 4, 2) := by decide +kernel
theorem dX3_bringsOf_295 : decode cX3_bringsOf 295 = .ok (.invokevirtual 475, 3) := by decide +kernel
theorem dX3_bringsOf_298 : decode cX3_bringsOf 298 = .ok (.ifCond .ne 92, 3) := by decide +kernel
theorem dX3_bringsOf_301 : decode cX3_bringsOf 301 = .ok (.aload_n 0, 1) := by decide +kernel
theorem dX3_bringsOf_302 : decode cX3_bringsOf 302 = .ok (.iload 4, 2) := by decide +kernel
theorem dX3_bringsOf_304 : decode cX3_bringsOf 304 = .ok (.iconst 0, 1) := by decide +kernel
theorem dX3_bringsOf_305 : decode cX3_bringsOf 305 = .ok (.invokevirtual 65, 3) := by decide +kernel
theorem dX3_bringsOf_308 : decode cX3_bringsOf 308 = .ok (.istore 6, 2) := by decide +kernel
theorem dX3_bringsOf_310 : decode cX3_bringsOf 310 = .ok (.aload_n 0, 1) := by decide +kernel
theorem dX3_bringsOf_311 : decode cX3_bringsOf 311 = .ok (.iload 4, 2) := by decide +kernel
theorem dX3_bringsOf_313 : decode cX3_bringsOf 313 = .ok (.invokevirtual 478, 3) := by decide +kernel
theorem dX3_bringsOf_316 : decode cX3_bringsOf 316 = .ok (.aload_n 0, 1) := by decide +kernel
theorem dX3_bringsOf_317 : decode cX3_bringsOf 317 = .ok (.iconst 2, 1) := by decide +kernel
theorem dX3_bringsOf_318 : decode cX3_bringsOf 318 = .ok (.aload_n 0, 1) := by decide +kernel
theorem dX3_bringsOf_319 : decode cX3_bringsOf 319 = .ok (.iconst 0, 1) := by decide +kernel
theorem dX3_bringsOf_320 : decode cX3_bringsOf 320 = .ok (.aload_n 0, 1) := by decide +kernel
theorem dX3_bringsOf_321 : decode cX3_bringsOf 321 = .ok (.iload 6, 2) := by decide +kernel
theorem dX3_bringsOf_323 : decode cX3_bringsOf 323 = .ok (.iconst 0, 1) := by decide +kernel
theorem dX3_bringsOf_324 : decode cX3_bringsOf 324 = .ok (.invokevirtual 65, 3) := by decide +kernel
theorem dX3_bringsOf_327 : decode cX3_bringsOf 327 = .ok (.invokevirtual 267, 3) := by decide +kernel
theorem dX3_bringsOf_330 : decode cX3_bringsOf 330 = .ok (.invokevirtual 78, 3) := by decide +kernel
theorem dX3_bringsOf_333 : decode cX3_bringsOf 333 = .ok (.istore 7, 2) := by decide +kernel
theorem dX3_bringsOf_335 : decode cX3_bringsOf 335 = .ok (.aload_n 0, 1) := by decide +kernel
theorem dX3_bringsOf_336 : decode cX3_bringsOf 336 = .ok (.aload_n 0, 1) := by decide +kernel
theorem dX3_bringsOf_337 : decode cX3_bringsOf 337 = .ok (.getfield 436, 3) := by decide +kernel
theorem dX3_bringsOf_340 : decode cX3_bringsOf 340 = .ok (.aload_n 0, 1) := by decide +kernel
theorem dX3_bringsOf_341 : decode cX3_bringsOf 341 = .ok (.getfield 423, 3) := by decide +kernel
theorem dX3_bringsOf_344 : decode cX3_bringsOf 344 = .ok (.invokestatic 20, 3) := by decide +kernel
theorem dX3_bringsOf_347 : decode cX3_bringsOf 347 = .ok (.putfield 436, 3) := by decide +kernel
theorem dX3_bringsOf_350 : decode cX3_bringsOf 350 = .ok (.aload_n 0, 1) := by decide +kernel
theorem dX3_bringsOf_351 : decode cX3_bringsOf 351 = .ok (.getfield 436, 3) := by decide +kernel
theorem dX3_bringsOf_354 : decode cX3_bringsOf 354 = .ok (.aload_n 0, 1) := by decide +kernel
theorem dX3_bringsOf_355 : decode cX3_bringsOf 355 = .ok (.dup, 1) := by decide +kernel
theorem dX3_bringsOf_356 : decode cX3_bringsOf 356 = .ok (.getfield 423, 3) := by decide +kernel
theorem dX3_bringsOf_359 : decode cX3_bringsOf 359 = .ok (.dup_x1, 1) := by decide +kernel
theorem dX3_bringsOf_360 : decode cX3_bringsOf 360 = .ok (.iconst 1, 1) := by decide +kernel
theorem dX3_bringsOf_361 : decode cX3_bringsOf 361 = .ok (.iadd, 1) := by decide +kernel
theorem dX3_bringsOf_362 : decode cX3_bringsOf 362 = .ok (.putfield 423, 3) := by decide +kernel
theorem dX3_bringsOf_365 : decode cX3_bringsOf 365 = .ok (.iload 7, 2) := by decide +kernel
theorem dX3_bringsOf_367 : decode cX3_bringsOf 367 = .ok (.iastore, 1) := by decide +kernel
theorem dX3_bringsOf_368 : decode cX3_bringsOf 368 = .ok (.aload_n 0, 1) := by decide +kernel
theorem dX3_bringsOf_369 : decode cX3_bringsOf 369 = .ok (.aload_n 0, 1) := by decide +kernel
theorem dX3_bringsOf_370 : decode cX3_bringsOf 370 = .ok (.aload_n 0, 1) := by decide +kernel
theorem dX3_bringsOf_371 : decode cX3_bringsOf 371 = .ok (.aload_n 0, 1) := by decide +kernel
theorem dX3_bringsOf_372 : decode cX3_bringsOf 372 = .ok (.iload 6, 2) := by decide +kernel
theorem dX3_bringsOf_374 : decode cX3_bringsOf 374 = .ok (.iconst 1, 1) := by decide +kernel
theorem dX3_bringsOf_375 : decode cX3_bringsOf 375 = .ok (.invokevirtual 65, 3) := by decide +kernel
theorem dX3_bringsOf_378 : decode cX3_bringsOf 378 = .ok (.iconst 0, 1) := by decide +kernel
theorem dX3_bringsOf_379 : decode cX3_bringsOf 379 = .ok (.iload 7, 2) := by decide +kernel
theorem dX3_bringsOf_381 : decode cX3_bringsOf 381 = .ok (.invokevirtual 113, 3) := by decide +kernel
theorem dX3_bringsOf_384 : decode cX3_bringsOf 384 = .ok (.invokevirtual 88, 3) := by decide +kernel
theorem dX3_bringsOf_387 : decode cX3_bringsOf 387 = .ok (.invokevirtual 466, 3) := by decide +kernel
theorem dX3_bringsOf_390 : decode cX3_bringsOf 390 = .ok (.iinc 3 1, 3) := by decide +kernel
theorem dX3_bringsOf_393 : decode cX3_bringsOf 393 = .ok (.goto (-391), 3) := by decide +kernel
theorem dX3_bringsOf_396 : decode cX3_bringsOf 396 = .ok (.return_, 1) := by decide +kernel
abbrev cX3_comes : ByteArray := prog_4_method_76_code
def yX3_comes : MethodName := ⟨RX3, "comes", "(I)V"⟩
theorem dX3_comes_0 : decode cX3_comes 0 = .ok (.aload_n 0, 1) := by decide +kernel
theorem dX3_comes_1 : decode cX3_comes 1 = .ok (.aload_n 0, 1) := by decide +kernel
theorem dX3_comes_2 : decode cX3_comes 2 = .ok (.getfield 451, 3) := by decide +kernel
theorem dX3_comes_5 : decode cX3_comes 5 = .ok (.aload_n 0, 1) := by decide +kernel
theorem dX3_comes_6 : decode cX3_comes 6 = .ok (.getfield 42, 3) := by decide +kernel
theorem dX3_comes_9 : decode cX3_comes 9 = .ok (.invokestatic 20, 3) := by decide +kernel
theorem dX3_comes_12 : decode cX3_comes 12 = .ok (.putfield 451, 3) := by decide +kernel
theorem dX3_comes_15 : decode cX3_comes 15 = .ok (.aload_n 0, 1) := by decide +kernel
theorem dX3_comes_16 : decode cX3_comes 16 = .ok (.getfield 451, 3) := by decide +kernel
theorem dX3_comes_19 : decode cX3_comes 19 = .ok (.iload_n 1, 1) := by decide +kernel
theorem dX3_comes_20 : decode cX3_comes 20 = .ok (.iaload, 1) := by decide +kernel
theorem dX3_comes_21 : decode cX3_comes 21 = .ok (.aload_n 0, 1) := by decide +kernel
theorem dX3_comes_22 : decode cX3_comes 22 = .ok (.getfield 454, 3) := by decide +kernel
theorem dX3_comes_25 : decode cX3_comes 25 = .ok (.if_icmp .eq 25, 3) := by decide +kernel
theorem dX3_comes_28 : decode cX3_comes 28 = .ok (.iload_n 1, 1) := by decide +kernel
theorem dX3_comes_29 : decode cX3_comes 29 = .ok (.aload_n 0, 1) := by decide +kernel
theorem dX3_comes_30 : decode cX3_comes 30 = .ok (.getfield 304, 3) := by decide +kernel
theorem dX3_comes_33 : decode cX3_comes 33 = .ok (.arraylength, 1) := by decide +kernel
theorem dX3_comes_34 : decode cX3_comes 34 = .ok (.if_icmp .ge 17, 3) := by decide +kernel
theorem dX3_comes_37 : decode cX3_comes 37 = .ok (.aload_n 0, 1) := by decide +kernel
theorem dX3_comes_38 : decode cX3_comes 38 = .ok (.getfield 304, 3) := by decide +kernel
theorem dX3_comes_41 : decode cX3_comes 41 = .ok (.iload_n 1, 1) := by decide +kernel
theorem dX3_comes_42 : decode cX3_comes 42 = .ok (.iaload, 1) := by decide +kernel
theorem dX3_comes_43 : decode cX3_comes 43 = .ok (.aload_n 0, 1) := by decide +kernel
theorem dX3_comes_44 : decode cX3_comes 44 = .ok (.getfield 307, 3) := by decide +kernel
theorem dX3_comes_47 : decode cX3_comes 47 = .ok (.if_icmp .ne 4, 3) := by decide +kernel
theorem dX3_comes_50 : decode cX3_comes 50 = .ok (.return_, 1) := by decide +kernel
theorem dX3_comes_51 : decode cX3_comes 51 = .ok (.aload_n 0, 1) := by decide +kernel
theorem dX3_comes_52 : decode cX3_comes 52 = .ok (.getfield 451, 3) := by decide +kernel
theorem dX3_comes_55 : decode cX3_comes 55 = .ok (.iload_n 1, 1) := by decide +kernel
theorem dX3_comes_56 : decode cX3_comes 56 = .ok (.aload_n 0, 1) := by decide +kernel
theorem dX3_comes_57 : decode cX3_comes 57 = .ok (.getfield 454, 3) := by decide +kernel
theorem dX3_comes_60 : decode cX3_comes 60 = .ok (.iastore, 1) := by decide +kernel
theorem dX3_comes_61 : decode cX3_comes 61 = .ok (.aload_n 0, 1) := by decide +kernel
theorem dX3_comes_62 : decode cX3_comes 62 = .ok (.aload_n 0, 1) := by decide +kernel
theorem dX3_comes_63 : decode cX3_comes 63 = .ok (.getfield 457, 3) := by decide +kernel
theorem dX3_comes_66 : decode cX3_comes 66 = .ok (.aload_n 0, 1) := by decide +kernel
theorem dX3_comes_67 : decode cX3_comes 67 = .ok (.getfield 460, 3) := by decide +kernel
theorem dX3_comes_70 : decode cX3_comes 70 = .ok (.invokestatic 20, 3) := by decide +kernel
theorem dX3_comes_73 : decode cX3_comes 73 = .ok (.putfield 457, 3) := by decide +kernel
theorem dX3_comes_76 : decode cX3_comes 76 = .ok (.aload_n 0, 1) := by decide +kernel
theorem dX3_comes_77 : decode cX3_comes 77 = .ok (.getfield 457, 3) := by decide +kernel
theorem dX3_comes_80 : decode cX3_comes 80 = .ok (.aload_n 0, 1) := by decide +kernel
theorem dX3_comes_81 : decode cX3_comes 81 = .ok (.dup, 1) := by decide +kernel
theorem dX3_comes_82 : decode cX3_comes 82 = .ok (.getfield 460, 3) := by decide +kernel
theorem dX3_comes_85 : decode cX3_comes 85 = .ok (.dup_x1, 1) := by decide +kernel
theorem dX3_comes_86 : decode cX3_comes 86 = .ok (.iconst 1, 1) := by decide +kernel
theorem dX3_comes_87 : decode cX3_comes 87 = .ok (.iadd, 1) := by decide +kernel
theorem dX3_comes_88 : decode cX3_comes 88 = .ok (.putfield 460, 3) := by decide +kernel
theorem dX3_comes_91 : decode cX3_comes 91 = .ok (.iload_n 1, 1) := by decide +kernel
theorem dX3_comes_92 : decode cX3_comes 92 = .ok (.iastore, 1) := by decide +kernel
theorem dX3_comes_93 : decode cX3_comes 93 = .ok (.return_, 1) := by decide +kernel
abbrev cX3_instance : ByteArray := prog_4_method_77_code
def yX3_instance : MethodName := ⟨RX3, "instance", "(II)V"⟩
theorem dX3_instance_0 : decode cX3_instance 0 = .ok (.aload_n 0, 1) := by decide +kernel
theorem dX3_instance_1 : decode cX3_instance 1 = .ok (.iload_n 2, 1) := by decide +kernel
theorem dX3_instance_2 : decode cX3_instance 2 = .ok (.aload_n 0, 1) := by decide +kernel
theorem dX3_instance_3 : decode cX3_instance 3 = .ok (.iload_n 1, 1) := by decide +kernel
theorem dX3_instance_4 : decode cX3_instance 4 = .ok (.iconst 0, 1) := by decide +kernel
theorem dX3_instance_5 : decode cX3_instance 5 = .ok (.invokevirtual 65, 3) := by decide +kernel
theorem dX3_instance_8 : decode cX3_instance 8 = .ok (.invokevirtual 463, 3) := by decide +kernel
theorem dX3_instance_11 : decode cX3_instance 11 = .ok (.ifCond .ne 4, 3) := by decide +kernel
theorem dX3_instance_14 : decode cX3_instance 14 = .ok (.return_, 1) := by decide +kernel
theorem dX3_instance_15 : decode cX3_instance 15 = .ok (.aload_n 0, 1) := by decide +kernel
theorem dX3_instance_16 : decode cX3_instance 16 = .ok (.getfield 42, 3) := by decide +kernel
theorem dX3_instance_19 : decode cX3_instance 19 = .ok (.istore_n 3, 1) := by decide +kernel
theorem dX3_instance_20 : decode cX3_instance 20 = .ok (.aload_n 0, 1) := by decide +kernel
theorem dX3_instance_21 : decode cX3_instance 21 = .ok (.getfield 54, 3) := by decide +kernel
theorem dX3_instance_24 : decode cX3_instance 24 = .ok (.istore 4, 2) := by decide +kernel
theorem dX3_instance_26 : decode cX3_instance 26 = .ok (.aload_n 0, 1) := by decide +kernel
theorem dX3_instance_27 : decode cX3_instance 27 = .ok (.iconst 0, 1) := by decide +kernel
theorem dX3_instance_28 : decode cX3_instance 28 = .ok (.putfield 442, 3) := by decide +kernel
theorem dX3_instance_31 : decode cX3_instance 31 = .ok (.aload_n 0, 1) := by decide +kernel
theorem dX3_instance_32 : decode cX3_instance 32 = .ok (.iconst 0, 1) := by decide +kernel
theorem dX3_instance_33 : decode cX3_instance 33 = .ok (.putfield 445, 3) := by decide +kernel
theorem dX3_instance_36 : decode cX3_instance 36 = .ok (.aload_n 0, 1) := by decide +kernel
theorem dX3_instance_37 : decode cX3_instance 37 = .ok (.aload_n 0, 1) := by decide +kernel
theorem dX3_instance_38 : decode cX3_instance 38 = .ok (.iload_n 1, 1) := by decide +kernel
theorem dX3_instance_39 : decode cX3_instance 39 = .ok (.iconst 1, 1) := by decide +kernel
theorem dX3_instance_40 : decode cX3_instance 40 = .ok (.invokevirtual 65, 3) := by decide +kernel
theorem dX3_instance_43 : decode cX3_instance 43 = .ok (.iconst 0, 1) := by decide +kernel
theorem dX3_instance_44 : decode cX3_instance 44 = .ok (.iload_n 2, 1) := by decide +kernel
theorem dX3_instance_45 : decode cX3_instance 45 = .ok (.invokevirtual 448, 3) := by decide +kernel
theorem dX3_instance_48 : decode cX3_instance 48 = .ok (.aload_n 0, 1) := by decide +kernel
theorem dX3_instance_49 : decode cX3_instance 49 = .ok (.getfield 442, 3) := by decide +kernel
theorem dX3_instance_52 : decode cX3_instance 52 = .ok (.ifCond .eq 10, 3) := by decide +kernel
theorem dX3_instance_55 : decode cX3_instance 55 = .ok (.aload_n 0, 1) := by decide +kernel
theorem dX3_instance_56 : decode cX3_instance 56 = .ok (.getfield 445, 3) := by decide +kernel
theorem dX3_instance_59 : decode cX3_instance 59 = .ok (.ifCond .eq 22, 3) := by decide +kernel
theorem dX3_instance_62 : decode cX3_instance 62 = .ok (.aload_n 0, 1) := by decide +kernel
theorem dX3_instance_63 : decode cX3_instance 63 = .ok (.aload_n 0, 1) := by decide +kernel
theorem dX3_instance_64 : decode cX3_instance 64 = .ok (.aload_n 0, 1) := by decide +kernel
theorem dX3_instance_65 : decode cX3_instance 65 = .ok (.iload_n 1, 1) := by decide +kernel
theorem dX3_instance_66 : decode cX3_instance 66 = .ok (.iconst 1, 1) := by decide +kernel
theorem dX3_instance_67 : decode cX3_instance 67 = .ok (.invokevirtual 65, 3) := by decide +kernel
theorem dX3_instance_70 : decode cX3_instance 70 = .ok (.iconst 0, 1) := by decide +kernel
theorem dX3_instance_71 : decode cX3_instance 71 = .ok (.iload_n 2, 1) := by decide +kernel
theorem dX3_instance_72 : decode cX3_instance 72 = .ok (.invokevirtual 113, 3) := by decide +kernel
theorem dX3_instance_75 : decode cX3_instance 75 = .ok (.invokevirtual 466, 3) := by decide +kernel
theorem dX3_instance_78 : decode cX3_instance 78 = .ok (.goto 10, 3) := by decide +kernel
theorem dX3_instance_81 : decode cX3_instance 81 = .ok (.aload_n 0, 1) := by decide +kernel
theorem dX3_instance_82 : decode cX3_instance 82 = .ok (.iload_n 3, 1) := by decide +kernel
theorem dX3_instance_83 : decode cX3_instance 83 = .ok (.iload 4, 2) := by decide +kernel
theorem dX3_instance_85 : decode cX3_instance 85 = .ok (.invokevirtual 300, 3) := by decide +kernel
theorem dX3_instance_88 : decode cX3_instance 88 = .ok (.return_, 1) := by decide +kernel
abbrev cX3_losing : ByteArray := prog_4_method_74_code
def yX3_losing : MethodName := ⟨RX3, "losing", "(III)V"⟩
theorem dX3_losing_0 : decode cX3_losing 0 = .ok (.aload_n 0, 1) := by decide +kernel
theorem dX3_losing_1 : decode cX3_losing 1 = .ok (.getfield 48, 3) := by decide +kernel
theorem dX3_losing_4 : decode cX3_losing 4 = .ok (.iload_n 1, 1) := by decide +kernel
theorem dX3_losing_5 : decode cX3_losing 5 = .ok (.iaload, 1) := by decide +kernel
theorem dX3_losing_6 : decode cX3_losing 6 = .ok (.iload_n 2, 1) := by decide +kernel
theorem dX3_losing_7 : decode cX3_losing 7 = .ok (.if_icmp .le 13, 3) := by decide +kernel
theorem dX3_losing_10 : decode cX3_losing 10 = .ok (.aload_n 0, 1) := by decide +kernel
theorem dX3_losing_11 : decode cX3_losing 11 = .ok (.getfield 33, 3) := by decide +kernel
theorem dX3_losing_14 : decode cX3_losing 14 = .ok (.iload_n 1, 1) := by decide +kernel
theorem dX3_losing_15 : decode cX3_losing 15 = .ok (.iaload, 1) := by decide +kernel
theorem dX3_losing_16 : decode cX3_losing 16 = .ok (.iconst 1, 1) := by decide +kernel
theorem dX3_losing_17 : decode cX3_losing 17 = .ok (.if_icmp .ne 4, 3) := by decide +kernel
theorem dX3_losing_20 : decode cX3_losing 20 = .ok (.return_, 1) := by decide +kernel
theorem dX3_losing_21 : decode cX3_losing 21 = .ok (.aload_n 0, 1) := by decide +kernel
theorem dX3_losing_22 : decode cX3_losing 22 = .ok (.getfield 33, 3) := by decide +kernel
theorem dX3_losing_25 : decode cX3_losing 25 = .ok (.iload_n 1, 1) := by decide +kernel
theorem dX3_losing_26 : decode cX3_losing 26 = .ok (.iaload, 1) := by decide +kernel
theorem dX3_losing_27 : decode cX3_losing 27 = .ok (.invokestatic 335, 3) := by decide +kernel
theorem dX3_losing_30 : decode cX3_losing 30 = .ok (.ifCond .eq 36, 3) := by decide +kernel
theorem dX3_losing_33 : decode cX3_losing 33 = .ok (.aload_n 0, 1) := by decide +kernel
theorem dX3_losing_34 : decode cX3_losing 34 = .ok (.iload_n 1, 1) := by decide +kernel
theorem dX3_losing_35 : decode cX3_losing 35 = .ok (.iload_n 2, 1) := by decide +kernel
theorem dX3_losing_36 : decode cX3_losing 36 = .ok (.invokevirtual 439, 3) := by decide +kernel
theorem dX3_losing_39 : decode cX3_losing 39 = .ok (.ifCond .eq 27, 3) := by decide +kernel
theorem dX3_losing_42 : decode cX3_losing 42 = .ok (.aload_n 0, 1) := by decide +kernel
theorem dX3_losing_43 : decode cX3_losing 43 = .ok (.iconst 1, 1) := by decide +kernel
theorem dX3_losing_44 : decode cX3_losing 44 = .ok (.putfield 442, 3) := by decide +kernel
theorem dX3_losing_47 : decode cX3_losing 47 = .ok (.aload_n 0, 1) := by decide +kernel
theorem dX3_losing_48 : decode cX3_losing 48 = .ok (.aload_n 0, 1) := by decide +kernel
theorem dX3_losing_49 : decode cX3_losing 49 = .ok (.iload_n 1, 1) := by decide +kernel
theorem dX3_losing_50 : decode cX3_losing 50 = .ok (.iload_n 2, 1) := by decide +kernel
theorem dX3_losing_51 : decode cX3_losing 51 = .ok (.iload_n 3, 1) := by decide +kernel
theorem dX3_losing_52 : decode cX3_losing 52 = .ok (.invokevirtual 113, 3) := by decide +kernel
theorem dX3_losing_55 : decode cX3_losing 55 = .ok (.invokevirtual 325, 3) := by decide +kernel
theorem dX3_losing_58 : decode cX3_losing 58 = .ok (.ifCond .lt 8, 3) := by decide +kernel
theorem dX3_losing_61 : decode cX3_losing 61 = .ok (.aload_n 0, 1) := by decide +kernel
theorem dX3_losing_62 : decode cX3_losing 62 = .ok (.iconst 1, 1) := by decide +kernel
theorem dX3_losing_63 : decode cX3_losing 63 = .ok (.putfield 445, 3) := by decide +kernel
theorem dX3_losing_66 : decode cX3_losing 66 = .ok (.iconst 0, 1) := by decide +kernel
theorem dX3_losing_67 : decode cX3_losing 67 = .ok (.istore 4, 2) := by decide +kernel
theorem dX3_losing_69 : decode cX3_losing 69 = .ok (.iload 4, 2) := by decide +kernel
theorem dX3_losing_71 : decode cX3_losing 71 = .ok (.aload_n 0, 1) := by decide +kernel
theorem dX3_losing_72 : decode cX3_losing 72 = .ok (.getfield 36, 3) := by decide +kernel
theorem dX3_losing_75 : decode cX3_losing 75 = .ok (.iload_n 1, 1) := by decide +kernel
theorem dX3_losing_76 : decode cX3_losing 76 = .ok (.iaload, 1) := by decide +kernel
theorem dX3_losing_77 : decode cX3_losing 77 = .ok (.if_icmp .ge 55, 3) := by decide +kernel
theorem dX3_losing_80 : decode cX3_losing 80 = .ok (.aload_n 0, 1) := by decide +kernel
theorem dX3_losing_81 : decode cX3_losing 81 = .ok (.iload_n 1, 1) := by decide +kernel
theorem dX3_losing_82 : decode cX3_losing 82 = .ok (.iload 4, 2) := by decide +kernel
theorem dX3_losing_84 : decode cX3_losing 84 = .ok (.invokevirtual 109, 3) := by decide +kernel
theorem dX3_losing_87 : decode cX3_losing 87 = .ok (.ifCond .eq 39, 3) := by decide +kernel
theorem dX3_losing_90 : decode cX3_losing 90 = .ok (.aload_n 0, 1) := by decide +kernel
theorem dX3_losing_91 : decode cX3_losing 91 = .ok (.aload_n 0, 1) := by decide +kernel
theorem dX3_losing_92 : decode cX3_losing 92 = .ok (.iload_n 1, 1) := by decide +kernel
theorem dX3_losing_93 : decode cX3_losing 93 = .ok (.iload 4, 2) := by decide +kernel
theorem dX3_losing_95 : decode cX3_losing 95 = .ok (.invokevirtual 65, 3) := by decide +kernel
theorem dX3_losing_98 : decode cX3_losing 98 = .ok (.aload_n 0, 1) := by decide +kernel
theorem dX3_losing_99 : decode cX3_losing 99 = .ok (.getfield 33, 3) := by decide +kernel
theorem dX3_losing_102 : decode cX3_losing 102 = .ok (.iload_n 1, 1) := by decide +kernel
theorem dX3_losing_103 : decode cX3_losing 103 = .ok (.iaload, 1) := by decide +kernel
theorem dX3_losing_104 : decode cX3_losing 104 = .ok (.bipush 17, 2) := by decide +kernel
theorem dX3_losing_106 : decode cX3_losing 106 = .ok (.if_icmp .ne 15, 3) := by decide +kernel
theorem dX3_losing_109 : decode cX3_losing 109 = .ok (.iload 4, 2) := by decide +kernel
theorem dX3_losing_111 : decode cX3_losing 111 = .ok (.iconst 1, 1) := by decide +kernel
theorem dX3_losing_112 : decode cX3_losing 112 = .ok (.if_icmp .ne 9, 3) := by decide +kernel
theorem dX3_losing_115 : decode cX3_losing 115 = .ok (.iload_n 2, 1) := by decide +kernel
theorem dX3_losing_116 : decode cX3_losing 116 = .ok (.iconst 1, 1) := by decide +kernel
theorem dX3_losing_117 : decode cX3_losing 117 = .ok (.iadd, 1) := by decide +kernel
theorem dX3_losing_118 : decode cX3_losing 118 = .ok (.goto 4, 3) := by decide +kernel
theorem dX3_losing_121 : decode cX3_losing 121 = .ok (.iload_n 2, 1) := by decide +kernel
theorem dX3_losing_122 : decode cX3_losing 122 = .ok (.iload_n 3, 1) := by decide +kernel
theorem dX3_losing_123 : decode cX3_losing 123 = .ok (.invokevirtual 448, 3) := by decide +kernel
theorem dX3_losing_126 : decode cX3_losing 126 = .ok (.iinc 4 1, 3) := by decide +kernel
theorem dX3_losing_129 : decode cX3_losing 129 = .ok (.goto (-60), 3) := by decide +kernel
theorem dX3_losing_132 : decode cX3_losing 132 = .ok (.return_, 1) := by decide +kernel
abbrev cX3_isOnly : ByteArray := prog_4_method_75_code
def yX3_isOnly : MethodName := ⟨RX3, "isOnly", "(II)Z"⟩
theorem dX3_isOnly_0 : decode cX3_isOnly 0 = .ok (.aload_n 0, 1) := by decide +kernel
theorem dX3_isOnly_1 : decode cX3_isOnly 1 = .ok (.getfield 33, 3) := by decide +kernel
theorem dX3_isOnly_4 : decode cX3_isOnly 4 = .ok (.iload_n 1, 1) := by decide +kernel
theorem dX3_isOnly_5 : decode cX3_isOnly 5 = .ok (.iaload, 1) := by decide +kernel
theorem dX3_isOnly_6 : decode cX3_isOnly 6 = .ok (.iconst 1, 1) := by decide +kernel
theorem dX3_isOnly_7 : decode cX3_isOnly 7 = .ok (.if_icmp .ne 19, 3) := by decide +kernel
theorem dX3_isOnly_10 : decode cX3_isOnly 10 = .ok (.aload_n 0, 1) := by decide +kernel
theorem dX3_isOnly_11 : decode cX3_isOnly 11 = .ok (.iload_n 1, 1) := by decide +kernel
theorem dX3_isOnly_12 : decode cX3_isOnly 12 = .ok (.iconst 0, 1) := by decide +kernel
theorem dX3_isOnly_13 : decode cX3_isOnly 13 = .ok (.invokevirtual 65, 3) := by decide +kernel
theorem dX3_isOnly_16 : decode cX3_isOnly 16 = .ok (.iload_n 2, 1) := by decide +kernel
theorem dX3_isOnly_17 : decode cX3_isOnly 17 = .ok (.if_icmp .ne 7, 3) := by decide +kernel
theorem dX3_isOnly_20 : decode cX3_isOnly 20 = .ok (.iconst 1, 1) := by decide +kernel
theorem dX3_isOnly_21 : decode cX3_isOnly 21 = .ok (.goto 4, 3) := by decide +kernel
theorem dX3_isOnly_24 : decode cX3_isOnly 24 = .ok (.iconst 0, 1) := by decide +kernel
theorem dX3_isOnly_25 : decode cX3_isOnly 25 = .ok (.ireturn, 1) := by decide +kernel
theorem dX3_isOnly_26 : decode cX3_isOnly 26 = .ok (.iconst 0, 1) := by decide +kernel
theorem dX3_isOnly_27 : decode cX3_isOnly 27 = .ok (.istore_n 3, 1) := by decide +kernel
theorem dX3_isOnly_28 : decode cX3_isOnly 28 = .ok (.iload_n 3, 1) := by decide +kernel
theorem dX3_isOnly_29 : decode cX3_isOnly 29 = .ok (.aload_n 0, 1) := by decide +kernel
theorem dX3_isOnly_30 : decode cX3_isOnly 30 = .ok (.getfield 36, 3) := by decide +kernel
theorem dX3_isOnly_33 : decode cX3_isOnly 33 = .ok (.iload_n 1, 1) := by decide +kernel
theorem dX3_isOnly_34 : decode cX3_isOnly 34 = .ok (.iaload, 1) := by decide +kernel
theorem dX3_isOnly_35 : decode cX3_isOnly 35 = .ok (.if_icmp .ge 34, 3) := by decide +kernel
theorem dX3_isOnly_38 : decode cX3_isOnly 38 = .ok (.aload_n 0, 1) := by decide +kernel
theorem dX3_isOnly_39 : decode cX3_isOnly 39 = .ok (.iload_n 1, 1) := by decide +kernel
theorem dX3_isOnly_40 : decode cX3_isOnly 40 = .ok (.iload_n 3, 1) := by decide +kernel
theorem dX3_isOnly_41 : decode cX3_isOnly 41 = .ok (.invokevirtual 109, 3) := by decide +kernel
theorem dX3_isOnly_44 : decode cX3_isOnly 44 = .ok (.ifCond .eq 19, 3) := by decide +kernel
theorem dX3_isOnly_47 : decode cX3_isOnly 47 = .ok (.aload_n 0, 1) := by decide +kernel
theorem dX3_isOnly_48 : decode cX3_isOnly 48 = .ok (.aload_n 0, 1) := by decide +kernel
theorem dX3_isOnly_49 : decode cX3_isOnly 49 = .ok (.iload_n 1, 1) := by decide +kernel
theorem dX3_isOnly_50 : decode cX3_isOnly 50 = .ok (.iload_n 3, 1) := by decide +kernel
theorem dX3_isOnly_51 : decode cX3_isOnly 51 = .ok (.invokevirtual 65, 3) := by decide +kernel
theorem dX3_isOnly_54 : decode cX3_isOnly 54 = .ok (.iload_n 2, 1) := by decide +kernel
theorem dX3_isOnly_55 : decode cX3_isOnly 55 = .ok (.invokevirtual 439, 3) := by decide +kernel
theorem dX3_isOnly_58 : decode cX3_isOnly 58 = .ok (.ifCond .ne 5, 3) := by decide +kernel
theorem dX3_isOnly_61 : decode cX3_isOnly 61 = .ok (.iconst 0, 1) := by decide +kernel
theorem dX3_isOnly_62 : decode cX3_isOnly 62 = .ok (.ireturn, 1) := by decide +kernel
theorem dX3_isOnly_63 : decode cX3_isOnly 63 = .ok (.iinc 3 1, 3) := by decide +kernel
theorem dX3_isOnly_66 : decode cX3_isOnly 66 = .ok (.goto (-38), 3) := by decide +kernel
theorem dX3_isOnly_69 : decode cX3_isOnly 69 = .ok (.iconst 1, 1) := by decide +kernel
theorem dX3_isOnly_70 : decode cX3_isOnly 70 = .ok (.ireturn, 1) := by decide +kernel
abbrev cX3_forget : ByteArray := prog_4_method_6_code
def yX3_forget : MethodName := ⟨RX3, "forget", "(II)V"⟩
theorem dX3_forget_0 : decode cX3_forget 0 = .ok (.aload_n 0, 1) := by decide +kernel
theorem dX3_forget_1 : decode cX3_forget 1 = .ok (.getfield 42, 3) := by decide +kernel
theorem dX3_forget_4 : decode cX3_forget 4 = .ok (.iload_n 1, 1) := by decide +kernel
theorem dX3_forget_5 : decode cX3_forget 5 = .ok (.if_icmp .le 7, 3) := by decide +kernel
theorem dX3_forget_8 : decode cX3_forget 8 = .ok (.aload_n 0, 1) := by decide +kernel
theorem dX3_forget_9 : decode cX3_forget 9 = .ok (.invokevirtual 61, 3) := by decide +kernel
theorem dX3_forget_12 : decode cX3_forget 12 = .ok (.aload_n 0, 1) := by decide +kernel
theorem dX3_forget_13 : decode cX3_forget 13 = .ok (.getfield 42, 3) := by decide +kernel
theorem dX3_forget_16 : decode cX3_forget 16 = .ok (.iload_n 1, 1) := by decide +kernel
theorem dX3_forget_17 : decode cX3_forget 17 = .ok (.if_icmp .le 39, 3) := by decide +kernel
theorem dX3_forget_20 : decode cX3_forget 20 = .ok (.aload_n 0, 1) := by decide +kernel
theorem dX3_forget_21 : decode cX3_forget 21 = .ok (.getfield 30, 3) := by decide +kernel
theorem dX3_forget_24 : decode cX3_forget 24 = .ok (.aload_n 0, 1) := by decide +kernel
theorem dX3_forget_25 : decode cX3_forget 25 = .ok (.getfield 51, 3) := by decide +kernel
theorem dX3_forget_28 : decode cX3_forget 28 = .ok (.aload_n 0, 1) := by decide +kernel
theorem dX3_forget_29 : decode cX3_forget 29 = .ok (.getfield 42, 3) := by decide +kernel
theorem dX3_forget_32 : decode cX3_forget 32 = .ok (.iaload, 1) := by decide +kernel
theorem dX3_forget_33 : decode cX3_forget 33 = .ok (.aload_n 0, 1) := by decide +kernel
theorem dX3_forget_34 : decode cX3_forget 34 = .ok (.getfield 39, 3) := by decide +kernel
theorem dX3_forget_37 : decode cX3_forget 37 = .ok (.aload_n 0, 1) := by decide +kernel
theorem dX3_forget_38 : decode cX3_forget 38 = .ok (.getfield 42, 3) := by decide +kernel
theorem dX3_forget_41 : decode cX3_forget 41 = .ok (.iaload, 1) := by decide +kernel
theorem dX3_forget_42 : decode cX3_forget 42 = .ok (.iastore, 1) := by decide +kernel
theorem dX3_forget_43 : decode cX3_forget 43 = .ok (.aload_n 0, 1) := by decide +kernel
theorem dX3_forget_44 : decode cX3_forget 44 = .ok (.dup, 1) := by decide +kernel
theorem dX3_forget_45 : decode cX3_forget 45 = .ok (.getfield 42, 3) := by decide +kernel
theorem dX3_forget_48 : decode cX3_forget 48 = .ok (.iconst 1, 1) := by decide +kernel
theorem dX3_forget_49 : decode cX3_forget 49 = .ok (.isub, 1) := by decide +kernel
theorem dX3_forget_50 : decode cX3_forget 50 = .ok (.putfield 42, 3) := by decide +kernel
theorem dX3_forget_53 : decode cX3_forget 53 = .ok (.goto (-41), 3) := by decide +kernel
theorem dX3_forget_56 : decode cX3_forget 56 = .ok (.aload_n 0, 1) := by decide +kernel
theorem dX3_forget_57 : decode cX3_forget 57 = .ok (.iload_n 2, 1) := by decide +kernel
theorem dX3_forget_58 : decode cX3_forget 58 = .ok (.putfield 54, 3) := by decide +kernel
theorem dX3_forget_61 : decode cX3_forget 61 = .ok (.return_, 1) := by decide +kernel
abbrev cX3_isDone : ByteArray := prog_4_method_80_code
def yX3_isDone : MethodName := ⟨RX3, "isDone", "(I)Z"⟩
theorem dX3_isDone_0 : decode cX3_isDone 0 = .ok (.iload_n 1, 1) := by decide +kernel
theorem dX3_isDone_1 : decode cX3_isDone 1 = .ok (.aload_n 0, 1) := by decide +kernel
theorem dX3_isDone_2 : decode cX3_isDone 2 = .ok (.getfield 481, 3) := by decide +kernel
theorem dX3_isDone_5 : decode cX3_isDone 5 = .ok (.arraylength, 1) := by decide +kernel
theorem dX3_isDone_6 : decode cX3_isDone 6 = .ok (.if_icmp .ge 20, 3) := by decide +kernel
theorem dX3_isDone_9 : decode cX3_isDone 9 = .ok (.aload_n 0, 1) := by decide +kernel
theorem dX3_isDone_10 : decode cX3_isDone 10 = .ok (.getfield 481, 3) := by decide +kernel
theorem dX3_isDone_13 : decode cX3_isDone 13 = .ok (.iload_n 1, 1) := by decide +kernel
theorem dX3_isDone_14 : decode cX3_isDone 14 = .ok (.iaload, 1) := by decide +kernel
theorem dX3_isDone_15 : decode cX3_isDone 15 = .ok (.aload_n 0, 1) := by decide +kernel
theorem dX3_isDone_16 : decode cX3_isDone 16 = .ok (.getfield 307, 3) := by decide +kernel
theorem dX3_isDone_19 : decode cX3_isDone 19 = .ok (.if_icmp .ne 7, 3) := by decide +kernel
theorem dX3_isDone_22 : decode cX3_isDone 22 = .ok (.iconst 1, 1) := by decide +kernel
theorem dX3_isDone_23 : decode cX3_isDone 23 = .ok (.goto 4, 3) := by decide +kernel
theorem dX3_isDone_26 : decode cX3_isDone 26 = .ok (.iconst 0, 1) := by decide +kernel
theorem dX3_isDone_27 : decode cX3_isDone 27 = .ok (.ireturn, 1) := by decide +kernel
abbrev cX3_done : ByteArray := prog_4_method_81_code
def yX3_done : MethodName := ⟨RX3, "done", "(I)V"⟩
theorem dX3_done_0 : decode cX3_done 0 = .ok (.aload_n 0, 1) := by decide +kernel
theorem dX3_done_1 : decode cX3_done 1 = .ok (.aload_n 0, 1) := by decide +kernel
theorem dX3_done_2 : decode cX3_done 2 = .ok (.getfield 481, 3) := by decide +kernel
theorem dX3_done_5 : decode cX3_done 5 = .ok (.aload_n 0, 1) := by decide +kernel
theorem dX3_done_6 : decode cX3_done 6 = .ok (.getfield 42, 3) := by decide +kernel
theorem dX3_done_9 : decode cX3_done 9 = .ok (.invokestatic 20, 3) := by decide +kernel
theorem dX3_done_12 : decode cX3_done 12 = .ok (.putfield 481, 3) := by decide +kernel
theorem dX3_done_15 : decode cX3_done 15 = .ok (.aload_n 0, 1) := by decide +kernel
theorem dX3_done_16 : decode cX3_done 16 = .ok (.getfield 481, 3) := by decide +kernel
theorem dX3_done_19 : decode cX3_done 19 = .ok (.iload_n 1, 1) := by decide +kernel
theorem dX3_done_20 : decode cX3_done 20 = .ok (.aload_n 0, 1) := by decide +kernel
theorem dX3_done_21 : decode cX3_done 21 = .ok (.getfield 307, 3) := by decide +kernel
theorem dX3_done_24 : decode cX3_done 24 = .ok (.iastore, 1) := by decide +kernel
theorem dX3_done_25 : decode cX3_done 25 = .ok (.return_, 1) := by decide +kernel
abbrev cX3_fits : ByteArray := prog_4_method_115_code
def yX3_fits : MethodName := ⟨RX3, "fits", "(II)Z"⟩
theorem dX3_fits_0 : decode cX3_fits 0 = .ok (.aload_n 0, 1) := by decide +kernel
theorem dX3_fits_1 : decode cX3_fits 1 = .ok (.iconst 0, 1) := by decide +kernel
theorem dX3_fits_2 : decode cX3_fits 2 = .ok (.putfield 1, 3) := by decide +kernel
theorem dX3_fits_5 : decode cX3_fits 5 = .ok (.aload_n 0, 1) := by decide +kernel
theorem dX3_fits_6 : decode cX3_fits 6 = .ok (.iload_n 1, 1) := by decide +kernel
theorem dX3_fits_7 : decode cX3_fits 7 = .ok (.iconst 0, 1) := by decide +kernel
theorem dX3_fits_8 : decode cX3_fits 8 = .ok (.invokevirtual 554, 3) := by decide +kernel
theorem dX3_fits_11 : decode cX3_fits 11 = .ok (.istore_n 3, 1) := by decide +kernel
theorem dX3_fits_12 : decode cX3_fits 12 = .ok (.aload_n 0, 1) := by decide +kernel
theorem dX3_fits_13 : decode cX3_fits 13 = .ok (.iload_n 2, 1) := by decide +kernel
theorem dX3_fits_14 : decode cX3_fits 14 = .ok (.iconst 1, 1) := by decide +kernel
theorem dX3_fits_15 : decode cX3_fits 15 = .ok (.invokevirtual 554, 3) := by decide +kernel
theorem dX3_fits_18 : decode cX3_fits 18 = .ok (.istore 4, 2) := by decide +kernel
theorem dX3_fits_20 : decode cX3_fits 20 = .ok (.iload_n 3, 1) := by decide +kernel
theorem dX3_fits_21 : decode cX3_fits 21 = .ok (.ifCond .eq 8, 3) := by decide +kernel
theorem dX3_fits_24 : decode cX3_fits 24 = .ok (.iload 4, 2) := by decide +kernel
theorem dX3_fits_26 : decode cX3_fits 26 = .ok (.ifCond .ne 17, 3) := by decide +kernel
theorem dX3_fits_29 : decode cX3_fits 29 = .ok (.aload_n 0, 1) := by decide +kernel
theorem dX3_fits_30 : decode cX3_fits 30 = .ok (.iconst 1, 1) := by decide +kernel
theorem dX3_fits_31 : decode cX3_fits 31 = .ok (.invokevirtual 533, 3) := by decide +kernel
theorem dX3_fits_34 : decode cX3_fits 34 = .ok (.ifCond .le 7, 3) := by decide +kernel
theorem dX3_fits_37 : decode cX3_fits 37 = .ok (.iconst 1, 1) := by decide +kernel
theorem dX3_fits_38 : decode cX3_fits 38 = .ok (.goto 4, 3) := by decide +kernel
theorem dX3_fits_41 : decode cX3_fits 41 = .ok (.iconst 0, 1) := by decide +kernel
theorem dX3_fits_42 : decode cX3_fits 42 = .ok (.ireturn, 1) := by decide +kernel
theorem dX3_fits_43 : decode cX3_fits 43 = .ok (.aload_n 0, 1) := by decide +kernel
theorem dX3_fits_44 : decode cX3_fits 44 = .ok (.iload_n 3, 1) := by decide +kernel
theorem dX3_fits_45 : decode cX3_fits 45 = .ok (.iload 4, 2) := by decide +kernel
theorem dX3_fits_47 : decode cX3_fits 47 = .ok (.invokevirtual 230, 3) := by decide +kernel
theorem dX3_fits_50 : decode cX3_fits 50 = .ok (.ireturn, 1) := by decide +kernel
abbrev cX3_adjectives : ByteArray := prog_4_method_116_code
def yX3_adjectives : MethodName := ⟨RX3, "adjectives", "(I)I"⟩
theorem dX3_adjectives_0 : decode cX3_adjectives 0 = .ok (.aload_n 0, 1) := by decide +kernel
theorem dX3_adjectives_1 : decode cX3_adjectives 1 = .ok (.iconst 0, 1) := by decide +kernel
theorem dX3_adjectives_2 : decode cX3_adjectives 2 = .ok (.putfield 1, 3) := by decide +kernel
theorem dX3_adjectives_5 : decode cX3_adjectives 5 = .ok (.aload_n 0, 1) := by decide +kernel
theorem dX3_adjectives_6 : decode cX3_adjectives 6 = .ok (.iload_n 1, 1) := by decide +kernel
theorem dX3_adjectives_7 : decode cX3_adjectives 7 = .ok (.iconst 0, 1) := by decide +kernel
theorem dX3_adjectives_8 : decode cX3_adjectives 8 = .ok (.invokevirtual 554, 3) := by decide +kernel
theorem dX3_adjectives_11 : decode cX3_adjectives 11 = .ok (.istore_n 2, 1) := by decide +kernel
theorem dX3_adjectives_12 : decode cX3_adjectives 12 = .ok (.iload_n 2, 1) := by decide +kernel
theorem dX3_adjectives_13 : decode cX3_adjectives 13 = .ok (.ifCond .ne 11, 3) := by decide +kernel
theorem dX3_adjectives_16 : decode cX3_adjectives 16 = .ok (.aload_n 0, 1) := by decide +kernel
theorem dX3_adjectives_17 : decode cX3_adjectives 17 = .ok (.iconst 1, 1) := by decide +kernel
theorem dX3_adjectives_18 : decode cX3_adjectives 18 = .ok (.invokevirtual 533, 3) := by decide +kernel
theorem dX3_adjectives_21 : decode cX3_adjectives 21 = .ok (.goto 8, 3) := by decide +kernel
theorem dX3_adjectives_24 : decode cX3_adjectives 24 = .ok (.aload_n 0, 1) := by decide +kernel
theorem dX3_adjectives_25 : decode cX3_adjectives 25 = .ok (.iload_n 2, 1) := by decide +kernel
theorem dX3_adjectives_26 : decode cX3_adjectives 26 = .ok (.invokevirtual 233, 3) := by decide +kernel
theorem dX3_adjectives_29 : decode cX3_adjectives 29 = .ok (.ireturn, 1) := by decide +kernel
abbrev cX3_alike : ByteArray := prog_4_method_117_code
def yX3_alike : MethodName := ⟨RX3, "alike", "(II)Z"⟩
theorem dX3_alike_0 : decode cX3_alike 0 = .ok (.aload_n 0, 1) := by decide +kernel
theorem dX3_alike_1 : decode cX3_alike 1 = .ok (.iconst 0, 1) := by decide +kernel
theorem dX3_alike_2 : decode cX3_alike 2 = .ok (.putfield 1, 3) := by decide +kernel
theorem dX3_alike_5 : decode cX3_alike 5 = .ok (.iload_n 1, 1) := by decide +kernel
theorem dX3_alike_6 : decode cX3_alike 6 = .ok (.ifCond .lt 23, 3) := by decide +kernel
theorem dX3_alike_9 : decode cX3_alike 9 = .ok (.iload_n 2, 1) := by decide +kernel
theorem dX3_alike_10 : decode cX3_alike 10 = .ok (.ifCond .lt 19, 3) := by decide +kernel
theorem dX3_alike_13 : decode cX3_alike 13 = .ok (.iload_n 1, 1) := by decide +kernel
theorem dX3_alike_14 : decode cX3_alike 14 = .ok (.aload_n 0, 1) := by decide +kernel
theorem dX3_alike_15 : decode cX3_alike 15 = .ok (.getfield 521, 3) := by decide +kernel
theorem dX3_alike_18 : decode cX3_alike 18 = .ok (.if_icmp .ge 11, 3) := by decide +kernel
theorem dX3_alike_21 : decode cX3_alike 21 = .ok (.iload_n 2, 1) := by decide +kernel
theorem dX3_alike_22 : decode cX3_alike 22 = .ok (.aload_n 0, 1) := by decide +kernel
theorem dX3_alike_23 : decode cX3_alike 23 = .ok (.getfield 521, 3) := by decide +kernel
theorem dX3_alike_26 : decode cX3_alike 26 = .ok (.if_icmp .lt 17, 3) := by decide +kernel
theorem dX3_alike_29 : decode cX3_alike 29 = .ok (.aload_n 0, 1) := by decide +kernel
theorem dX3_alike_30 : decode cX3_alike 30 = .ok (.iconst 1, 1) := by decide +kernel
theorem dX3_alike_31 : decode cX3_alike 31 = .ok (.invokevirtual 533, 3) := by decide +kernel
theorem dX3_alike_34 : decode cX3_alike 34 = .ok (.ifCond .le 7, 3) := by decide +kernel
theorem dX3_alike_37 : decode cX3_alike 37 = .ok (.iconst 1, 1) := by decide +kernel
theorem dX3_alike_38 : decode cX3_alike 38 = .ok (.goto 4, 3) := by decide +kernel
theorem dX3_alike_41 : decode cX3_alike 41 = .ok (.iconst 0, 1) := by decide +kernel
theorem dX3_alike_42 : decode cX3_alike 42 = .ok (.ireturn, 1) := by decide +kernel
theorem dX3_alike_43 : decode cX3_alike 43 = .ok (.aload_n 0, 1) := by decide +kernel
theorem dX3_alike_44 : decode cX3_alike 44 = .ok (.getfield 518, 3) := by decide +kernel
theorem dX3_alike_47 : decode cX3_alike 47 = .ok (.iload_n 1, 1) := by decide +kernel
theorem dX3_alike_48 : decode cX3_alike 48 = .ok (.iaload, 1) := by decide +kernel
theorem dX3_alike_49 : decode cX3_alike 49 = .ok (.aload_n 0, 1) := by decide +kernel
theorem dX3_alike_50 : decode cX3_alike 50 = .ok (.getfield 518, 3) := by decide +kernel
theorem dX3_alike_53 : decode cX3_alike 53 = .ok (.iload_n 2, 1) := by decide +kernel
theorem dX3_alike_54 : decode cX3_alike 54 = .ok (.iaload, 1) := by decide +kernel
theorem dX3_alike_55 : decode cX3_alike 55 = .ok (.if_icmp .ne 7, 3) := by decide +kernel
theorem dX3_alike_58 : decode cX3_alike 58 = .ok (.iconst 1, 1) := by decide +kernel
theorem dX3_alike_59 : decode cX3_alike 59 = .ok (.goto 4, 3) := by decide +kernel
theorem dX3_alike_62 : decode cX3_alike 62 = .ok (.iconst 0, 1) := by decide +kernel
theorem dX3_alike_63 : decode cX3_alike 63 = .ok (.ireturn, 1) := by decide +kernel
abbrev cX3_about : ByteArray := prog_4_method_118_code
def yX3_about : MethodName := ⟨RX3, "about", "(II)I"⟩
theorem dX3_about_0 : decode cX3_about 0 = .ok (.aload_n 0, 1) := by decide +kernel
theorem dX3_about_1 : decode cX3_about 1 = .ok (.iconst 0, 1) := by decide +kernel
theorem dX3_about_2 : decode cX3_about 2 = .ok (.putfield 1, 3) := by decide +kernel
theorem dX3_about_5 : decode cX3_about 5 = .ok (.iload_n 1, 1) := by decide +kernel
theorem dX3_about_6 : decode cX3_about 6 = .ok (.ifCond .lt 20, 3) := by decide +kernel
theorem dX3_about_9 : decode cX3_about 9 = .ok (.iload_n 1, 1) := by decide +kernel
theorem dX3_about_10 : decode cX3_about 10 = .ok (.aload_n 0, 1) := by decide +kernel
theorem dX3_about_11 : decode cX3_about 11 = .ok (.getfield 521, 3) := by decide +kernel
theorem dX3_about_14 : decode cX3_about 14 = .ok (.if_icmp .ge 12, 3) := by decide +kernel
theorem dX3_about_17 : decode cX3_about 17 = .ok (.iload_n 2, 1) := by decide +kernel
theorem dX3_about_18 : decode cX3_about 18 = .ok (.ifCond .lt 8, 3) := by decide +kernel
theorem dX3_about_21 : decode cX3_about 21 = .ok (.iload_n 2, 1) := by decide +kernel
theorem dX3_about_22 : decode cX3_about 22 = .ok (.iconst 3, 1) := by decide +kernel
theorem dX3_about_23 : decode cX3_about 23 = .ok (.if_icmp .le 9, 3) := by decide +kernel
theorem dX3_about_26 : decode cX3_about 26 = .ok (.aload_n 0, 1) := by decide +kernel
theorem dX3_about_27 : decode cX3_about 27 = .ok (.iconst 1, 1) := by decide +kernel
theorem dX3_about_28 : decode cX3_about 28 = .ok (.invokevirtual 533, 3) := by decide +kernel
theorem dX3_about_31 : decode cX3_about 31 = .ok (.ireturn, 1) := by decide +kernel
theorem dX3_about_32 : decode cX3_about 32 = .ok (.aload_n 0, 1) := by decide +kernel
theorem dX3_about_33 : decode cX3_about 33 = .ok (.getfield 518, 3) := by decide +kernel
theorem dX3_about_36 : decode cX3_about 36 = .ok (.iload_n 1, 1) := by decide +kernel
theorem dX3_about_37 : decode cX3_about 37 = .ok (.iaload, 1) := by decide +kernel
theorem dX3_about_38 : decode cX3_about 38 = .ok (.istore_n 3, 1) := by decide +kernel
theorem dX3_about_39 : decode cX3_about 39 = .ok (.aload_n 0, 1) := by decide +kernel
theorem dX3_about_40 : decode cX3_about 40 = .ok (.iload_n 3, 1) := by decide +kernel
theorem dX3_about_41 : decode cX3_about 41 = .ok (.invokevirtual 524, 3) := by decide +kernel
theorem dX3_about_44 : decode cX3_about 44 = .ok (.istore 4, 2) := by decide +kernel
theorem dX3_about_46 : decode cX3_about 46 = .ok (.iload_n 2, 1) := by decide +kernel
theorem dX3_about_47 : decode cX3_about 47 = .ok (.ifCond .ne 6, 3) := by decide +kernel
theorem dX3_about_50 : decode cX3_about 50 = .ok (.iload 4, 2) := by decide +kernel
theorem dX3_about_52 : decode cX3_about 52 = .ok (.ireturn, 1) := by decide +kernel
theorem dX3_about_53 : decode cX3_about 53 = .ok (.iload_n 2, 1) := by decide +kernel
theorem dX3_about_54 : decode cX3_about 54 = .ok (.iconst 1, 1) := by decide +kernel
theorem dX3_about_55 : decode cX3_about 55 = .ok (.if_icmp .ne 10, 3) := by decide +kernel
theorem dX3_about_58 : decode cX3_about 58 = .ok (.aload_n 0, 1) := by decide +kernel
theorem dX3_about_59 : decode cX3_about 59 = .ok (.getfield 45, 3) := by decide +kernel
theorem dX3_about_62 : decode cX3_about 62 = .ok (.iload_n 3, 1) := by decide +kernel
theorem dX3_about_63 : decode cX3_about 63 = .ok (.iaload, 1) := by decide +kernel
theorem dX3_about_64 : decode cX3_about 64 = .ok (.ireturn, 1) := by decide +kernel
theorem dX3_about_65 : decode cX3_about 65 = .ok (.iload 4, 2) := by decide +kernel
theorem dX3_about_67 : decode cX3_about 67 = .ok (.iconst 2, 1) := by decide +kernel
theorem dX3_about_68 : decode cX3_about 68 = .ok (.if_icmp .eq 5, 3) := by decide +kernel
theorem dX3_about_71 : decode cX3_about 71 = .ok (.iconst 0, 1) := by decide +kernel
theorem dX3_about_72 : decode cX3_about 72 = .ok (.ireturn, 1) := by decide +kernel
theorem dX3_about_73 : decode cX3_about 73 = .ok (.iload_n 2, 1) := by decide +kernel
theorem dX3_about_74 : decode cX3_about 74 = .ok (.iconst 2, 1) := by decide +kernel
theorem dX3_about_75 : decode cX3_about 75 = .ok (.if_icmp .ne 40, 3) := by decide +kernel
theorem dX3_about_78 : decode cX3_about 78 = .ok (.aload_n 0, 1) := by decide +kernel
theorem dX3_about_79 : decode cX3_about 79 = .ok (.getfield 33, 3) := by decide +kernel
theorem dX3_about_82 : decode cX3_about 82 = .ok (.iload_n 3, 1) := by decide +kernel
theorem dX3_about_83 : decode cX3_about 83 = .ok (.iaload, 1) := by decide +kernel
theorem dX3_about_84 : decode cX3_about 84 = .ok (.bipush 8, 2) := by decide +kernel
theorem dX3_about_86 : decode cX3_about 86 = .ok (.if_icmp .ne 7, 3) := by decide +kernel
theorem dX3_about_89 : decode cX3_about 89 = .ok (.iconst 0, 1) := by decide +kernel
theorem dX3_about_90 : decode cX3_about 90 = .ok (.goto 24, 3) := by decide +kernel
theorem dX3_about_93 : decode cX3_about 93 = .ok (.aload_n 0, 1) := by decide +kernel
theorem dX3_about_94 : decode cX3_about 94 = .ok (.getfield 33, 3) := by decide +kernel
theorem dX3_about_97 : decode cX3_about 97 = .ok (.iload_n 3, 1) := by decide +kernel
theorem dX3_about_98 : decode cX3_about 98 = .ok (.iaload, 1) := by decide +kernel
theorem dX3_about_99 : decode cX3_about 99 = .ok (.bipush 16, 2) := by decide +kernel
theorem dX3_about_101 : decode cX3_about 101 = .ok (.if_icmp .ne 12, 3) := by decide +kernel
theorem dX3_about_104 : decode cX3_about 104 = .ok (.aload_n 0, 1) := by decide +kernel
theorem dX3_about_105 : decode cX3_about 105 = .ok (.getfield 36, 3) := by decide +kernel
theorem dX3_about_108 : decode cX3_about 108 = .ok (.iload_n 3, 1) := by decide +kernel
theorem dX3_about_109 : decode cX3_about 109 = .ok (.iaload, 1) := by decide +kernel
theorem dX3_about_110 : decode cX3_about 110 = .ok (.goto 4, 3) := by decide +kernel
theorem dX3_about_113 : decode cX3_about 113 = .ok (.iconst 1, 1) := by decide +kernel
theorem dX3_about_114 : decode cX3_about 114 = .ok (.ireturn, 1) := by decide +kernel
theorem dX3_about_115 : decode cX3_about 115 = .ok (.aload_n 0, 1) := by decide +kernel
theorem dX3_about_116 : decode cX3_about 116 = .ok (.getfield 42, 3) := by decide +kernel
theorem dX3_about_119 : decode cX3_about 119 = .ok (.istore 5, 2) := by decide +kernel
theorem dX3_about_121 : decode cX3_about 121 = .ok (.aload_n 0, 1) := by decide +kernel
theorem dX3_about_122 : decode cX3_about 122 = .ok (.getfield 54, 3) := by decide +kernel
theorem dX3_about_125 : decode cX3_about 125 = .ok (.istore 6, 2) := by decide +kernel
theorem dX3_about_127 : decode cX3_about 127 = .ok (.aload_n 0, 1) := by decide +kernel
theorem dX3_about_128 : decode cX3_about 128 = .ok (.getfield 142, 3) := by decide +kernel
theorem dX3_about_131 : decode cX3_about 131 = .ok (.istore 7, 2) := by decide +kernel
theorem dX3_about_133 : decode cX3_about 133 = .ok (.aload_n 0, 1) := by decide +kernel
theorem dX3_about_134 : decode cX3_about 134 = .ok (.iconst 0, 1) := by decide +kernel
theorem dX3_about_135 : decode cX3_about 135 = .ok (.putfield 236, 3) := by decide +kernel
theorem dX3_about_138 : decode cX3_about 138 = .ok (.aload_n 0, 1) := by decide +kernel
theorem dX3_about_139 : decode cX3_about 139 = .ok (.getfield 251, 3) := by decide +kernel
theorem dX3_about_142 : decode cX3_about 142 = .ok (.aload_n 0, 1) := by decide +kernel
theorem dX3_about_143 : decode cX3_about 143 = .ok (.iload_n 3, 1) := by decide +kernel
theorem dX3_about_144 : decode cX3_about 144 = .ok (.invokevirtual 261, 3) := by decide +kernel
theorem dX3_about_147 : decode cX3_about 147 = .ok (.laload, 1) := by decide +kernel
theorem dX3_about_148 : decode cX3_about 148 = .ok (.lstore 8, 2) := by decide +kernel
theorem dX3_about_150 : decode cX3_about 150 = .ok (.aload_n 0, 1) := by decide +kernel
theorem dX3_about_151 : decode cX3_about 151 = .ok (.iload 5, 2) := by decide +kernel
theorem dX3_about_153 : decode cX3_about 153 = .ok (.iload 6, 2) := by decide +kernel
theorem dX3_about_155 : decode cX3_about 155 = .ok (.invokevirtual 300, 3) := by decide +kernel
theorem dX3_about_158 : decode cX3_about 158 = .ok (.aload_n 0, 1) := by decide +kernel
theorem dX3_about_159 : decode cX3_about 159 = .ok (.iload 7, 2) := by decide +kernel
theorem dX3_about_161 : decode cX3_about 161 = .ok (.putfield 142, 3) := by decide +kernel
theorem dX3_about_164 : decode cX3_about 164 = .ok (.ldc2_w 289, 3) := by decide +kernel
theorem dX3_about_167 : decode cX3_about 167 = .ok (.lload 8, 2) := by decide +kernel
theorem dX3_about_169 : decode cX3_about 169 = .ok (.invokestatic 272, 3) := by decide +kernel
theorem dX3_about_172 : decode cX3_about 172 = .ok (.l2i, 1) := by decide +kernel
theorem dX3_about_173 : decode cX3_about 173 = .ok (.ireturn, 1) := by decide +kernel
abbrev cX3_count : ByteArray := prog_4_method_119_code
def yX3_count : MethodName := ⟨RX3, "count", "(I)I"⟩
theorem dX3_count_0 : decode cX3_count 0 = .ok (.aload_n 0, 1) := by decide +kernel
theorem dX3_count_1 : decode cX3_count 1 = .ok (.iconst 0, 1) := by decide +kernel
theorem dX3_count_2 : decode cX3_count 2 = .ok (.putfield 1, 3) := by decide +kernel
theorem dX3_count_5 : decode cX3_count 5 = .ok (.iload_n 1, 1) := by decide +kernel
theorem dX3_count_6 : decode cX3_count 6 = .ok (.tableswitch 86 0 7 #[46, 51, 56, 61, 66, 71, 76, 81], 46) := by decide +kernel
theorem dX3_count_52 : decode cX3_count 52 = .ok (.aload_n 0, 1) := by decide +kernel
theorem dX3_count_53 : decode cX3_count 53 = .ok (.getfield 521, 3) := by decide +kernel
theorem dX3_count_56 : decode cX3_count 56 = .ok (.ireturn, 1) := by decide +kernel
theorem dX3_count_57 : decode cX3_count 57 = .ok (.aload_n 0, 1) := by decide +kernel
theorem dX3_count_58 : decode cX3_count 58 = .ok (.getfield 515, 3) := by decide +kernel
theorem dX3_count_61 : decode cX3_count 61 = .ok (.ireturn, 1) := by decide +kernel
theorem dX3_count_62 : decode cX3_count 62 = .ok (.aload_n 0, 1) := by decide +kernel
theorem dX3_count_63 : decode cX3_count 63 = .ok (.getfield 536, 3) := by decide +kernel
theorem dX3_count_66 : decode cX3_count 66 = .ok (.ireturn, 1) := by decide +kernel
theorem dX3_count_67 : decode cX3_count 67 = .ok (.aload_n 0, 1) := by decide +kernel
theorem dX3_count_68 : decode cX3_count 68 = .ok (.getfield 542, 3) := by decide +kernel
theorem dX3_count_71 : decode cX3_count 71 = .ok (.ireturn, 1) := by decide +kernel
theorem dX3_count_72 : decode cX3_count 72 = .ok (.aload_n 0, 1) := by decide +kernel
theorem dX3_count_73 : decode cX3_count 73 = .ok (.getfield 545, 3) := by decide +kernel
theorem dX3_count_76 : decode cX3_count 76 = .ok (.ireturn, 1) := by decide +kernel
theorem dX3_count_77 : decode cX3_count 77 = .ok (.aload_n 0, 1) := by decide +kernel
theorem dX3_count_78 : decode cX3_count 78 = .ok (.getfield 196, 3) := by decide +kernel
theorem dX3_count_81 : decode cX3_count 81 = .ok (.ireturn, 1) := by decide +kernel
theorem dX3_count_82 : decode cX3_count 82 = .ok (.aload_n 0, 1) := by decide +kernel
theorem dX3_count_83 : decode cX3_count 83 = .ok (.getfield 283, 3) := by decide +kernel
theorem dX3_count_86 : decode cX3_count 86 = .ok (.ireturn, 1) := by decide +kernel
theorem dX3_count_87 : decode cX3_count 87 = .ok (.aload_n 0, 1) := by decide +kernel
theorem dX3_count_88 : decode cX3_count 88 = .ok (.getfield 291, 3) := by decide +kernel
theorem dX3_count_91 : decode cX3_count 91 = .ok (.ireturn, 1) := by decide +kernel
theorem dX3_count_92 : decode cX3_count 92 = .ok (.aload_n 0, 1) := by decide +kernel
theorem dX3_count_93 : decode cX3_count 93 = .ok (.iconst 1, 1) := by decide +kernel
theorem dX3_count_94 : decode cX3_count 94 = .ok (.invokevirtual 533, 3) := by decide +kernel
theorem dX3_count_97 : decode cX3_count 97 = .ok (.ireturn, 1) := by decide +kernel
theorem q168 : (Jvm.Cond.initialized "RoundCheckModel") ∈ lw_all := lw_g (lw_at lw_m1 6 rfl) rfl
theorem q1082 : (Jvm.Cond.instanceMethod ({ cls := "RoundCheckModel", name := "thrown", desc := "()I" } : Jvm.MethodName)) ∈ lw_all := lw_g (lw_at lw_m4 200 rfl) rfl
theorem q1083 : (Jvm.Cond.selects "RoundCheckModel" ({ cls := "RoundCheckModel", name := "thrown", desc := "()I" } : Jvm.MethodName) ({ cls := "RoundCheckModel", name := "thrown", desc := "()I" } : Jvm.MethodName)) ∈ lw_all := lw_g (lw_at lw_m4 201 rfl) rfl
theorem q1084 : (Jvm.Cond.code ({ cls := "RoundCheckModel", name := "thrown", desc := "()I" } : Jvm.MethodName) prog_4_method_1_code (1 : Nat) (Option.some Jvm.ClassFile.FieldType.int)) ∈ lw_all := lw_g (lw_at lw_m4 202 rfl) rfl
theorem q1086 : (Jvm.Cond.instantiable "RoundCheckModel" (83 : Nat)) ∈ lw_all := lw_g (lw_at lw_m4 204 rfl) rfl
theorem q1088 : (Jvm.Cond.instanceMethod ({ cls := "RoundCheckModel", name := "<init>", desc := "()V" } : Jvm.MethodName)) ∈ lw_all := lw_g (lw_at lw_m4 206 rfl) rfl
theorem q1089 : (Jvm.Cond.code ({ cls := "RoundCheckModel", name := "<init>", desc := "()V" } : Jvm.MethodName) prog_4_method_86_code (1 : Nat) (Option.none : Option Jvm.ClassFile.FieldType)) ∈ lw_all := lw_g (lw_at lw_m4 207 rfl) rfl
theorem q1090 : (Jvm.Cond.methodLink "RoundCheckModel" (499 : Nat) ({ cls := "java/lang/Object", name := "<init>", desc := "()V" } : Jvm.MethodName)) ∈ lw_all := lw_g (lw_at lw_m4 208 rfl) rfl
theorem q1091 : (Jvm.Cond.constant "RoundCheckModel" (504 : Nat) (32768 : Int32)) ∈ lw_all := lw_g (lw_at lw_m4 209 rfl) rfl
theorem q1092 : (Jvm.Cond.methodLink "RoundCheckModel" (388 : Nat) ({ cls := "RoundCheckModel", name := "plain", desc := "(II)I" } : Jvm.MethodName)) ∈ lw_all := lw_g (lw_at lw_m4 210 rfl) rfl
theorem q1093 : (Jvm.Cond.privateMethod ({ cls := "RoundCheckModel", name := "plain", desc := "(II)I" } : Jvm.MethodName)) ∈ lw_tbl := lw_at lw_m4 211 rfl
theorem q1094 : (Jvm.Cond.instanceMethod ({ cls := "RoundCheckModel", name := "plain", desc := "(II)I" } : Jvm.MethodName)) ∈ lw_all := lw_g (lw_at lw_m4 212 rfl) rfl
theorem q1095 : (Jvm.Cond.code ({ cls := "RoundCheckModel", name := "plain", desc := "(II)I" } : Jvm.MethodName) prog_4_method_20_code (3 : Nat) (Option.some Jvm.ClassFile.FieldType.int)) ∈ lw_all := lw_g (lw_at lw_m4 213 rfl) rfl
theorem q1096 : (Jvm.Cond.methodLink "RoundCheckModel" (97 : Nat) ({ cls := "RoundCheckModel", name := "typed", desc := "(III)I" } : Jvm.MethodName)) ∈ lw_all := lw_g (lw_at lw_m4 214 rfl) rfl
theorem q1097 : (Jvm.Cond.privateMethod ({ cls := "RoundCheckModel", name := "typed", desc := "(III)I" } : Jvm.MethodName)) ∈ lw_tbl := lw_at lw_m4 215 rfl
theorem q1098 : (Jvm.Cond.instanceMethod ({ cls := "RoundCheckModel", name := "typed", desc := "(III)I" } : Jvm.MethodName)) ∈ lw_all := lw_g (lw_at lw_m4 216 rfl) rfl
theorem q1099 : (Jvm.Cond.code ({ cls := "RoundCheckModel", name := "typed", desc := "(III)I" } : Jvm.MethodName) prog_4_method_19_code (8 : Nat) (Option.some Jvm.ClassFile.FieldType.int)) ∈ lw_all := lw_g (lw_at lw_m4 217 rfl) rfl
theorem q1100 : (Jvm.Cond.methodLink "RoundCheckModel" (72 : Nat) ({ cls := "RoundCheckModel", name := "give", desc := "(I)V" } : Jvm.MethodName)) ∈ lw_all := lw_g (lw_at lw_m4 218 rfl) rfl
theorem q1101 : (Jvm.Cond.privateMethod ({ cls := "RoundCheckModel", name := "give", desc := "(I)V" } : Jvm.MethodName)) ∈ lw_tbl := lw_at lw_m4 219 rfl
theorem q1102 : (Jvm.Cond.instanceMethod ({ cls := "RoundCheckModel", name := "give", desc := "(I)V" } : Jvm.MethodName)) ∈ lw_all := lw_g (lw_at lw_m4 220 rfl) rfl
theorem q1103 : (Jvm.Cond.code ({ cls := "RoundCheckModel", name := "give", desc := "(I)V" } : Jvm.MethodName) prog_4_method_3_code (2 : Nat) (Option.none : Option Jvm.ClassFile.FieldType)) ∈ lw_all := lw_g (lw_at lw_m4 221 rfl) rfl
theorem q1104 : (Jvm.Cond.methodLink "RoundCheckModel" (20 : Nat) ({ cls := "RoundCheckModel", name := "more", desc := "([II)[I" } : Jvm.MethodName)) ∈ lw_all := lw_g (lw_at lw_m4 222 rfl) rfl
theorem q1105 : (Jvm.Cond.static ({ cls := "RoundCheckModel", name := "more", desc := "([II)[I" } : Jvm.MethodName)) ∈ lw_all := lw_g (lw_at lw_m4 223 rfl) rfl
theorem q1106 : (Jvm.Cond.code ({ cls := "RoundCheckModel", name := "more", desc := "([II)[I" } : Jvm.MethodName) prog_4_method_2_code (4 : Nat) (Option.some (Jvm.ClassFile.FieldType.array Jvm.ClassFile.FieldType.int))) ∈ lw_all := lw_g (lw_at lw_m4 224 rfl) rfl
theorem q1107 : (Jvm.Cond.methodLink "RoundCheckModel" (7 : Nat) ({ cls := "java/lang/Math", name := "max", desc := "(II)I" } : Jvm.MethodName)) ∈ lw_all := lw_g (lw_at lw_m4 225 rfl) rfl
theorem q1108 : (Jvm.Cond.methodLink "RoundCheckModel" (75 : Nat) ({ cls := "RoundCheckModel", name := "node", desc := "(II)I" } : Jvm.MethodName)) ∈ lw_all := lw_g (lw_at lw_m4 226 rfl) rfl
theorem q1109 : (Jvm.Cond.privateMethod ({ cls := "RoundCheckModel", name := "node", desc := "(II)I" } : Jvm.MethodName)) ∈ lw_tbl := lw_at lw_m4 227 rfl
theorem q1110 : (Jvm.Cond.instanceMethod ({ cls := "RoundCheckModel", name := "node", desc := "(II)I" } : Jvm.MethodName)) ∈ lw_all := lw_g (lw_at lw_m4 228 rfl) rfl
theorem q1111 : (Jvm.Cond.code ({ cls := "RoundCheckModel", name := "node", desc := "(II)I" } : Jvm.MethodName) prog_4_method_5_code (7 : Nat) (Option.some Jvm.ClassFile.FieldType.int)) ∈ lw_all := lw_g (lw_at lw_m4 229 rfl) rfl
theorem q1112 : (Jvm.Cond.methodLink "RoundCheckModel" (57 : Nat) ({ cls := "RoundCheckModel", name := "measure", desc := "(I)V" } : Jvm.MethodName)) ∈ lw_all := lw_g (lw_at lw_m4 230 rfl) rfl
theorem q1113 : (Jvm.Cond.privateMethod ({ cls := "RoundCheckModel", name := "measure", desc := "(I)V" } : Jvm.MethodName)) ∈ lw_tbl := lw_at lw_m4 231 rfl
theorem q1114 : (Jvm.Cond.instanceMethod ({ cls := "RoundCheckModel", name := "measure", desc := "(I)V" } : Jvm.MethodName)) ∈ lw_all := lw_g (lw_at lw_m4 232 rfl) rfl
theorem q1115 : (Jvm.Cond.code ({ cls := "RoundCheckModel", name := "measure", desc := "(I)V" } : Jvm.MethodName) prog_4_method_8_code (8 : Nat) (Option.none : Option Jvm.ClassFile.FieldType)) ∈ lw_all := lw_g (lw_at lw_m4 233 rfl) rfl
theorem q1116 : (Jvm.Cond.methodLink "RoundCheckModel" (65 : Nat) ({ cls := "RoundCheckModel", name := "get", desc := "(II)I" } : Jvm.MethodName)) ∈ lw_all := lw_g (lw_at lw_m4 234 rfl) rfl
theorem q1117 : (Jvm.Cond.privateMethod ({ cls := "RoundCheckModel", name := "get", desc := "(II)I" } : Jvm.MethodName)) ∈ lw_tbl := lw_at lw_m4 235 rfl
theorem q1118 : (Jvm.Cond.instanceMethod ({ cls := "RoundCheckModel", name := "get", desc := "(II)I" } : Jvm.MethodName)) ∈ lw_all := lw_g (lw_at lw_m4 236 rfl) rfl
theorem q1119 : (Jvm.Cond.code ({ cls := "RoundCheckModel", name := "get", desc := "(II)I" } : Jvm.MethodName) prog_4_method_4_code (3 : Nat) (Option.some Jvm.ClassFile.FieldType.int)) ∈ lw_all := lw_g (lw_at lw_m4 237 rfl) rfl
theorem q1120 : (Jvm.Cond.methodLink "RoundCheckModel" (68 : Nat) ({ cls := "RoundCheckModel", name := "first", desc := "(I)I" } : Jvm.MethodName)) ∈ lw_all := lw_g (lw_at lw_m4 238 rfl) rfl
theorem q1121 : (Jvm.Cond.static ({ cls := "RoundCheckModel", name := "first", desc := "(I)I" } : Jvm.MethodName)) ∈ lw_all := lw_g (lw_at lw_m4 239 rfl) rfl
theorem q1122 : (Jvm.Cond.code ({ cls := "RoundCheckModel", name := "first", desc := "(I)I" } : Jvm.MethodName) prog_4_method_7_code (1 : Nat) (Option.some Jvm.ClassFile.FieldType.int)) ∈ lw_all := lw_g (lw_at lw_m5 0 rfl) rfl
theorem q1123 : (Jvm.Cond.methodLink "RoundCheckModel" (267 : Nat) ({ cls := "RoundCheckModel", name := "fresh", desc := "(II)I" } : Jvm.MethodName)) ∈ lw_all := lw_g (lw_at lw_m5 1 rfl) rfl
theorem q1124 : (Jvm.Cond.privateMethod ({ cls := "RoundCheckModel", name := "fresh", desc := "(II)I" } : Jvm.MethodName)) ∈ lw_tbl := lw_at lw_m5 2 rfl
theorem q1125 : (Jvm.Cond.instanceMethod ({ cls := "RoundCheckModel", name := "fresh", desc := "(II)I" } : Jvm.MethodName)) ∈ lw_all := lw_g (lw_at lw_m5 3 rfl) rfl
theorem q1126 : (Jvm.Cond.code ({ cls := "RoundCheckModel", name := "fresh", desc := "(II)I" } : Jvm.MethodName) prog_4_method_30_code (3 : Nat) (Option.some Jvm.ClassFile.FieldType.int)) ∈ lw_all := lw_g (lw_at lw_m5 4 rfl) rfl
theorem q1127 : (Jvm.Cond.methodLink "RoundCheckModel" (61 : Nat) ({ cls := "RoundCheckModel", name := "anew", desc := "()V" } : Jvm.MethodName)) ∈ lw_all := lw_g (lw_at lw_m5 5 rfl) rfl
theorem q1128 : (Jvm.Cond.privateMethod ({ cls := "RoundCheckModel", name := "anew", desc := "()V" } : Jvm.MethodName)) ∈ lw_tbl := lw_at lw_m5 6 rfl
theorem q1129 : (Jvm.Cond.instanceMethod ({ cls := "RoundCheckModel", name := "anew", desc := "()V" } : Jvm.MethodName)) ∈ lw_all := lw_g (lw_at lw_m5 7 rfl) rfl
theorem q1130 : (Jvm.Cond.code ({ cls := "RoundCheckModel", name := "anew", desc := "()V" } : Jvm.MethodName) prog_4_method_37_code (2 : Nat) (Option.none : Option Jvm.ClassFile.FieldType)) ∈ lw_all := lw_g (lw_at lw_m5 8 rfl) rfl
theorem q1131 : (Jvm.Cond.constant "RoundCheckModel" (168 : Nat) (2147483647 : Int32)) ∈ lw_all := lw_g (lw_at lw_m5 9 rfl) rfl
theorem q1132 : (Jvm.Cond.fieldLink "RoundCheckModel" (1 : Nat) "RoundCheckModel" "thrown" "I") ∈ lw_all := lw_g (lw_at lw_m5 10 rfl) rfl
theorem q1133 : (Jvm.Cond.fieldLink "RoundCheckModel" (33 : Nat) "RoundCheckModel" "kind" "[I") ∈ lw_all := lw_g (lw_at lw_m5 11 rfl) rfl
theorem q1134 : (Jvm.Cond.fieldLink "RoundCheckModel" (27 : Nat) "RoundCheckModel" "at" "[I") ∈ lw_all := lw_g (lw_at lw_m5 12 rfl) rfl
theorem q1135 : (Jvm.Cond.fieldLink "RoundCheckModel" (36 : Nat) "RoundCheckModel" "len" "[I") ∈ lw_all := lw_g (lw_at lw_m5 13 rfl) rfl
theorem q1136 : (Jvm.Cond.fieldLink "RoundCheckModel" (45 : Nat) "RoundCheckModel" "size" "[I") ∈ lw_all := lw_g (lw_at lw_m5 14 rfl) rfl
theorem q1137 : (Jvm.Cond.fieldLink "RoundCheckModel" (48 : Nat) "RoundCheckModel" "loose" "[I") ∈ lw_all := lw_g (lw_at lw_m5 15 rfl) rfl
theorem q1138 : (Jvm.Cond.fieldLink "RoundCheckModel" (39 : Nat) "RoundCheckModel" "nextNode" "[I") ∈ lw_all := lw_g (lw_at lw_m5 16 rfl) rfl
theorem q1139 : (Jvm.Cond.fieldLink "RoundCheckModel" (51 : Nat) "RoundCheckModel" "hashOf" "[I") ∈ lw_all := lw_g (lw_at lw_m5 17 rfl) rfl
theorem q1140 : (Jvm.Cond.fieldLink "RoundCheckModel" (42 : Nat) "RoundCheckModel" "nodes" "I") ∈ lw_all := lw_g (lw_at lw_m5 18 rfl) rfl
theorem q1141 : (Jvm.Cond.fieldLink "RoundCheckModel" (24 : Nat) "RoundCheckModel" "data" "[I") ∈ lw_all := lw_g (lw_at lw_m5 19 rfl) rfl
theorem q1142 : (Jvm.Cond.fieldLink "RoundCheckModel" (54 : Nat) "RoundCheckModel" "dataTop" "I") ∈ lw_all := lw_g (lw_at lw_m5 20 rfl) rfl
theorem q1143 : (Jvm.Cond.fieldLink "RoundCheckModel" (30 : Nat) "RoundCheckModel" "nodeHead" "[I") ∈ lw_all := lw_g (lw_at lw_m5 21 rfl) rfl
theorem q1144 : (Jvm.Cond.fieldLink "RoundCheckModel" (13 : Nat) "RoundCheckModel" "hand" "[I") ∈ lw_all := lw_g (lw_at lw_m5 22 rfl) rfl
theorem q1145 : (Jvm.Cond.fieldLink "RoundCheckModel" (17 : Nat) "RoundCheckModel" "hands" "I") ∈ lw_all := lw_g (lw_at lw_m5 23 rfl) rfl
theorem q1146 : (Jvm.Cond.fieldLink "RoundCheckModel" (130 : Nat) "RoundCheckModel" "fromConst" "[I") ∈ lw_all := lw_g (lw_at lw_m5 24 rfl) rfl
theorem q1147 : (Jvm.Cond.fieldLink "RoundCheckModel" (133 : Nat) "RoundCheckModel" "toTerm" "[I") ∈ lw_all := lw_g (lw_at lw_m5 25 rfl) rfl
theorem q1148 : (Jvm.Cond.fieldLink "RoundCheckModel" (124 : Nat) "RoundCheckModel" "moves" "I") ∈ lw_all := lw_g (lw_at lw_m5 26 rfl) rfl
theorem q1149 : (Jvm.Cond.fieldLink "RoundCheckModel" (139 : Nat) "RoundCheckModel" "cName" "[I") ∈ lw_all := lw_g (lw_at lw_m5 27 rfl) rfl
theorem q1150 : (Jvm.Cond.fieldLink "RoundCheckModel" (145 : Nat) "RoundCheckModel" "cType" "[I") ∈ lw_all := lw_g (lw_at lw_m5 28 rfl) rfl
theorem q1151 : (Jvm.Cond.fieldLink "RoundCheckModel" (142 : Nat) "RoundCheckModel" "constants" "I") ∈ lw_all := lw_g (lw_at lw_m5 29 rfl) rfl
theorem q1152 : (Jvm.Cond.fieldLink "RoundCheckModel" (505 : Nat) "RoundCheckModel" "funMany" "[I") ∈ lw_all := lw_g (lw_at lw_m5 30 rfl) rfl
theorem q1153 : (Jvm.Cond.fieldLink "RoundCheckModel" (151 : Nat) "RoundCheckModel" "funType" "[I") ∈ lw_all := lw_g (lw_at lw_m5 31 rfl) rfl
theorem q1154 : (Jvm.Cond.fieldLink "RoundCheckModel" (542 : Nat) "RoundCheckModel" "funs" "I") ∈ lw_all := lw_g (lw_at lw_m5 32 rfl) rfl
theorem q1155 : (Jvm.Cond.fieldLink "RoundCheckModel" (508 : Nat) "RoundCheckModel" "predMany" "[I") ∈ lw_all := lw_g (lw_at lw_m5 33 rfl) rfl
theorem q1156 : (Jvm.Cond.fieldLink "RoundCheckModel" (545 : Nat) "RoundCheckModel" "preds" "I") ∈ lw_all := lw_g (lw_at lw_m5 34 rfl) rfl
theorem q1157 : (Jvm.Cond.fieldLink "RoundCheckModel" (156 : Nat) "RoundCheckModel" "modeParent" "[I") ∈ lw_all := lw_g (lw_at lw_m5 35 rfl) rfl
theorem q1158 : (Jvm.Cond.fieldLink "RoundCheckModel" (511 : Nat) "RoundCheckModel" "modeIsOf" "[Z") ∈ lw_all := lw_g (lw_at lw_m5 36 rfl) rfl
theorem q1159 : (Jvm.Cond.fieldLink "RoundCheckModel" (515 : Nat) "RoundCheckModel" "modes" "I") ∈ lw_all := lw_g (lw_at lw_m5 37 rfl) rfl
theorem q1160 : (Jvm.Cond.fieldLink "RoundCheckModel" (536 : Nat) "RoundCheckModel" "attrs" "I") ∈ lw_all := lw_g (lw_at lw_m5 38 rfl) rfl
theorem q1161 : (Jvm.Cond.fieldLink "RoundCheckModel" (199 : Nat) "RoundCheckModel" "gKind" "[I") ∈ lw_all := lw_g (lw_at lw_m5 39 rfl) rfl
theorem q1162 : (Jvm.Cond.fieldLink "RoundCheckModel" (211 : Nat) "RoundCheckModel" "gType" "[I") ∈ lw_all := lw_g (lw_at lw_m5 40 rfl) rfl
theorem q1163 : (Jvm.Cond.fieldLink "RoundCheckModel" (217 : Nat) "RoundCheckModel" "gOf" "[I") ∈ lw_all := lw_g (lw_at lw_m5 41 rfl) rfl
theorem q1164 : (Jvm.Cond.fieldLink "RoundCheckModel" (202 : Nat) "RoundCheckModel" "gFun" "[I") ∈ lw_all := lw_g (lw_at lw_m5 42 rfl) rfl
theorem q1165 : (Jvm.Cond.fieldLink "RoundCheckModel" (224 : Nat) "RoundCheckModel" "gA" "[I") ∈ lw_all := lw_g (lw_at lw_m5 43 rfl) rfl
theorem q1166 : (Jvm.Cond.fieldLink "RoundCheckModel" (227 : Nat) "RoundCheckModel" "gB" "[I") ∈ lw_all := lw_g (lw_at lw_m5 44 rfl) rfl
theorem q1167 : (Jvm.Cond.fieldLink "RoundCheckModel" (208 : Nat) "RoundCheckModel" "gSet" "[I") ∈ lw_all := lw_g (lw_at lw_m5 45 rfl) rfl
theorem q1168 : (Jvm.Cond.fieldLink "RoundCheckModel" (493 : Nat) "RoundCheckModel" "gTo" "[I") ∈ lw_all := lw_g (lw_at lw_m5 46 rfl) rfl
theorem q1169 : (Jvm.Cond.fieldLink "RoundCheckModel" (196 : Nat) "RoundCheckModel" "regs" "I") ∈ lw_all := lw_g (lw_at lw_m5 47 rfl) rfl
theorem q1170 : (Jvm.Cond.fieldLink "RoundCheckModel" (187 : Nat) "RoundCheckModel" "memo" "[I") ∈ lw_all := lw_g (lw_at lw_m5 48 rfl) rfl
theorem q1171 : (Jvm.Cond.fieldLink "RoundCheckModel" (169 : Nat) "RoundCheckModel" "memoMark" "[I") ∈ lw_all := lw_g (lw_at lw_m5 49 rfl) rfl
theorem q1172 : (Jvm.Cond.fieldLink "RoundCheckModel" (165 : Nat) "RoundCheckModel" "memoNow" "I") ∈ lw_all := lw_g (lw_at lw_m5 50 rfl) rfl
theorem q1173 : (Jvm.Cond.fieldLink "RoundCheckModel" (176 : Nat) "RoundCheckModel" "wanted" "[I") ∈ lw_all := lw_g (lw_at lw_m5 51 rfl) rfl
theorem q1174 : (Jvm.Cond.fieldLink "RoundCheckModel" (179 : Nat) "RoundCheckModel" "wants" "I") ∈ lw_all := lw_g (lw_at lw_m5 52 rfl) rfl
theorem q1175 : (Jvm.Cond.fieldLink "RoundCheckModel" (239 : Nat) "RoundCheckModel" "qKind" "[I") ∈ lw_all := lw_g (lw_at lw_m5 53 rfl) rfl
theorem q1176 : (Jvm.Cond.fieldLink "RoundCheckModel" (242 : Nat) "RoundCheckModel" "qFirst" "[I") ∈ lw_all := lw_g (lw_at lw_m5 54 rfl) rfl
theorem q1177 : (Jvm.Cond.fieldLink "RoundCheckModel" (245 : Nat) "RoundCheckModel" "qNext" "[I") ∈ lw_all := lw_g (lw_at lw_m5 55 rfl) rfl
theorem q1178 : (Jvm.Cond.fieldLink "RoundCheckModel" (248 : Nat) "RoundCheckModel" "qLeaf" "[I") ∈ lw_all := lw_g (lw_at lw_m5 56 rfl) rfl
theorem q1179 : (Jvm.Cond.fieldLink "RoundCheckModel" (251 : Nat) "RoundCheckModel" "qCases" "[J") ∈ lw_all := lw_g (lw_at lw_m5 57 rfl) rfl
theorem q1180 : (Jvm.Cond.fieldLink "RoundCheckModel" (236 : Nat) "RoundCheckModel" "qs" "I") ∈ lw_all := lw_g (lw_at lw_m5 58 rfl) rfl
theorem q1181 : (Jvm.Cond.fieldLink "RoundCheckModel" (310 : Nat) "RoundCheckModel" "known" "[I") ∈ lw_all := lw_g (lw_at lw_m5 59 rfl) rfl
theorem q1182 : (Jvm.Cond.fieldLink "RoundCheckModel" (313 : Nat) "RoundCheckModel" "knowns" "I") ∈ lw_all := lw_g (lw_at lw_m5 60 rfl) rfl
theorem q1183 : (Jvm.Cond.fieldLink "RoundCheckModel" (304 : Nat) "RoundCheckModel" "knownMark" "[I") ∈ lw_all := lw_g (lw_at lw_m5 61 rfl) rfl
theorem q1184 : (Jvm.Cond.fieldLink "RoundCheckModel" (316 : Nat) "RoundCheckModel" "termMark" "[I") ∈ lw_all := lw_g (lw_at lw_m5 62 rfl) rfl
theorem q1185 : (Jvm.Cond.fieldLink "RoundCheckModel" (319 : Nat) "RoundCheckModel" "termIndex" "[I") ∈ lw_all := lw_g (lw_at lw_m5 63 rfl) rfl
theorem q1186 : (Jvm.Cond.fieldLink "RoundCheckModel" (307 : Nat) "RoundCheckModel" "stamp" "I") ∈ lw_all := lw_g (lw_at lw_m5 64 rfl) rfl
theorem q1187 : (Jvm.Cond.fieldLink "RoundCheckModel" (344 : Nat) "RoundCheckModel" "terms" "[I") ∈ lw_all := lw_g (lw_at lw_m5 65 rfl) rfl
theorem q1188 : (Jvm.Cond.fieldLink "RoundCheckModel" (322 : Nat) "RoundCheckModel" "root" "[I") ∈ lw_all := lw_g (lw_at lw_m5 66 rfl) rfl
theorem q1189 : (Jvm.Cond.fieldLink "RoundCheckModel" (338 : Nat) "RoundCheckModel" "hand100" "I") ∈ lw_all := lw_g (lw_at lw_m5 67 rfl) rfl
theorem q1190 : (Jvm.Cond.fieldLink "RoundCheckModel" (420 : Nat) "RoundCheckModel" "firsts" "I") ∈ lw_all := lw_g (lw_at lw_m5 68 rfl) rfl
theorem q1191 : (Jvm.Cond.fieldLink "RoundCheckModel" (352 : Nat) "RoundCheckModel" "mTerm" "[I") ∈ lw_all := lw_g (lw_at lw_m5 69 rfl) rfl
theorem q1192 : (Jvm.Cond.fieldLink "RoundCheckModel" (349 : Nat) "RoundCheckModel" "mMode" "[I") ∈ lw_all := lw_g (lw_at lw_m5 70 rfl) rfl
theorem q1193 : (Jvm.Cond.fieldLink "RoundCheckModel" (355 : Nat) "RoundCheckModel" "mOf" "[I") ∈ lw_all := lw_g (lw_at lw_m5 71 rfl) rfl
theorem q1194 : (Jvm.Cond.fieldLink "RoundCheckModel" (346 : Nat) "RoundCheckModel" "mTop" "I") ∈ lw_all := lw_g (lw_at lw_m5 72 rfl) rfl
theorem q1195 : (Jvm.Cond.fieldLink "RoundCheckModel" (367 : Nat) "RoundCheckModel" "aTermOf" "[I") ∈ lw_all := lw_g (lw_at lw_m5 73 rfl) rfl
theorem q1196 : (Jvm.Cond.fieldLink "RoundCheckModel" (364 : Nat) "RoundCheckModel" "aAdj" "[I") ∈ lw_all := lw_g (lw_at lw_m5 74 rfl) rfl
theorem q1197 : (Jvm.Cond.fieldLink "RoundCheckModel" (361 : Nat) "RoundCheckModel" "aTop" "I") ∈ lw_all := lw_g (lw_at lw_m5 75 rfl) rfl
theorem q1198 : (Jvm.Cond.fieldLink "RoundCheckModel" (331 : Nat) "RoundCheckModel" "changed" "Z") ∈ lw_all := lw_g (lw_at lw_m5 76 rfl) rfl
theorem q1199 : (Jvm.Cond.fieldLink "RoundCheckModel" (376 : Nat) "RoundCheckModel" "knownSeen" "I") ∈ lw_all := lw_g (lw_at lw_m5 77 rfl) rfl
theorem q1200 : (Jvm.Cond.fieldLink "RoundCheckModel" (379 : Nat) "RoundCheckModel" "termSeen" "I") ∈ lw_all := lw_g (lw_at lw_m5 78 rfl) rfl
theorem q1201 : (Jvm.Cond.fieldLink "RoundCheckModel" (436 : Nat) "RoundCheckModel" "newTerm" "[I") ∈ lw_all := lw_g (lw_at lw_m5 79 rfl) rfl
theorem q1202 : (Jvm.Cond.fieldLink "RoundCheckModel" (423 : Nat) "RoundCheckModel" "news" "I") ∈ lw_all := lw_g (lw_at lw_m5 80 rfl) rfl
theorem q1203 : (Jvm.Cond.fieldLink "RoundCheckModel" (442 : Nat) "RoundCheckModel" "loses" "Z") ∈ lw_all := lw_g (lw_at lw_m5 81 rfl) rfl
theorem q1204 : (Jvm.Cond.fieldLink "RoundCheckModel" (445 : Nat) "RoundCheckModel" "meets" "Z") ∈ lw_all := lw_g (lw_at lw_m5 82 rfl) rfl
theorem q1205 : (Jvm.Cond.fieldLink "RoundCheckModel" (457 : Nat) "RoundCheckModel" "coming" "[I") ∈ lw_all := lw_g (lw_at lw_m5 83 rfl) rfl
theorem q1206 : (Jvm.Cond.fieldLink "RoundCheckModel" (451 : Nat) "RoundCheckModel" "comingMark" "[I") ∈ lw_all := lw_g (lw_at lw_m5 84 rfl) rfl
theorem q1207 : (Jvm.Cond.fieldLink "RoundCheckModel" (460 : Nat) "RoundCheckModel" "comings" "I") ∈ lw_all := lw_g (lw_at lw_m5 85 rfl) rfl
theorem q1208 : (Jvm.Cond.fieldLink "RoundCheckModel" (454 : Nat) "RoundCheckModel" "comingNow" "I") ∈ lw_all := lw_g (lw_at lw_m5 86 rfl) rfl
theorem q1209 : (Jvm.Cond.fieldLink "RoundCheckModel" (481 : Nat) "RoundCheckModel" "doneMark" "[I") ∈ lw_all := lw_g (lw_at lw_m5 87 rfl) rfl
theorem q1210 : (Jvm.Cond.fieldLink "RoundCheckModel" (518 : Nat) "RoundCheckModel" "forms" "[I") ∈ lw_all := lw_g (lw_at lw_m5 88 rfl) rfl
theorem q1211 : (Jvm.Cond.fieldLink "RoundCheckModel" (521 : Nat) "RoundCheckModel" "given" "I") ∈ lw_all := lw_g (lw_at lw_m5 89 rfl) rfl
theorem q1212 : (Jvm.Cond.fieldLink "RoundCheckModel" (286 : Nat) "RoundCheckModel" "premise" "[I") ∈ lw_all := lw_g (lw_at lw_m5 90 rfl) rfl
theorem q1213 : (Jvm.Cond.fieldLink "RoundCheckModel" (283 : Nat) "RoundCheckModel" "premises" "I") ∈ lw_all := lw_g (lw_at lw_m5 91 rfl) rfl
theorem q1214 : (Jvm.Cond.fieldLink "RoundCheckModel" (291 : Nat) "RoundCheckModel" "lastCases" "I") ∈ lw_all := lw_g (lw_at lw_m5 92 rfl) rfl
theorem q1215 : (Jvm.Cond.lays "RoundCheckModel" "RoundCheckModel" "thrown" "I") ∈ lw_all := lw_g (lw_at lw_m5 93 rfl) rfl
theorem q1216 : (Jvm.Cond.soleField "RoundCheckModel" "thrown") ∈ lw_all := lw_g (lw_at lw_m5 94 rfl) rfl
theorem q1217 : (Jvm.Cond.lays "RoundCheckModel" "RoundCheckModel" "kind" "[I") ∈ lw_all := lw_g (lw_at lw_m5 95 rfl) rfl
theorem q1218 : (Jvm.Cond.soleField "RoundCheckModel" "kind") ∈ lw_all := lw_g (lw_at lw_m5 96 rfl) rfl
theorem q1219 : (Jvm.Cond.lays "RoundCheckModel" "RoundCheckModel" "at" "[I") ∈ lw_all := lw_g (lw_at lw_m5 97 rfl) rfl
theorem q1220 : (Jvm.Cond.soleField "RoundCheckModel" "at") ∈ lw_all := lw_g (lw_at lw_m5 98 rfl) rfl
theorem q1221 : (Jvm.Cond.lays "RoundCheckModel" "RoundCheckModel" "len" "[I") ∈ lw_all := lw_g (lw_at lw_m5 99 rfl) rfl
theorem q1222 : (Jvm.Cond.soleField "RoundCheckModel" "len") ∈ lw_all := lw_g (lw_at lw_m5 100 rfl) rfl
theorem q1223 : (Jvm.Cond.lays "RoundCheckModel" "RoundCheckModel" "size" "[I") ∈ lw_all := lw_g (lw_at lw_m5 101 rfl) rfl
theorem q1224 : (Jvm.Cond.soleField "RoundCheckModel" "size") ∈ lw_all := lw_g (lw_at lw_m5 102 rfl) rfl
theorem q1225 : (Jvm.Cond.lays "RoundCheckModel" "RoundCheckModel" "loose" "[I") ∈ lw_all := lw_g (lw_at lw_m5 103 rfl) rfl
theorem q1226 : (Jvm.Cond.soleField "RoundCheckModel" "loose") ∈ lw_all := lw_g (lw_at lw_m5 104 rfl) rfl
theorem q1227 : (Jvm.Cond.lays "RoundCheckModel" "RoundCheckModel" "nextNode" "[I") ∈ lw_all := lw_g (lw_at lw_m5 105 rfl) rfl
theorem q1228 : (Jvm.Cond.soleField "RoundCheckModel" "nextNode") ∈ lw_all := lw_g (lw_at lw_m5 106 rfl) rfl
theorem q1229 : (Jvm.Cond.lays "RoundCheckModel" "RoundCheckModel" "hashOf" "[I") ∈ lw_all := lw_g (lw_at lw_m5 107 rfl) rfl
theorem q1230 : (Jvm.Cond.soleField "RoundCheckModel" "hashOf") ∈ lw_all := lw_g (lw_at lw_m5 108 rfl) rfl
theorem q1231 : (Jvm.Cond.lays "RoundCheckModel" "RoundCheckModel" "nodes" "I") ∈ lw_all := lw_g (lw_at lw_m5 109 rfl) rfl
theorem q1232 : (Jvm.Cond.soleField "RoundCheckModel" "nodes") ∈ lw_all := lw_g (lw_at lw_m5 110 rfl) rfl
theorem q1233 : (Jvm.Cond.lays "RoundCheckModel" "RoundCheckModel" "data" "[I") ∈ lw_all := lw_g (lw_at lw_m5 111 rfl) rfl
theorem q1234 : (Jvm.Cond.soleField "RoundCheckModel" "data") ∈ lw_all := lw_g (lw_at lw_m5 112 rfl) rfl
theorem q1235 : (Jvm.Cond.lays "RoundCheckModel" "RoundCheckModel" "dataTop" "I") ∈ lw_all := lw_g (lw_at lw_m5 113 rfl) rfl
theorem q1236 : (Jvm.Cond.soleField "RoundCheckModel" "dataTop") ∈ lw_all := lw_g (lw_at lw_m5 114 rfl) rfl
theorem q1237 : (Jvm.Cond.laysFinal "RoundCheckModel" "RoundCheckModel" "nodeHead" "[I") ∈ lw_all := lw_g (lw_at lw_m5 115 rfl) rfl
theorem q1238 : (Jvm.Cond.soleField "RoundCheckModel" "nodeHead") ∈ lw_all := lw_g (lw_at lw_m5 116 rfl) rfl
theorem q1239 : (Jvm.Cond.lays "RoundCheckModel" "RoundCheckModel" "hand" "[I") ∈ lw_all := lw_g (lw_at lw_m5 117 rfl) rfl
theorem q1240 : (Jvm.Cond.soleField "RoundCheckModel" "hand") ∈ lw_all := lw_g (lw_at lw_m5 118 rfl) rfl
theorem q1241 : (Jvm.Cond.lays "RoundCheckModel" "RoundCheckModel" "hands" "I") ∈ lw_all := lw_g (lw_at lw_m5 119 rfl) rfl
theorem q1242 : (Jvm.Cond.soleField "RoundCheckModel" "hands") ∈ lw_all := lw_g (lw_at lw_m5 120 rfl) rfl
theorem q1243 : (Jvm.Cond.lays "RoundCheckModel" "RoundCheckModel" "fromConst" "[I") ∈ lw_all := lw_g (lw_at lw_m5 121 rfl) rfl
theorem q1244 : (Jvm.Cond.soleField "RoundCheckModel" "fromConst") ∈ lw_all := lw_g (lw_at lw_m5 122 rfl) rfl
theorem q1245 : (Jvm.Cond.lays "RoundCheckModel" "RoundCheckModel" "toTerm" "[I") ∈ lw_all := lw_g (lw_at lw_m5 123 rfl) rfl
theorem q1246 : (Jvm.Cond.soleField "RoundCheckModel" "toTerm") ∈ lw_all := lw_g (lw_at lw_m5 124 rfl) rfl
theorem q1247 : (Jvm.Cond.lays "RoundCheckModel" "RoundCheckModel" "moves" "I") ∈ lw_all := lw_g (lw_at lw_m5 125 rfl) rfl
theorem q1248 : (Jvm.Cond.soleField "RoundCheckModel" "moves") ∈ lw_all := lw_g (lw_at lw_m5 126 rfl) rfl
theorem q1249 : (Jvm.Cond.lays "RoundCheckModel" "RoundCheckModel" "cName" "[I") ∈ lw_all := lw_g (lw_at lw_m5 127 rfl) rfl
theorem q1250 : (Jvm.Cond.soleField "RoundCheckModel" "cName") ∈ lw_all := lw_g (lw_at lw_m5 128 rfl) rfl
theorem q1251 : (Jvm.Cond.lays "RoundCheckModel" "RoundCheckModel" "cType" "[I") ∈ lw_all := lw_g (lw_at lw_m5 129 rfl) rfl
theorem q1252 : (Jvm.Cond.soleField "RoundCheckModel" "cType") ∈ lw_all := lw_g (lw_at lw_m5 130 rfl) rfl
theorem q1253 : (Jvm.Cond.lays "RoundCheckModel" "RoundCheckModel" "constants" "I") ∈ lw_all := lw_g (lw_at lw_m5 131 rfl) rfl
theorem q1254 : (Jvm.Cond.soleField "RoundCheckModel" "constants") ∈ lw_all := lw_g (lw_at lw_m5 132 rfl) rfl
theorem q1255 : (Jvm.Cond.laysFinal "RoundCheckModel" "RoundCheckModel" "funMany" "[I") ∈ lw_all := lw_g (lw_at lw_m5 133 rfl) rfl
theorem q1256 : (Jvm.Cond.soleField "RoundCheckModel" "funMany") ∈ lw_all := lw_g (lw_at lw_m5 134 rfl) rfl
theorem q1257 : (Jvm.Cond.laysFinal "RoundCheckModel" "RoundCheckModel" "funType" "[I") ∈ lw_all := lw_g (lw_at lw_m5 135 rfl) rfl
theorem q1258 : (Jvm.Cond.soleField "RoundCheckModel" "funType") ∈ lw_all := lw_g (lw_at lw_m5 136 rfl) rfl
theorem q1259 : (Jvm.Cond.lays "RoundCheckModel" "RoundCheckModel" "funs" "I") ∈ lw_all := lw_g (lw_at lw_m5 137 rfl) rfl
theorem q1260 : (Jvm.Cond.soleField "RoundCheckModel" "funs") ∈ lw_all := lw_g (lw_at lw_m5 138 rfl) rfl
theorem q1261 : (Jvm.Cond.laysFinal "RoundCheckModel" "RoundCheckModel" "predMany" "[I") ∈ lw_all := lw_g (lw_at lw_m5 139 rfl) rfl
theorem q1262 : (Jvm.Cond.soleField "RoundCheckModel" "predMany") ∈ lw_all := lw_g (lw_at lw_m5 140 rfl) rfl
theorem q1263 : (Jvm.Cond.lays "RoundCheckModel" "RoundCheckModel" "preds" "I") ∈ lw_all := lw_g (lw_at lw_m5 141 rfl) rfl
theorem q1264 : (Jvm.Cond.soleField "RoundCheckModel" "preds") ∈ lw_all := lw_g (lw_at lw_m5 142 rfl) rfl
theorem q1265 : (Jvm.Cond.laysFinal "RoundCheckModel" "RoundCheckModel" "modeParent" "[I") ∈ lw_all := lw_g (lw_at lw_m5 143 rfl) rfl
theorem q1266 : (Jvm.Cond.soleField "RoundCheckModel" "modeParent") ∈ lw_all := lw_g (lw_at lw_m5 144 rfl) rfl
theorem q1267 : (Jvm.Cond.laysFinal "RoundCheckModel" "RoundCheckModel" "modeIsOf" "[Z") ∈ lw_all := lw_g (lw_at lw_m5 145 rfl) rfl
theorem q1268 : (Jvm.Cond.soleField "RoundCheckModel" "modeIsOf") ∈ lw_all := lw_g (lw_at lw_m5 146 rfl) rfl
theorem q1269 : (Jvm.Cond.lays "RoundCheckModel" "RoundCheckModel" "modes" "I") ∈ lw_all := lw_g (lw_at lw_m5 147 rfl) rfl
theorem q1270 : (Jvm.Cond.soleField "RoundCheckModel" "modes") ∈ lw_all := lw_g (lw_at lw_m5 148 rfl) rfl
theorem q1271 : (Jvm.Cond.lays "RoundCheckModel" "RoundCheckModel" "attrs" "I") ∈ lw_all := lw_g (lw_at lw_m5 149 rfl) rfl
theorem q1272 : (Jvm.Cond.soleField "RoundCheckModel" "attrs") ∈ lw_all := lw_g (lw_at lw_m5 150 rfl) rfl
theorem q1273 : (Jvm.Cond.laysFinal "RoundCheckModel" "RoundCheckModel" "gKind" "[I") ∈ lw_all := lw_g (lw_at lw_m5 151 rfl) rfl
theorem q1274 : (Jvm.Cond.soleField "RoundCheckModel" "gKind") ∈ lw_all := lw_g (lw_at lw_m5 152 rfl) rfl
theorem q1275 : (Jvm.Cond.laysFinal "RoundCheckModel" "RoundCheckModel" "gType" "[I") ∈ lw_all := lw_g (lw_at lw_m5 153 rfl) rfl
theorem q1276 : (Jvm.Cond.soleField "RoundCheckModel" "gType") ∈ lw_all := lw_g (lw_at lw_m5 154 rfl) rfl
theorem q1277 : (Jvm.Cond.laysFinal "RoundCheckModel" "RoundCheckModel" "gOf" "[I") ∈ lw_all := lw_g (lw_at lw_m5 155 rfl) rfl
theorem q1278 : (Jvm.Cond.soleField "RoundCheckModel" "gOf") ∈ lw_all := lw_g (lw_at lw_m5 156 rfl) rfl
theorem q1279 : (Jvm.Cond.laysFinal "RoundCheckModel" "RoundCheckModel" "gFun" "[I") ∈ lw_all := lw_g (lw_at lw_m5 157 rfl) rfl
theorem q1280 : (Jvm.Cond.soleField "RoundCheckModel" "gFun") ∈ lw_all := lw_g (lw_at lw_m5 158 rfl) rfl
theorem q1281 : (Jvm.Cond.laysFinal "RoundCheckModel" "RoundCheckModel" "gA" "[I") ∈ lw_all := lw_g (lw_at lw_m5 159 rfl) rfl
theorem q1282 : (Jvm.Cond.soleField "RoundCheckModel" "gA") ∈ lw_all := lw_g (lw_at lw_m5 160 rfl) rfl
theorem q1283 : (Jvm.Cond.laysFinal "RoundCheckModel" "RoundCheckModel" "gB" "[I") ∈ lw_all := lw_g (lw_at lw_m5 161 rfl) rfl
theorem q1284 : (Jvm.Cond.soleField "RoundCheckModel" "gB") ∈ lw_all := lw_g (lw_at lw_m5 162 rfl) rfl
theorem q1285 : (Jvm.Cond.laysFinal "RoundCheckModel" "RoundCheckModel" "gSet" "[I") ∈ lw_all := lw_g (lw_at lw_m5 163 rfl) rfl
theorem q1286 : (Jvm.Cond.soleField "RoundCheckModel" "gSet") ∈ lw_all := lw_g (lw_at lw_m5 164 rfl) rfl
theorem q1287 : (Jvm.Cond.laysFinal "RoundCheckModel" "RoundCheckModel" "gTo" "[I") ∈ lw_all := lw_g (lw_at lw_m5 165 rfl) rfl
theorem q1288 : (Jvm.Cond.soleField "RoundCheckModel" "gTo") ∈ lw_all := lw_g (lw_at lw_m5 166 rfl) rfl
theorem q1289 : (Jvm.Cond.lays "RoundCheckModel" "RoundCheckModel" "regs" "I") ∈ lw_all := lw_g (lw_at lw_m5 167 rfl) rfl
theorem q1290 : (Jvm.Cond.soleField "RoundCheckModel" "regs") ∈ lw_all := lw_g (lw_at lw_m5 168 rfl) rfl
theorem q1291 : (Jvm.Cond.lays "RoundCheckModel" "RoundCheckModel" "memo" "[I") ∈ lw_all := lw_g (lw_at lw_m5 169 rfl) rfl
theorem q1292 : (Jvm.Cond.soleField "RoundCheckModel" "memo") ∈ lw_all := lw_g (lw_at lw_m5 170 rfl) rfl
theorem q1293 : (Jvm.Cond.lays "RoundCheckModel" "RoundCheckModel" "memoMark" "[I") ∈ lw_all := lw_g (lw_at lw_m5 171 rfl) rfl
theorem q1294 : (Jvm.Cond.soleField "RoundCheckModel" "memoMark") ∈ lw_all := lw_g (lw_at lw_m5 172 rfl) rfl
theorem q1295 : (Jvm.Cond.lays "RoundCheckModel" "RoundCheckModel" "memoNow" "I") ∈ lw_all := lw_g (lw_at lw_m5 173 rfl) rfl
theorem q1296 : (Jvm.Cond.soleField "RoundCheckModel" "memoNow") ∈ lw_all := lw_g (lw_at lw_m5 174 rfl) rfl
theorem q1297 : (Jvm.Cond.lays "RoundCheckModel" "RoundCheckModel" "wanted" "[I") ∈ lw_all := lw_g (lw_at lw_m5 175 rfl) rfl
theorem q1298 : (Jvm.Cond.soleField "RoundCheckModel" "wanted") ∈ lw_all := lw_g (lw_at lw_m5 176 rfl) rfl
theorem q1299 : (Jvm.Cond.lays "RoundCheckModel" "RoundCheckModel" "wants" "I") ∈ lw_all := lw_g (lw_at lw_m5 177 rfl) rfl
theorem q1300 : (Jvm.Cond.soleField "RoundCheckModel" "wants") ∈ lw_all := lw_g (lw_at lw_m5 178 rfl) rfl
theorem q1301 : (Jvm.Cond.lays "RoundCheckModel" "RoundCheckModel" "qKind" "[I") ∈ lw_all := lw_g (lw_at lw_m5 179 rfl) rfl
theorem q1302 : (Jvm.Cond.soleField "RoundCheckModel" "qKind") ∈ lw_all := lw_g (lw_at lw_m5 180 rfl) rfl
theorem q1303 : (Jvm.Cond.lays "RoundCheckModel" "RoundCheckModel" "qFirst" "[I") ∈ lw_all := lw_g (lw_at lw_m5 181 rfl) rfl
theorem q1304 : (Jvm.Cond.soleField "RoundCheckModel" "qFirst") ∈ lw_all := lw_g (lw_at lw_m5 182 rfl) rfl
theorem q1305 : (Jvm.Cond.lays "RoundCheckModel" "RoundCheckModel" "qNext" "[I") ∈ lw_all := lw_g (lw_at lw_m5 183 rfl) rfl
theorem q1306 : (Jvm.Cond.soleField "RoundCheckModel" "qNext") ∈ lw_all := lw_g (lw_at lw_m5 184 rfl) rfl
theorem q1307 : (Jvm.Cond.lays "RoundCheckModel" "RoundCheckModel" "qLeaf" "[I") ∈ lw_all := lw_g (lw_at lw_m5 185 rfl) rfl
theorem q1308 : (Jvm.Cond.soleField "RoundCheckModel" "qLeaf") ∈ lw_all := lw_g (lw_at lw_m5 186 rfl) rfl
theorem q1309 : (Jvm.Cond.lays "RoundCheckModel" "RoundCheckModel" "qCases" "[J") ∈ lw_all := lw_g (lw_at lw_m5 187 rfl) rfl
theorem q1310 : (Jvm.Cond.soleField "RoundCheckModel" "qCases") ∈ lw_all := lw_g (lw_at lw_m5 188 rfl) rfl
theorem q1311 : (Jvm.Cond.lays "RoundCheckModel" "RoundCheckModel" "qs" "I") ∈ lw_all := lw_g (lw_at lw_m5 189 rfl) rfl
theorem q1312 : (Jvm.Cond.soleField "RoundCheckModel" "qs") ∈ lw_all := lw_g (lw_at lw_m5 190 rfl) rfl
theorem q1313 : (Jvm.Cond.lays "RoundCheckModel" "RoundCheckModel" "known" "[I") ∈ lw_all := lw_g (lw_at lw_m5 191 rfl) rfl
theorem q1314 : (Jvm.Cond.soleField "RoundCheckModel" "known") ∈ lw_all := lw_g (lw_at lw_m5 192 rfl) rfl
theorem q1315 : (Jvm.Cond.lays "RoundCheckModel" "RoundCheckModel" "knowns" "I") ∈ lw_all := lw_g (lw_at lw_m5 193 rfl) rfl
theorem q1316 : (Jvm.Cond.soleField "RoundCheckModel" "knowns") ∈ lw_all := lw_g (lw_at lw_m5 194 rfl) rfl
theorem q1317 : (Jvm.Cond.lays "RoundCheckModel" "RoundCheckModel" "knownMark" "[I") ∈ lw_all := lw_g (lw_at lw_m5 195 rfl) rfl
theorem q1318 : (Jvm.Cond.soleField "RoundCheckModel" "knownMark") ∈ lw_all := lw_g (lw_at lw_m5 196 rfl) rfl
theorem q1319 : (Jvm.Cond.lays "RoundCheckModel" "RoundCheckModel" "termMark" "[I") ∈ lw_all := lw_g (lw_at lw_m5 197 rfl) rfl
theorem q1320 : (Jvm.Cond.soleField "RoundCheckModel" "termMark") ∈ lw_all := lw_g (lw_at lw_m5 198 rfl) rfl
theorem q1321 : (Jvm.Cond.lays "RoundCheckModel" "RoundCheckModel" "termIndex" "[I") ∈ lw_all := lw_g (lw_at lw_m5 199 rfl) rfl
theorem q1322 : (Jvm.Cond.soleField "RoundCheckModel" "termIndex") ∈ lw_all := lw_g (lw_at lw_m5 200 rfl) rfl
theorem q1323 : (Jvm.Cond.lays "RoundCheckModel" "RoundCheckModel" "stamp" "I") ∈ lw_all := lw_g (lw_at lw_m5 201 rfl) rfl
theorem q1324 : (Jvm.Cond.soleField "RoundCheckModel" "stamp") ∈ lw_all := lw_g (lw_at lw_m5 202 rfl) rfl
theorem q1325 : (Jvm.Cond.lays "RoundCheckModel" "RoundCheckModel" "terms" "[I") ∈ lw_all := lw_g (lw_at lw_m5 203 rfl) rfl
theorem q1326 : (Jvm.Cond.soleField "RoundCheckModel" "terms") ∈ lw_all := lw_g (lw_at lw_m5 204 rfl) rfl
theorem q1327 : (Jvm.Cond.lays "RoundCheckModel" "RoundCheckModel" "root" "[I") ∈ lw_all := lw_g (lw_at lw_m5 205 rfl) rfl
theorem q1328 : (Jvm.Cond.soleField "RoundCheckModel" "root") ∈ lw_all := lw_g (lw_at lw_m5 206 rfl) rfl
theorem q1329 : (Jvm.Cond.lays "RoundCheckModel" "RoundCheckModel" "hand100" "I") ∈ lw_all := lw_g (lw_at lw_m5 207 rfl) rfl
theorem q1330 : (Jvm.Cond.soleField "RoundCheckModel" "hand100") ∈ lw_all := lw_g (lw_at lw_m5 208 rfl) rfl
theorem q1331 : (Jvm.Cond.lays "RoundCheckModel" "RoundCheckModel" "firsts" "I") ∈ lw_all := lw_g (lw_at lw_m5 209 rfl) rfl
theorem q1332 : (Jvm.Cond.soleField "RoundCheckModel" "firsts") ∈ lw_all := lw_g (lw_at lw_m5 210 rfl) rfl
theorem q1333 : (Jvm.Cond.lays "RoundCheckModel" "RoundCheckModel" "mTerm" "[I") ∈ lw_all := lw_g (lw_at lw_m5 211 rfl) rfl
theorem q1334 : (Jvm.Cond.soleField "RoundCheckModel" "mTerm") ∈ lw_all := lw_g (lw_at lw_m5 212 rfl) rfl
theorem q1335 : (Jvm.Cond.lays "RoundCheckModel" "RoundCheckModel" "mMode" "[I") ∈ lw_all := lw_g (lw_at lw_m5 213 rfl) rfl
theorem q1336 : (Jvm.Cond.soleField "RoundCheckModel" "mMode") ∈ lw_all := lw_g (lw_at lw_m5 214 rfl) rfl
theorem q1337 : (Jvm.Cond.lays "RoundCheckModel" "RoundCheckModel" "mOf" "[I") ∈ lw_all := lw_g (lw_at lw_m5 215 rfl) rfl
theorem q1338 : (Jvm.Cond.soleField "RoundCheckModel" "mOf") ∈ lw_all := lw_g (lw_at lw_m5 216 rfl) rfl
theorem q1339 : (Jvm.Cond.lays "RoundCheckModel" "RoundCheckModel" "mTop" "I") ∈ lw_all := lw_g (lw_at lw_m5 217 rfl) rfl
theorem q1340 : (Jvm.Cond.soleField "RoundCheckModel" "mTop") ∈ lw_all := lw_g (lw_at lw_m5 218 rfl) rfl
theorem q1341 : (Jvm.Cond.lays "RoundCheckModel" "RoundCheckModel" "aTermOf" "[I") ∈ lw_all := lw_g (lw_at lw_m5 219 rfl) rfl
theorem q1342 : (Jvm.Cond.soleField "RoundCheckModel" "aTermOf") ∈ lw_all := lw_g (lw_at lw_m5 220 rfl) rfl
theorem q1343 : (Jvm.Cond.lays "RoundCheckModel" "RoundCheckModel" "aAdj" "[I") ∈ lw_all := lw_g (lw_at lw_m5 221 rfl) rfl
theorem q1344 : (Jvm.Cond.soleField "RoundCheckModel" "aAdj") ∈ lw_all := lw_g (lw_at lw_m5 222 rfl) rfl
theorem q1345 : (Jvm.Cond.lays "RoundCheckModel" "RoundCheckModel" "aTop" "I") ∈ lw_all := lw_g (lw_at lw_m5 223 rfl) rfl
theorem q1346 : (Jvm.Cond.soleField "RoundCheckModel" "aTop") ∈ lw_all := lw_g (lw_at lw_m5 224 rfl) rfl
theorem q1347 : (Jvm.Cond.lays "RoundCheckModel" "RoundCheckModel" "changed" "Z") ∈ lw_all := lw_g (lw_at lw_m5 225 rfl) rfl
theorem q1348 : (Jvm.Cond.soleField "RoundCheckModel" "changed") ∈ lw_all := lw_g (lw_at lw_m5 226 rfl) rfl
theorem q1349 : (Jvm.Cond.lays "RoundCheckModel" "RoundCheckModel" "knownSeen" "I") ∈ lw_all := lw_g (lw_at lw_m5 227 rfl) rfl
theorem q1350 : (Jvm.Cond.soleField "RoundCheckModel" "knownSeen") ∈ lw_all := lw_g (lw_at lw_m5 228 rfl) rfl
theorem q1351 : (Jvm.Cond.lays "RoundCheckModel" "RoundCheckModel" "termSeen" "I") ∈ lw_all := lw_g (lw_at lw_m5 229 rfl) rfl
theorem q1352 : (Jvm.Cond.soleField "RoundCheckModel" "termSeen") ∈ lw_all := lw_g (lw_at lw_m5 230 rfl) rfl
theorem q1353 : (Jvm.Cond.lays "RoundCheckModel" "RoundCheckModel" "newTerm" "[I") ∈ lw_all := lw_g (lw_at lw_m5 231 rfl) rfl
theorem q1354 : (Jvm.Cond.soleField "RoundCheckModel" "newTerm") ∈ lw_all := lw_g (lw_at lw_m5 232 rfl) rfl
theorem q1355 : (Jvm.Cond.lays "RoundCheckModel" "RoundCheckModel" "news" "I") ∈ lw_all := lw_g (lw_at lw_m5 233 rfl) rfl
theorem q1356 : (Jvm.Cond.soleField "RoundCheckModel" "news") ∈ lw_all := lw_g (lw_at lw_m5 234 rfl) rfl
theorem q1357 : (Jvm.Cond.lays "RoundCheckModel" "RoundCheckModel" "loses" "Z") ∈ lw_all := lw_g (lw_at lw_m5 235 rfl) rfl
theorem q1358 : (Jvm.Cond.soleField "RoundCheckModel" "loses") ∈ lw_all := lw_g (lw_at lw_m5 236 rfl) rfl
theorem q1359 : (Jvm.Cond.lays "RoundCheckModel" "RoundCheckModel" "meets" "Z") ∈ lw_all := lw_g (lw_at lw_m5 237 rfl) rfl
theorem q1360 : (Jvm.Cond.soleField "RoundCheckModel" "meets") ∈ lw_all := lw_g (lw_at lw_m5 238 rfl) rfl
theorem q1361 : (Jvm.Cond.lays "RoundCheckModel" "RoundCheckModel" "coming" "[I") ∈ lw_all := lw_g (lw_at lw_m5 239 rfl) rfl
theorem q1362 : (Jvm.Cond.soleField "RoundCheckModel" "coming") ∈ lw_all := lw_g (lw_at lw_m6 0 rfl) rfl
theorem q1363 : (Jvm.Cond.lays "RoundCheckModel" "RoundCheckModel" "comingMark" "[I") ∈ lw_all := lw_g (lw_at lw_m6 1 rfl) rfl
theorem q1364 : (Jvm.Cond.soleField "RoundCheckModel" "comingMark") ∈ lw_all := lw_g (lw_at lw_m6 2 rfl) rfl
theorem q1365 : (Jvm.Cond.lays "RoundCheckModel" "RoundCheckModel" "comings" "I") ∈ lw_all := lw_g (lw_at lw_m6 3 rfl) rfl
theorem q1366 : (Jvm.Cond.soleField "RoundCheckModel" "comings") ∈ lw_all := lw_g (lw_at lw_m6 4 rfl) rfl
theorem q1367 : (Jvm.Cond.lays "RoundCheckModel" "RoundCheckModel" "comingNow" "I") ∈ lw_all := lw_g (lw_at lw_m6 5 rfl) rfl
theorem q1368 : (Jvm.Cond.soleField "RoundCheckModel" "comingNow") ∈ lw_all := lw_g (lw_at lw_m6 6 rfl) rfl
theorem q1369 : (Jvm.Cond.lays "RoundCheckModel" "RoundCheckModel" "doneMark" "[I") ∈ lw_all := lw_g (lw_at lw_m6 7 rfl) rfl
theorem q1370 : (Jvm.Cond.soleField "RoundCheckModel" "doneMark") ∈ lw_all := lw_g (lw_at lw_m6 8 rfl) rfl
theorem q1371 : (Jvm.Cond.laysFinal "RoundCheckModel" "RoundCheckModel" "forms" "[I") ∈ lw_all := lw_g (lw_at lw_m6 9 rfl) rfl
theorem q1372 : (Jvm.Cond.soleField "RoundCheckModel" "forms") ∈ lw_all := lw_g (lw_at lw_m6 10 rfl) rfl
theorem q1373 : (Jvm.Cond.lays "RoundCheckModel" "RoundCheckModel" "given" "I") ∈ lw_all := lw_g (lw_at lw_m6 11 rfl) rfl
theorem q1374 : (Jvm.Cond.soleField "RoundCheckModel" "given") ∈ lw_all := lw_g (lw_at lw_m6 12 rfl) rfl
theorem q1375 : (Jvm.Cond.laysFinal "RoundCheckModel" "RoundCheckModel" "premise" "[I") ∈ lw_all := lw_g (lw_at lw_m6 13 rfl) rfl
theorem q1376 : (Jvm.Cond.soleField "RoundCheckModel" "premise") ∈ lw_all := lw_g (lw_at lw_m6 14 rfl) rfl
theorem q1377 : (Jvm.Cond.lays "RoundCheckModel" "RoundCheckModel" "premises" "I") ∈ lw_all := lw_g (lw_at lw_m6 15 rfl) rfl
theorem q1378 : (Jvm.Cond.soleField "RoundCheckModel" "premises") ∈ lw_all := lw_g (lw_at lw_m6 16 rfl) rfl
theorem q1379 : (Jvm.Cond.lays "RoundCheckModel" "RoundCheckModel" "lastCases" "I") ∈ lw_all := lw_g (lw_at lw_m6 17 rfl) rfl
theorem q1380 : (Jvm.Cond.soleField "RoundCheckModel" "lastCases") ∈ lw_all := lw_g (lw_at lw_m6 18 rfl) rfl
theorem q1381 : (Jvm.Cond.superclass "RoundCheckModel" "java/lang/Object") ∈ lw_all := lw_g (lw_at lw_m6 19 rfl) rfl
theorem q1384 : (Jvm.Cond.instanceMethod ({ cls := "RoundCheckModel", name := "mode", desc := "(IZ)I" } : Jvm.MethodName)) ∈ lw_all := lw_g (lw_at lw_m6 22 rfl) rfl
theorem q1385 : (Jvm.Cond.selects "RoundCheckModel" ({ cls := "RoundCheckModel", name := "mode", desc := "(IZ)I" } : Jvm.MethodName) ({ cls := "RoundCheckModel", name := "mode", desc := "(IZ)I" } : Jvm.MethodName)) ∈ lw_all := lw_g (lw_at lw_m6 23 rfl) rfl
theorem q1386 : (Jvm.Cond.code ({ cls := "RoundCheckModel", name := "mode", desc := "(IZ)I" } : Jvm.MethodName) prog_4_method_95_code (4 : Nat) (Option.some Jvm.ClassFile.FieldType.int)) ∈ lw_all := lw_g (lw_at lw_m6 24 rfl) rfl
theorem q1387 : (Jvm.Cond.methodLink "RoundCheckModel" (527 : Nat) ({ cls := "RoundCheckModel", name := "form", desc := "(II)I" } : Jvm.MethodName)) ∈ lw_all := lw_g (lw_at lw_m6 25 rfl) rfl
theorem q1388 : (Jvm.Cond.privateMethod ({ cls := "RoundCheckModel", name := "form", desc := "(II)I" } : Jvm.MethodName)) ∈ lw_tbl := lw_at lw_m6 26 rfl
theorem q1389 : (Jvm.Cond.instanceMethod ({ cls := "RoundCheckModel", name := "form", desc := "(II)I" } : Jvm.MethodName)) ∈ lw_all := lw_g (lw_at lw_m6 27 rfl) rfl
theorem q1390 : (Jvm.Cond.code ({ cls := "RoundCheckModel", name := "form", desc := "(II)I" } : Jvm.MethodName) prog_4_method_89_code (3 : Nat) (Option.some Jvm.ClassFile.FieldType.int)) ∈ lw_all := lw_g (lw_at lw_m6 28 rfl) rfl
theorem q1391 : (Jvm.Cond.methodLink "RoundCheckModel" (524 : Nat) ({ cls := "RoundCheckModel", name := "sortOf", desc := "(I)I" } : Jvm.MethodName)) ∈ lw_all := lw_g (lw_at lw_m6 29 rfl) rfl
theorem q1392 : (Jvm.Cond.privateMethod ({ cls := "RoundCheckModel", name := "sortOf", desc := "(I)I" } : Jvm.MethodName)) ∈ lw_tbl := lw_at lw_m6 30 rfl
theorem q1393 : (Jvm.Cond.instanceMethod ({ cls := "RoundCheckModel", name := "sortOf", desc := "(I)I" } : Jvm.MethodName)) ∈ lw_all := lw_g (lw_at lw_m6 31 rfl) rfl
theorem q1394 : (Jvm.Cond.code ({ cls := "RoundCheckModel", name := "sortOf", desc := "(I)I" } : Jvm.MethodName) prog_4_method_88_code (2 : Nat) (Option.some Jvm.ClassFile.FieldType.int)) ∈ lw_all := lw_g (lw_at lw_m6 32 rfl) rfl
theorem q1395 : (Jvm.Cond.methodLink "RoundCheckModel" (539 : Nat) ({ cls := "RoundCheckModel", name := "isBelow", desc := "(II)Z" } : Jvm.MethodName)) ∈ lw_all := lw_g (lw_at lw_m6 33 rfl) rfl
theorem q1396 : (Jvm.Cond.privateMethod ({ cls := "RoundCheckModel", name := "isBelow", desc := "(II)Z" } : Jvm.MethodName)) ∈ lw_tbl := lw_at lw_m6 34 rfl
theorem q1397 : (Jvm.Cond.instanceMethod ({ cls := "RoundCheckModel", name := "isBelow", desc := "(II)Z" } : Jvm.MethodName)) ∈ lw_all := lw_g (lw_at lw_m6 35 rfl) rfl
theorem q1398 : (Jvm.Cond.code ({ cls := "RoundCheckModel", name := "isBelow", desc := "(II)Z" } : Jvm.MethodName) prog_4_method_93_code (3 : Nat) (Option.some Jvm.ClassFile.FieldType.boolean)) ∈ lw_all := lw_g (lw_at lw_m6 36 rfl) rfl
theorem q1399 : (Jvm.Cond.methodLink "RoundCheckModel" (136 : Nat) ({ cls := "RoundCheckModel", name := "mentions", desc := "(II)Z" } : Jvm.MethodName)) ∈ lw_all := lw_g (lw_at lw_m6 37 rfl) rfl
theorem q1400 : (Jvm.Cond.privateMethod ({ cls := "RoundCheckModel", name := "mentions", desc := "(II)Z" } : Jvm.MethodName)) ∈ lw_tbl := lw_at lw_m6 38 rfl
theorem q1401 : (Jvm.Cond.instanceMethod ({ cls := "RoundCheckModel", name := "mentions", desc := "(II)Z" } : Jvm.MethodName)) ∈ lw_all := lw_g (lw_at lw_m6 39 rfl) rfl
theorem q1402 : (Jvm.Cond.code ({ cls := "RoundCheckModel", name := "mentions", desc := "(II)Z" } : Jvm.MethodName) prog_4_method_29_code (4 : Nat) (Option.some Jvm.ClassFile.FieldType.boolean)) ∈ lw_all := lw_g (lw_at lw_m6 40 rfl) rfl
theorem q1403 : (Jvm.Cond.methodLink "RoundCheckModel" (109 : Nat) ({ cls := "RoundCheckModel", name := "isPart", desc := "(II)Z" } : Jvm.MethodName)) ∈ lw_all := lw_g (lw_at lw_m6 41 rfl) rfl
theorem q1404 : (Jvm.Cond.privateMethod ({ cls := "RoundCheckModel", name := "isPart", desc := "(II)Z" } : Jvm.MethodName)) ∈ lw_tbl := lw_at lw_m6 42 rfl
theorem q1405 : (Jvm.Cond.instanceMethod ({ cls := "RoundCheckModel", name := "isPart", desc := "(II)Z" } : Jvm.MethodName)) ∈ lw_all := lw_g (lw_at lw_m6 43 rfl) rfl
theorem q1406 : (Jvm.Cond.code ({ cls := "RoundCheckModel", name := "isPart", desc := "(II)Z" } : Jvm.MethodName) prog_4_method_23_code (4 : Nat) (Option.some Jvm.ClassFile.FieldType.boolean)) ∈ lw_all := lw_g (lw_at lw_m6 44 rfl) rfl
theorem q1407 : (Jvm.Cond.methodLink "RoundCheckModel" (533 : Nat) ({ cls := "RoundCheckModel", name := "fails", desc := "(I)I" } : Jvm.MethodName)) ∈ lw_all := lw_g (lw_at lw_m6 45 rfl) rfl
theorem q1408 : (Jvm.Cond.privateMethod ({ cls := "RoundCheckModel", name := "fails", desc := "(I)I" } : Jvm.MethodName)) ∈ lw_tbl := lw_at lw_m6 46 rfl
theorem q1409 : (Jvm.Cond.instanceMethod ({ cls := "RoundCheckModel", name := "fails", desc := "(I)I" } : Jvm.MethodName)) ∈ lw_all := lw_g (lw_at lw_m6 47 rfl) rfl
theorem q1410 : (Jvm.Cond.code ({ cls := "RoundCheckModel", name := "fails", desc := "(I)I" } : Jvm.MethodName) prog_4_method_87_code (2 : Nat) (Option.some Jvm.ClassFile.FieldType.int)) ∈ lw_all := lw_g (lw_at lw_m6 48 rfl) rfl
theorem q1412 : (Jvm.Cond.instanceMethod ({ cls := "RoundCheckModel", name := "attribute", desc := "()I" } : Jvm.MethodName)) ∈ lw_all := lw_g (lw_at lw_m6 50 rfl) rfl
theorem q1413 : (Jvm.Cond.selects "RoundCheckModel" ({ cls := "RoundCheckModel", name := "attribute", desc := "()I" } : Jvm.MethodName) ({ cls := "RoundCheckModel", name := "attribute", desc := "()I" } : Jvm.MethodName)) ∈ lw_all := lw_g (lw_at lw_m6 51 rfl) rfl
theorem q1414 : (Jvm.Cond.code ({ cls := "RoundCheckModel", name := "attribute", desc := "()I" } : Jvm.MethodName) prog_4_method_96_code (1 : Nat) (Option.some Jvm.ClassFile.FieldType.int)) ∈ lw_all := lw_g (lw_at lw_m6 52 rfl) rfl
theorem q1416 : (Jvm.Cond.instanceMethod ({ cls := "RoundCheckModel", name := "functor", desc := "(II)I" } : Jvm.MethodName)) ∈ lw_all := lw_g (lw_at lw_m6 54 rfl) rfl
theorem q1417 : (Jvm.Cond.selects "RoundCheckModel" ({ cls := "RoundCheckModel", name := "functor", desc := "(II)I" } : Jvm.MethodName) ({ cls := "RoundCheckModel", name := "functor", desc := "(II)I" } : Jvm.MethodName)) ∈ lw_all := lw_g (lw_at lw_m6 55 rfl) rfl
theorem q1418 : (Jvm.Cond.code ({ cls := "RoundCheckModel", name := "functor", desc := "(II)I" } : Jvm.MethodName) prog_4_method_97_code (4 : Nat) (Option.some Jvm.ClassFile.FieldType.int)) ∈ lw_all := lw_g (lw_at lw_m6 56 rfl) rfl
theorem q1420 : (Jvm.Cond.instanceMethod ({ cls := "RoundCheckModel", name := "predicate", desc := "(I)I" } : Jvm.MethodName)) ∈ lw_all := lw_g (lw_at lw_m6 58 rfl) rfl
theorem q1421 : (Jvm.Cond.selects "RoundCheckModel" ({ cls := "RoundCheckModel", name := "predicate", desc := "(I)I" } : Jvm.MethodName) ({ cls := "RoundCheckModel", name := "predicate", desc := "(I)I" } : Jvm.MethodName)) ∈ lw_all := lw_g (lw_at lw_m6 59 rfl) rfl
theorem q1422 : (Jvm.Cond.code ({ cls := "RoundCheckModel", name := "predicate", desc := "(I)I" } : Jvm.MethodName) prog_4_method_98_code (2 : Nat) (Option.some Jvm.ClassFile.FieldType.int)) ∈ lw_all := lw_g (lw_at lw_m6 60 rfl) rfl
theorem q1424 : (Jvm.Cond.instanceMethod ({ cls := "RoundCheckModel", name := "type", desc := "(III)I" } : Jvm.MethodName)) ∈ lw_all := lw_g (lw_at lw_m6 62 rfl) rfl
theorem q1425 : (Jvm.Cond.selects "RoundCheckModel" ({ cls := "RoundCheckModel", name := "type", desc := "(III)I" } : Jvm.MethodName) ({ cls := "RoundCheckModel", name := "type", desc := "(III)I" } : Jvm.MethodName)) ∈ lw_all := lw_g (lw_at lw_m6 63 rfl) rfl
theorem q1426 : (Jvm.Cond.code ({ cls := "RoundCheckModel", name := "type", desc := "(III)I" } : Jvm.MethodName) prog_4_method_99_code (7 : Nat) (Option.some Jvm.ClassFile.FieldType.int)) ∈ lw_all := lw_g (lw_at lw_m6 64 rfl) rfl
theorem q1427 : (Jvm.Cond.methodLink "RoundCheckModel" (548 : Nat) ({ cls := "RoundCheckModel", name := "isSet", desc := "(I)Z" } : Jvm.MethodName)) ∈ lw_all := lw_g (lw_at lw_m6 65 rfl) rfl
theorem q1428 : (Jvm.Cond.privateMethod ({ cls := "RoundCheckModel", name := "isSet", desc := "(I)Z" } : Jvm.MethodName)) ∈ lw_tbl := lw_at lw_m6 66 rfl
theorem q1429 : (Jvm.Cond.instanceMethod ({ cls := "RoundCheckModel", name := "isSet", desc := "(I)Z" } : Jvm.MethodName)) ∈ lw_all := lw_g (lw_at lw_m6 67 rfl) rfl
theorem q1430 : (Jvm.Cond.code ({ cls := "RoundCheckModel", name := "isSet", desc := "(I)Z" } : Jvm.MethodName) prog_4_method_94_code (2 : Nat) (Option.some Jvm.ClassFile.FieldType.boolean)) ∈ lw_all := lw_g (lw_at lw_m6 68 rfl) rfl
theorem q1431 : (Jvm.Cond.methodLink "RoundCheckModel" (551 : Nat) ({ cls := "RoundCheckModel", name := "gives", desc := "(I)I" } : Jvm.MethodName)) ∈ lw_all := lw_g (lw_at lw_m6 69 rfl) rfl
theorem q1432 : (Jvm.Cond.privateMethod ({ cls := "RoundCheckModel", name := "gives", desc := "(I)I" } : Jvm.MethodName)) ∈ lw_tbl := lw_at lw_m6 70 rfl
theorem q1433 : (Jvm.Cond.instanceMethod ({ cls := "RoundCheckModel", name := "gives", desc := "(I)I" } : Jvm.MethodName)) ∈ lw_all := lw_g (lw_at lw_m6 71 rfl) rfl
theorem q1434 : (Jvm.Cond.code ({ cls := "RoundCheckModel", name := "gives", desc := "(I)I" } : Jvm.MethodName) prog_4_method_92_code (2 : Nat) (Option.some Jvm.ClassFile.FieldType.int)) ∈ lw_all := lw_g (lw_at lw_m6 72 rfl) rfl
theorem q1436 : (Jvm.Cond.instanceMethod ({ cls := "RoundCheckModel", name := "constant", desc := "(I)I" } : Jvm.MethodName)) ∈ lw_all := lw_g (lw_at lw_m6 74 rfl) rfl
theorem q1437 : (Jvm.Cond.selects "RoundCheckModel" ({ cls := "RoundCheckModel", name := "constant", desc := "(I)I" } : Jvm.MethodName) ({ cls := "RoundCheckModel", name := "constant", desc := "(I)I" } : Jvm.MethodName)) ∈ lw_all := lw_g (lw_at lw_m6 75 rfl) rfl
theorem q1438 : (Jvm.Cond.code ({ cls := "RoundCheckModel", name := "constant", desc := "(I)I" } : Jvm.MethodName) prog_4_method_100_code (3 : Nat) (Option.some Jvm.ClassFile.FieldType.int)) ∈ lw_all := lw_g (lw_at lw_m6 76 rfl) rfl
theorem q1439 : (Jvm.Cond.methodLink "RoundCheckModel" (554 : Nat) ({ cls := "RoundCheckModel", name := "closed", desc := "(II)I" } : Jvm.MethodName)) ∈ lw_all := lw_g (lw_at lw_m6 77 rfl) rfl
theorem q1440 : (Jvm.Cond.privateMethod ({ cls := "RoundCheckModel", name := "closed", desc := "(II)I" } : Jvm.MethodName)) ∈ lw_tbl := lw_at lw_m6 78 rfl
theorem q1441 : (Jvm.Cond.instanceMethod ({ cls := "RoundCheckModel", name := "closed", desc := "(II)I" } : Jvm.MethodName)) ∈ lw_all := lw_g (lw_at lw_m6 79 rfl) rfl
theorem q1442 : (Jvm.Cond.code ({ cls := "RoundCheckModel", name := "closed", desc := "(II)I" } : Jvm.MethodName) prog_4_method_91_code (4 : Nat) (Option.some Jvm.ClassFile.FieldType.int)) ∈ lw_all := lw_g (lw_at lw_m6 80 rfl) rfl
theorem q1443 : (Jvm.Cond.methodLink "RoundCheckModel" (530 : Nat) ({ cls := "RoundCheckModel", name := "isClosed", desc := "(I)Z" } : Jvm.MethodName)) ∈ lw_all := lw_g (lw_at lw_m6 81 rfl) rfl
theorem q1444 : (Jvm.Cond.privateMethod ({ cls := "RoundCheckModel", name := "isClosed", desc := "(I)Z" } : Jvm.MethodName)) ∈ lw_tbl := lw_at lw_m6 82 rfl
theorem q1445 : (Jvm.Cond.instanceMethod ({ cls := "RoundCheckModel", name := "isClosed", desc := "(I)Z" } : Jvm.MethodName)) ∈ lw_all := lw_g (lw_at lw_m6 83 rfl) rfl
theorem q1446 : (Jvm.Cond.code ({ cls := "RoundCheckModel", name := "isClosed", desc := "(I)Z" } : Jvm.MethodName) prog_4_method_90_code (2 : Nat) (Option.some Jvm.ClassFile.FieldType.boolean)) ∈ lw_all := lw_g (lw_at lw_m6 84 rfl) rfl
theorem q1447 : (Jvm.Cond.methodLink "RoundCheckModel" (78 : Nat) ({ cls := "RoundCheckModel", name := "leaf", desc := "(II)I" } : Jvm.MethodName)) ∈ lw_all := lw_g (lw_at lw_m6 85 rfl) rfl
theorem q1448 : (Jvm.Cond.privateMethod ({ cls := "RoundCheckModel", name := "leaf", desc := "(II)I" } : Jvm.MethodName)) ∈ lw_tbl := lw_at lw_m6 86 rfl
theorem q1449 : (Jvm.Cond.instanceMethod ({ cls := "RoundCheckModel", name := "leaf", desc := "(II)I" } : Jvm.MethodName)) ∈ lw_all := lw_g (lw_at lw_m6 87 rfl) rfl
theorem q1450 : (Jvm.Cond.code ({ cls := "RoundCheckModel", name := "leaf", desc := "(II)I" } : Jvm.MethodName) prog_4_method_9_code (4 : Nat) (Option.some Jvm.ClassFile.FieldType.int)) ∈ lw_all := lw_g (lw_at lw_m6 88 rfl) rfl
theorem q1452 : (Jvm.Cond.instanceMethod ({ cls := "RoundCheckModel", name := "locus", desc := "(I)I" } : Jvm.MethodName)) ∈ lw_all := lw_g (lw_at lw_m6 90 rfl) rfl
theorem q1453 : (Jvm.Cond.selects "RoundCheckModel" ({ cls := "RoundCheckModel", name := "locus", desc := "(I)I" } : Jvm.MethodName) ({ cls := "RoundCheckModel", name := "locus", desc := "(I)I" } : Jvm.MethodName)) ∈ lw_all := lw_g (lw_at lw_m6 91 rfl) rfl
theorem q1454 : (Jvm.Cond.code ({ cls := "RoundCheckModel", name := "locus", desc := "(I)I" } : Jvm.MethodName) prog_4_method_101_code (2 : Nat) (Option.some Jvm.ClassFile.FieldType.int)) ∈ lw_all := lw_g (lw_at lw_m6 92 rfl) rfl
theorem q1456 : (Jvm.Cond.instanceMethod ({ cls := "RoundCheckModel", name := "apply", desc := "(III)I" } : Jvm.MethodName)) ∈ lw_all := lw_g (lw_at lw_m6 94 rfl) rfl
theorem q1457 : (Jvm.Cond.selects "RoundCheckModel" ({ cls := "RoundCheckModel", name := "apply", desc := "(III)I" } : Jvm.MethodName) ({ cls := "RoundCheckModel", name := "apply", desc := "(III)I" } : Jvm.MethodName)) ∈ lw_all := lw_g (lw_at lw_m6 95 rfl) rfl
theorem q1458 : (Jvm.Cond.code ({ cls := "RoundCheckModel", name := "apply", desc := "(III)I" } : Jvm.MethodName) prog_4_method_102_code (8 : Nat) (Option.some Jvm.ClassFile.FieldType.int)) ∈ lw_all := lw_g (lw_at lw_m6 96 rfl) rfl
theorem q1460 : (Jvm.Cond.instanceMethod ({ cls := "RoundCheckModel", name := "the", desc := "(I)I" } : Jvm.MethodName)) ∈ lw_all := lw_g (lw_at lw_m6 98 rfl) rfl
theorem q1461 : (Jvm.Cond.selects "RoundCheckModel" ({ cls := "RoundCheckModel", name := "the", desc := "(I)I" } : Jvm.MethodName) ({ cls := "RoundCheckModel", name := "the", desc := "(I)I" } : Jvm.MethodName)) ∈ lw_all := lw_g (lw_at lw_m6 99 rfl) rfl
theorem q1462 : (Jvm.Cond.code ({ cls := "RoundCheckModel", name := "the", desc := "(I)I" } : Jvm.MethodName) prog_4_method_103_code (3 : Nat) (Option.some Jvm.ClassFile.FieldType.int)) ∈ lw_all := lw_g (lw_at lw_m6 100 rfl) rfl
theorem q1464 : (Jvm.Cond.instanceMethod ({ cls := "RoundCheckModel", name := "atom", desc := "(IIII)I" } : Jvm.MethodName)) ∈ lw_all := lw_g (lw_at lw_m6 102 rfl) rfl
theorem q1465 : (Jvm.Cond.selects "RoundCheckModel" ({ cls := "RoundCheckModel", name := "atom", desc := "(IIII)I" } : Jvm.MethodName) ({ cls := "RoundCheckModel", name := "atom", desc := "(IIII)I" } : Jvm.MethodName)) ∈ lw_all := lw_g (lw_at lw_m6 103 rfl) rfl
theorem q1466 : (Jvm.Cond.code ({ cls := "RoundCheckModel", name := "atom", desc := "(IIII)I" } : Jvm.MethodName) prog_4_method_104_code (9 : Nat) (Option.some Jvm.ClassFile.FieldType.int)) ∈ lw_all := lw_g (lw_at lw_m6 104 rfl) rfl
theorem q1467 : (Jvm.Cond.methodLink "RoundCheckModel" (93 : Nat) ({ cls := "RoundCheckModel", name := "two", desc := "(III)I" } : Jvm.MethodName)) ∈ lw_all := lw_g (lw_at lw_m6 105 rfl) rfl
theorem q1468 : (Jvm.Cond.privateMethod ({ cls := "RoundCheckModel", name := "two", desc := "(III)I" } : Jvm.MethodName)) ∈ lw_tbl := lw_at lw_m6 106 rfl
theorem q1469 : (Jvm.Cond.instanceMethod ({ cls := "RoundCheckModel", name := "two", desc := "(III)I" } : Jvm.MethodName)) ∈ lw_all := lw_g (lw_at lw_m6 107 rfl) rfl
theorem q1470 : (Jvm.Cond.code ({ cls := "RoundCheckModel", name := "two", desc := "(III)I" } : Jvm.MethodName) prog_4_method_11_code (5 : Nat) (Option.some Jvm.ClassFile.FieldType.int)) ∈ lw_all := lw_g (lw_at lw_m6 108 rfl) rfl
theorem q1471 : (Jvm.Cond.methodLink "RoundCheckModel" (557 : Nat) ({ cls := "RoundCheckModel", name := "modeOf", desc := "(III)I" } : Jvm.MethodName)) ∈ lw_all := lw_g (lw_at lw_m6 109 rfl) rfl
theorem q1472 : (Jvm.Cond.privateMethod ({ cls := "RoundCheckModel", name := "modeOf", desc := "(III)I" } : Jvm.MethodName)) ∈ lw_tbl := lw_at lw_m6 110 rfl
theorem q1473 : (Jvm.Cond.instanceMethod ({ cls := "RoundCheckModel", name := "modeOf", desc := "(III)I" } : Jvm.MethodName)) ∈ lw_all := lw_g (lw_at lw_m6 111 rfl) rfl
theorem q1474 : (Jvm.Cond.code ({ cls := "RoundCheckModel", name := "modeOf", desc := "(III)I" } : Jvm.MethodName) prog_4_method_18_code (5 : Nat) (Option.some Jvm.ClassFile.FieldType.int)) ∈ lw_all := lw_g (lw_at lw_m6 112 rfl) rfl
theorem q1475 : (Jvm.Cond.methodLink "RoundCheckModel" (81 : Nat) ({ cls := "RoundCheckModel", name := "truth", desc := "()I" } : Jvm.MethodName)) ∈ lw_all := lw_g (lw_at lw_m6 113 rfl) rfl
theorem q1476 : (Jvm.Cond.privateMethod ({ cls := "RoundCheckModel", name := "truth", desc := "()I" } : Jvm.MethodName)) ∈ lw_tbl := lw_at lw_m6 114 rfl
theorem q1477 : (Jvm.Cond.instanceMethod ({ cls := "RoundCheckModel", name := "truth", desc := "()I" } : Jvm.MethodName)) ∈ lw_all := lw_g (lw_at lw_m6 115 rfl) rfl
theorem q1478 : (Jvm.Cond.code ({ cls := "RoundCheckModel", name := "truth", desc := "()I" } : Jvm.MethodName) prog_4_method_12_code (1 : Nat) (Option.some Jvm.ClassFile.FieldType.int)) ∈ lw_all := lw_g (lw_at lw_m6 116 rfl) rfl
theorem q1480 : (Jvm.Cond.instanceMethod ({ cls := "RoundCheckModel", name := "join", desc := "(III)I" } : Jvm.MethodName)) ∈ lw_all := lw_g (lw_at lw_m6 118 rfl) rfl
theorem q1481 : (Jvm.Cond.selects "RoundCheckModel" ({ cls := "RoundCheckModel", name := "join", desc := "(III)I" } : Jvm.MethodName) ({ cls := "RoundCheckModel", name := "join", desc := "(III)I" } : Jvm.MethodName)) ∈ lw_all := lw_g (lw_at lw_m6 119 rfl) rfl
theorem q1482 : (Jvm.Cond.code ({ cls := "RoundCheckModel", name := "join", desc := "(III)I" } : Jvm.MethodName) prog_4_method_105_code (6 : Nat) (Option.some Jvm.ClassFile.FieldType.int)) ∈ lw_all := lw_g (lw_at lw_m6 120 rfl) rfl
theorem q1483 : (Jvm.Cond.methodLink "RoundCheckModel" (88 : Nat) ({ cls := "RoundCheckModel", name := "not", desc := "(I)I" } : Jvm.MethodName)) ∈ lw_all := lw_g (lw_at lw_m6 121 rfl) rfl
theorem q1484 : (Jvm.Cond.privateMethod ({ cls := "RoundCheckModel", name := "not", desc := "(I)I" } : Jvm.MethodName)) ∈ lw_tbl := lw_at lw_m6 122 rfl
theorem q1485 : (Jvm.Cond.instanceMethod ({ cls := "RoundCheckModel", name := "not", desc := "(I)I" } : Jvm.MethodName)) ∈ lw_all := lw_g (lw_at lw_m6 123 rfl) rfl
theorem q1486 : (Jvm.Cond.code ({ cls := "RoundCheckModel", name := "not", desc := "(I)I" } : Jvm.MethodName) prog_4_method_13_code (2 : Nat) (Option.some Jvm.ClassFile.FieldType.int)) ∈ lw_all := lw_g (lw_at lw_m6 124 rfl) rfl
theorem q1487 : (Jvm.Cond.methodLink "RoundCheckModel" (91 : Nat) ({ cls := "RoundCheckModel", name := "and", desc := "(II)I" } : Jvm.MethodName)) ∈ lw_all := lw_g (lw_at lw_m6 125 rfl) rfl
theorem q1488 : (Jvm.Cond.privateMethod ({ cls := "RoundCheckModel", name := "and", desc := "(II)I" } : Jvm.MethodName)) ∈ lw_tbl := lw_at lw_m6 126 rfl
theorem q1489 : (Jvm.Cond.instanceMethod ({ cls := "RoundCheckModel", name := "and", desc := "(II)I" } : Jvm.MethodName)) ∈ lw_all := lw_g (lw_at lw_m6 127 rfl) rfl
theorem q1490 : (Jvm.Cond.code ({ cls := "RoundCheckModel", name := "and", desc := "(II)I" } : Jvm.MethodName) prog_4_method_15_code (4 : Nat) (Option.some Jvm.ClassFile.FieldType.int)) ∈ lw_all := lw_g (lw_at lw_m6 128 rfl) rfl
theorem q1491 : (Jvm.Cond.methodLink "RoundCheckModel" (85 : Nat) ({ cls := "RoundCheckModel", name := "and", desc := "(I)I" } : Jvm.MethodName)) ∈ lw_all := lw_g (lw_at lw_m6 129 rfl) rfl
theorem q1492 : (Jvm.Cond.privateMethod ({ cls := "RoundCheckModel", name := "and", desc := "(I)I" } : Jvm.MethodName)) ∈ lw_tbl := lw_at lw_m6 130 rfl
theorem q1493 : (Jvm.Cond.instanceMethod ({ cls := "RoundCheckModel", name := "and", desc := "(I)I" } : Jvm.MethodName)) ∈ lw_all := lw_g (lw_at lw_m6 131 rfl) rfl
theorem q1494 : (Jvm.Cond.code ({ cls := "RoundCheckModel", name := "and", desc := "(I)I" } : Jvm.MethodName) prog_4_method_14_code (8 : Nat) (Option.some Jvm.ClassFile.FieldType.int)) ∈ lw_all := lw_g (lw_at lw_m6 132 rfl) rfl
theorem q1495 : (Jvm.Cond.methodLink "RoundCheckModel" (560 : Nat) ({ cls := "RoundCheckModel", name := "implies", desc := "(II)I" } : Jvm.MethodName)) ∈ lw_all := lw_g (lw_at lw_m6 133 rfl) rfl
theorem q1496 : (Jvm.Cond.privateMethod ({ cls := "RoundCheckModel", name := "implies", desc := "(II)I" } : Jvm.MethodName)) ∈ lw_tbl := lw_at lw_m6 134 rfl
theorem q1497 : (Jvm.Cond.instanceMethod ({ cls := "RoundCheckModel", name := "implies", desc := "(II)I" } : Jvm.MethodName)) ∈ lw_all := lw_g (lw_at lw_m6 135 rfl) rfl
theorem q1498 : (Jvm.Cond.code ({ cls := "RoundCheckModel", name := "implies", desc := "(II)I" } : Jvm.MethodName) prog_4_method_16_code (3 : Nat) (Option.some Jvm.ClassFile.FieldType.int)) ∈ lw_all := lw_g (lw_at lw_m6 136 rfl) rfl
theorem q1500 : (Jvm.Cond.instanceMethod ({ cls := "RoundCheckModel", name := "bind", desc := "(ZII)I" } : Jvm.MethodName)) ∈ lw_all := lw_g (lw_at lw_m6 138 rfl) rfl
theorem q1501 : (Jvm.Cond.selects "RoundCheckModel" ({ cls := "RoundCheckModel", name := "bind", desc := "(ZII)I" } : Jvm.MethodName) ({ cls := "RoundCheckModel", name := "bind", desc := "(ZII)I" } : Jvm.MethodName)) ∈ lw_all := lw_g (lw_at lw_m6 139 rfl) rfl
theorem q1502 : (Jvm.Cond.code ({ cls := "RoundCheckModel", name := "bind", desc := "(ZII)I" } : Jvm.MethodName) prog_4_method_106_code (8 : Nat) (Option.some Jvm.ClassFile.FieldType.int)) ∈ lw_all := lw_g (lw_at lw_m6 140 rfl) rfl
theorem q1503 : (Jvm.Cond.methodLink "RoundCheckModel" (121 : Nat) ({ cls := "RoundCheckModel", name := "bind", desc := "(III)I" } : Jvm.MethodName)) ∈ lw_all := lw_g (lw_at lw_m6 141 rfl) rfl
theorem q1504 : (Jvm.Cond.privateMethod ({ cls := "RoundCheckModel", name := "bind", desc := "(III)I" } : Jvm.MethodName)) ∈ lw_tbl := lw_at lw_m6 142 rfl
theorem q1505 : (Jvm.Cond.instanceMethod ({ cls := "RoundCheckModel", name := "bind", desc := "(III)I" } : Jvm.MethodName)) ∈ lw_all := lw_g (lw_at lw_m6 143 rfl) rfl
theorem q1506 : (Jvm.Cond.code ({ cls := "RoundCheckModel", name := "bind", desc := "(III)I" } : Jvm.MethodName) prog_4_method_26_code (7 : Nat) (Option.some Jvm.ClassFile.FieldType.int)) ∈ lw_all := lw_g (lw_at lw_m6 144 rfl) rfl
theorem q1507 : (Jvm.Cond.methodLink "RoundCheckModel" (106 : Nat) ({ cls := "RoundCheckModel", name := "bound", desc := "(I)I" } : Jvm.MethodName)) ∈ lw_all := lw_g (lw_at lw_m6 145 rfl) rfl
theorem q1508 : (Jvm.Cond.privateMethod ({ cls := "RoundCheckModel", name := "bound", desc := "(I)I" } : Jvm.MethodName)) ∈ lw_tbl := lw_at lw_m6 146 rfl
theorem q1509 : (Jvm.Cond.instanceMethod ({ cls := "RoundCheckModel", name := "bound", desc := "(I)I" } : Jvm.MethodName)) ∈ lw_all := lw_g (lw_at lw_m6 147 rfl) rfl
theorem q1510 : (Jvm.Cond.code ({ cls := "RoundCheckModel", name := "bound", desc := "(I)I" } : Jvm.MethodName) prog_4_method_10_code (2 : Nat) (Option.some Jvm.ClassFile.FieldType.int)) ∈ lw_all := lw_g (lw_at lw_m6 148 rfl) rfl
theorem q1511 : (Jvm.Cond.methodLink "RoundCheckModel" (116 : Nat) ({ cls := "RoundCheckModel", name := "again", desc := "(II)I" } : Jvm.MethodName)) ∈ lw_all := lw_g (lw_at lw_m6 149 rfl) rfl
theorem q1512 : (Jvm.Cond.privateMethod ({ cls := "RoundCheckModel", name := "again", desc := "(II)I" } : Jvm.MethodName)) ∈ lw_tbl := lw_at lw_m6 150 rfl
theorem q1513 : (Jvm.Cond.instanceMethod ({ cls := "RoundCheckModel", name := "again", desc := "(II)I" } : Jvm.MethodName)) ∈ lw_all := lw_g (lw_at lw_m6 151 rfl) rfl
theorem q1514 : (Jvm.Cond.code ({ cls := "RoundCheckModel", name := "again", desc := "(II)I" } : Jvm.MethodName) prog_4_method_21_code (5 : Nat) (Option.some Jvm.ClassFile.FieldType.int)) ∈ lw_all := lw_g (lw_at lw_m6 152 rfl) rfl
theorem q1515 : (Jvm.Cond.methodLink "RoundCheckModel" (100 : Nat) ({ cls := "RoundCheckModel", name := "all", desc := "(II)I" } : Jvm.MethodName)) ∈ lw_all := lw_g (lw_at lw_m6 153 rfl) rfl
theorem q1516 : (Jvm.Cond.privateMethod ({ cls := "RoundCheckModel", name := "all", desc := "(II)I" } : Jvm.MethodName)) ∈ lw_tbl := lw_at lw_m6 154 rfl
theorem q1517 : (Jvm.Cond.instanceMethod ({ cls := "RoundCheckModel", name := "all", desc := "(II)I" } : Jvm.MethodName)) ∈ lw_all := lw_g (lw_at lw_m6 155 rfl) rfl
theorem q1518 : (Jvm.Cond.code ({ cls := "RoundCheckModel", name := "all", desc := "(II)I" } : Jvm.MethodName) prog_4_method_17_code (3 : Nat) (Option.some Jvm.ClassFile.FieldType.int)) ∈ lw_all := lw_g (lw_at lw_m6 156 rfl) rfl
theorem q1520 : (Jvm.Cond.instanceMethod ({ cls := "RoundCheckModel", name := "cluster", desc := "(III)I" } : Jvm.MethodName)) ∈ lw_all := lw_g (lw_at lw_m6 158 rfl) rfl
theorem q1521 : (Jvm.Cond.selects "RoundCheckModel" ({ cls := "RoundCheckModel", name := "cluster", desc := "(III)I" } : Jvm.MethodName) ({ cls := "RoundCheckModel", name := "cluster", desc := "(III)I" } : Jvm.MethodName)) ∈ lw_all := lw_g (lw_at lw_m6 159 rfl) rfl
theorem q1522 : (Jvm.Cond.code ({ cls := "RoundCheckModel", name := "cluster", desc := "(III)I" } : Jvm.MethodName) prog_4_method_108_code (7 : Nat) (Option.some Jvm.ClassFile.FieldType.int)) ∈ lw_all := lw_g (lw_at lw_m6 160 rfl) rfl
theorem q1523 : (Jvm.Cond.methodLink "RoundCheckModel" (563 : Nat) ({ cls := "RoundCheckModel", name := "registered", desc := "()I" } : Jvm.MethodName)) ∈ lw_all := lw_g (lw_at lw_m6 161 rfl) rfl
theorem q1524 : (Jvm.Cond.privateMethod ({ cls := "RoundCheckModel", name := "registered", desc := "()I" } : Jvm.MethodName)) ∈ lw_tbl := lw_at lw_m6 162 rfl
theorem q1525 : (Jvm.Cond.instanceMethod ({ cls := "RoundCheckModel", name := "registered", desc := "()I" } : Jvm.MethodName)) ∈ lw_all := lw_g (lw_at lw_m6 163 rfl) rfl
theorem q1526 : (Jvm.Cond.code ({ cls := "RoundCheckModel", name := "registered", desc := "()I" } : Jvm.MethodName) prog_4_method_107_code (1 : Nat) (Option.some Jvm.ClassFile.FieldType.int)) ∈ lw_all := lw_g (lw_at lw_m6 164 rfl) rfl
theorem q1528 : (Jvm.Cond.instanceMethod ({ cls := "RoundCheckModel", name := "gives", desc := "(IIII)I" } : Jvm.MethodName)) ∈ lw_all := lw_g (lw_at lw_m6 166 rfl) rfl
theorem q1529 : (Jvm.Cond.selects "RoundCheckModel" ({ cls := "RoundCheckModel", name := "gives", desc := "(IIII)I" } : Jvm.MethodName) ({ cls := "RoundCheckModel", name := "gives", desc := "(IIII)I" } : Jvm.MethodName)) ∈ lw_all := lw_g (lw_at lw_m6 167 rfl) rfl
theorem q1530 : (Jvm.Cond.code ({ cls := "RoundCheckModel", name := "gives", desc := "(IIII)I" } : Jvm.MethodName) prog_4_method_110_code (5 : Nat) (Option.some Jvm.ClassFile.FieldType.int)) ∈ lw_all := lw_g (lw_at lw_m6 168 rfl) rfl
theorem q1531 : (Jvm.Cond.methodLink "RoundCheckModel" (566 : Nat) ({ cls := "RoundCheckModel", name := "types", desc := "(III)Z" } : Jvm.MethodName)) ∈ lw_all := lw_g (lw_at lw_m6 169 rfl) rfl
theorem q1532 : (Jvm.Cond.privateMethod ({ cls := "RoundCheckModel", name := "types", desc := "(III)Z" } : Jvm.MethodName)) ∈ lw_tbl := lw_at lw_m6 170 rfl
theorem q1533 : (Jvm.Cond.instanceMethod ({ cls := "RoundCheckModel", name := "types", desc := "(III)Z" } : Jvm.MethodName)) ∈ lw_all := lw_g (lw_at lw_m6 171 rfl) rfl
theorem q1534 : (Jvm.Cond.code ({ cls := "RoundCheckModel", name := "types", desc := "(III)Z" } : Jvm.MethodName) prog_4_method_109_code (7 : Nat) (Option.some Jvm.ClassFile.FieldType.boolean)) ∈ lw_all := lw_g (lw_at lw_m6 172 rfl) rfl
theorem q1536 : (Jvm.Cond.instanceMethod ({ cls := "RoundCheckModel", name := "reduce", desc := "(IIII)I" } : Jvm.MethodName)) ∈ lw_all := lw_g (lw_at lw_m6 174 rfl) rfl
theorem q1537 : (Jvm.Cond.selects "RoundCheckModel" ({ cls := "RoundCheckModel", name := "reduce", desc := "(IIII)I" } : Jvm.MethodName) ({ cls := "RoundCheckModel", name := "reduce", desc := "(IIII)I" } : Jvm.MethodName)) ∈ lw_all := lw_g (lw_at lw_m6 175 rfl) rfl
theorem q1538 : (Jvm.Cond.code ({ cls := "RoundCheckModel", name := "reduce", desc := "(IIII)I" } : Jvm.MethodName) prog_4_method_111_code (6 : Nat) (Option.some Jvm.ClassFile.FieldType.int)) ∈ lw_all := lw_g (lw_at lw_m6 176 rfl) rfl
