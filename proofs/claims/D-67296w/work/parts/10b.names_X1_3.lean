set_option maxRecDepth 100000
theorem dX1_close_25 : decode cX1_close 25 = .ok (.aload_n 0, 1) := by decide +kernel
theorem dX1_close_26 : decode cX1_close 26 = .ok (.getfield 159, 3) := by decide +kernel
theorem dX1_close_29 : decode cX1_close 29 = .ok (.ifCond .ne 216, 3) := by decide +kernel
theorem dX1_close_32 : decode cX1_close 32 = .ok (.aload_n 0, 1) := by decide +kernel
theorem dX1_close_33 : decode cX1_close 33 = .ok (.getfield 226, 3) := by decide +kernel
theorem dX1_close_36 : decode cX1_close 36 = .ok (.iload_n 2, 1) := by decide +kernel
theorem dX1_close_37 : decode cX1_close 37 = .ok (.iaload, 1) := by decide +kernel
theorem dX1_close_38 : decode cX1_close 38 = .ok (.istore_n 3, 1) := by decide +kernel
theorem dX1_close_39 : decode cX1_close 39 = .ok (.aload_n 0, 1) := by decide +kernel
theorem dX1_close_40 : decode cX1_close 40 = .ok (.getfield 1, 3) := by decide +kernel
theorem dX1_close_43 : decode cX1_close 43 = .ok (.getfield 39, 3) := by decide +kernel
theorem dX1_close_46 : decode cX1_close 46 = .ok (.iload_n 3, 1) := by decide +kernel
theorem dX1_close_47 : decode cX1_close 47 = .ok (.iaload, 1) := by decide +kernel
theorem dX1_close_48 : decode cX1_close 48 = .ok (.bipush 16, 2) := by decide +kernel
theorem dX1_close_50 : decode cX1_close 50 = .ok (.if_icmp .ne 15, 3) := by decide +kernel
theorem dX1_close_53 : decode cX1_close 53 = .ok (.aload_n 0, 1) := by decide +kernel
theorem dX1_close_54 : decode cX1_close 54 = .ok (.getfield 1, 3) := by decide +kernel
theorem dX1_close_57 : decode cX1_close 57 = .ok (.iload_n 3, 1) := by decide +kernel
theorem dX1_close_58 : decode cX1_close 58 = .ok (.iconst 0, 1) := by decide +kernel
theorem dX1_close_59 : decode cX1_close 59 = .ok (.invokevirtual 28, 3) := by decide +kernel
theorem dX1_close_62 : decode cX1_close 62 = .ok (.goto 4, 3) := by decide +kernel
theorem dX1_close_65 : decode cX1_close 65 = .ok (.iload_n 3, 1) := by decide +kernel
theorem dX1_close_66 : decode cX1_close 66 = .ok (.istore 4, 2) := by decide +kernel
theorem dX1_close_68 : decode cX1_close 68 = .ok (.aload_n 0, 1) := by decide +kernel
theorem dX1_close_69 : decode cX1_close 69 = .ok (.getfield 1, 3) := by decide +kernel
theorem dX1_close_72 : decode cX1_close 72 = .ok (.getfield 39, 3) := by decide +kernel
theorem dX1_close_75 : decode cX1_close 75 = .ok (.iload 4, 2) := by decide +kernel
theorem dX1_close_77 : decode cX1_close 77 = .ok (.iaload, 1) := by decide +kernel
theorem dX1_close_78 : decode cX1_close 78 = .ok (.bipush 10, 2) := by decide +kernel
theorem dX1_close_80 : decode cX1_close 80 = .ok (.if_icmp .ne 37, 3) := by decide +kernel
theorem dX1_close_83 : decode cX1_close 83 = .ok (.iload 4, 2) := by decide +kernel
theorem dX1_close_85 : decode cX1_close 85 = .ok (.iload_n 3, 1) := by decide +kernel
theorem dX1_close_86 : decode cX1_close 86 = .ok (.if_icmp .ne 31, 3) := by decide +kernel
theorem dX1_close_89 : decode cX1_close 89 = .ok (.iload_n 1, 1) := by decide +kernel
theorem dX1_close_90 : decode cX1_close 90 = .ok (.aload_n 0, 1) := by decide +kernel
theorem dX1_close_91 : decode cX1_close 91 = .ok (.aload_n 0, 1) := by decide +kernel
theorem dX1_close_92 : decode cX1_close 92 = .ok (.getfield 1, 3) := by decide +kernel
theorem dX1_close_95 : decode cX1_close 95 = .ok (.iload_n 3, 1) := by decide +kernel
theorem dX1_close_96 : decode cX1_close 96 = .ok (.iconst 0, 1) := by decide +kernel
theorem dX1_close_97 : decode cX1_close 97 = .ok (.invokevirtual 28, 3) := by decide +kernel
theorem dX1_close_100 : decode cX1_close 100 = .ok (.aload_n 0, 1) := by decide +kernel
theorem dX1_close_101 : decode cX1_close 101 = .ok (.getfield 1, 3) := by decide +kernel
theorem dX1_close_104 : decode cX1_close 104 = .ok (.iload_n 3, 1) := by decide +kernel
theorem dX1_close_105 : decode cX1_close 105 = .ok (.iconst 1, 1) := by decide +kernel
theorem dX1_close_106 : decode cX1_close 106 = .ok (.invokevirtual 28, 3) := by decide +kernel
theorem dX1_close_109 : decode cX1_close 109 = .ok (.invokevirtual 229, 3) := by decide +kernel
theorem dX1_close_112 : decode cX1_close 112 = .ok (.ior, 1) := by decide +kernel
theorem dX1_close_113 : decode cX1_close 113 = .ok (.istore_n 1, 1) := by decide +kernel
theorem dX1_close_114 : decode cX1_close 114 = .ok (.goto 125, 3) := by decide +kernel
theorem dX1_close_117 : decode cX1_close 117 = .ok (.aload_n 0, 1) := by decide +kernel
theorem dX1_close_118 : decode cX1_close 118 = .ok (.getfield 1, 3) := by decide +kernel
theorem dX1_close_121 : decode cX1_close 121 = .ok (.getfield 39, 3) := by decide +kernel
theorem dX1_close_124 : decode cX1_close 124 = .ok (.iload 4, 2) := by decide +kernel
theorem dX1_close_126 : decode cX1_close 126 = .ok (.iaload, 1) := by decide +kernel
theorem dX1_close_127 : decode cX1_close 127 = .ok (.bipush 13, 2) := by decide +kernel
theorem dX1_close_129 : decode cX1_close 129 = .ok (.if_icmp .ne 47, 3) := by decide +kernel
theorem dX1_close_132 : decode cX1_close 132 = .ok (.iload_n 1, 1) := by decide +kernel
theorem dX1_close_133 : decode cX1_close 133 = .ok (.aload_n 0, 1) := by decide +kernel
theorem dX1_close_134 : decode cX1_close 134 = .ok (.aload_n 0, 1) := by decide +kernel
theorem dX1_close_135 : decode cX1_close 135 = .ok (.getfield 1, 3) := by decide +kernel
theorem dX1_close_138 : decode cX1_close 138 = .ok (.iload 4, 2) := by decide +kernel
theorem dX1_close_140 : decode cX1_close 140 = .ok (.iconst 0, 1) := by decide +kernel
theorem dX1_close_141 : decode cX1_close 141 = .ok (.invokevirtual 28, 3) := by decide +kernel
theorem dX1_close_144 : decode cX1_close 144 = .ok (.iconst 2, 1) := by decide +kernel
theorem dX1_close_145 : decode cX1_close 145 = .ok (.aload_n 0, 1) := by decide +kernel
theorem dX1_close_146 : decode cX1_close 146 = .ok (.getfield 1, 3) := by decide +kernel
theorem dX1_close_149 : decode cX1_close 149 = .ok (.getfield 45, 3) := by decide +kernel
theorem dX1_close_152 : decode cX1_close 152 = .ok (.iload 4, 2) := by decide +kernel
theorem dX1_close_154 : decode cX1_close 154 = .ok (.iaload, 1) := by decide +kernel
theorem dX1_close_155 : decode cX1_close 155 = .ok (.imul, 1) := by decide +kernel
theorem dX1_close_156 : decode cX1_close 156 = .ok (.iload 4, 2) := by decide +kernel
theorem dX1_close_158 : decode cX1_close 158 = .ok (.iload_n 3, 1) := by decide +kernel
theorem dX1_close_159 : decode cX1_close 159 = .ok (.if_icmp .ne 7, 3) := by decide +kernel
theorem dX1_close_162 : decode cX1_close 162 = .ok (.iconst 0, 1) := by decide +kernel
theorem dX1_close_163 : decode cX1_close 163 = .ok (.goto 4, 3) := by decide +kernel
theorem dX1_close_166 : decode cX1_close 166 = .ok (.iconst 1, 1) := by decide +kernel
theorem dX1_close_167 : decode cX1_close 167 = .ok (.iadd, 1) := by decide +kernel
theorem dX1_close_168 : decode cX1_close 168 = .ok (.invokevirtual 181, 3) := by decide +kernel
theorem dX1_close_171 : decode cX1_close 171 = .ok (.ior, 1) := by decide +kernel
theorem dX1_close_172 : decode cX1_close 172 = .ok (.istore_n 1, 1) := by decide +kernel
theorem dX1_close_173 : decode cX1_close 173 = .ok (.goto 66, 3) := by decide +kernel
theorem dX1_close_176 : decode cX1_close 176 = .ok (.aload_n 0, 1) := by decide +kernel
theorem dX1_close_177 : decode cX1_close 177 = .ok (.getfield 1, 3) := by decide +kernel
theorem dX1_close_180 : decode cX1_close 180 = .ok (.getfield 39, 3) := by decide +kernel
theorem dX1_close_183 : decode cX1_close 183 = .ok (.iload 4, 2) := by decide +kernel
theorem dX1_close_185 : decode cX1_close 185 = .ok (.iaload, 1) := by decide +kernel
theorem dX1_close_186 : decode cX1_close 186 = .ok (.bipush 14, 2) := by decide +kernel
theorem dX1_close_188 : decode cX1_close 188 = .ok (.if_icmp .ne 51, 3) := by decide +kernel
theorem dX1_close_191 : decode cX1_close 191 = .ok (.iload 4, 2) := by decide +kernel
theorem dX1_close_193 : decode cX1_close 193 = .ok (.iload_n 3, 1) := by decide +kernel
theorem dX1_close_194 : decode cX1_close 194 = .ok (.if_icmp .ne 45, 3) := by decide +kernel
theorem dX1_close_197 : decode cX1_close 197 = .ok (.aload_n 0, 1) := by decide +kernel
theorem dX1_close_198 : decode cX1_close 198 = .ok (.aload_n 0, 1) := by decide +kernel
theorem dX1_close_199 : decode cX1_close 199 = .ok (.getfield 1, 3) := by decide +kernel
theorem dX1_close_202 : decode cX1_close 202 = .ok (.getfield 45, 3) := by decide +kernel
theorem dX1_close_205 : decode cX1_close 205 = .ok (.iload_n 3, 1) := by decide +kernel
theorem dX1_close_206 : decode cX1_close 206 = .ok (.iaload, 1) := by decide +kernel
theorem dX1_close_207 : decode cX1_close 207 = .ok (.aload_n 0, 1) := by decide +kernel
theorem dX1_close_208 : decode cX1_close 208 = .ok (.getfield 1, 3) := by decide +kernel
theorem dX1_close_211 : decode cX1_close 211 = .ok (.iload_n 3, 1) := by decide +kernel
theorem dX1_close_212 : decode cX1_close 212 = .ok (.iconst 0, 1) := by decide +kernel
theorem dX1_close_213 : decode cX1_close 213 = .ok (.invokevirtual 28, 3) := by decide +kernel
theorem dX1_close_216 : decode cX1_close 216 = .ok (.invokevirtual 232, 3) := by decide +kernel
theorem dX1_close_219 : decode cX1_close 219 = .ok (.istore 5, 2) := by decide +kernel
theorem dX1_close_221 : decode cX1_close 221 = .ok (.iload_n 1, 1) := by decide +kernel
theorem dX1_close_222 : decode cX1_close 222 = .ok (.aload_n 0, 1) := by decide +kernel
theorem dX1_close_223 : decode cX1_close 223 = .ok (.aload_n 0, 1) := by decide +kernel
theorem dX1_close_224 : decode cX1_close 224 = .ok (.getfield 1, 3) := by decide +kernel
theorem dX1_close_227 : decode cX1_close 227 = .ok (.iload_n 3, 1) := by decide +kernel
theorem dX1_close_228 : decode cX1_close 228 = .ok (.iconst 1, 1) := by decide +kernel
theorem dX1_close_229 : decode cX1_close 229 = .ok (.invokevirtual 28, 3) := by decide +kernel
theorem dX1_close_232 : decode cX1_close 232 = .ok (.iload 5, 2) := by decide +kernel
theorem dX1_close_234 : decode cX1_close 234 = .ok (.invokevirtual 175, 3) := by decide +kernel
theorem dX1_close_237 : decode cX1_close 237 = .ok (.ior, 1) := by decide +kernel
theorem dX1_close_238 : decode cX1_close 238 = .ok (.istore_n 1, 1) := by decide +kernel
theorem dX1_close_239 : decode cX1_close 239 = .ok (.iinc 2 1, 3) := by decide +kernel
theorem dX1_close_242 : decode cX1_close 242 = .ok (.goto (-225), 3) := by decide +kernel
theorem dX1_close_245 : decode cX1_close 245 = .ok (.iconst 0, 1) := by decide +kernel
theorem dX1_close_246 : decode cX1_close 246 = .ok (.istore_n 2, 1) := by decide +kernel
theorem dX1_close_247 : decode cX1_close 247 = .ok (.iload_n 2, 1) := by decide +kernel
theorem dX1_close_248 : decode cX1_close 248 = .ok (.aload_n 0, 1) := by decide +kernel
theorem dX1_close_249 : decode cX1_close 249 = .ok (.getfield 163, 3) := by decide +kernel
theorem dX1_close_252 : decode cX1_close 252 = .ok (.if_icmp .ge 73, 3) := by decide +kernel
theorem dX1_close_255 : decode cX1_close 255 = .ok (.iconst 0, 1) := by decide +kernel
theorem dX1_close_256 : decode cX1_close 256 = .ok (.istore_n 3, 1) := by decide +kernel
theorem dX1_close_257 : decode cX1_close 257 = .ok (.iload_n 3, 1) := by decide +kernel
theorem dX1_close_258 : decode cX1_close 258 = .ok (.iload_n 2, 1) := by decide +kernel
theorem dX1_close_259 : decode cX1_close 259 = .ok (.if_icmp .ge 60, 3) := by decide +kernel
theorem dX1_close_262 : decode cX1_close 262 = .ok (.aload_n 0, 1) := by decide +kernel
theorem dX1_close_263 : decode cX1_close 263 = .ok (.iload_n 2, 1) := by decide +kernel
theorem dX1_close_264 : decode cX1_close 264 = .ok (.invokevirtual 153, 3) := by decide +kernel
theorem dX1_close_267 : decode cX1_close 267 = .ok (.aload_n 0, 1) := by decide +kernel
theorem dX1_close_268 : decode cX1_close 268 = .ok (.iload_n 3, 1) := by decide +kernel
theorem dX1_close_269 : decode cX1_close 269 = .ok (.invokevirtual 153, 3) := by decide +kernel
theorem dX1_close_272 : decode cX1_close 272 = .ok (.if_icmp .eq 41, 3) := by decide +kernel
theorem dX1_close_275 : decode cX1_close 275 = .ok (.aload_n 0, 1) := by decide +kernel
theorem dX1_close_276 : decode cX1_close 276 = .ok (.aload_n 0, 1) := by decide +kernel
theorem dX1_close_277 : decode cX1_close 277 = .ok (.getfield 169, 3) := by decide +kernel
theorem dX1_close_280 : decode cX1_close 280 = .ok (.iload_n 2, 1) := by decide +kernel
theorem dX1_close_281 : decode cX1_close 281 = .ok (.iaload, 1) := by decide +kernel
theorem dX1_close_282 : decode cX1_close 282 = .ok (.aload_n 0, 1) := by decide +kernel
theorem dX1_close_283 : decode cX1_close 283 = .ok (.getfield 169, 3) := by decide +kernel
theorem dX1_close_286 : decode cX1_close 286 = .ok (.iload_n 3, 1) := by decide +kernel
theorem dX1_close_287 : decode cX1_close 287 = .ok (.iaload, 1) := by decide +kernel
theorem dX1_close_288 : decode cX1_close 288 = .ok (.invokevirtual 235, 3) := by decide +kernel
theorem dX1_close_291 : decode cX1_close 291 = .ok (.ifCond .eq 22, 3) := by decide +kernel
theorem dX1_close_294 : decode cX1_close 294 = .ok (.iload_n 1, 1) := by decide +kernel
theorem dX1_close_295 : decode cX1_close 295 = .ok (.aload_n 0, 1) := by decide +kernel
theorem dX1_close_296 : decode cX1_close 296 = .ok (.aload_n 0, 1) := by decide +kernel
theorem dX1_close_297 : decode cX1_close 297 = .ok (.getfield 169, 3) := by decide +kernel
theorem dX1_close_300 : decode cX1_close 300 = .ok (.iload_n 2, 1) := by decide +kernel
theorem dX1_close_301 : decode cX1_close 301 = .ok (.iaload, 1) := by decide +kernel
theorem dX1_close_302 : decode cX1_close 302 = .ok (.aload_n 0, 1) := by decide +kernel
theorem dX1_close_303 : decode cX1_close 303 = .ok (.getfield 169, 3) := by decide +kernel
theorem dX1_close_306 : decode cX1_close 306 = .ok (.iload_n 3, 1) := by decide +kernel
theorem dX1_close_307 : decode cX1_close 307 = .ok (.iaload, 1) := by decide +kernel
theorem dX1_close_308 : decode cX1_close 308 = .ok (.invokevirtual 229, 3) := by decide +kernel
theorem dX1_close_311 : decode cX1_close 311 = .ok (.ior, 1) := by decide +kernel
theorem dX1_close_312 : decode cX1_close 312 = .ok (.istore_n 1, 1) := by decide +kernel
theorem dX1_close_313 : decode cX1_close 313 = .ok (.iinc 3 1, 3) := by decide +kernel
theorem dX1_close_316 : decode cX1_close 316 = .ok (.goto (-59), 3) := by decide +kernel
theorem dX1_close_319 : decode cX1_close 319 = .ok (.iinc 2 1, 3) := by decide +kernel
theorem dX1_close_322 : decode cX1_close 322 = .ok (.goto (-75), 3) := by decide +kernel
theorem dX1_close_325 : decode cX1_close 325 = .ok (.iconst 0, 1) := by decide +kernel
theorem dX1_close_326 : decode cX1_close 326 = .ok (.istore_n 2, 1) := by decide +kernel
theorem dX1_close_327 : decode cX1_close 327 = .ok (.iload_n 2, 1) := by decide +kernel
theorem dX1_close_328 : decode cX1_close 328 = .ok (.aload_n 0, 1) := by decide +kernel
theorem dX1_close_329 : decode cX1_close 329 = .ok (.getfield 163, 3) := by decide +kernel
theorem dX1_close_332 : decode cX1_close 332 = .ok (.if_icmp .ge 29, 3) := by decide +kernel
theorem dX1_close_335 : decode cX1_close 335 = .ok (.aload_n 0, 1) := by decide +kernel
theorem dX1_close_336 : decode cX1_close 336 = .ok (.getfield 159, 3) := by decide +kernel
theorem dX1_close_339 : decode cX1_close 339 = .ok (.ifCond .ne 22, 3) := by decide +kernel
theorem dX1_close_342 : decode cX1_close 342 = .ok (.iload_n 1, 1) := by decide +kernel
theorem dX1_close_343 : decode cX1_close 343 = .ok (.aload_n 0, 1) := by decide +kernel
theorem dX1_close_344 : decode cX1_close 344 = .ok (.aload_n 0, 1) := by decide +kernel
theorem dX1_close_345 : decode cX1_close 345 = .ok (.getfield 169, 3) := by decide +kernel
theorem dX1_close_348 : decode cX1_close 348 = .ok (.iload_n 2, 1) := by decide +kernel
theorem dX1_close_349 : decode cX1_close 349 = .ok (.iaload, 1) := by decide +kernel
theorem dX1_close_350 : decode cX1_close 350 = .ok (.invokevirtual 238, 3) := by decide +kernel
theorem dX1_close_353 : decode cX1_close 353 = .ok (.ior, 1) := by decide +kernel
theorem dX1_close_354 : decode cX1_close 354 = .ok (.istore_n 1, 1) := by decide +kernel
theorem dX1_close_355 : decode cX1_close 355 = .ok (.iinc 2 1, 3) := by decide +kernel
theorem dX1_close_358 : decode cX1_close 358 = .ok (.goto (-31), 3) := by decide +kernel
theorem dX1_close_361 : decode cX1_close 361 = .ok (.iconst 0, 1) := by decide +kernel
theorem dX1_close_362 : decode cX1_close 362 = .ok (.istore_n 2, 1) := by decide +kernel
theorem dX1_close_363 : decode cX1_close 363 = .ok (.iload_n 2, 1) := by decide +kernel
theorem dX1_close_364 : decode cX1_close 364 = .ok (.aload_n 0, 1) := by decide +kernel
theorem dX1_close_365 : decode cX1_close 365 = .ok (.getfield 80, 3) := by decide +kernel
theorem dX1_close_368 : decode cX1_close 368 = .ok (.if_icmp .ge 33, 3) := by decide +kernel
theorem dX1_close_371 : decode cX1_close 371 = .ok (.aload_n 0, 1) := by decide +kernel
theorem dX1_close_372 : decode cX1_close 372 = .ok (.getfield 159, 3) := by decide +kernel
theorem dX1_close_375 : decode cX1_close 375 = .ok (.ifCond .ne 26, 3) := by decide +kernel
theorem dX1_close_378 : decode cX1_close 378 = .ok (.aload_n 0, 1) := by decide +kernel
theorem dX1_close_379 : decode cX1_close 379 = .ok (.getfield 83, 3) := by decide +kernel
theorem dX1_close_382 : decode cX1_close 382 = .ok (.iload_n 2, 1) := by decide +kernel
theorem dX1_close_383 : decode cX1_close 383 = .ok (.iaload, 1) := by decide +kernel
theorem dX1_close_384 : decode cX1_close 384 = .ok (.ifCond .ne 11, 3) := by decide +kernel
theorem dX1_close_387 : decode cX1_close 387 = .ok (.iload_n 1, 1) := by decide +kernel
theorem dX1_close_388 : decode cX1_close 388 = .ok (.aload_n 0, 1) := by decide +kernel
theorem dX1_close_389 : decode cX1_close 389 = .ok (.iload_n 2, 1) := by decide +kernel
theorem dX1_close_390 : decode cX1_close 390 = .ok (.invokevirtual 241, 3) := by decide +kernel
theorem dX1_close_393 : decode cX1_close 393 = .ok (.ior, 1) := by decide +kernel
theorem dX1_close_394 : decode cX1_close 394 = .ok (.istore_n 1, 1) := by decide +kernel
theorem dX1_close_395 : decode cX1_close 395 = .ok (.iinc 2 1, 3) := by decide +kernel
theorem dX1_close_398 : decode cX1_close 398 = .ok (.goto (-35), 3) := by decide +kernel
theorem dX1_close_401 : decode cX1_close 401 = .ok (.goto (-399), 3) := by decide +kernel
theorem dX1_close_404 : decode cX1_close 404 = .ok (.return_, 1) := by decide +kernel
abbrev cX1_join_2 : ByteArray := prog_1_method_19_code
def yX1_join_2 : MethodName := ⟨RX1, "join", "(II)Z"⟩
theorem dX1_join_2_0 : decode cX1_join_2 0 = .ok (.aload_n 0, 1) := by decide +kernel
theorem dX1_join_2_1 : decode cX1_join_2 1 = .ok (.aload_n 0, 1) := by decide +kernel
theorem dX1_join_2_2 : decode cX1_join_2 2 = .ok (.getfield 137, 3) := by decide +kernel
theorem dX1_join_2_5 : decode cX1_join_2 5 = .ok (.iload_n 1, 1) := by decide +kernel
theorem dX1_join_2_6 : decode cX1_join_2 6 = .ok (.iaload, 1) := by decide +kernel
theorem dX1_join_2_7 : decode cX1_join_2 7 = .ok (.invokevirtual 153, 3) := by decide +kernel
theorem dX1_join_2_10 : decode cX1_join_2 10 = .ok (.istore_n 3, 1) := by decide +kernel
theorem dX1_join_2_11 : decode cX1_join_2 11 = .ok (.aload_n 0, 1) := by decide +kernel
theorem dX1_join_2_12 : decode cX1_join_2 12 = .ok (.aload_n 0, 1) := by decide +kernel
theorem dX1_join_2_13 : decode cX1_join_2 13 = .ok (.getfield 137, 3) := by decide +kernel
theorem dX1_join_2_16 : decode cX1_join_2 16 = .ok (.iload_n 2, 1) := by decide +kernel
theorem dX1_join_2_17 : decode cX1_join_2 17 = .ok (.iaload, 1) := by decide +kernel
theorem dX1_join_2_18 : decode cX1_join_2 18 = .ok (.invokevirtual 153, 3) := by decide +kernel
theorem dX1_join_2_21 : decode cX1_join_2 21 = .ok (.istore 4, 2) := by decide +kernel
theorem dX1_join_2_23 : decode cX1_join_2 23 = .ok (.iload_n 3, 1) := by decide +kernel
theorem dX1_join_2_24 : decode cX1_join_2 24 = .ok (.iload 4, 2) := by decide +kernel
theorem dX1_join_2_26 : decode cX1_join_2 26 = .ok (.if_icmp .ne 5, 3) := by decide +kernel
theorem dX1_join_2_29 : decode cX1_join_2 29 = .ok (.iconst 0, 1) := by decide +kernel
theorem dX1_join_2_30 : decode cX1_join_2 30 = .ok (.ireturn, 1) := by decide +kernel
theorem dX1_join_2_31 : decode cX1_join_2 31 = .ok (.aload_n 0, 1) := by decide +kernel
theorem dX1_join_2_32 : decode cX1_join_2 32 = .ok (.getfield 146, 3) := by decide +kernel
theorem dX1_join_2_35 : decode cX1_join_2 35 = .ok (.iload_n 3, 1) := by decide +kernel
theorem dX1_join_2_36 : decode cX1_join_2 36 = .ok (.iload 4, 2) := by decide +kernel
theorem dX1_join_2_38 : decode cX1_join_2 38 = .ok (.invokestatic 107, 3) := by decide +kernel
theorem dX1_join_2_41 : decode cX1_join_2 41 = .ok (.iload_n 3, 1) := by decide +kernel
theorem dX1_join_2_42 : decode cX1_join_2 42 = .ok (.iload 4, 2) := by decide +kernel
theorem dX1_join_2_44 : decode cX1_join_2 44 = .ok (.invokestatic 156, 3) := by decide +kernel
theorem dX1_join_2_47 : decode cX1_join_2 47 = .ok (.iastore, 1) := by decide +kernel
theorem dX1_join_2_48 : decode cX1_join_2 48 = .ok (.iconst 1, 1) := by decide +kernel
theorem dX1_join_2_49 : decode cX1_join_2 49 = .ok (.ireturn, 1) := by decide +kernel
abbrev cX1_root : ByteArray := prog_1_method_17_code
def yX1_root : MethodName := ⟨RX1, "root", "(I)I"⟩
theorem dX1_root_0 : decode cX1_root 0 = .ok (.iload_n 1, 1) := by decide +kernel
theorem dX1_root_1 : decode cX1_root 1 = .ok (.istore_n 2, 1) := by decide +kernel
theorem dX1_root_2 : decode cX1_root 2 = .ok (.aload_n 0, 1) := by decide +kernel
theorem dX1_root_3 : decode cX1_root 3 = .ok (.getfield 146, 3) := by decide +kernel
theorem dX1_root_6 : decode cX1_root 6 = .ok (.iload_n 2, 1) := by decide +kernel
theorem dX1_root_7 : decode cX1_root 7 = .ok (.iaload, 1) := by decide +kernel
theorem dX1_root_8 : decode cX1_root 8 = .ok (.iload_n 2, 1) := by decide +kernel
theorem dX1_root_9 : decode cX1_root 9 = .ok (.if_icmp .eq 13, 3) := by decide +kernel
theorem dX1_root_12 : decode cX1_root 12 = .ok (.aload_n 0, 1) := by decide +kernel
theorem dX1_root_13 : decode cX1_root 13 = .ok (.getfield 146, 3) := by decide +kernel
theorem dX1_root_16 : decode cX1_root 16 = .ok (.iload_n 2, 1) := by decide +kernel
theorem dX1_root_17 : decode cX1_root 17 = .ok (.iaload, 1) := by decide +kernel
theorem dX1_root_18 : decode cX1_root 18 = .ok (.istore_n 2, 1) := by decide +kernel
theorem dX1_root_19 : decode cX1_root 19 = .ok (.goto (-17), 3) := by decide +kernel
theorem dX1_root_22 : decode cX1_root 22 = .ok (.iload_n 2, 1) := by decide +kernel
theorem dX1_root_23 : decode cX1_root 23 = .ok (.ireturn, 1) := by decide +kernel
abbrev cX1_plain : ByteArray := prog_1_method_2_code
def yX1_plain : MethodName := ⟨RX1, "plain", "(II)I"⟩
theorem dX1_plain_0 : decode cX1_plain 0 = .ok (.aload_n 0, 1) := by decide +kernel
theorem dX1_plain_1 : decode cX1_plain 1 = .ok (.getfield 1, 3) := by decide +kernel
theorem dX1_plain_4 : decode cX1_plain 4 = .ok (.getfield 7, 3) := by decide +kernel
theorem dX1_plain_7 : decode cX1_plain 7 = .ok (.istore_n 3, 1) := by decide +kernel
theorem dX1_plain_8 : decode cX1_plain 8 = .ok (.aload_n 0, 1) := by decide +kernel
theorem dX1_plain_9 : decode cX1_plain 9 = .ok (.iload_n 1, 1) := by decide +kernel
theorem dX1_plain_10 : decode cX1_plain 10 = .ok (.iload_n 2, 1) := by decide +kernel
theorem dX1_plain_11 : decode cX1_plain 11 = .ok (.iload_n 3, 1) := by decide +kernel
theorem dX1_plain_12 : decode cX1_plain 12 = .ok (.invokevirtual 25, 3) := by decide +kernel
theorem dX1_plain_15 : decode cX1_plain 15 = .ok (.ireturn, 1) := by decide +kernel
abbrev cX1_alikeTerms : ByteArray := prog_1_method_31_code
def yX1_alikeTerms : MethodName := ⟨RX1, "alikeTerms", "(II)Z"⟩
theorem dX1_alikeTerms_0 : decode cX1_alikeTerms 0 = .ok (.aload_n 0, 1) := by decide +kernel
theorem dX1_alikeTerms_1 : decode cX1_alikeTerms 1 = .ok (.getfield 1, 3) := by decide +kernel
theorem dX1_alikeTerms_4 : decode cX1_alikeTerms 4 = .ok (.getfield 39, 3) := by decide +kernel
theorem dX1_alikeTerms_7 : decode cX1_alikeTerms 7 = .ok (.iload_n 1, 1) := by decide +kernel
theorem dX1_alikeTerms_8 : decode cX1_alikeTerms 8 = .ok (.iaload, 1) := by decide +kernel
theorem dX1_alikeTerms_9 : decode cX1_alikeTerms 9 = .ok (.istore_n 3, 1) := by decide +kernel
theorem dX1_alikeTerms_10 : decode cX1_alikeTerms 10 = .ok (.iload_n 3, 1) := by decide +kernel
theorem dX1_alikeTerms_11 : decode cX1_alikeTerms 11 = .ok (.aload_n 0, 1) := by decide +kernel
theorem dX1_alikeTerms_12 : decode cX1_alikeTerms 12 = .ok (.getfield 1, 3) := by decide +kernel
theorem dX1_alikeTerms_15 : decode cX1_alikeTerms 15 = .ok (.getfield 39, 3) := by decide +kernel
theorem dX1_alikeTerms_18 : decode cX1_alikeTerms 18 = .ok (.iload_n 2, 1) := by decide +kernel
theorem dX1_alikeTerms_19 : decode cX1_alikeTerms 19 = .ok (.iaload, 1) := by decide +kernel
theorem dX1_alikeTerms_20 : decode cX1_alikeTerms 20 = .ok (.if_icmp .ne 13, 3) := by decide +kernel
theorem dX1_alikeTerms_23 : decode cX1_alikeTerms 23 = .ok (.iload_n 3, 1) := by decide +kernel
theorem dX1_alikeTerms_24 : decode cX1_alikeTerms 24 = .ok (.iconst 4, 1) := by decide +kernel
theorem dX1_alikeTerms_25 : decode cX1_alikeTerms 25 = .ok (.if_icmp .eq 10, 3) := by decide +kernel
theorem dX1_alikeTerms_28 : decode cX1_alikeTerms 28 = .ok (.iload_n 3, 1) := by decide +kernel
theorem dX1_alikeTerms_29 : decode cX1_alikeTerms 29 = .ok (.iconst 5, 1) := by decide +kernel
theorem dX1_alikeTerms_30 : decode cX1_alikeTerms 30 = .ok (.if_icmp .eq 5, 3) := by decide +kernel
theorem dX1_alikeTerms_33 : decode cX1_alikeTerms 33 = .ok (.iconst 0, 1) := by decide +kernel
theorem dX1_alikeTerms_34 : decode cX1_alikeTerms 34 = .ok (.ireturn, 1) := by decide +kernel
theorem dX1_alikeTerms_35 : decode cX1_alikeTerms 35 = .ok (.iload_n 3, 1) := by decide +kernel
theorem dX1_alikeTerms_36 : decode cX1_alikeTerms 36 = .ok (.iconst 5, 1) := by decide +kernel
theorem dX1_alikeTerms_37 : decode cX1_alikeTerms 37 = .ok (.if_icmp .ne 184, 3) := by decide +kernel
theorem dX1_alikeTerms_40 : decode cX1_alikeTerms 40 = .ok (.aload_n 0, 1) := by decide +kernel
theorem dX1_alikeTerms_41 : decode cX1_alikeTerms 41 = .ok (.getfield 1, 3) := by decide +kernel
theorem dX1_alikeTerms_44 : decode cX1_alikeTerms 44 = .ok (.iload_n 1, 1) := by decide +kernel
theorem dX1_alikeTerms_45 : decode cX1_alikeTerms 45 = .ok (.iconst 0, 1) := by decide +kernel
theorem dX1_alikeTerms_46 : decode cX1_alikeTerms 46 = .ok (.invokevirtual 28, 3) := by decide +kernel
theorem dX1_alikeTerms_49 : decode cX1_alikeTerms 49 = .ok (.istore 4, 2) := by decide +kernel
theorem dX1_alikeTerms_51 : decode cX1_alikeTerms 51 = .ok (.aload_n 0, 1) := by decide +kernel
theorem dX1_alikeTerms_52 : decode cX1_alikeTerms 52 = .ok (.getfield 1, 3) := by decide +kernel
theorem dX1_alikeTerms_55 : decode cX1_alikeTerms 55 = .ok (.iload_n 2, 1) := by decide +kernel
theorem dX1_alikeTerms_56 : decode cX1_alikeTerms 56 = .ok (.iconst 0, 1) := by decide +kernel
theorem dX1_alikeTerms_57 : decode cX1_alikeTerms 57 = .ok (.invokevirtual 28, 3) := by decide +kernel
theorem dX1_alikeTerms_60 : decode cX1_alikeTerms 60 = .ok (.istore 5, 2) := by decide +kernel
theorem dX1_alikeTerms_62 : decode cX1_alikeTerms 62 = .ok (.aload_n 0, 1) := by decide +kernel
theorem dX1_alikeTerms_63 : decode cX1_alikeTerms 63 = .ok (.getfield 1, 3) := by decide +kernel
theorem dX1_alikeTerms_66 : decode cX1_alikeTerms 66 = .ok (.getfield 45, 3) := by decide +kernel
theorem dX1_alikeTerms_69 : decode cX1_alikeTerms 69 = .ok (.iload 4, 2) := by decide +kernel
theorem dX1_alikeTerms_71 : decode cX1_alikeTerms 71 = .ok (.iaload, 1) := by decide +kernel
theorem dX1_alikeTerms_72 : decode cX1_alikeTerms 72 = .ok (.aload_n 0, 1) := by decide +kernel
theorem dX1_alikeTerms_73 : decode cX1_alikeTerms 73 = .ok (.getfield 1, 3) := by decide +kernel
theorem dX1_alikeTerms_76 : decode cX1_alikeTerms 76 = .ok (.getfield 45, 3) := by decide +kernel
theorem dX1_alikeTerms_79 : decode cX1_alikeTerms 79 = .ok (.iload 5, 2) := by decide +kernel
theorem dX1_alikeTerms_81 : decode cX1_alikeTerms 81 = .ok (.iaload, 1) := by decide +kernel
theorem dX1_alikeTerms_82 : decode cX1_alikeTerms 82 = .ok (.if_icmp .ne 26, 3) := by decide +kernel
theorem dX1_alikeTerms_85 : decode cX1_alikeTerms 85 = .ok (.aload_n 0, 1) := by decide +kernel
theorem dX1_alikeTerms_86 : decode cX1_alikeTerms 86 = .ok (.getfield 1, 3) := by decide +kernel
theorem dX1_alikeTerms_89 : decode cX1_alikeTerms 89 = .ok (.getfield 32, 3) := by decide +kernel
theorem dX1_alikeTerms_92 : decode cX1_alikeTerms 92 = .ok (.iload 4, 2) := by decide +kernel
theorem dX1_alikeTerms_94 : decode cX1_alikeTerms 94 = .ok (.iaload, 1) := by decide +kernel
theorem dX1_alikeTerms_95 : decode cX1_alikeTerms 95 = .ok (.aload_n 0, 1) := by decide +kernel
theorem dX1_alikeTerms_96 : decode cX1_alikeTerms 96 = .ok (.getfield 1, 3) := by decide +kernel
theorem dX1_alikeTerms_99 : decode cX1_alikeTerms 99 = .ok (.getfield 32, 3) := by decide +kernel
theorem dX1_alikeTerms_102 : decode cX1_alikeTerms 102 = .ok (.iload 5, 2) := by decide +kernel
theorem dX1_alikeTerms_104 : decode cX1_alikeTerms 104 = .ok (.iaload, 1) := by decide +kernel
theorem dX1_alikeTerms_105 : decode cX1_alikeTerms 105 = .ok (.if_icmp .eq 5, 3) := by decide +kernel
theorem dX1_alikeTerms_108 : decode cX1_alikeTerms 108 = .ok (.iconst 0, 1) := by decide +kernel
theorem dX1_alikeTerms_109 : decode cX1_alikeTerms 109 = .ok (.ireturn, 1) := by decide +kernel
theorem dX1_alikeTerms_110 : decode cX1_alikeTerms 110 = .ok (.iconst 1, 1) := by decide +kernel
theorem dX1_alikeTerms_111 : decode cX1_alikeTerms 111 = .ok (.istore 6, 2) := by decide +kernel
theorem dX1_alikeTerms_113 : decode cX1_alikeTerms 113 = .ok (.iload 6, 2) := by decide +kernel
theorem dX1_alikeTerms_115 : decode cX1_alikeTerms 115 = .ok (.aload_n 0, 1) := by decide +kernel
theorem dX1_alikeTerms_116 : decode cX1_alikeTerms 116 = .ok (.getfield 1, 3) := by decide +kernel
theorem dX1_alikeTerms_119 : decode cX1_alikeTerms 119 = .ok (.getfield 32, 3) := by decide +kernel
theorem dX1_alikeTerms_122 : decode cX1_alikeTerms 122 = .ok (.iload 4, 2) := by decide +kernel
theorem dX1_alikeTerms_124 : decode cX1_alikeTerms 124 = .ok (.iaload, 1) := by decide +kernel
theorem dX1_alikeTerms_125 : decode cX1_alikeTerms 125 = .ok (.if_icmp .ge 36, 3) := by decide +kernel
theorem dX1_alikeTerms_128 : decode cX1_alikeTerms 128 = .ok (.aload_n 0, 1) := by decide +kernel
theorem dX1_alikeTerms_129 : decode cX1_alikeTerms 129 = .ok (.getfield 1, 3) := by decide +kernel
theorem dX1_alikeTerms_132 : decode cX1_alikeTerms 132 = .ok (.iload 4, 2) := by decide +kernel
theorem dX1_alikeTerms_134 : decode cX1_alikeTerms 134 = .ok (.iload 6, 2) := by decide +kernel
theorem dX1_alikeTerms_136 : decode cX1_alikeTerms 136 = .ok (.invokevirtual 28, 3) := by decide +kernel
theorem dX1_alikeTerms_139 : decode cX1_alikeTerms 139 = .ok (.aload_n 0, 1) := by decide +kernel
theorem dX1_alikeTerms_140 : decode cX1_alikeTerms 140 = .ok (.getfield 1, 3) := by decide +kernel
theorem dX1_alikeTerms_143 : decode cX1_alikeTerms 143 = .ok (.iload 5, 2) := by decide +kernel
theorem dX1_alikeTerms_145 : decode cX1_alikeTerms 145 = .ok (.iload 6, 2) := by decide +kernel
theorem dX1_alikeTerms_147 : decode cX1_alikeTerms 147 = .ok (.invokevirtual 28, 3) := by decide +kernel
theorem dX1_alikeTerms_150 : decode cX1_alikeTerms 150 = .ok (.if_icmp .eq 5, 3) := by decide +kernel
theorem dX1_alikeTerms_153 : decode cX1_alikeTerms 153 = .ok (.iconst 0, 1) := by decide +kernel
theorem dX1_alikeTerms_154 : decode cX1_alikeTerms 154 = .ok (.ireturn, 1) := by decide +kernel
theorem dX1_alikeTerms_155 : decode cX1_alikeTerms 155 = .ok (.iinc 6 1, 3) := by decide +kernel
theorem dX1_alikeTerms_158 : decode cX1_alikeTerms 158 = .ok (.goto (-45), 3) := by decide +kernel
theorem dX1_alikeTerms_161 : decode cX1_alikeTerms 161 = .ok (.aload_n 0, 1) := by decide +kernel
theorem dX1_alikeTerms_162 : decode cX1_alikeTerms 162 = .ok (.iload 4, 2) := by decide +kernel
theorem dX1_alikeTerms_164 : decode cX1_alikeTerms 164 = .ok (.invokevirtual 58, 3) := by decide +kernel
theorem dX1_alikeTerms_167 : decode cX1_alikeTerms 167 = .ok (.ifCond .ne 20, 3) := by decide +kernel
theorem dX1_alikeTerms_170 : decode cX1_alikeTerms 170 = .ok (.aload_n 0, 1) := by decide +kernel
theorem dX1_alikeTerms_171 : decode cX1_alikeTerms 171 = .ok (.iload 5, 2) := by decide +kernel
theorem dX1_alikeTerms_173 : decode cX1_alikeTerms 173 = .ok (.invokevirtual 58, 3) := by decide +kernel
theorem dX1_alikeTerms_176 : decode cX1_alikeTerms 176 = .ok (.ifCond .ne 7, 3) := by decide +kernel
theorem dX1_alikeTerms_179 : decode cX1_alikeTerms 179 = .ok (.iconst 1, 1) := by decide +kernel
theorem dX1_alikeTerms_180 : decode cX1_alikeTerms 180 = .ok (.goto 40, 3) := by decide +kernel
theorem dX1_alikeTerms_183 : decode cX1_alikeTerms 183 = .ok (.iconst 0, 1) := by decide +kernel
theorem dX1_alikeTerms_184 : decode cX1_alikeTerms 184 = .ok (.goto 36, 3) := by decide +kernel
theorem dX1_alikeTerms_187 : decode cX1_alikeTerms 187 = .ok (.aload_n 0, 1) := by decide +kernel
theorem dX1_alikeTerms_188 : decode cX1_alikeTerms 188 = .ok (.iload 5, 2) := by decide +kernel
theorem dX1_alikeTerms_190 : decode cX1_alikeTerms 190 = .ok (.invokevirtual 58, 3) := by decide +kernel
theorem dX1_alikeTerms_193 : decode cX1_alikeTerms 193 = .ok (.ifCond .eq 26, 3) := by decide +kernel
theorem dX1_alikeTerms_196 : decode cX1_alikeTerms 196 = .ok (.aload_n 0, 1) := by decide +kernel
theorem dX1_alikeTerms_197 : decode cX1_alikeTerms 197 = .ok (.aload_n 0, 1) := by decide +kernel
theorem dX1_alikeTerms_198 : decode cX1_alikeTerms 198 = .ok (.iload 4, 2) := by decide +kernel
theorem dX1_alikeTerms_200 : decode cX1_alikeTerms 200 = .ok (.invokevirtual 58, 3) := by decide +kernel
theorem dX1_alikeTerms_203 : decode cX1_alikeTerms 203 = .ok (.aload_n 0, 1) := by decide +kernel
theorem dX1_alikeTerms_204 : decode cX1_alikeTerms 204 = .ok (.iload 5, 2) := by decide +kernel
theorem dX1_alikeTerms_206 : decode cX1_alikeTerms 206 = .ok (.invokevirtual 58, 3) := by decide +kernel
theorem dX1_alikeTerms_209 : decode cX1_alikeTerms 209 = .ok (.invokevirtual 205, 3) := by decide +kernel
theorem dX1_alikeTerms_212 : decode cX1_alikeTerms 212 = .ok (.ifCond .eq 7, 3) := by decide +kernel
theorem dX1_alikeTerms_215 : decode cX1_alikeTerms 215 = .ok (.iconst 1, 1) := by decide +kernel
theorem dX1_alikeTerms_216 : decode cX1_alikeTerms 216 = .ok (.goto 4, 3) := by decide +kernel
theorem dX1_alikeTerms_219 : decode cX1_alikeTerms 219 = .ok (.iconst 0, 1) := by decide +kernel
theorem dX1_alikeTerms_220 : decode cX1_alikeTerms 220 = .ok (.ireturn, 1) := by decide +kernel
theorem dX1_alikeTerms_221 : decode cX1_alikeTerms 221 = .ok (.aload_n 0, 1) := by decide +kernel
theorem dX1_alikeTerms_222 : decode cX1_alikeTerms 222 = .ok (.getfield 1, 3) := by decide +kernel
theorem dX1_alikeTerms_225 : decode cX1_alikeTerms 225 = .ok (.getfield 45, 3) := by decide +kernel
theorem dX1_alikeTerms_228 : decode cX1_alikeTerms 228 = .ok (.iload_n 1, 1) := by decide +kernel
theorem dX1_alikeTerms_229 : decode cX1_alikeTerms 229 = .ok (.iaload, 1) := by decide +kernel
theorem dX1_alikeTerms_230 : decode cX1_alikeTerms 230 = .ok (.aload_n 0, 1) := by decide +kernel
theorem dX1_alikeTerms_231 : decode cX1_alikeTerms 231 = .ok (.getfield 1, 3) := by decide +kernel
theorem dX1_alikeTerms_234 : decode cX1_alikeTerms 234 = .ok (.getfield 45, 3) := by decide +kernel
theorem dX1_alikeTerms_237 : decode cX1_alikeTerms 237 = .ok (.iload_n 2, 1) := by decide +kernel
theorem dX1_alikeTerms_238 : decode cX1_alikeTerms 238 = .ok (.iaload, 1) := by decide +kernel
theorem dX1_alikeTerms_239 : decode cX1_alikeTerms 239 = .ok (.if_icmp .ne 24, 3) := by decide +kernel
theorem dX1_alikeTerms_242 : decode cX1_alikeTerms 242 = .ok (.aload_n 0, 1) := by decide +kernel
theorem dX1_alikeTerms_243 : decode cX1_alikeTerms 243 = .ok (.getfield 1, 3) := by decide +kernel
theorem dX1_alikeTerms_246 : decode cX1_alikeTerms 246 = .ok (.getfield 32, 3) := by decide +kernel
theorem dX1_alikeTerms_249 : decode cX1_alikeTerms 249 = .ok (.iload_n 1, 1) := by decide +kernel
theorem dX1_alikeTerms_250 : decode cX1_alikeTerms 250 = .ok (.iaload, 1) := by decide +kernel
theorem dX1_alikeTerms_251 : decode cX1_alikeTerms 251 = .ok (.aload_n 0, 1) := by decide +kernel
theorem dX1_alikeTerms_252 : decode cX1_alikeTerms 252 = .ok (.getfield 1, 3) := by decide +kernel
theorem dX1_alikeTerms_255 : decode cX1_alikeTerms 255 = .ok (.getfield 32, 3) := by decide +kernel
theorem dX1_alikeTerms_258 : decode cX1_alikeTerms 258 = .ok (.iload_n 2, 1) := by decide +kernel
theorem dX1_alikeTerms_259 : decode cX1_alikeTerms 259 = .ok (.iaload, 1) := by decide +kernel
theorem dX1_alikeTerms_260 : decode cX1_alikeTerms 260 = .ok (.if_icmp .eq 5, 3) := by decide +kernel
theorem dX1_alikeTerms_263 : decode cX1_alikeTerms 263 = .ok (.iconst 0, 1) := by decide +kernel
theorem dX1_alikeTerms_264 : decode cX1_alikeTerms 264 = .ok (.ireturn, 1) := by decide +kernel
theorem dX1_alikeTerms_265 : decode cX1_alikeTerms 265 = .ok (.iconst 0, 1) := by decide +kernel
theorem dX1_alikeTerms_266 : decode cX1_alikeTerms 266 = .ok (.istore 4, 2) := by decide +kernel
theorem dX1_alikeTerms_268 : decode cX1_alikeTerms 268 = .ok (.iload 4, 2) := by decide +kernel
theorem dX1_alikeTerms_270 : decode cX1_alikeTerms 270 = .ok (.aload_n 0, 1) := by decide +kernel
theorem dX1_alikeTerms_271 : decode cX1_alikeTerms 271 = .ok (.getfield 1, 3) := by decide +kernel
theorem dX1_alikeTerms_274 : decode cX1_alikeTerms 274 = .ok (.getfield 32, 3) := by decide +kernel
theorem dX1_alikeTerms_277 : decode cX1_alikeTerms 277 = .ok (.iload_n 1, 1) := by decide +kernel
theorem dX1_alikeTerms_278 : decode cX1_alikeTerms 278 = .ok (.iaload, 1) := by decide +kernel
theorem dX1_alikeTerms_279 : decode cX1_alikeTerms 279 = .ok (.if_icmp .ge 38, 3) := by decide +kernel
theorem dX1_alikeTerms_282 : decode cX1_alikeTerms 282 = .ok (.aload_n 0, 1) := by decide +kernel
theorem dX1_alikeTerms_283 : decode cX1_alikeTerms 283 = .ok (.aload_n 0, 1) := by decide +kernel
theorem dX1_alikeTerms_284 : decode cX1_alikeTerms 284 = .ok (.getfield 1, 3) := by decide +kernel
theorem dX1_alikeTerms_287 : decode cX1_alikeTerms 287 = .ok (.iload_n 1, 1) := by decide +kernel
theorem dX1_alikeTerms_288 : decode cX1_alikeTerms 288 = .ok (.iload 4, 2) := by decide +kernel
theorem dX1_alikeTerms_290 : decode cX1_alikeTerms 290 = .ok (.invokevirtual 28, 3) := by decide +kernel
theorem dX1_alikeTerms_293 : decode cX1_alikeTerms 293 = .ok (.aload_n 0, 1) := by decide +kernel
theorem dX1_alikeTerms_294 : decode cX1_alikeTerms 294 = .ok (.getfield 1, 3) := by decide +kernel
theorem dX1_alikeTerms_297 : decode cX1_alikeTerms 297 = .ok (.iload_n 2, 1) := by decide +kernel
theorem dX1_alikeTerms_298 : decode cX1_alikeTerms 298 = .ok (.iload 4, 2) := by decide +kernel
theorem dX1_alikeTerms_300 : decode cX1_alikeTerms 300 = .ok (.invokevirtual 28, 3) := by decide +kernel
theorem dX1_alikeTerms_303 : decode cX1_alikeTerms 303 = .ok (.invokevirtual 205, 3) := by decide +kernel
theorem dX1_alikeTerms_306 : decode cX1_alikeTerms 306 = .ok (.ifCond .ne 5, 3) := by decide +kernel
theorem dX1_alikeTerms_309 : decode cX1_alikeTerms 309 = .ok (.iconst 0, 1) := by decide +kernel
theorem dX1_alikeTerms_310 : decode cX1_alikeTerms 310 = .ok (.ireturn, 1) := by decide +kernel
theorem dX1_alikeTerms_311 : decode cX1_alikeTerms 311 = .ok (.iinc 4 1, 3) := by decide +kernel
theorem dX1_alikeTerms_314 : decode cX1_alikeTerms 314 = .ok (.goto (-46), 3) := by decide +kernel
theorem dX1_alikeTerms_317 : decode cX1_alikeTerms 317 = .ok (.iconst 1, 1) := by decide +kernel
theorem dX1_alikeTerms_318 : decode cX1_alikeTerms 318 = .ok (.ireturn, 1) := by decide +kernel
abbrev cX1_equal : ByteArray := prog_1_method_18_code
def yX1_equal : MethodName := ⟨RX1, "equal", "(II)Z"⟩
theorem dX1_equal_0 : decode cX1_equal 0 = .ok (.iload_n 1, 1) := by decide +kernel
theorem dX1_equal_1 : decode cX1_equal 1 = .ok (.iload_n 2, 1) := by decide +kernel
theorem dX1_equal_2 : decode cX1_equal 2 = .ok (.if_icmp .eq 42, 3) := by decide +kernel
theorem dX1_equal_5 : decode cX1_equal 5 = .ok (.aload_n 0, 1) := by decide +kernel
theorem dX1_equal_6 : decode cX1_equal 6 = .ok (.iload_n 1, 1) := by decide +kernel
theorem dX1_equal_7 : decode cX1_equal 7 = .ok (.invokevirtual 149, 3) := by decide +kernel
theorem dX1_equal_10 : decode cX1_equal 10 = .ok (.ifCond .eq 38, 3) := by decide +kernel
theorem dX1_equal_13 : decode cX1_equal 13 = .ok (.aload_n 0, 1) := by decide +kernel
theorem dX1_equal_14 : decode cX1_equal 14 = .ok (.iload_n 2, 1) := by decide +kernel
theorem dX1_equal_15 : decode cX1_equal 15 = .ok (.invokevirtual 149, 3) := by decide +kernel
theorem dX1_equal_18 : decode cX1_equal 18 = .ok (.ifCond .eq 30, 3) := by decide +kernel
theorem dX1_equal_21 : decode cX1_equal 21 = .ok (.aload_n 0, 1) := by decide +kernel
theorem dX1_equal_22 : decode cX1_equal 22 = .ok (.aload_n 0, 1) := by decide +kernel
theorem dX1_equal_23 : decode cX1_equal 23 = .ok (.getfield 137, 3) := by decide +kernel
theorem dX1_equal_26 : decode cX1_equal 26 = .ok (.iload_n 1, 1) := by decide +kernel
theorem dX1_equal_27 : decode cX1_equal 27 = .ok (.iaload, 1) := by decide +kernel
theorem dX1_equal_28 : decode cX1_equal 28 = .ok (.invokevirtual 153, 3) := by decide +kernel
theorem dX1_equal_31 : decode cX1_equal 31 = .ok (.aload_n 0, 1) := by decide +kernel
theorem dX1_equal_32 : decode cX1_equal 32 = .ok (.aload_n 0, 1) := by decide +kernel
theorem dX1_equal_33 : decode cX1_equal 33 = .ok (.getfield 137, 3) := by decide +kernel
theorem dX1_equal_36 : decode cX1_equal 36 = .ok (.iload_n 2, 1) := by decide +kernel
theorem dX1_equal_37 : decode cX1_equal 37 = .ok (.iaload, 1) := by decide +kernel
theorem dX1_equal_38 : decode cX1_equal 38 = .ok (.invokevirtual 153, 3) := by decide +kernel
theorem dX1_equal_41 : decode cX1_equal 41 = .ok (.if_icmp .ne 7, 3) := by decide +kernel
theorem dX1_equal_44 : decode cX1_equal 44 = .ok (.iconst 1, 1) := by decide +kernel
theorem dX1_equal_45 : decode cX1_equal 45 = .ok (.goto 4, 3) := by decide +kernel
theorem dX1_equal_48 : decode cX1_equal 48 = .ok (.iconst 0, 1) := by decide +kernel
theorem dX1_equal_49 : decode cX1_equal 49 = .ok (.ireturn, 1) := by decide +kernel
abbrev cX1_closeTerm : ByteArray := prog_1_method_33_code
def yX1_closeTerm : MethodName := ⟨RX1, "closeTerm", "(I)Z"⟩
theorem dX1_closeTerm_0 : decode cX1_closeTerm 0 = .ok (.aload_n 0, 1) := by decide +kernel
theorem dX1_closeTerm_1 : decode cX1_closeTerm 1 = .ok (.getfield 1, 3) := by decide +kernel
theorem dX1_closeTerm_4 : decode cX1_closeTerm 4 = .ok (.getfield 39, 3) := by decide +kernel
theorem dX1_closeTerm_7 : decode cX1_closeTerm 7 = .ok (.iload_n 1, 1) := by decide +kernel
theorem dX1_closeTerm_8 : decode cX1_closeTerm 8 = .ok (.iaload, 1) := by decide +kernel
theorem dX1_closeTerm_9 : decode cX1_closeTerm 9 = .ok (.iconst 4, 1) := by decide +kernel
theorem dX1_closeTerm_10 : decode cX1_closeTerm 10 = .ok (.if_icmp .eq 5, 3) := by decide +kernel
theorem dX1_closeTerm_13 : decode cX1_closeTerm 13 = .ok (.iconst 0, 1) := by decide +kernel
theorem dX1_closeTerm_14 : decode cX1_closeTerm 14 = .ok (.ireturn, 1) := by decide +kernel
theorem dX1_closeTerm_15 : decode cX1_closeTerm 15 = .ok (.iconst 0, 1) := by decide +kernel
theorem dX1_closeTerm_16 : decode cX1_closeTerm 16 = .ok (.istore_n 2, 1) := by decide +kernel
theorem dX1_closeTerm_17 : decode cX1_closeTerm 17 = .ok (.aload_n 0, 1) := by decide +kernel
theorem dX1_closeTerm_18 : decode cX1_closeTerm 18 = .ok (.getfield 1, 3) := by decide +kernel
theorem dX1_closeTerm_21 : decode cX1_closeTerm 21 = .ok (.getfield 45, 3) := by decide +kernel
theorem dX1_closeTerm_24 : decode cX1_closeTerm 24 = .ok (.iload_n 1, 1) := by decide +kernel
theorem dX1_closeTerm_25 : decode cX1_closeTerm 25 = .ok (.iaload, 1) := by decide +kernel
theorem dX1_closeTerm_26 : decode cX1_closeTerm 26 = .ok (.istore_n 3, 1) := by decide +kernel
theorem dX1_closeTerm_27 : decode cX1_closeTerm 27 = .ok (.aload_n 0, 1) := by decide +kernel
theorem dX1_closeTerm_28 : decode cX1_closeTerm 28 = .ok (.getfield 1, 3) := by decide +kernel
theorem dX1_closeTerm_31 : decode cX1_closeTerm 31 = .ok (.getfield 32, 3) := by decide +kernel
theorem dX1_closeTerm_34 : decode cX1_closeTerm 34 = .ok (.iload_n 1, 1) := by decide +kernel
theorem dX1_closeTerm_35 : decode cX1_closeTerm 35 = .ok (.iaload, 1) := by decide +kernel
theorem dX1_closeTerm_36 : decode cX1_closeTerm 36 = .ok (.istore 4, 2) := by decide +kernel
theorem dX1_closeTerm_38 : decode cX1_closeTerm 38 = .ok (.iconst 0, 1) := by decide +kernel
theorem dX1_closeTerm_39 : decode cX1_closeTerm 39 = .ok (.istore 5, 2) := by decide +kernel
theorem dX1_closeTerm_41 : decode cX1_closeTerm 41 = .ok (.iload 5, 2) := by decide +kernel
theorem dX1_closeTerm_43 : decode cX1_closeTerm 43 = .ok (.aload_n 0, 1) := by decide +kernel
theorem dX1_closeTerm_44 : decode cX1_closeTerm 44 = .ok (.getfield 80, 3) := by decide +kernel
theorem dX1_closeTerm_47 : decode cX1_closeTerm 47 = .ok (.if_icmp .ge 288, 3) := by decide +kernel
theorem dX1_closeTerm_50 : decode cX1_closeTerm 50 = .ok (.aload_n 0, 1) := by decide +kernel
theorem dX1_closeTerm_51 : decode cX1_closeTerm 51 = .ok (.getfield 159, 3) := by decide +kernel
theorem dX1_closeTerm_54 : decode cX1_closeTerm 54 = .ok (.ifCond .ne 281, 3) := by decide +kernel
theorem dX1_closeTerm_57 : decode cX1_closeTerm 57 = .ok (.aload_n 0, 1) := by decide +kernel
theorem dX1_closeTerm_58 : decode cX1_closeTerm 58 = .ok (.getfield 83, 3) := by decide +kernel
theorem dX1_closeTerm_61 : decode cX1_closeTerm 61 = .ok (.iload 5, 2) := by decide +kernel
theorem dX1_closeTerm_63 : decode cX1_closeTerm 63 = .ok (.iaload, 1) := by decide +kernel
theorem dX1_closeTerm_64 : decode cX1_closeTerm 64 = .ok (.iconst 1, 1) := by decide +kernel
theorem dX1_closeTerm_65 : decode cX1_closeTerm 65 = .ok (.if_icmp .lt 264, 3) := by decide +kernel
theorem dX1_closeTerm_68 : decode cX1_closeTerm 68 = .ok (.aload_n 0, 1) := by decide +kernel
theorem dX1_closeTerm_69 : decode cX1_closeTerm 69 = .ok (.getfield 86, 3) := by decide +kernel
theorem dX1_closeTerm_72 : decode cX1_closeTerm 72 = .ok (.iload 5, 2) := by decide +kernel
theorem dX1_closeTerm_74 : decode cX1_closeTerm 74 = .ok (.iaload, 1) := by decide +kernel
theorem dX1_closeTerm_75 : decode cX1_closeTerm 75 = .ok (.iload_n 3, 1) := by decide +kernel
theorem dX1_closeTerm_76 : decode cX1_closeTerm 76 = .ok (.if_icmp .eq 6, 3) := by decide +kernel
theorem dX1_closeTerm_79 : decode cX1_closeTerm 79 = .ok (.goto 250, 3) := by decide +kernel
theorem dX1_closeTerm_82 : decode cX1_closeTerm 82 = .ok (.iload 4, 2) := by decide +kernel
theorem dX1_closeTerm_84 : decode cX1_closeTerm 84 = .ok (.ifCond .le 15, 3) := by decide +kernel
theorem dX1_closeTerm_87 : decode cX1_closeTerm 87 = .ok (.aload_n 0, 1) := by decide +kernel
theorem dX1_closeTerm_88 : decode cX1_closeTerm 88 = .ok (.getfield 1, 3) := by decide +kernel
theorem dX1_closeTerm_91 : decode cX1_closeTerm 91 = .ok (.iload_n 1, 1) := by decide +kernel
theorem dX1_closeTerm_92 : decode cX1_closeTerm 92 = .ok (.iconst 0, 1) := by decide +kernel
theorem dX1_closeTerm_93 : decode cX1_closeTerm 93 = .ok (.invokevirtual 28, 3) := by decide +kernel
theorem dX1_closeTerm_96 : decode cX1_closeTerm 96 = .ok (.goto 4, 3) := by decide +kernel
theorem dX1_closeTerm_99 : decode cX1_closeTerm 99 = .ok (.iconst 0, 1) := by decide +kernel
theorem dX1_closeTerm_100 : decode cX1_closeTerm 100 = .ok (.istore 6, 2) := by decide +kernel
theorem dX1_closeTerm_102 : decode cX1_closeTerm 102 = .ok (.iload 4, 2) := by decide +kernel
theorem dX1_closeTerm_104 : decode cX1_closeTerm 104 = .ok (.iconst 1, 1) := by decide +kernel
theorem dX1_closeTerm_105 : decode cX1_closeTerm 105 = .ok (.if_icmp .le 15, 3) := by decide +kernel
theorem dX1_closeTerm_108 : decode cX1_closeTerm 108 = .ok (.aload_n 0, 1) := by decide +kernel
theorem dX1_closeTerm_109 : decode cX1_closeTerm 109 = .ok (.getfield 1, 3) := by decide +kernel
theorem dX1_closeTerm_112 : decode cX1_closeTerm 112 = .ok (.iload_n 1, 1) := by decide +kernel
theorem dX1_closeTerm_113 : decode cX1_closeTerm 113 = .ok (.iconst 1, 1) := by decide +kernel
theorem dX1_closeTerm_114 : decode cX1_closeTerm 114 = .ok (.invokevirtual 28, 3) := by decide +kernel
theorem dX1_closeTerm_117 : decode cX1_closeTerm 117 = .ok (.goto 4, 3) := by decide +kernel
theorem dX1_closeTerm_120 : decode cX1_closeTerm 120 = .ok (.iconst 0, 1) := by decide +kernel
theorem dX1_closeTerm_121 : decode cX1_closeTerm 121 = .ok (.istore 7, 2) := by decide +kernel
theorem dX1_closeTerm_123 : decode cX1_closeTerm 123 = .ok (.aload_n 0, 1) := by decide +kernel
theorem dX1_closeTerm_124 : decode cX1_closeTerm 124 = .ok (.getfield 89, 3) := by decide +kernel
theorem dX1_closeTerm_127 : decode cX1_closeTerm 127 = .ok (.iload 5, 2) := by decide +kernel
theorem dX1_closeTerm_129 : decode cX1_closeTerm 129 = .ok (.iaload, 1) := by decide +kernel
theorem dX1_closeTerm_130 : decode cX1_closeTerm 130 = .ok (.ifCond .eq 31, 3) := by decide +kernel
theorem dX1_closeTerm_133 : decode cX1_closeTerm 133 = .ok (.aload_n 0, 1) := by decide +kernel
theorem dX1_closeTerm_134 : decode cX1_closeTerm 134 = .ok (.iload 6, 2) := by decide +kernel
theorem dX1_closeTerm_136 : decode cX1_closeTerm 136 = .ok (.aload_n 0, 1) := by decide +kernel
theorem dX1_closeTerm_137 : decode cX1_closeTerm 137 = .ok (.getfield 1, 3) := by decide +kernel
theorem dX1_closeTerm_140 : decode cX1_closeTerm 140 = .ok (.aload_n 0, 1) := by decide +kernel
theorem dX1_closeTerm_141 : decode cX1_closeTerm 141 = .ok (.getfield 89, 3) := by decide +kernel
theorem dX1_closeTerm_144 : decode cX1_closeTerm 144 = .ok (.iload 5, 2) := by decide +kernel
theorem dX1_closeTerm_146 : decode cX1_closeTerm 146 = .ok (.iaload, 1) := by decide +kernel
theorem dX1_closeTerm_147 : decode cX1_closeTerm 147 = .ok (.iload 6, 2) := by decide +kernel
theorem dX1_closeTerm_149 : decode cX1_closeTerm 149 = .ok (.iload 7, 2) := by decide +kernel
theorem dX1_closeTerm_151 : decode cX1_closeTerm 151 = .ok (.iconst 0, 1) := by decide +kernel
theorem dX1_closeTerm_152 : decode cX1_closeTerm 152 = .ok (.invokevirtual 51, 3) := by decide +kernel
theorem dX1_closeTerm_155 : decode cX1_closeTerm 155 = .ok (.invokevirtual 244, 3) := by decide +kernel
theorem dX1_closeTerm_158 : decode cX1_closeTerm 158 = .ok (.ifCond .eq 45, 3) := by decide +kernel
theorem dX1_closeTerm_161 : decode cX1_closeTerm 161 = .ok (.aload_n 0, 1) := by decide +kernel
theorem dX1_closeTerm_162 : decode cX1_closeTerm 162 = .ok (.getfield 95, 3) := by decide +kernel
theorem dX1_closeTerm_165 : decode cX1_closeTerm 165 = .ok (.iload 5, 2) := by decide +kernel
theorem dX1_closeTerm_167 : decode cX1_closeTerm 167 = .ok (.iaload, 1) := by decide +kernel
theorem dX1_closeTerm_168 : decode cX1_closeTerm 168 = .ok (.ifCond .eq 31, 3) := by decide +kernel
theorem dX1_closeTerm_171 : decode cX1_closeTerm 171 = .ok (.aload_n 0, 1) := by decide +kernel
theorem dX1_closeTerm_172 : decode cX1_closeTerm 172 = .ok (.iload 7, 2) := by decide +kernel
theorem dX1_closeTerm_174 : decode cX1_closeTerm 174 = .ok (.aload_n 0, 1) := by decide +kernel
theorem dX1_closeTerm_175 : decode cX1_closeTerm 175 = .ok (.getfield 1, 3) := by decide +kernel
theorem dX1_closeTerm_178 : decode cX1_closeTerm 178 = .ok (.aload_n 0, 1) := by decide +kernel
theorem dX1_closeTerm_179 : decode cX1_closeTerm 179 = .ok (.getfield 95, 3) := by decide +kernel
theorem dX1_closeTerm_182 : decode cX1_closeTerm 182 = .ok (.iload 5, 2) := by decide +kernel
theorem dX1_closeTerm_184 : decode cX1_closeTerm 184 = .ok (.iaload, 1) := by decide +kernel
theorem dX1_closeTerm_185 : decode cX1_closeTerm 185 = .ok (.iload 6, 2) := by decide +kernel
theorem dX1_closeTerm_187 : decode cX1_closeTerm 187 = .ok (.iload 7, 2) := by decide +kernel
theorem dX1_closeTerm_189 : decode cX1_closeTerm 189 = .ok (.iconst 0, 1) := by decide +kernel
theorem dX1_closeTerm_190 : decode cX1_closeTerm 190 = .ok (.invokevirtual 51, 3) := by decide +kernel
theorem dX1_closeTerm_193 : decode cX1_closeTerm 193 = .ok (.invokevirtual 244, 3) := by decide +kernel
theorem dX1_closeTerm_196 : decode cX1_closeTerm 196 = .ok (.ifCond .eq 7, 3) := by decide +kernel
theorem dX1_closeTerm_199 : decode cX1_closeTerm 199 = .ok (.iconst 1, 1) := by decide +kernel
theorem dX1_closeTerm_200 : decode cX1_closeTerm 200 = .ok (.goto 4, 3) := by decide +kernel
theorem dX1_closeTerm_203 : decode cX1_closeTerm 203 = .ok (.iconst 0, 1) := by decide +kernel
theorem dX1_closeTerm_204 : decode cX1_closeTerm 204 = .ok (.istore 8, 2) := by decide +kernel
theorem dX1_closeTerm_206 : decode cX1_closeTerm 206 = .ok (.iload 8, 2) := by decide +kernel
theorem dX1_closeTerm_208 : decode cX1_closeTerm 208 = .ok (.ifCond .ne 6, 3) := by decide +kernel
theorem dX1_closeTerm_211 : decode cX1_closeTerm 211 = .ok (.goto 118, 3) := by decide +kernel
theorem dX1_closeTerm_214 : decode cX1_closeTerm 214 = .ok (.aload_n 0, 1) := by decide +kernel
theorem dX1_closeTerm_215 : decode cX1_closeTerm 215 = .ok (.getfield 83, 3) := by decide +kernel
theorem dX1_closeTerm_218 : decode cX1_closeTerm 218 = .ok (.iload 5, 2) := by decide +kernel
theorem dX1_closeTerm_220 : decode cX1_closeTerm 220 = .ok (.iaload, 1) := by decide +kernel
theorem dX1_closeTerm_221 : decode cX1_closeTerm 221 = .ok (.iconst 1, 1) := by decide +kernel
theorem dX1_closeTerm_222 : decode cX1_closeTerm 222 = .ok (.if_icmp .ne 61, 3) := by decide +kernel
theorem dX1_closeTerm_225 : decode cX1_closeTerm 225 = .ok (.iconst 1, 1) := by decide +kernel
theorem dX1_closeTerm_226 : decode cX1_closeTerm 226 = .ok (.istore 9, 2) := by decide +kernel
theorem dX1_closeTerm_228 : decode cX1_closeTerm 228 = .ok (.iload 9, 2) := by decide +kernel
theorem dX1_closeTerm_230 : decode cX1_closeTerm 230 = .ok (.aload_n 0, 1) := by decide +kernel
theorem dX1_closeTerm_231 : decode cX1_closeTerm 231 = .ok (.getfield 1, 3) := by decide +kernel
theorem dX1_closeTerm_234 : decode cX1_closeTerm 234 = .ok (.getfield 32, 3) := by decide +kernel
theorem dX1_closeTerm_237 : decode cX1_closeTerm 237 = .ok (.aload_n 0, 1) := by decide +kernel
theorem dX1_closeTerm_238 : decode cX1_closeTerm 238 = .ok (.getfield 98, 3) := by decide +kernel
theorem dX1_closeTerm_241 : decode cX1_closeTerm 241 = .ok (.iload 5, 2) := by decide +kernel
theorem dX1_closeTerm_243 : decode cX1_closeTerm 243 = .ok (.iaload, 1) := by decide +kernel
theorem dX1_closeTerm_244 : decode cX1_closeTerm 244 = .ok (.iaload, 1) := by decide +kernel
theorem dX1_closeTerm_245 : decode cX1_closeTerm 245 = .ok (.if_icmp .ge 35, 3) := by decide +kernel
theorem dX1_closeTerm_248 : decode cX1_closeTerm 248 = .ok (.aload_n 0, 1) := by decide +kernel
theorem dX1_closeTerm_249 : decode cX1_closeTerm 249 = .ok (.iload_n 1, 1) := by decide +kernel
theorem dX1_closeTerm_250 : decode cX1_closeTerm 250 = .ok (.aload_n 0, 1) := by decide +kernel
theorem dX1_closeTerm_251 : decode cX1_closeTerm 251 = .ok (.getfield 1, 3) := by decide +kernel
theorem dX1_closeTerm_254 : decode cX1_closeTerm 254 = .ok (.aload_n 0, 1) := by decide +kernel
theorem dX1_closeTerm_255 : decode cX1_closeTerm 255 = .ok (.getfield 98, 3) := by decide +kernel
theorem dX1_closeTerm_258 : decode cX1_closeTerm 258 = .ok (.iload 5, 2) := by decide +kernel
theorem dX1_closeTerm_260 : decode cX1_closeTerm 260 = .ok (.iaload, 1) := by decide +kernel
theorem dX1_closeTerm_261 : decode cX1_closeTerm 261 = .ok (.iload 9, 2) := by decide +kernel
theorem dX1_closeTerm_263 : decode cX1_closeTerm 263 = .ok (.invokevirtual 28, 3) := by decide +kernel
theorem dX1_closeTerm_266 : decode cX1_closeTerm 266 = .ok (.invokevirtual 181, 3) := by decide +kernel
theorem dX1_closeTerm_269 : decode cX1_closeTerm 269 = .ok (.ifCond .eq 5, 3) := by decide +kernel
theorem dX1_closeTerm_272 : decode cX1_closeTerm 272 = .ok (.iconst 1, 1) := by decide +kernel
theorem dX1_closeTerm_273 : decode cX1_closeTerm 273 = .ok (.istore_n 2, 1) := by decide +kernel
theorem dX1_closeTerm_274 : decode cX1_closeTerm 274 = .ok (.iinc 9 1, 3) := by decide +kernel
theorem dX1_closeTerm_277 : decode cX1_closeTerm 277 = .ok (.goto (-49), 3) := by decide +kernel
theorem dX1_closeTerm_280 : decode cX1_closeTerm 280 = .ok (.goto 49, 3) := by decide +kernel
theorem dX1_closeTerm_283 : decode cX1_closeTerm 283 = .ok (.aload_n 0, 1) := by decide +kernel
theorem dX1_closeTerm_284 : decode cX1_closeTerm 284 = .ok (.getfield 1, 3) := by decide +kernel
theorem dX1_closeTerm_287 : decode cX1_closeTerm 287 = .ok (.aload_n 0, 1) := by decide +kernel
theorem dX1_closeTerm_288 : decode cX1_closeTerm 288 = .ok (.getfield 98, 3) := by decide +kernel
theorem dX1_closeTerm_291 : decode cX1_closeTerm 291 = .ok (.iload 5, 2) := by decide +kernel
theorem dX1_closeTerm_293 : decode cX1_closeTerm 293 = .ok (.iaload, 1) := by decide +kernel
theorem dX1_closeTerm_294 : decode cX1_closeTerm 294 = .ok (.iload 6, 2) := by decide +kernel
theorem dX1_closeTerm_296 : decode cX1_closeTerm 296 = .ok (.iload 7, 2) := by decide +kernel
theorem dX1_closeTerm_298 : decode cX1_closeTerm 298 = .ok (.iconst 0, 1) := by decide +kernel
theorem dX1_closeTerm_299 : decode cX1_closeTerm 299 = .ok (.invokevirtual 51, 3) := by decide +kernel
theorem dX1_closeTerm_302 : decode cX1_closeTerm 302 = .ok (.istore 9, 2) := by decide +kernel
theorem dX1_closeTerm_304 : decode cX1_closeTerm 304 = .ok (.aload_n 0, 1) := by decide +kernel
theorem dX1_closeTerm_305 : decode cX1_closeTerm 305 = .ok (.iload 9, 2) := by decide +kernel
theorem dX1_closeTerm_307 : decode cX1_closeTerm 307 = .ok (.invokevirtual 172, 3) := by decide +kernel
theorem dX1_closeTerm_310 : decode cX1_closeTerm 310 = .ok (.aload_n 0, 1) := by decide +kernel
theorem dX1_closeTerm_311 : decode cX1_closeTerm 311 = .ok (.getfield 159, 3) := by decide +kernel
theorem dX1_closeTerm_314 : decode cX1_closeTerm 314 = .ok (.ifCond .eq 5, 3) := by decide +kernel
theorem dX1_closeTerm_317 : decode cX1_closeTerm 317 = .ok (.iconst 0, 1) := by decide +kernel
theorem dX1_closeTerm_318 : decode cX1_closeTerm 318 = .ok (.ireturn, 1) := by decide +kernel
theorem dX1_closeTerm_319 : decode cX1_closeTerm 319 = .ok (.iload_n 2, 1) := by decide +kernel
theorem dX1_closeTerm_320 : decode cX1_closeTerm 320 = .ok (.aload_n 0, 1) := by decide +kernel
theorem dX1_closeTerm_321 : decode cX1_closeTerm 321 = .ok (.iload_n 1, 1) := by decide +kernel
theorem dX1_closeTerm_322 : decode cX1_closeTerm 322 = .ok (.iload 9, 2) := by decide +kernel
theorem dX1_closeTerm_324 : decode cX1_closeTerm 324 = .ok (.invokevirtual 229, 3) := by decide +kernel
theorem dX1_closeTerm_327 : decode cX1_closeTerm 327 = .ok (.ior, 1) := by decide +kernel
theorem dX1_closeTerm_328 : decode cX1_closeTerm 328 = .ok (.istore_n 2, 1) := by decide +kernel
theorem dX1_closeTerm_329 : decode cX1_closeTerm 329 = .ok (.iinc 5 1, 3) := by decide +kernel
theorem dX1_closeTerm_332 : decode cX1_closeTerm 332 = .ok (.goto (-291), 3) := by decide +kernel
theorem dX1_closeTerm_335 : decode cX1_closeTerm 335 = .ok (.iload_n 2, 1) := by decide +kernel
theorem dX1_closeTerm_336 : decode cX1_closeTerm 336 = .ok (.ireturn, 1) := by decide +kernel
abbrev cX1_classFits : ByteArray := prog_1_method_27_code
def yX1_classFits : MethodName := ⟨RX1, "classFits", "(II)Z"⟩
theorem dX1_classFits_0 : decode cX1_classFits 0 = .ok (.aload_n 0, 1) := by decide +kernel
theorem dX1_classFits_1 : decode cX1_classFits 1 = .ok (.iload_n 1, 1) := by decide +kernel
theorem dX1_classFits_2 : decode cX1_classFits 2 = .ok (.aload_n 0, 1) := by decide +kernel
theorem dX1_classFits_3 : decode cX1_classFits 3 = .ok (.getfield 1, 3) := by decide +kernel
theorem dX1_classFits_6 : decode cX1_classFits 6 = .ok (.getfield 45, 3) := by decide +kernel
theorem dX1_classFits_9 : decode cX1_classFits 9 = .ok (.iload_n 2, 1) := by decide +kernel
theorem dX1_classFits_10 : decode cX1_classFits 10 = .ok (.iaload, 1) := by decide +kernel
theorem dX1_classFits_11 : decode cX1_classFits 11 = .ok (.aload_n 0, 1) := by decide +kernel
theorem dX1_classFits_12 : decode cX1_classFits 12 = .ok (.iload_n 2, 1) := by decide +kernel
theorem dX1_classFits_13 : decode cX1_classFits 13 = .ok (.invokevirtual 58, 3) := by decide +kernel
theorem dX1_classFits_16 : decode cX1_classFits 16 = .ok (.invokevirtual 208, 3) := by decide +kernel
theorem dX1_classFits_19 : decode cX1_classFits 19 = .ok (.ifCond .ne 5, 3) := by decide +kernel
theorem dX1_classFits_22 : decode cX1_classFits 22 = .ok (.iconst 0, 1) := by decide +kernel
theorem dX1_classFits_23 : decode cX1_classFits 23 = .ok (.ireturn, 1) := by decide +kernel
theorem dX1_classFits_24 : decode cX1_classFits 24 = .ok (.iconst 1, 1) := by decide +kernel
theorem dX1_classFits_25 : decode cX1_classFits 25 = .ok (.istore_n 3, 1) := by decide +kernel
theorem dX1_classFits_26 : decode cX1_classFits 26 = .ok (.iload_n 3, 1) := by decide +kernel
theorem dX1_classFits_27 : decode cX1_classFits 27 = .ok (.aload_n 0, 1) := by decide +kernel
theorem dX1_classFits_28 : decode cX1_classFits 28 = .ok (.getfield 1, 3) := by decide +kernel
theorem dX1_classFits_31 : decode cX1_classFits 31 = .ok (.getfield 32, 3) := by decide +kernel
theorem dX1_classFits_34 : decode cX1_classFits 34 = .ok (.iload_n 2, 1) := by decide +kernel
theorem dX1_classFits_35 : decode cX1_classFits 35 = .ok (.iaload, 1) := by decide +kernel
theorem dX1_classFits_36 : decode cX1_classFits 36 = .ok (.if_icmp .ge 28, 3) := by decide +kernel
theorem dX1_classFits_39 : decode cX1_classFits 39 = .ok (.aload_n 0, 1) := by decide +kernel
theorem dX1_classFits_40 : decode cX1_classFits 40 = .ok (.iload_n 1, 1) := by decide +kernel
theorem dX1_classFits_41 : decode cX1_classFits 41 = .ok (.aload_n 0, 1) := by decide +kernel
theorem dX1_classFits_42 : decode cX1_classFits 42 = .ok (.getfield 1, 3) := by decide +kernel
theorem dX1_classFits_45 : decode cX1_classFits 45 = .ok (.iload_n 2, 1) := by decide +kernel
theorem dX1_classFits_46 : decode cX1_classFits 46 = .ok (.iload_n 3, 1) := by decide +kernel
theorem dX1_classFits_47 : decode cX1_classFits 47 = .ok (.invokevirtual 28, 3) := by decide +kernel
theorem dX1_classFits_50 : decode cX1_classFits 50 = .ok (.invokevirtual 211, 3) := by decide +kernel
theorem dX1_classFits_53 : decode cX1_classFits 53 = .ok (.ifCond .ne 5, 3) := by decide +kernel
theorem dX1_classFits_56 : decode cX1_classFits 56 = .ok (.iconst 0, 1) := by decide +kernel
theorem dX1_classFits_57 : decode cX1_classFits 57 = .ok (.ireturn, 1) := by decide +kernel
theorem dX1_classFits_58 : decode cX1_classFits 58 = .ok (.iinc 3 1, 3) := by decide +kernel
theorem dX1_classFits_61 : decode cX1_classFits 61 = .ok (.goto (-35), 3) := by decide +kernel
theorem dX1_classFits_64 : decode cX1_classFits 64 = .ok (.iconst 1, 1) := by decide +kernel
theorem dX1_classFits_65 : decode cX1_classFits 65 = .ok (.ireturn, 1) := by decide +kernel
abbrev cX1_classHasMode : ByteArray := prog_1_method_25_code
def yX1_classHasMode : MethodName := ⟨RX1, "classHasMode", "(III)Z"⟩
theorem dX1_classHasMode_0 : decode cX1_classHasMode 0 = .ok (.iconst 0, 1) := by decide +kernel
theorem dX1_classHasMode_1 : decode cX1_classHasMode 1 = .ok (.istore 4, 2) := by decide +kernel
theorem dX1_classHasMode_3 : decode cX1_classHasMode 3 = .ok (.iload 4, 2) := by decide +kernel
theorem dX1_classHasMode_5 : decode cX1_classHasMode 5 = .ok (.aload_n 0, 1) := by decide +kernel
theorem dX1_classHasMode_6 : decode cX1_classHasMode 6 = .ok (.getfield 184, 3) := by decide +kernel
theorem dX1_classHasMode_9 : decode cX1_classHasMode 9 = .ok (.if_icmp .ge 82, 3) := by decide +kernel
theorem dX1_classHasMode_12 : decode cX1_classHasMode 12 = .ok (.aload_n 0, 1) := by decide +kernel
theorem dX1_classHasMode_13 : decode cX1_classHasMode 13 = .ok (.getfield 190, 3) := by decide +kernel
theorem dX1_classHasMode_16 : decode cX1_classHasMode 16 = .ok (.iload 4, 2) := by decide +kernel
theorem dX1_classHasMode_18 : decode cX1_classHasMode 18 = .ok (.iaload, 1) := by decide +kernel
theorem dX1_classHasMode_19 : decode cX1_classHasMode 19 = .ok (.iload_n 2, 1) := by decide +kernel
theorem dX1_classHasMode_20 : decode cX1_classHasMode 20 = .ok (.if_icmp .ne 65, 3) := by decide +kernel
theorem dX1_classHasMode_23 : decode cX1_classHasMode 23 = .ok (.aload_n 0, 1) := by decide +kernel
theorem dX1_classHasMode_24 : decode cX1_classHasMode 24 = .ok (.aload_n 0, 1) := by decide +kernel
theorem dX1_classHasMode_25 : decode cX1_classHasMode 25 = .ok (.getfield 187, 3) := by decide +kernel
theorem dX1_classHasMode_28 : decode cX1_classHasMode 28 = .ok (.iload 4, 2) := by decide +kernel
theorem dX1_classHasMode_30 : decode cX1_classHasMode 30 = .ok (.iaload, 1) := by decide +kernel
theorem dX1_classHasMode_31 : decode cX1_classHasMode 31 = .ok (.iload_n 1, 1) := by decide +kernel
theorem dX1_classHasMode_32 : decode cX1_classHasMode 32 = .ok (.invokevirtual 205, 3) := by decide +kernel
theorem dX1_classHasMode_35 : decode cX1_classHasMode 35 = .ok (.ifCond .ne 6, 3) := by decide +kernel
theorem dX1_classHasMode_38 : decode cX1_classHasMode 38 = .ok (.goto 47, 3) := by decide +kernel
theorem dX1_classHasMode_41 : decode cX1_classHasMode 41 = .ok (.iload_n 3, 1) := by decide +kernel
theorem dX1_classHasMode_42 : decode cX1_classHasMode 42 = .ok (.ifCond .ne 16, 3) := by decide +kernel
theorem dX1_classHasMode_45 : decode cX1_classHasMode 45 = .ok (.aload_n 0, 1) := by decide +kernel
theorem dX1_classHasMode_46 : decode cX1_classHasMode 46 = .ok (.getfield 193, 3) := by decide +kernel
theorem dX1_classHasMode_49 : decode cX1_classHasMode 49 = .ok (.iload 4, 2) := by decide +kernel
theorem dX1_classHasMode_51 : decode cX1_classHasMode 51 = .ok (.iaload, 1) := by decide +kernel
theorem dX1_classHasMode_52 : decode cX1_classHasMode 52 = .ok (.ifCond .ne 33, 3) := by decide +kernel
theorem dX1_classHasMode_55 : decode cX1_classHasMode 55 = .ok (.goto 28, 3) := by decide +kernel
theorem dX1_classHasMode_58 : decode cX1_classHasMode 58 = .ok (.aload_n 0, 1) := by decide +kernel
theorem dX1_classHasMode_59 : decode cX1_classHasMode 59 = .ok (.getfield 193, 3) := by decide +kernel
theorem dX1_classHasMode_62 : decode cX1_classHasMode 62 = .ok (.iload 4, 2) := by decide +kernel
theorem dX1_classHasMode_64 : decode cX1_classHasMode 64 = .ok (.iaload, 1) := by decide +kernel
theorem dX1_classHasMode_65 : decode cX1_classHasMode 65 = .ok (.ifCond .eq 20, 3) := by decide +kernel
theorem dX1_classHasMode_68 : decode cX1_classHasMode 68 = .ok (.aload_n 0, 1) := by decide +kernel
theorem dX1_classHasMode_69 : decode cX1_classHasMode 69 = .ok (.aload_n 0, 1) := by decide +kernel
theorem dX1_classHasMode_70 : decode cX1_classHasMode 70 = .ok (.getfield 193, 3) := by decide +kernel
theorem dX1_classHasMode_73 : decode cX1_classHasMode 73 = .ok (.iload 4, 2) := by decide +kernel
theorem dX1_classHasMode_75 : decode cX1_classHasMode 75 = .ok (.iaload, 1) := by decide +kernel
theorem dX1_classHasMode_76 : decode cX1_classHasMode 76 = .ok (.iload_n 3, 1) := by decide +kernel
theorem dX1_classHasMode_77 : decode cX1_classHasMode 77 = .ok (.invokevirtual 205, 3) := by decide +kernel
theorem dX1_classHasMode_80 : decode cX1_classHasMode 80 = .ok (.ifCond .eq 5, 3) := by decide +kernel
theorem dX1_classHasMode_83 : decode cX1_classHasMode 83 = .ok (.iconst 1, 1) := by decide +kernel
theorem dX1_classHasMode_84 : decode cX1_classHasMode 84 = .ok (.ireturn, 1) := by decide +kernel
theorem dX1_classHasMode_85 : decode cX1_classHasMode 85 = .ok (.iinc 4 1, 3) := by decide +kernel
theorem dX1_classHasMode_88 : decode cX1_classHasMode 88 = .ok (.goto (-85), 3) := by decide +kernel
theorem dX1_classHasMode_91 : decode cX1_classHasMode 91 = .ok (.iconst 0, 1) := by decide +kernel
theorem dX1_classHasMode_92 : decode cX1_classHasMode 92 = .ok (.ireturn, 1) := by decide +kernel
abbrev cX1_classHas : ByteArray := prog_1_method_26_code
def yX1_classHas : MethodName := ⟨RX1, "classHas", "(II)Z"⟩
theorem dX1_classHas_0 : decode cX1_classHas 0 = .ok (.iconst 0, 1) := by decide +kernel
theorem dX1_classHas_1 : decode cX1_classHas 1 = .ok (.istore_n 3, 1) := by decide +kernel
theorem dX1_classHas_2 : decode cX1_classHas 2 = .ok (.iload_n 3, 1) := by decide +kernel
theorem dX1_classHas_3 : decode cX1_classHas 3 = .ok (.aload_n 0, 1) := by decide +kernel
theorem dX1_classHas_4 : decode cX1_classHas 4 = .ok (.getfield 196, 3) := by decide +kernel
theorem dX1_classHas_7 : decode cX1_classHas 7 = .ok (.if_icmp .ge 35, 3) := by decide +kernel
theorem dX1_classHas_10 : decode cX1_classHas 10 = .ok (.aload_n 0, 1) := by decide +kernel
theorem dX1_classHas_11 : decode cX1_classHas 11 = .ok (.getfield 202, 3) := by decide +kernel
theorem dX1_classHas_14 : decode cX1_classHas 14 = .ok (.iload_n 3, 1) := by decide +kernel
theorem dX1_classHas_15 : decode cX1_classHas 15 = .ok (.iaload, 1) := by decide +kernel
theorem dX1_classHas_16 : decode cX1_classHas 16 = .ok (.iload_n 2, 1) := by decide +kernel
theorem dX1_classHas_17 : decode cX1_classHas 17 = .ok (.if_icmp .ne 19, 3) := by decide +kernel
theorem dX1_classHas_20 : decode cX1_classHas 20 = .ok (.aload_n 0, 1) := by decide +kernel
theorem dX1_classHas_21 : decode cX1_classHas 21 = .ok (.aload_n 0, 1) := by decide +kernel
theorem dX1_classHas_22 : decode cX1_classHas 22 = .ok (.getfield 199, 3) := by decide +kernel
theorem dX1_classHas_25 : decode cX1_classHas 25 = .ok (.iload_n 3, 1) := by decide +kernel
theorem dX1_classHas_26 : decode cX1_classHas 26 = .ok (.iaload, 1) := by decide +kernel
theorem dX1_classHas_27 : decode cX1_classHas 27 = .ok (.iload_n 1, 1) := by decide +kernel
theorem dX1_classHas_28 : decode cX1_classHas 28 = .ok (.invokevirtual 205, 3) := by decide +kernel
theorem dX1_classHas_31 : decode cX1_classHas 31 = .ok (.ifCond .eq 5, 3) := by decide +kernel
theorem dX1_classHas_34 : decode cX1_classHas 34 = .ok (.iconst 1, 1) := by decide +kernel
theorem dX1_classHas_35 : decode cX1_classHas 35 = .ok (.ireturn, 1) := by decide +kernel
theorem dX1_classHas_36 : decode cX1_classHas 36 = .ok (.iinc 3 1, 3) := by decide +kernel
theorem dX1_classHas_39 : decode cX1_classHas 39 = .ok (.goto (-37), 3) := by decide +kernel
theorem dX1_classHas_42 : decode cX1_classHas 42 = .ok (.iconst 0, 1) := by decide +kernel
theorem dX1_classHas_43 : decode cX1_classHas 43 = .ok (.ireturn, 1) := by decide +kernel
abbrev cX1_closeClasses : ByteArray := prog_1_method_34_code
def yX1_closeClasses : MethodName := ⟨RX1, "closeClasses", "(I)Z"⟩
theorem dX1_closeClasses_0 : decode cX1_closeClasses 0 = .ok (.iconst 0, 1) := by decide +kernel
theorem dX1_closeClasses_1 : decode cX1_closeClasses 1 = .ok (.istore_n 2, 1) := by decide +kernel
theorem dX1_closeClasses_2 : decode cX1_closeClasses 2 = .ok (.aload_n 0, 1) := by decide +kernel
theorem dX1_closeClasses_3 : decode cX1_closeClasses 3 = .ok (.getfield 86, 3) := by decide +kernel
theorem dX1_closeClasses_6 : decode cX1_closeClasses 6 = .ok (.iload_n 1, 1) := by decide +kernel
theorem dX1_closeClasses_7 : decode cX1_closeClasses 7 = .ok (.iaload, 1) := by decide +kernel
theorem dX1_closeClasses_8 : decode cX1_closeClasses 8 = .ok (.istore_n 3, 1) := by decide +kernel
theorem dX1_closeClasses_9 : decode cX1_closeClasses 9 = .ok (.iconst 0, 1) := by decide +kernel
theorem dX1_closeClasses_10 : decode cX1_closeClasses 10 = .ok (.istore 4, 2) := by decide +kernel
theorem dX1_closeClasses_12 : decode cX1_closeClasses 12 = .ok (.iload 4, 2) := by decide +kernel
theorem dX1_closeClasses_14 : decode cX1_closeClasses 14 = .ok (.aload_n 0, 1) := by decide +kernel
theorem dX1_closeClasses_15 : decode cX1_closeClasses 15 = .ok (.getfield 163, 3) := by decide +kernel
theorem dX1_closeClasses_18 : decode cX1_closeClasses 18 = .ok (.if_icmp .ge 292, 3) := by decide +kernel
theorem dX1_closeClasses_21 : decode cX1_closeClasses 21 = .ok (.aload_n 0, 1) := by decide +kernel
theorem dX1_closeClasses_22 : decode cX1_closeClasses 22 = .ok (.getfield 169, 3) := by decide +kernel
theorem dX1_closeClasses_25 : decode cX1_closeClasses 25 = .ok (.iload 4, 2) := by decide +kernel
theorem dX1_closeClasses_27 : decode cX1_closeClasses 27 = .ok (.iaload, 1) := by decide +kernel
theorem dX1_closeClasses_28 : decode cX1_closeClasses 28 = .ok (.istore 5, 2) := by decide +kernel
theorem dX1_closeClasses_30 : decode cX1_closeClasses 30 = .ok (.iconst 0, 1) := by decide +kernel
theorem dX1_closeClasses_31 : decode cX1_closeClasses 31 = .ok (.istore 6, 2) := by decide +kernel
theorem dX1_closeClasses_33 : decode cX1_closeClasses 33 = .ok (.iconst 0, 1) := by decide +kernel
theorem dX1_closeClasses_34 : decode cX1_closeClasses 34 = .ok (.istore 7, 2) := by decide +kernel
theorem dX1_closeClasses_36 : decode cX1_closeClasses 36 = .ok (.iload 7, 2) := by decide +kernel
theorem dX1_closeClasses_38 : decode cX1_closeClasses 38 = .ok (.aload_n 0, 1) := by decide +kernel
theorem dX1_closeClasses_39 : decode cX1_closeClasses 39 = .ok (.getfield 184, 3) := by decide +kernel
theorem dX1_closeClasses_42 : decode cX1_closeClasses 42 = .ok (.if_icmp .ge 133, 3) := by decide +kernel
theorem dX1_closeClasses_45 : decode cX1_closeClasses 45 = .ok (.iload 6, 2) := by decide +kernel
theorem dX1_closeClasses_47 : decode cX1_closeClasses 47 = .ok (.ifCond .ne 128, 3) := by decide +kernel
theorem dX1_closeClasses_50 : decode cX1_closeClasses 50 = .ok (.aload_n 0, 1) := by decide +kernel
theorem dX1_closeClasses_51 : decode cX1_closeClasses 51 = .ok (.getfield 190, 3) := by decide +kernel
theorem dX1_closeClasses_54 : decode cX1_closeClasses 54 = .ok (.iload 7, 2) := by decide +kernel
theorem dX1_closeClasses_56 : decode cX1_closeClasses 56 = .ok (.iaload, 1) := by decide +kernel
theorem dX1_closeClasses_57 : decode cX1_closeClasses 57 = .ok (.aload_n 0, 1) := by decide +kernel
theorem dX1_closeClasses_58 : decode cX1_closeClasses 58 = .ok (.getfield 1, 3) := by decide +kernel
theorem dX1_closeClasses_61 : decode cX1_closeClasses 61 = .ok (.getfield 45, 3) := by decide +kernel
theorem dX1_closeClasses_64 : decode cX1_closeClasses 64 = .ok (.iload_n 3, 1) := by decide +kernel
theorem dX1_closeClasses_65 : decode cX1_closeClasses 65 = .ok (.iaload, 1) := by decide +kernel
theorem dX1_closeClasses_66 : decode cX1_closeClasses 66 = .ok (.if_icmp .ne 103, 3) := by decide +kernel
theorem dX1_closeClasses_69 : decode cX1_closeClasses 69 = .ok (.aload_n 0, 1) := by decide +kernel
theorem dX1_closeClasses_70 : decode cX1_closeClasses 70 = .ok (.aload_n 0, 1) := by decide +kernel
theorem dX1_closeClasses_71 : decode cX1_closeClasses 71 = .ok (.getfield 187, 3) := by decide +kernel
theorem dX1_closeClasses_74 : decode cX1_closeClasses 74 = .ok (.iload 7, 2) := by decide +kernel
theorem dX1_closeClasses_76 : decode cX1_closeClasses 76 = .ok (.iaload, 1) := by decide +kernel
theorem dX1_closeClasses_77 : decode cX1_closeClasses 77 = .ok (.iload 5, 2) := by decide +kernel
theorem dX1_closeClasses_79 : decode cX1_closeClasses 79 = .ok (.invokevirtual 205, 3) := by decide +kernel
theorem dX1_closeClasses_82 : decode cX1_closeClasses 82 = .ok (.ifCond .ne 6, 3) := by decide +kernel
theorem dX1_closeClasses_85 : decode cX1_closeClasses 85 = .ok (.goto 84, 3) := by decide +kernel
theorem dX1_closeClasses_88 : decode cX1_closeClasses 88 = .ok (.aload_n 0, 1) := by decide +kernel
theorem dX1_closeClasses_89 : decode cX1_closeClasses 89 = .ok (.iload_n 3, 1) := by decide +kernel
theorem dX1_closeClasses_90 : decode cX1_closeClasses 90 = .ok (.invokevirtual 58, 3) := by decide +kernel
theorem dX1_closeClasses_93 : decode cX1_closeClasses 93 = .ok (.ifCond .ne 21, 3) := by decide +kernel
theorem dX1_closeClasses_96 : decode cX1_closeClasses 96 = .ok (.aload_n 0, 1) := by decide +kernel
theorem dX1_closeClasses_97 : decode cX1_closeClasses 97 = .ok (.getfield 193, 3) := by decide +kernel
theorem dX1_closeClasses_100 : decode cX1_closeClasses 100 = .ok (.iload 7, 2) := by decide +kernel
theorem dX1_closeClasses_102 : decode cX1_closeClasses 102 = .ok (.iaload, 1) := by decide +kernel
theorem dX1_closeClasses_103 : decode cX1_closeClasses 103 = .ok (.ifCond .ne 7, 3) := by decide +kernel
theorem dX1_closeClasses_106 : decode cX1_closeClasses 106 = .ok (.iconst 1, 1) := by decide +kernel
theorem dX1_closeClasses_107 : decode cX1_closeClasses 107 = .ok (.goto 60, 3) := by decide +kernel
theorem dX1_closeClasses_110 : decode cX1_closeClasses 110 = .ok (.iconst 0, 1) := by decide +kernel
theorem dX1_closeClasses_111 : decode cX1_closeClasses 111 = .ok (.goto 56, 3) := by decide +kernel
theorem dX1_closeClasses_114 : decode cX1_closeClasses 114 = .ok (.aload_n 0, 1) := by decide +kernel
theorem dX1_closeClasses_115 : decode cX1_closeClasses 115 = .ok (.getfield 193, 3) := by decide +kernel
theorem dX1_closeClasses_118 : decode cX1_closeClasses 118 = .ok (.iload 7, 2) := by decide +kernel
theorem dX1_closeClasses_120 : decode cX1_closeClasses 120 = .ok (.iaload, 1) := by decide +kernel
theorem dX1_closeClasses_121 : decode cX1_closeClasses 121 = .ok (.ifCond .eq 45, 3) := by decide +kernel
theorem dX1_closeClasses_124 : decode cX1_closeClasses 124 = .ok (.aload_n 0, 1) := by decide +kernel
theorem dX1_closeClasses_125 : decode cX1_closeClasses 125 = .ok (.aload_n 0, 1) := by decide +kernel
theorem dX1_closeClasses_126 : decode cX1_closeClasses 126 = .ok (.getfield 193, 3) := by decide +kernel
theorem dX1_closeClasses_129 : decode cX1_closeClasses 129 = .ok (.iload 7, 2) := by decide +kernel
theorem dX1_closeClasses_131 : decode cX1_closeClasses 131 = .ok (.iaload, 1) := by decide +kernel
theorem dX1_closeClasses_132 : decode cX1_closeClasses 132 = .ok (.aload_n 0, 1) := by decide +kernel
theorem dX1_closeClasses_133 : decode cX1_closeClasses 133 = .ok (.getfield 1, 3) := by decide +kernel
theorem dX1_closeClasses_136 : decode cX1_closeClasses 136 = .ok (.getfield 45, 3) := by decide +kernel
theorem dX1_closeClasses_139 : decode cX1_closeClasses 139 = .ok (.aload_n 0, 1) := by decide +kernel
theorem dX1_closeClasses_140 : decode cX1_closeClasses 140 = .ok (.getfield 89, 3) := by decide +kernel
theorem dX1_closeClasses_143 : decode cX1_closeClasses 143 = .ok (.iload_n 1, 1) := by decide +kernel
theorem dX1_closeClasses_144 : decode cX1_closeClasses 144 = .ok (.iaload, 1) := by decide +kernel
theorem dX1_closeClasses_145 : decode cX1_closeClasses 145 = .ok (.iaload, 1) := by decide +kernel
theorem dX1_closeClasses_146 : decode cX1_closeClasses 146 = .ok (.aload_n 0, 1) := by decide +kernel
theorem dX1_closeClasses_147 : decode cX1_closeClasses 147 = .ok (.aload_n 0, 1) := by decide +kernel
theorem dX1_closeClasses_148 : decode cX1_closeClasses 148 = .ok (.getfield 89, 3) := by decide +kernel
theorem dX1_closeClasses_151 : decode cX1_closeClasses 151 = .ok (.iload_n 1, 1) := by decide +kernel
theorem dX1_closeClasses_152 : decode cX1_closeClasses 152 = .ok (.iaload, 1) := by decide +kernel
theorem dX1_closeClasses_153 : decode cX1_closeClasses 153 = .ok (.invokevirtual 58, 3) := by decide +kernel
theorem dX1_closeClasses_156 : decode cX1_closeClasses 156 = .ok (.invokevirtual 208, 3) := by decide +kernel
theorem dX1_closeClasses_159 : decode cX1_closeClasses 159 = .ok (.ifCond .eq 7, 3) := by decide +kernel
theorem dX1_closeClasses_162 : decode cX1_closeClasses 162 = .ok (.iconst 1, 1) := by decide +kernel
theorem dX1_closeClasses_163 : decode cX1_closeClasses 163 = .ok (.goto 4, 3) := by decide +kernel
theorem dX1_closeClasses_166 : decode cX1_closeClasses 166 = .ok (.iconst 0, 1) := by decide +kernel
theorem dX1_closeClasses_167 : decode cX1_closeClasses 167 = .ok (.istore 6, 2) := by decide +kernel
theorem dX1_closeClasses_169 : decode cX1_closeClasses 169 = .ok (.iinc 7 1, 3) := by decide +kernel
theorem dX1_closeClasses_172 : decode cX1_closeClasses 172 = .ok (.goto (-136), 3) := by decide +kernel
theorem dX1_closeClasses_175 : decode cX1_closeClasses 175 = .ok (.iconst 1, 1) := by decide +kernel
theorem dX1_closeClasses_176 : decode cX1_closeClasses 176 = .ok (.istore 7, 2) := by decide +kernel
theorem dX1_closeClasses_178 : decode cX1_closeClasses 178 = .ok (.iload 7, 2) := by decide +kernel
theorem dX1_closeClasses_180 : decode cX1_closeClasses 180 = .ok (.aload_n 0, 1) := by decide +kernel
theorem dX1_closeClasses_181 : decode cX1_closeClasses 181 = .ok (.getfield 1, 3) := by decide +kernel
theorem dX1_closeClasses_184 : decode cX1_closeClasses 184 = .ok (.getfield 32, 3) := by decide +kernel
theorem dX1_closeClasses_187 : decode cX1_closeClasses 187 = .ok (.iload_n 3, 1) := by decide +kernel
theorem dX1_closeClasses_188 : decode cX1_closeClasses 188 = .ok (.iaload, 1) := by decide +kernel
theorem dX1_closeClasses_189 : decode cX1_closeClasses 189 = .ok (.if_icmp .ge 32, 3) := by decide +kernel
theorem dX1_closeClasses_192 : decode cX1_closeClasses 192 = .ok (.iload 6, 2) := by decide +kernel
theorem dX1_closeClasses_194 : decode cX1_closeClasses 194 = .ok (.ifCond .eq 27, 3) := by decide +kernel
theorem dX1_closeClasses_197 : decode cX1_closeClasses 197 = .ok (.aload_n 0, 1) := by decide +kernel
theorem dX1_closeClasses_198 : decode cX1_closeClasses 198 = .ok (.iload 5, 2) := by decide +kernel
theorem dX1_closeClasses_200 : decode cX1_closeClasses 200 = .ok (.aload_n 0, 1) := by decide +kernel
theorem dX1_closeClasses_201 : decode cX1_closeClasses 201 = .ok (.getfield 1, 3) := by decide +kernel
theorem dX1_closeClasses_204 : decode cX1_closeClasses 204 = .ok (.iload_n 3, 1) := by decide +kernel
theorem dX1_closeClasses_205 : decode cX1_closeClasses 205 = .ok (.iload 7, 2) := by decide +kernel
theorem dX1_closeClasses_207 : decode cX1_closeClasses 207 = .ok (.invokevirtual 28, 3) := by decide +kernel
theorem dX1_closeClasses_210 : decode cX1_closeClasses 210 = .ok (.invokevirtual 211, 3) := by decide +kernel
theorem dX1_closeClasses_213 : decode cX1_closeClasses 213 = .ok (.istore 6, 2) := by decide +kernel
theorem dX1_closeClasses_215 : decode cX1_closeClasses 215 = .ok (.iinc 7 1, 3) := by decide +kernel
theorem dX1_closeClasses_218 : decode cX1_closeClasses 218 = .ok (.goto (-40), 3) := by decide +kernel
theorem dX1_closeClasses_221 : decode cX1_closeClasses 221 = .ok (.iconst 1, 1) := by decide +kernel
theorem dX1_closeClasses_222 : decode cX1_closeClasses 222 = .ok (.istore 7, 2) := by decide +kernel
theorem dX1_closeClasses_224 : decode cX1_closeClasses 224 = .ok (.iload 6, 2) := by decide +kernel
theorem dX1_closeClasses_226 : decode cX1_closeClasses 226 = .ok (.ifCond .eq 78, 3) := by decide +kernel
theorem dX1_closeClasses_229 : decode cX1_closeClasses 229 = .ok (.iload 7, 2) := by decide +kernel
theorem dX1_closeClasses_231 : decode cX1_closeClasses 231 = .ok (.aload_n 0, 1) := by decide +kernel
theorem dX1_closeClasses_232 : decode cX1_closeClasses 232 = .ok (.getfield 1, 3) := by decide +kernel
theorem dX1_closeClasses_235 : decode cX1_closeClasses 235 = .ok (.getfield 32, 3) := by decide +kernel
theorem dX1_closeClasses_238 : decode cX1_closeClasses 238 = .ok (.aload_n 0, 1) := by decide +kernel
theorem dX1_closeClasses_239 : decode cX1_closeClasses 239 = .ok (.getfield 98, 3) := by decide +kernel
theorem dX1_closeClasses_242 : decode cX1_closeClasses 242 = .ok (.iload_n 1, 1) := by decide +kernel
theorem dX1_closeClasses_243 : decode cX1_closeClasses 243 = .ok (.iaload, 1) := by decide +kernel
theorem dX1_closeClasses_244 : decode cX1_closeClasses 244 = .ok (.iaload, 1) := by decide +kernel
theorem dX1_closeClasses_245 : decode cX1_closeClasses 245 = .ok (.if_icmp .ge 59, 3) := by decide +kernel
theorem dX1_closeClasses_248 : decode cX1_closeClasses 248 = .ok (.aload_n 0, 1) := by decide +kernel
theorem dX1_closeClasses_249 : decode cX1_closeClasses 249 = .ok (.iload 5, 2) := by decide +kernel
theorem dX1_closeClasses_251 : decode cX1_closeClasses 251 = .ok (.aload_n 0, 1) := by decide +kernel
theorem dX1_closeClasses_252 : decode cX1_closeClasses 252 = .ok (.getfield 1, 3) := by decide +kernel
theorem dX1_closeClasses_255 : decode cX1_closeClasses 255 = .ok (.aload_n 0, 1) := by decide +kernel
theorem dX1_closeClasses_256 : decode cX1_closeClasses 256 = .ok (.getfield 98, 3) := by decide +kernel
theorem dX1_closeClasses_259 : decode cX1_closeClasses 259 = .ok (.iload_n 1, 1) := by decide +kernel
theorem dX1_closeClasses_260 : decode cX1_closeClasses 260 = .ok (.iaload, 1) := by decide +kernel
theorem dX1_closeClasses_261 : decode cX1_closeClasses 261 = .ok (.iload 7, 2) := by decide +kernel
theorem dX1_closeClasses_263 : decode cX1_closeClasses 263 = .ok (.invokevirtual 28, 3) := by decide +kernel
theorem dX1_closeClasses_266 : decode cX1_closeClasses 266 = .ok (.invokevirtual 211, 3) := by decide +kernel
theorem dX1_closeClasses_269 : decode cX1_closeClasses 269 = .ok (.ifCond .ne 29, 3) := by decide +kernel
theorem dX1_closeClasses_272 : decode cX1_closeClasses 272 = .ok (.aload_n 0, 1) := by decide +kernel
theorem dX1_closeClasses_273 : decode cX1_closeClasses 273 = .ok (.iload 5, 2) := by decide +kernel
theorem dX1_closeClasses_275 : decode cX1_closeClasses 275 = .ok (.aload_n 0, 1) := by decide +kernel
theorem dX1_closeClasses_276 : decode cX1_closeClasses 276 = .ok (.getfield 1, 3) := by decide +kernel
theorem dX1_closeClasses_279 : decode cX1_closeClasses 279 = .ok (.aload_n 0, 1) := by decide +kernel
theorem dX1_closeClasses_280 : decode cX1_closeClasses 280 = .ok (.getfield 98, 3) := by decide +kernel
theorem dX1_closeClasses_283 : decode cX1_closeClasses 283 = .ok (.iload_n 1, 1) := by decide +kernel
theorem dX1_closeClasses_284 : decode cX1_closeClasses 284 = .ok (.iaload, 1) := by decide +kernel
theorem dX1_closeClasses_285 : decode cX1_closeClasses 285 = .ok (.iload 7, 2) := by decide +kernel
theorem dX1_closeClasses_287 : decode cX1_closeClasses 287 = .ok (.invokevirtual 28, 3) := by decide +kernel
theorem dX1_closeClasses_290 : decode cX1_closeClasses 290 = .ok (.invokevirtual 181, 3) := by decide +kernel
theorem dX1_closeClasses_293 : decode cX1_closeClasses 293 = .ok (.ifCond .eq 5, 3) := by decide +kernel
theorem dX1_closeClasses_296 : decode cX1_closeClasses 296 = .ok (.iconst 1, 1) := by decide +kernel
theorem dX1_closeClasses_297 : decode cX1_closeClasses 297 = .ok (.istore_n 2, 1) := by decide +kernel
theorem dX1_closeClasses_298 : decode cX1_closeClasses 298 = .ok (.iinc 7 1, 3) := by decide +kernel
theorem dX1_closeClasses_301 : decode cX1_closeClasses 301 = .ok (.goto (-77), 3) := by decide +kernel
theorem dX1_closeClasses_304 : decode cX1_closeClasses 304 = .ok (.iinc 4 1, 3) := by decide +kernel
theorem dX1_closeClasses_307 : decode cX1_closeClasses 307 = .ok (.goto (-295), 3) := by decide +kernel
theorem dX1_closeClasses_310 : decode cX1_closeClasses 310 = .ok (.iload_n 2, 1) := by decide +kernel
theorem dX1_closeClasses_311 : decode cX1_closeClasses 311 = .ok (.ireturn, 1) := by decide +kernel
abbrev cX1_contradictory : ByteArray := prog_1_method_39_code
def yX1_contradictory : MethodName := ⟨RX1, "contradictory", "()Z"⟩
theorem dX1_contradictory_0 : decode cX1_contradictory 0 = .ok (.iconst 0, 1) := by decide +kernel
theorem dX1_contradictory_1 : decode cX1_contradictory 1 = .ok (.istore_n 1, 1) := by decide +kernel
theorem dX1_contradictory_2 : decode cX1_contradictory 2 = .ok (.iload_n 1, 1) := by decide +kernel
theorem dX1_contradictory_3 : decode cX1_contradictory 3 = .ok (.aload_n 0, 1) := by decide +kernel
theorem dX1_contradictory_4 : decode cX1_contradictory 4 = .ok (.getfield 196, 3) := by decide +kernel
theorem dX1_contradictory_7 : decode cX1_contradictory 7 = .ok (.if_icmp .ge 32, 3) := by decide +kernel
theorem dX1_contradictory_10 : decode cX1_contradictory 10 = .ok (.aload_n 0, 1) := by decide +kernel
theorem dX1_contradictory_11 : decode cX1_contradictory 11 = .ok (.aload_n 0, 1) := by decide +kernel
theorem dX1_contradictory_12 : decode cX1_contradictory 12 = .ok (.getfield 199, 3) := by decide +kernel
theorem dX1_contradictory_15 : decode cX1_contradictory 15 = .ok (.iload_n 1, 1) := by decide +kernel
theorem dX1_contradictory_16 : decode cX1_contradictory 16 = .ok (.iaload, 1) := by decide +kernel
theorem dX1_contradictory_17 : decode cX1_contradictory 17 = .ok (.aload_n 0, 1) := by decide +kernel
theorem dX1_contradictory_18 : decode cX1_contradictory 18 = .ok (.getfield 202, 3) := by decide +kernel
theorem dX1_contradictory_21 : decode cX1_contradictory 21 = .ok (.iload_n 1, 1) := by decide +kernel
theorem dX1_contradictory_22 : decode cX1_contradictory 22 = .ok (.iaload, 1) := by decide +kernel
theorem dX1_contradictory_23 : decode cX1_contradictory 23 = .ok (.iconst 1, 1) := by decide +kernel
theorem dX1_contradictory_24 : decode cX1_contradictory 24 = .ok (.ixor, 1) := by decide +kernel
theorem dX1_contradictory_25 : decode cX1_contradictory 25 = .ok (.invokevirtual 211, 3) := by decide +kernel
theorem dX1_contradictory_28 : decode cX1_contradictory 28 = .ok (.ifCond .eq 5, 3) := by decide +kernel
theorem dX1_contradictory_31 : decode cX1_contradictory 31 = .ok (.iconst 1, 1) := by decide +kernel
theorem dX1_contradictory_32 : decode cX1_contradictory 32 = .ok (.ireturn, 1) := by decide +kernel
theorem dX1_contradictory_33 : decode cX1_contradictory 33 = .ok (.iinc 1 1, 3) := by decide +kernel
theorem dX1_contradictory_36 : decode cX1_contradictory 36 = .ok (.goto (-34), 3) := by decide +kernel
theorem dX1_contradictory_39 : decode cX1_contradictory 39 = .ok (.iconst 0, 1) := by decide +kernel
theorem dX1_contradictory_40 : decode cX1_contradictory 40 = .ok (.istore_n 1, 1) := by decide +kernel
theorem dX1_contradictory_41 : decode cX1_contradictory 41 = .ok (.iload_n 1, 1) := by decide +kernel
theorem dX1_contradictory_42 : decode cX1_contradictory 42 = .ok (.aload_n 0, 1) := by decide +kernel
theorem dX1_contradictory_43 : decode cX1_contradictory 43 = .ok (.getfield 223, 3) := by decide +kernel
theorem dX1_contradictory_46 : decode cX1_contradictory 46 = .ok (.if_icmp .ge 108, 3) := by decide +kernel
theorem dX1_contradictory_49 : decode cX1_contradictory 49 = .ok (.aload_n 0, 1) := by decide +kernel
theorem dX1_contradictory_50 : decode cX1_contradictory 50 = .ok (.getfield 226, 3) := by decide +kernel
theorem dX1_contradictory_53 : decode cX1_contradictory 53 = .ok (.iload_n 1, 1) := by decide +kernel
theorem dX1_contradictory_54 : decode cX1_contradictory 54 = .ok (.iaload, 1) := by decide +kernel
theorem dX1_contradictory_55 : decode cX1_contradictory 55 = .ok (.istore_n 2, 1) := by decide +kernel
theorem dX1_contradictory_56 : decode cX1_contradictory 56 = .ok (.iload_n 2, 1) := by decide +kernel
theorem dX1_contradictory_57 : decode cX1_contradictory 57 = .ok (.aload_n 0, 1) := by decide +kernel
theorem dX1_contradictory_58 : decode cX1_contradictory 58 = .ok (.getfield 1, 3) := by decide +kernel
theorem dX1_contradictory_61 : decode cX1_contradictory 61 = .ok (.getfield 266, 3) := by decide +kernel
theorem dX1_contradictory_64 : decode cX1_contradictory 64 = .ok (.if_icmp .ne 5, 3) := by decide +kernel
theorem dX1_contradictory_67 : decode cX1_contradictory 67 = .ok (.iconst 1, 1) := by decide +kernel
theorem dX1_contradictory_68 : decode cX1_contradictory 68 = .ok (.ireturn, 1) := by decide +kernel
theorem dX1_contradictory_69 : decode cX1_contradictory 69 = .ok (.aload_n 0, 1) := by decide +kernel
theorem dX1_contradictory_70 : decode cX1_contradictory 70 = .ok (.getfield 1, 3) := by decide +kernel
theorem dX1_contradictory_73 : decode cX1_contradictory 73 = .ok (.getfield 39, 3) := by decide +kernel
theorem dX1_contradictory_76 : decode cX1_contradictory 76 = .ok (.iload_n 2, 1) := by decide +kernel
theorem dX1_contradictory_77 : decode cX1_contradictory 77 = .ok (.iaload, 1) := by decide +kernel
theorem dX1_contradictory_78 : decode cX1_contradictory 78 = .ok (.istore_n 3, 1) := by decide +kernel
theorem dX1_contradictory_79 : decode cX1_contradictory 79 = .ok (.iload_n 3, 1) := by decide +kernel
theorem dX1_contradictory_80 : decode cX1_contradictory 80 = .ok (.bipush 16, 2) := by decide +kernel
theorem dX1_contradictory_82 : decode cX1_contradictory 82 = .ok (.if_icmp .eq 6, 3) := by decide +kernel
theorem dX1_contradictory_85 : decode cX1_contradictory 85 = .ok (.goto 63, 3) := by decide +kernel
theorem dX1_contradictory_88 : decode cX1_contradictory 88 = .ok (.aload_n 0, 1) := by decide +kernel
theorem dX1_contradictory_89 : decode cX1_contradictory 89 = .ok (.getfield 1, 3) := by decide +kernel
theorem dX1_contradictory_92 : decode cX1_contradictory 92 = .ok (.iload_n 2, 1) := by decide +kernel
theorem dX1_contradictory_93 : decode cX1_contradictory 93 = .ok (.iconst 0, 1) := by decide +kernel
theorem dX1_contradictory_94 : decode cX1_contradictory 94 = .ok (.invokevirtual 28, 3) := by decide +kernel
theorem dX1_contradictory_97 : decode cX1_contradictory 97 = .ok (.istore 4, 2) := by decide +kernel
theorem dX1_contradictory_99 : decode cX1_contradictory 99 = .ok (.aload_n 0, 1) := by decide +kernel
theorem dX1_contradictory_100 : decode cX1_contradictory 100 = .ok (.getfield 1, 3) := by decide +kernel
theorem dX1_contradictory_103 : decode cX1_contradictory 103 = .ok (.getfield 39, 3) := by decide +kernel
theorem dX1_contradictory_106 : decode cX1_contradictory 106 = .ok (.iload 4, 2) := by decide +kernel
theorem dX1_contradictory_108 : decode cX1_contradictory 108 = .ok (.iaload, 1) := by decide +kernel
theorem dX1_contradictory_109 : decode cX1_contradictory 109 = .ok (.istore 5, 2) := by decide +kernel
theorem dX1_contradictory_111 : decode cX1_contradictory 111 = .ok (.iload 5, 2) := by decide +kernel
theorem dX1_contradictory_113 : decode cX1_contradictory 113 = .ok (.bipush 18, 2) := by decide +kernel
theorem dX1_contradictory_115 : decode cX1_contradictory 115 = .ok (.if_icmp .ne 15, 3) := by decide +kernel
theorem dX1_contradictory_118 : decode cX1_contradictory 118 = .ok (.aload_n 0, 1) := by decide +kernel
theorem dX1_contradictory_119 : decode cX1_contradictory 119 = .ok (.iload 4, 2) := by decide +kernel
theorem dX1_contradictory_121 : decode cX1_contradictory 121 = .ok (.invokevirtual 253, 3) := by decide +kernel
theorem dX1_contradictory_124 : decode cX1_contradictory 124 = .ok (.ifCond .eq 24, 3) := by decide +kernel
theorem dX1_contradictory_127 : decode cX1_contradictory 127 = .ok (.goto 19, 3) := by decide +kernel
theorem dX1_contradictory_130 : decode cX1_contradictory 130 = .ok (.iload 5, 2) := by decide +kernel
theorem dX1_contradictory_132 : decode cX1_contradictory 132 = .ok (.bipush 13, 2) := by decide +kernel
theorem dX1_contradictory_134 : decode cX1_contradictory 134 = .ok (.if_icmp .eq 14, 3) := by decide +kernel
theorem dX1_contradictory_137 : decode cX1_contradictory 137 = .ok (.aload_n 0, 1) := by decide +kernel
theorem dX1_contradictory_138 : decode cX1_contradictory 138 = .ok (.iload 4, 2) := by decide +kernel
theorem dX1_contradictory_140 : decode cX1_contradictory 140 = .ok (.invokevirtual 250, 3) := by decide +kernel
theorem dX1_contradictory_143 : decode cX1_contradictory 143 = .ok (.ifCond .eq 5, 3) := by decide +kernel
theorem dX1_contradictory_146 : decode cX1_contradictory 146 = .ok (.iconst 1, 1) := by decide +kernel
theorem dX1_contradictory_147 : decode cX1_contradictory 147 = .ok (.ireturn, 1) := by decide +kernel
theorem dX1_contradictory_148 : decode cX1_contradictory 148 = .ok (.iinc 1 1, 3) := by decide +kernel
theorem dX1_contradictory_151 : decode cX1_contradictory 151 = .ok (.goto (-110), 3) := by decide +kernel
theorem dX1_contradictory_154 : decode cX1_contradictory 154 = .ok (.iconst 0, 1) := by decide +kernel
theorem dX1_contradictory_155 : decode cX1_contradictory 155 = .ok (.ireturn, 1) := by decide +kernel
abbrev cX1_isKnownHere : ByteArray := prog_1_method_30_code
def yX1_isKnownHere : MethodName := ⟨RX1, "isKnownHere", "(I)Z"⟩
theorem dX1_isKnownHere_0 : decode cX1_isKnownHere 0 = .ok (.iload_n 1, 1) := by decide +kernel
theorem dX1_isKnownHere_1 : decode cX1_isKnownHere 1 = .ok (.aload_n 0, 1) := by decide +kernel
theorem dX1_isKnownHere_2 : decode cX1_isKnownHere 2 = .ok (.getfield 131, 3) := by decide +kernel
theorem dX1_isKnownHere_5 : decode cX1_isKnownHere 5 = .ok (.arraylength, 1) := by decide +kernel
theorem dX1_isKnownHere_6 : decode cX1_isKnownHere 6 = .ok (.if_icmp .ge 20, 3) := by decide +kernel
theorem dX1_isKnownHere_9 : decode cX1_isKnownHere 9 = .ok (.aload_n 0, 1) := by decide +kernel
theorem dX1_isKnownHere_10 : decode cX1_isKnownHere 10 = .ok (.getfield 131, 3) := by decide +kernel
theorem dX1_isKnownHere_13 : decode cX1_isKnownHere 13 = .ok (.iload_n 1, 1) := by decide +kernel
theorem dX1_isKnownHere_14 : decode cX1_isKnownHere 14 = .ok (.iaload, 1) := by decide +kernel
theorem dX1_isKnownHere_15 : decode cX1_isKnownHere 15 = .ok (.aload_n 0, 1) := by decide +kernel
theorem dX1_isKnownHere_16 : decode cX1_isKnownHere 16 = .ok (.getfield 143, 3) := by decide +kernel
theorem dX1_isKnownHere_19 : decode cX1_isKnownHere 19 = .ok (.if_icmp .ne 7, 3) := by decide +kernel
theorem dX1_isKnownHere_22 : decode cX1_isKnownHere 22 = .ok (.iconst 1, 1) := by decide +kernel
theorem dX1_isKnownHere_23 : decode cX1_isKnownHere 23 = .ok (.goto 4, 3) := by decide +kernel
theorem dX1_isKnownHere_26 : decode cX1_isKnownHere 26 = .ok (.iconst 0, 1) := by decide +kernel
theorem dX1_isKnownHere_27 : decode cX1_isKnownHere 27 = .ok (.ireturn, 1) := by decide +kernel
abbrev cX1_holds : ByteArray := prog_1_method_37_code
def yX1_holds : MethodName := ⟨RX1, "holds", "(I)Z"⟩
theorem dX1_holds_0 : decode cX1_holds 0 = .ok (.aload_n 0, 1) := by decide +kernel
theorem dX1_holds_1 : decode cX1_holds 1 = .ok (.getfield 1, 3) := by decide +kernel
theorem dX1_holds_4 : decode cX1_holds 4 = .ok (.getfield 39, 3) := by decide +kernel
theorem dX1_holds_7 : decode cX1_holds 7 = .ok (.iload_n 1, 1) := by decide +kernel
theorem dX1_holds_8 : decode cX1_holds 8 = .ok (.iaload, 1) := by decide +kernel
theorem dX1_holds_9 : decode cX1_holds 9 = .ok (.tableswitch 199 9 18 #[55, 57, 199, 199, 80, 105, 199, 184, 137, 178], 55) := by decide +kernel
theorem dX1_holds_64 : decode cX1_holds 64 = .ok (.iconst 1, 1) := by decide +kernel
theorem dX1_holds_65 : decode cX1_holds 65 = .ok (.ireturn, 1) := by decide +kernel
theorem dX1_holds_66 : decode cX1_holds 66 = .ok (.aload_n 0, 1) := by decide +kernel
theorem dX1_holds_67 : decode cX1_holds 67 = .ok (.aload_n 0, 1) := by decide +kernel
theorem dX1_holds_68 : decode cX1_holds 68 = .ok (.getfield 1, 3) := by decide +kernel
theorem dX1_holds_71 : decode cX1_holds 71 = .ok (.iload_n 1, 1) := by decide +kernel
theorem dX1_holds_72 : decode cX1_holds 72 = .ok (.iconst 0, 1) := by decide +kernel
theorem dX1_holds_73 : decode cX1_holds 73 = .ok (.invokevirtual 28, 3) := by decide +kernel
theorem dX1_holds_76 : decode cX1_holds 76 = .ok (.aload_n 0, 1) := by decide +kernel
theorem dX1_holds_77 : decode cX1_holds 77 = .ok (.getfield 1, 3) := by decide +kernel
theorem dX1_holds_80 : decode cX1_holds 80 = .ok (.iload_n 1, 1) := by decide +kernel
theorem dX1_holds_81 : decode cX1_holds 81 = .ok (.iconst 1, 1) := by decide +kernel
theorem dX1_holds_82 : decode cX1_holds 82 = .ok (.invokevirtual 28, 3) := by decide +kernel
theorem dX1_holds_85 : decode cX1_holds 85 = .ok (.invokevirtual 205, 3) := by decide +kernel
theorem dX1_holds_88 : decode cX1_holds 88 = .ok (.ireturn, 1) := by decide +kernel
theorem dX1_holds_89 : decode cX1_holds 89 = .ok (.aload_n 0, 1) := by decide +kernel
theorem dX1_holds_90 : decode cX1_holds 90 = .ok (.aload_n 0, 1) := by decide +kernel
theorem dX1_holds_91 : decode cX1_holds 91 = .ok (.getfield 1, 3) := by decide +kernel
theorem dX1_holds_94 : decode cX1_holds 94 = .ok (.iload_n 1, 1) := by decide +kernel
theorem dX1_holds_95 : decode cX1_holds 95 = .ok (.iconst 0, 1) := by decide +kernel
theorem dX1_holds_96 : decode cX1_holds 96 = .ok (.invokevirtual 28, 3) := by decide +kernel
theorem dX1_holds_99 : decode cX1_holds 99 = .ok (.iconst 2, 1) := by decide +kernel
theorem dX1_holds_100 : decode cX1_holds 100 = .ok (.aload_n 0, 1) := by decide +kernel
theorem dX1_holds_101 : decode cX1_holds 101 = .ok (.getfield 1, 3) := by decide +kernel
theorem dX1_holds_104 : decode cX1_holds 104 = .ok (.getfield 45, 3) := by decide +kernel
theorem dX1_holds_107 : decode cX1_holds 107 = .ok (.iload_n 1, 1) := by decide +kernel
theorem dX1_holds_108 : decode cX1_holds 108 = .ok (.iaload, 1) := by decide +kernel
theorem dX1_holds_109 : decode cX1_holds 109 = .ok (.imul, 1) := by decide +kernel
theorem dX1_holds_110 : decode cX1_holds 110 = .ok (.invokevirtual 211, 3) := by decide +kernel
theorem dX1_holds_113 : decode cX1_holds 113 = .ok (.ireturn, 1) := by decide +kernel
theorem dX1_holds_114 : decode cX1_holds 114 = .ok (.aload_n 0, 1) := by decide +kernel
theorem dX1_holds_115 : decode cX1_holds 115 = .ok (.aload_n 0, 1) := by decide +kernel
theorem dX1_holds_116 : decode cX1_holds 116 = .ok (.getfield 1, 3) := by decide +kernel
theorem dX1_holds_119 : decode cX1_holds 119 = .ok (.iload_n 1, 1) := by decide +kernel
theorem dX1_holds_120 : decode cX1_holds 120 = .ok (.iconst 1, 1) := by decide +kernel
theorem dX1_holds_121 : decode cX1_holds 121 = .ok (.invokevirtual 28, 3) := by decide +kernel
theorem dX1_holds_124 : decode cX1_holds 124 = .ok (.aload_n 0, 1) := by decide +kernel
theorem dX1_holds_125 : decode cX1_holds 125 = .ok (.getfield 1, 3) := by decide +kernel
theorem dX1_holds_128 : decode cX1_holds 128 = .ok (.getfield 45, 3) := by decide +kernel
theorem dX1_holds_131 : decode cX1_holds 131 = .ok (.iload_n 1, 1) := by decide +kernel
theorem dX1_holds_132 : decode cX1_holds 132 = .ok (.iaload, 1) := by decide +kernel
theorem dX1_holds_133 : decode cX1_holds 133 = .ok (.aload_n 0, 1) := by decide +kernel
theorem dX1_holds_134 : decode cX1_holds 134 = .ok (.getfield 1, 3) := by decide +kernel
theorem dX1_holds_137 : decode cX1_holds 137 = .ok (.iload_n 1, 1) := by decide +kernel
theorem dX1_holds_138 : decode cX1_holds 138 = .ok (.iconst 0, 1) := by decide +kernel
theorem dX1_holds_139 : decode cX1_holds 139 = .ok (.invokevirtual 28, 3) := by decide +kernel
theorem dX1_holds_142 : decode cX1_holds 142 = .ok (.invokevirtual 208, 3) := by decide +kernel
theorem dX1_holds_145 : decode cX1_holds 145 = .ok (.ireturn, 1) := by decide +kernel
theorem dX1_holds_146 : decode cX1_holds 146 = .ok (.iconst 0, 1) := by decide +kernel
theorem dX1_holds_147 : decode cX1_holds 147 = .ok (.istore_n 2, 1) := by decide +kernel
theorem dX1_holds_148 : decode cX1_holds 148 = .ok (.iload_n 2, 1) := by decide +kernel
theorem dX1_holds_149 : decode cX1_holds 149 = .ok (.aload_n 0, 1) := by decide +kernel
theorem dX1_holds_150 : decode cX1_holds 150 = .ok (.getfield 1, 3) := by decide +kernel
theorem dX1_holds_153 : decode cX1_holds 153 = .ok (.getfield 32, 3) := by decide +kernel
theorem dX1_holds_156 : decode cX1_holds 156 = .ok (.iload_n 1, 1) := by decide +kernel
theorem dX1_holds_157 : decode cX1_holds 157 = .ok (.iaload, 1) := by decide +kernel
theorem dX1_holds_158 : decode cX1_holds 158 = .ok (.if_icmp .ge 27, 3) := by decide +kernel
theorem dX1_holds_161 : decode cX1_holds 161 = .ok (.aload_n 0, 1) := by decide +kernel
theorem dX1_holds_162 : decode cX1_holds 162 = .ok (.aload_n 0, 1) := by decide +kernel
theorem dX1_holds_163 : decode cX1_holds 163 = .ok (.getfield 1, 3) := by decide +kernel
theorem dX1_holds_166 : decode cX1_holds 166 = .ok (.iload_n 1, 1) := by decide +kernel
theorem dX1_holds_167 : decode cX1_holds 167 = .ok (.iload_n 2, 1) := by decide +kernel
theorem dX1_holds_168 : decode cX1_holds 168 = .ok (.invokevirtual 28, 3) := by decide +kernel
theorem dX1_holds_171 : decode cX1_holds 171 = .ok (.invokevirtual 250, 3) := by decide +kernel
theorem dX1_holds_174 : decode cX1_holds 174 = .ok (.ifCond .ne 5, 3) := by decide +kernel
theorem dX1_holds_177 : decode cX1_holds 177 = .ok (.iconst 0, 1) := by decide +kernel
theorem dX1_holds_178 : decode cX1_holds 178 = .ok (.ireturn, 1) := by decide +kernel
theorem dX1_holds_179 : decode cX1_holds 179 = .ok (.iinc 2 1, 3) := by decide +kernel
theorem dX1_holds_182 : decode cX1_holds 182 = .ok (.goto (-34), 3) := by decide +kernel
theorem dX1_holds_185 : decode cX1_holds 185 = .ok (.iconst 1, 1) := by decide +kernel
theorem dX1_holds_186 : decode cX1_holds 186 = .ok (.ireturn, 1) := by decide +kernel
theorem dX1_holds_187 : decode cX1_holds 187 = .ok (.aload_n 0, 1) := by decide +kernel
theorem dX1_holds_188 : decode cX1_holds 188 = .ok (.iload_n 1, 1) := by decide +kernel
theorem dX1_holds_189 : decode cX1_holds 189 = .ok (.invokevirtual 253, 3) := by decide +kernel
theorem dX1_holds_192 : decode cX1_holds 192 = .ok (.ireturn, 1) := by decide +kernel
theorem dX1_holds_193 : decode cX1_holds 193 = .ok (.aload_n 0, 1) := by decide +kernel
theorem dX1_holds_194 : decode cX1_holds 194 = .ok (.aload_n 0, 1) := by decide +kernel
theorem dX1_holds_195 : decode cX1_holds 195 = .ok (.getfield 1, 3) := by decide +kernel
theorem dX1_holds_198 : decode cX1_holds 198 = .ok (.iload_n 1, 1) := by decide +kernel
theorem dX1_holds_199 : decode cX1_holds 199 = .ok (.iconst 0, 1) := by decide +kernel
theorem dX1_holds_200 : decode cX1_holds 200 = .ok (.invokevirtual 28, 3) := by decide +kernel
theorem dX1_holds_203 : decode cX1_holds 203 = .ok (.iload_n 1, 1) := by decide +kernel
theorem dX1_holds_204 : decode cX1_holds 204 = .ok (.invokevirtual 256, 3) := by decide +kernel
theorem dX1_holds_207 : decode cX1_holds 207 = .ok (.ireturn, 1) := by decide +kernel
theorem dX1_holds_208 : decode cX1_holds 208 = .ok (.aload_n 0, 1) := by decide +kernel
theorem dX1_holds_209 : decode cX1_holds 209 = .ok (.iload_n 1, 1) := by decide +kernel
theorem dX1_holds_210 : decode cX1_holds 210 = .ok (.iconst 0, 1) := by decide +kernel
theorem dX1_holds_211 : decode cX1_holds 211 = .ok (.invokevirtual 259, 3) := by decide +kernel
theorem dX1_holds_214 : decode cX1_holds 214 = .ok (.ireturn, 1) := by decide +kernel
abbrev cX1_fails : ByteArray := prog_1_method_38_code
def yX1_fails : MethodName := ⟨RX1, "fails", "(II)Z"⟩
theorem dX1_fails_0 : decode cX1_fails 0 = .ok (.aload_n 0, 1) := by decide +kernel
theorem dX1_fails_1 : decode cX1_fails 1 = .ok (.getfield 1, 3) := by decide +kernel
theorem dX1_fails_4 : decode cX1_fails 4 = .ok (.getfield 39, 3) := by decide +kernel
theorem dX1_fails_7 : decode cX1_fails 7 = .ok (.iload_n 1, 1) := by decide +kernel
theorem dX1_fails_8 : decode cX1_fails 8 = .ok (.iaload, 1) := by decide +kernel
theorem dX1_fails_9 : decode cX1_fails 9 = .ok (.tableswitch 529 9 18 #[55, 57, 529, 529, 236, 317, 529, 529, 263, 311], 55) := by decide +kernel
theorem dX1_fails_64 : decode cX1_fails 64 = .ok (.iconst 0, 1) := by decide +kernel
theorem dX1_fails_65 : decode cX1_fails 65 = .ok (.ireturn, 1) := by decide +kernel
theorem dX1_fails_66 : decode cX1_fails 66 = .ok (.aload_n 0, 1) := by decide +kernel
theorem dX1_fails_67 : decode cX1_fails 67 = .ok (.getfield 1, 3) := by decide +kernel
theorem dX1_fails_70 : decode cX1_fails 70 = .ok (.iload_n 1, 1) := by decide +kernel
theorem dX1_fails_71 : decode cX1_fails 71 = .ok (.iconst 0, 1) := by decide +kernel
theorem dX1_fails_72 : decode cX1_fails 72 = .ok (.invokevirtual 28, 3) := by decide +kernel
theorem dX1_fails_75 : decode cX1_fails 75 = .ok (.istore_n 3, 1) := by decide +kernel
theorem dX1_fails_76 : decode cX1_fails 76 = .ok (.aload_n 0, 1) := by decide +kernel
theorem dX1_fails_77 : decode cX1_fails 77 = .ok (.getfield 1, 3) := by decide +kernel
theorem dX1_fails_80 : decode cX1_fails 80 = .ok (.iload_n 1, 1) := by decide +kernel
theorem dX1_fails_81 : decode cX1_fails 81 = .ok (.iconst 1, 1) := by decide +kernel
theorem dX1_fails_82 : decode cX1_fails 82 = .ok (.invokevirtual 28, 3) := by decide +kernel
theorem dX1_fails_85 : decode cX1_fails 85 = .ok (.istore 4, 2) := by decide +kernel
theorem dX1_fails_87 : decode cX1_fails 87 = .ok (.iconst 0, 1) := by decide +kernel
theorem dX1_fails_88 : decode cX1_fails 88 = .ok (.istore 5, 2) := by decide +kernel
theorem dX1_fails_90 : decode cX1_fails 90 = .ok (.iload 5, 2) := by decide +kernel
theorem dX1_fails_92 : decode cX1_fails 92 = .ok (.aload_n 0, 1) := by decide +kernel
theorem dX1_fails_93 : decode cX1_fails 93 = .ok (.getfield 223, 3) := by decide +kernel
theorem dX1_fails_96 : decode cX1_fails 96 = .ok (.if_icmp .ge 147, 3) := by decide +kernel
theorem dX1_fails_99 : decode cX1_fails 99 = .ok (.aload_n 0, 1) := by decide +kernel
theorem dX1_fails_100 : decode cX1_fails 100 = .ok (.getfield 226, 3) := by decide +kernel
theorem dX1_fails_103 : decode cX1_fails 103 = .ok (.iload 5, 2) := by decide +kernel
theorem dX1_fails_105 : decode cX1_fails 105 = .ok (.iaload, 1) := by decide +kernel
theorem dX1_fails_106 : decode cX1_fails 106 = .ok (.istore 6, 2) := by decide +kernel
theorem dX1_fails_108 : decode cX1_fails 108 = .ok (.aload_n 0, 1) := by decide +kernel
theorem dX1_fails_109 : decode cX1_fails 109 = .ok (.getfield 1, 3) := by decide +kernel
theorem dX1_fails_112 : decode cX1_fails 112 = .ok (.getfield 39, 3) := by decide +kernel
theorem dX1_fails_115 : decode cX1_fails 115 = .ok (.iload 6, 2) := by decide +kernel
theorem dX1_fails_117 : decode cX1_fails 117 = .ok (.iaload, 1) := by decide +kernel
theorem dX1_fails_118 : decode cX1_fails 118 = .ok (.bipush 16, 2) := by decide +kernel
theorem dX1_fails_120 : decode cX1_fails 120 = .ok (.if_icmp .ne 117, 3) := by decide +kernel
theorem dX1_fails_123 : decode cX1_fails 123 = .ok (.aload_n 0, 1) := by decide +kernel
theorem dX1_fails_124 : decode cX1_fails 124 = .ok (.getfield 1, 3) := by decide +kernel
theorem dX1_fails_127 : decode cX1_fails 127 = .ok (.getfield 39, 3) := by decide +kernel
theorem dX1_fails_130 : decode cX1_fails 130 = .ok (.aload_n 0, 1) := by decide +kernel
theorem dX1_fails_131 : decode cX1_fails 131 = .ok (.getfield 1, 3) := by decide +kernel
theorem dX1_fails_134 : decode cX1_fails 134 = .ok (.iload 6, 2) := by decide +kernel
theorem dX1_fails_136 : decode cX1_fails 136 = .ok (.iconst 0, 1) := by decide +kernel
theorem dX1_fails_137 : decode cX1_fails 137 = .ok (.invokevirtual 28, 3) := by decide +kernel
theorem dX1_fails_140 : decode cX1_fails 140 = .ok (.iaload, 1) := by decide +kernel
theorem dX1_fails_141 : decode cX1_fails 141 = .ok (.bipush 10, 2) := by decide +kernel
theorem dX1_fails_143 : decode cX1_fails 143 = .ok (.if_icmp .eq 6, 3) := by decide +kernel
theorem dX1_fails_146 : decode cX1_fails 146 = .ok (.goto 91, 3) := by decide +kernel
theorem dX1_fails_149 : decode cX1_fails 149 = .ok (.aload_n 0, 1) := by decide +kernel
theorem dX1_fails_150 : decode cX1_fails 150 = .ok (.getfield 1, 3) := by decide +kernel
theorem dX1_fails_153 : decode cX1_fails 153 = .ok (.iload 6, 2) := by decide +kernel
theorem dX1_fails_155 : decode cX1_fails 155 = .ok (.iconst 0, 1) := by decide +kernel
theorem dX1_fails_156 : decode cX1_fails 156 = .ok (.invokevirtual 28, 3) := by decide +kernel
theorem dX1_fails_159 : decode cX1_fails 159 = .ok (.istore 7, 2) := by decide +kernel
theorem dX1_fails_161 : decode cX1_fails 161 = .ok (.aload_n 0, 1) := by decide +kernel
theorem dX1_fails_162 : decode cX1_fails 162 = .ok (.aload_n 0, 1) := by decide +kernel
theorem dX1_fails_163 : decode cX1_fails 163 = .ok (.getfield 1, 3) := by decide +kernel
theorem dX1_fails_166 : decode cX1_fails 166 = .ok (.iload 7, 2) := by decide +kernel
theorem dX1_fails_168 : decode cX1_fails 168 = .ok (.iconst 0, 1) := by decide +kernel
theorem dX1_fails_169 : decode cX1_fails 169 = .ok (.invokevirtual 28, 3) := by decide +kernel
theorem dX1_fails_172 : decode cX1_fails 172 = .ok (.iload_n 3, 1) := by decide +kernel
theorem dX1_fails_173 : decode cX1_fails 173 = .ok (.invokevirtual 205, 3) := by decide +kernel
theorem dX1_fails_176 : decode cX1_fails 176 = .ok (.ifCond .eq 22, 3) := by decide +kernel
theorem dX1_fails_179 : decode cX1_fails 179 = .ok (.aload_n 0, 1) := by decide +kernel
theorem dX1_fails_180 : decode cX1_fails 180 = .ok (.aload_n 0, 1) := by decide +kernel
theorem dX1_fails_181 : decode cX1_fails 181 = .ok (.getfield 1, 3) := by decide +kernel
theorem dX1_fails_184 : decode cX1_fails 184 = .ok (.iload 7, 2) := by decide +kernel
theorem dX1_fails_186 : decode cX1_fails 186 = .ok (.iconst 1, 1) := by decide +kernel
theorem dX1_fails_187 : decode cX1_fails 187 = .ok (.invokevirtual 28, 3) := by decide +kernel
theorem dX1_fails_190 : decode cX1_fails 190 = .ok (.iload 4, 2) := by decide +kernel
theorem dX1_fails_192 : decode cX1_fails 192 = .ok (.invokevirtual 205, 3) := by decide +kernel
theorem dX1_fails_195 : decode cX1_fails 195 = .ok (.ifCond .ne 40, 3) := by decide +kernel
theorem dX1_fails_198 : decode cX1_fails 198 = .ok (.aload_n 0, 1) := by decide +kernel
theorem dX1_fails_199 : decode cX1_fails 199 = .ok (.aload_n 0, 1) := by decide +kernel
theorem dX1_fails_200 : decode cX1_fails 200 = .ok (.getfield 1, 3) := by decide +kernel
theorem dX1_fails_203 : decode cX1_fails 203 = .ok (.iload 7, 2) := by decide +kernel
theorem dX1_fails_205 : decode cX1_fails 205 = .ok (.iconst 0, 1) := by decide +kernel
theorem dX1_fails_206 : decode cX1_fails 206 = .ok (.invokevirtual 28, 3) := by decide +kernel
theorem dX1_fails_209 : decode cX1_fails 209 = .ok (.iload 4, 2) := by decide +kernel
theorem dX1_fails_211 : decode cX1_fails 211 = .ok (.invokevirtual 205, 3) := by decide +kernel
theorem dX1_fails_214 : decode cX1_fails 214 = .ok (.ifCond .eq 23, 3) := by decide +kernel
theorem dX1_fails_217 : decode cX1_fails 217 = .ok (.aload_n 0, 1) := by decide +kernel
theorem dX1_fails_218 : decode cX1_fails 218 = .ok (.aload_n 0, 1) := by decide +kernel
theorem dX1_fails_219 : decode cX1_fails 219 = .ok (.getfield 1, 3) := by decide +kernel
theorem dX1_fails_222 : decode cX1_fails 222 = .ok (.iload 7, 2) := by decide +kernel
theorem dX1_fails_224 : decode cX1_fails 224 = .ok (.iconst 1, 1) := by decide +kernel
theorem dX1_fails_225 : decode cX1_fails 225 = .ok (.invokevirtual 28, 3) := by decide +kernel
theorem dX1_fails_228 : decode cX1_fails 228 = .ok (.iload_n 3, 1) := by decide +kernel
theorem dX1_fails_229 : decode cX1_fails 229 = .ok (.invokevirtual 205, 3) := by decide +kernel
theorem dX1_fails_232 : decode cX1_fails 232 = .ok (.ifCond .eq 5, 3) := by decide +kernel
theorem dX1_fails_235 : decode cX1_fails 235 = .ok (.iconst 1, 1) := by decide +kernel
theorem dX1_fails_236 : decode cX1_fails 236 = .ok (.ireturn, 1) := by decide +kernel
theorem dX1_fails_237 : decode cX1_fails 237 = .ok (.iinc 5 1, 3) := by decide +kernel
theorem dX1_fails_240 : decode cX1_fails 240 = .ok (.goto (-150), 3) := by decide +kernel
theorem dX1_fails_243 : decode cX1_fails 243 = .ok (.iconst 0, 1) := by decide +kernel
theorem dX1_fails_244 : decode cX1_fails 244 = .ok (.ireturn, 1) := by decide +kernel
theorem dX1_fails_245 : decode cX1_fails 245 = .ok (.aload_n 0, 1) := by decide +kernel
theorem dX1_fails_246 : decode cX1_fails 246 = .ok (.aload_n 0, 1) := by decide +kernel
theorem dX1_fails_247 : decode cX1_fails 247 = .ok (.getfield 1, 3) := by decide +kernel
theorem dX1_fails_250 : decode cX1_fails 250 = .ok (.iload_n 1, 1) := by decide +kernel
theorem dX1_fails_251 : decode cX1_fails 251 = .ok (.iconst 0, 1) := by decide +kernel
theorem dX1_fails_252 : decode cX1_fails 252 = .ok (.invokevirtual 28, 3) := by decide +kernel
theorem dX1_fails_255 : decode cX1_fails 255 = .ok (.iconst 2, 1) := by decide +kernel
theorem dX1_fails_256 : decode cX1_fails 256 = .ok (.aload_n 0, 1) := by decide +kernel
theorem dX1_fails_257 : decode cX1_fails 257 = .ok (.getfield 1, 3) := by decide +kernel
theorem dX1_fails_260 : decode cX1_fails 260 = .ok (.getfield 45, 3) := by decide +kernel
theorem dX1_fails_263 : decode cX1_fails 263 = .ok (.iload_n 1, 1) := by decide +kernel
theorem dX1_fails_264 : decode cX1_fails 264 = .ok (.iaload, 1) := by decide +kernel
theorem dX1_fails_265 : decode cX1_fails 265 = .ok (.imul, 1) := by decide +kernel
theorem dX1_fails_266 : decode cX1_fails 266 = .ok (.iconst 1, 1) := by decide +kernel
theorem dX1_fails_267 : decode cX1_fails 267 = .ok (.iadd, 1) := by decide +kernel
theorem dX1_fails_268 : decode cX1_fails 268 = .ok (.invokevirtual 211, 3) := by decide +kernel
theorem dX1_fails_271 : decode cX1_fails 271 = .ok (.ireturn, 1) := by decide +kernel
theorem dX1_fails_272 : decode cX1_fails 272 = .ok (.iconst 0, 1) := by decide +kernel
theorem dX1_fails_273 : decode cX1_fails 273 = .ok (.istore_n 3, 1) := by decide +kernel
theorem dX1_fails_274 : decode cX1_fails 274 = .ok (.iload_n 3, 1) := by decide +kernel
theorem dX1_fails_275 : decode cX1_fails 275 = .ok (.aload_n 0, 1) := by decide +kernel
theorem dX1_fails_276 : decode cX1_fails 276 = .ok (.getfield 1, 3) := by decide +kernel
theorem dX1_fails_279 : decode cX1_fails 279 = .ok (.getfield 32, 3) := by decide +kernel
theorem dX1_fails_282 : decode cX1_fails 282 = .ok (.iload_n 1, 1) := by decide +kernel
theorem dX1_fails_283 : decode cX1_fails 283 = .ok (.iaload, 1) := by decide +kernel
theorem dX1_fails_284 : decode cX1_fails 284 = .ok (.if_icmp .ge 34, 3) := by decide +kernel
theorem dX1_fails_287 : decode cX1_fails 287 = .ok (.aload_n 0, 1) := by decide +kernel
theorem dX1_fails_288 : decode cX1_fails 288 = .ok (.aload_n 0, 1) := by decide +kernel
theorem dX1_fails_289 : decode cX1_fails 289 = .ok (.getfield 1, 3) := by decide +kernel
theorem dX1_fails_292 : decode cX1_fails 292 = .ok (.aload_n 0, 1) := by decide +kernel
theorem dX1_fails_293 : decode cX1_fails 293 = .ok (.getfield 1, 3) := by decide +kernel
theorem dX1_fails_296 : decode cX1_fails 296 = .ok (.iload_n 1, 1) := by decide +kernel
theorem dX1_fails_297 : decode cX1_fails 297 = .ok (.iload_n 3, 1) := by decide +kernel
theorem dX1_fails_298 : decode cX1_fails 298 = .ok (.invokevirtual 28, 3) := by decide +kernel
theorem dX1_fails_301 : decode cX1_fails 301 = .ok (.invokevirtual 263, 3) := by decide +kernel
theorem dX1_fails_304 : decode cX1_fails 304 = .ok (.invokevirtual 250, 3) := by decide +kernel
theorem dX1_fails_307 : decode cX1_fails 307 = .ok (.ifCond .eq 5, 3) := by decide +kernel
theorem dX1_fails_310 : decode cX1_fails 310 = .ok (.iconst 1, 1) := by decide +kernel
theorem dX1_fails_311 : decode cX1_fails 311 = .ok (.ireturn, 1) := by decide +kernel
theorem dX1_fails_312 : decode cX1_fails 312 = .ok (.iinc 3 1, 3) := by decide +kernel
theorem dX1_fails_315 : decode cX1_fails 315 = .ok (.goto (-41), 3) := by decide +kernel
theorem dX1_fails_318 : decode cX1_fails 318 = .ok (.iconst 0, 1) := by decide +kernel
theorem dX1_fails_319 : decode cX1_fails 319 = .ok (.ireturn, 1) := by decide +kernel
theorem dX1_fails_320 : decode cX1_fails 320 = .ok (.aload_n 0, 1) := by decide +kernel
theorem dX1_fails_321 : decode cX1_fails 321 = .ok (.iload_n 2, 1) := by decide +kernel
theorem dX1_fails_322 : decode cX1_fails 322 = .ok (.invokevirtual 253, 3) := by decide +kernel
theorem dX1_fails_325 : decode cX1_fails 325 = .ok (.ireturn, 1) := by decide +kernel
theorem dX1_fails_326 : decode cX1_fails 326 = .ok (.iconst 0, 1) := by decide +kernel
theorem dX1_fails_327 : decode cX1_fails 327 = .ok (.istore_n 3, 1) := by decide +kernel
theorem dX1_fails_328 : decode cX1_fails 328 = .ok (.iload_n 3, 1) := by decide +kernel
theorem dX1_fails_329 : decode cX1_fails 329 = .ok (.aload_n 0, 1) := by decide +kernel
theorem dX1_fails_330 : decode cX1_fails 330 = .ok (.getfield 223, 3) := by decide +kernel
theorem dX1_fails_333 : decode cX1_fails 333 = .ok (.if_icmp .ge 203, 3) := by decide +kernel
theorem dX1_fails_336 : decode cX1_fails 336 = .ok (.aload_n 0, 1) := by decide +kernel
theorem dX1_fails_337 : decode cX1_fails 337 = .ok (.getfield 226, 3) := by decide +kernel
theorem dX1_fails_340 : decode cX1_fails 340 = .ok (.iload_n 3, 1) := by decide +kernel
theorem dX1_fails_341 : decode cX1_fails 341 = .ok (.iaload, 1) := by decide +kernel
theorem dX1_fails_342 : decode cX1_fails 342 = .ok (.istore 4, 2) := by decide +kernel
theorem dX1_fails_344 : decode cX1_fails 344 = .ok (.aload_n 0, 1) := by decide +kernel
theorem dX1_fails_345 : decode cX1_fails 345 = .ok (.getfield 1, 3) := by decide +kernel
theorem dX1_fails_348 : decode cX1_fails 348 = .ok (.getfield 39, 3) := by decide +kernel
theorem dX1_fails_351 : decode cX1_fails 351 = .ok (.iload 4, 2) := by decide +kernel
theorem dX1_fails_353 : decode cX1_fails 353 = .ok (.iaload, 1) := by decide +kernel
theorem dX1_fails_354 : decode cX1_fails 354 = .ok (.bipush 16, 2) := by decide +kernel
theorem dX1_fails_356 : decode cX1_fails 356 = .ok (.if_icmp .ne 174, 3) := by decide +kernel
theorem dX1_fails_359 : decode cX1_fails 359 = .ok (.aload_n 0, 1) := by decide +kernel
theorem dX1_fails_360 : decode cX1_fails 360 = .ok (.getfield 1, 3) := by decide +kernel
theorem dX1_fails_363 : decode cX1_fails 363 = .ok (.getfield 39, 3) := by decide +kernel
theorem dX1_fails_366 : decode cX1_fails 366 = .ok (.aload_n 0, 1) := by decide +kernel
theorem dX1_fails_367 : decode cX1_fails 367 = .ok (.getfield 1, 3) := by decide +kernel
theorem dX1_fails_370 : decode cX1_fails 370 = .ok (.iload 4, 2) := by decide +kernel
theorem dX1_fails_372 : decode cX1_fails 372 = .ok (.iconst 0, 1) := by decide +kernel
theorem dX1_fails_373 : decode cX1_fails 373 = .ok (.invokevirtual 28, 3) := by decide +kernel
theorem dX1_fails_376 : decode cX1_fails 376 = .ok (.iaload, 1) := by decide +kernel
theorem dX1_fails_377 : decode cX1_fails 377 = .ok (.bipush 14, 2) := by decide +kernel
theorem dX1_fails_379 : decode cX1_fails 379 = .ok (.if_icmp .eq 6, 3) := by decide +kernel
theorem dX1_fails_382 : decode cX1_fails 382 = .ok (.goto 148, 3) := by decide +kernel
theorem dX1_fails_385 : decode cX1_fails 385 = .ok (.aload_n 0, 1) := by decide +kernel
theorem dX1_fails_386 : decode cX1_fails 386 = .ok (.getfield 1, 3) := by decide +kernel
theorem dX1_fails_389 : decode cX1_fails 389 = .ok (.iload 4, 2) := by decide +kernel
theorem dX1_fails_391 : decode cX1_fails 391 = .ok (.iconst 0, 1) := by decide +kernel
theorem dX1_fails_392 : decode cX1_fails 392 = .ok (.invokevirtual 28, 3) := by decide +kernel
theorem dX1_fails_395 : decode cX1_fails 395 = .ok (.istore 5, 2) := by decide +kernel
theorem dX1_fails_397 : decode cX1_fails 397 = .ok (.aload_n 0, 1) := by decide +kernel
theorem dX1_fails_398 : decode cX1_fails 398 = .ok (.getfield 1, 3) := by decide +kernel
theorem dX1_fails_401 : decode cX1_fails 401 = .ok (.iload 5, 2) := by decide +kernel
theorem dX1_fails_403 : decode cX1_fails 403 = .ok (.iconst 0, 1) := by decide +kernel
theorem dX1_fails_404 : decode cX1_fails 404 = .ok (.invokevirtual 28, 3) := by decide +kernel
theorem dX1_fails_407 : decode cX1_fails 407 = .ok (.ifCond .ne 23, 3) := by decide +kernel
theorem dX1_fails_410 : decode cX1_fails 410 = .ok (.aload_n 0, 1) := by decide +kernel
theorem dX1_fails_411 : decode cX1_fails 411 = .ok (.getfield 1, 3) := by decide +kernel
theorem dX1_fails_414 : decode cX1_fails 414 = .ok (.iload_n 1, 1) := by decide +kernel
theorem dX1_fails_415 : decode cX1_fails 415 = .ok (.iconst 0, 1) := by decide +kernel
theorem dX1_fails_416 : decode cX1_fails 416 = .ok (.invokevirtual 28, 3) := by decide +kernel
theorem dX1_fails_419 : decode cX1_fails 419 = .ok (.ifCond .ne 7, 3) := by decide +kernel
theorem dX1_fails_422 : decode cX1_fails 422 = .ok (.iconst 1, 1) := by decide +kernel
theorem dX1_fails_423 : decode cX1_fails 423 = .ok (.goto 50, 3) := by decide +kernel
theorem dX1_fails_426 : decode cX1_fails 426 = .ok (.iconst 0, 1) := by decide +kernel
theorem dX1_fails_427 : decode cX1_fails 427 = .ok (.goto 46, 3) := by decide +kernel
theorem dX1_fails_430 : decode cX1_fails 430 = .ok (.aload_n 0, 1) := by decide +kernel
theorem dX1_fails_431 : decode cX1_fails 431 = .ok (.getfield 1, 3) := by decide +kernel
theorem dX1_fails_434 : decode cX1_fails 434 = .ok (.iload_n 1, 1) := by decide +kernel
theorem dX1_fails_435 : decode cX1_fails 435 = .ok (.iconst 0, 1) := by decide +kernel
theorem dX1_fails_436 : decode cX1_fails 436 = .ok (.invokevirtual 28, 3) := by decide +kernel
theorem dX1_fails_439 : decode cX1_fails 439 = .ok (.ifCond .eq 33, 3) := by decide +kernel
theorem dX1_fails_442 : decode cX1_fails 442 = .ok (.aload_n 0, 1) := by decide +kernel
theorem dX1_fails_443 : decode cX1_fails 443 = .ok (.aload_n 0, 1) := by decide +kernel
theorem dX1_fails_444 : decode cX1_fails 444 = .ok (.getfield 1, 3) := by decide +kernel
theorem dX1_fails_447 : decode cX1_fails 447 = .ok (.iload 5, 2) := by decide +kernel
theorem dX1_fails_449 : decode cX1_fails 449 = .ok (.iconst 0, 1) := by decide +kernel
theorem dX1_fails_450 : decode cX1_fails 450 = .ok (.invokevirtual 28, 3) := by decide +kernel
theorem dX1_fails_453 : decode cX1_fails 453 = .ok (.aload_n 0, 1) := by decide +kernel
theorem dX1_fails_454 : decode cX1_fails 454 = .ok (.getfield 1, 3) := by decide +kernel
theorem dX1_fails_457 : decode cX1_fails 457 = .ok (.iload_n 1, 1) := by decide +kernel
theorem dX1_fails_458 : decode cX1_fails 458 = .ok (.iconst 0, 1) := by decide +kernel
theorem dX1_fails_459 : decode cX1_fails 459 = .ok (.invokevirtual 28, 3) := by decide +kernel
theorem dX1_fails_462 : decode cX1_fails 462 = .ok (.invokevirtual 205, 3) := by decide +kernel
theorem dX1_fails_465 : decode cX1_fails 465 = .ok (.ifCond .eq 7, 3) := by decide +kernel
theorem dX1_fails_468 : decode cX1_fails 468 = .ok (.iconst 1, 1) := by decide +kernel
theorem dX1_fails_469 : decode cX1_fails 469 = .ok (.goto 4, 3) := by decide +kernel
theorem dX1_fails_472 : decode cX1_fails 472 = .ok (.iconst 0, 1) := by decide +kernel
theorem dX1_fails_473 : decode cX1_fails 473 = .ok (.istore 6, 2) := by decide +kernel
theorem dX1_fails_475 : decode cX1_fails 475 = .ok (.aload_n 0, 1) := by decide +kernel
theorem dX1_fails_476 : decode cX1_fails 476 = .ok (.getfield 1, 3) := by decide +kernel
theorem dX1_fails_479 : decode cX1_fails 479 = .ok (.getfield 45, 3) := by decide +kernel
theorem dX1_fails_482 : decode cX1_fails 482 = .ok (.iload 5, 2) := by decide +kernel
theorem dX1_fails_484 : decode cX1_fails 484 = .ok (.iaload, 1) := by decide +kernel
theorem dX1_fails_485 : decode cX1_fails 485 = .ok (.aload_n 0, 1) := by decide +kernel
theorem dX1_fails_486 : decode cX1_fails 486 = .ok (.getfield 1, 3) := by decide +kernel
theorem dX1_fails_489 : decode cX1_fails 489 = .ok (.getfield 45, 3) := by decide +kernel
theorem dX1_fails_492 : decode cX1_fails 492 = .ok (.iload_n 1, 1) := by decide +kernel
theorem dX1_fails_493 : decode cX1_fails 493 = .ok (.iaload, 1) := by decide +kernel
theorem dX1_fails_494 : decode cX1_fails 494 = .ok (.if_icmp .ne 36, 3) := by decide +kernel
theorem dX1_fails_497 : decode cX1_fails 497 = .ok (.iload 6, 2) := by decide +kernel
theorem dX1_fails_499 : decode cX1_fails 499 = .ok (.ifCond .eq 31, 3) := by decide +kernel
theorem dX1_fails_502 : decode cX1_fails 502 = .ok (.aload_n 0, 1) := by decide +kernel
theorem dX1_fails_503 : decode cX1_fails 503 = .ok (.aload_n 0, 1) := by decide +kernel
theorem dX1_fails_504 : decode cX1_fails 504 = .ok (.getfield 1, 3) := by decide +kernel
theorem dX1_fails_507 : decode cX1_fails 507 = .ok (.iload 5, 2) := by decide +kernel
theorem dX1_fails_509 : decode cX1_fails 509 = .ok (.iconst 1, 1) := by decide +kernel
theorem dX1_fails_510 : decode cX1_fails 510 = .ok (.invokevirtual 28, 3) := by decide +kernel
theorem dX1_fails_513 : decode cX1_fails 513 = .ok (.aload_n 0, 1) := by decide +kernel
theorem dX1_fails_514 : decode cX1_fails 514 = .ok (.getfield 1, 3) := by decide +kernel
theorem dX1_fails_517 : decode cX1_fails 517 = .ok (.iload_n 1, 1) := by decide +kernel
theorem dX1_fails_518 : decode cX1_fails 518 = .ok (.iconst 1, 1) := by decide +kernel
theorem dX1_fails_519 : decode cX1_fails 519 = .ok (.invokevirtual 28, 3) := by decide +kernel
theorem dX1_fails_522 : decode cX1_fails 522 = .ok (.invokevirtual 205, 3) := by decide +kernel
theorem dX1_fails_525 : decode cX1_fails 525 = .ok (.ifCond .eq 5, 3) := by decide +kernel
theorem dX1_fails_528 : decode cX1_fails 528 = .ok (.iconst 1, 1) := by decide +kernel
theorem dX1_fails_529 : decode cX1_fails 529 = .ok (.ireturn, 1) := by decide +kernel
theorem dX1_fails_530 : decode cX1_fails 530 = .ok (.iinc 3 1, 3) := by decide +kernel
theorem dX1_fails_533 : decode cX1_fails 533 = .ok (.goto (-205), 3) := by decide +kernel
theorem dX1_fails_536 : decode cX1_fails 536 = .ok (.iconst 0, 1) := by decide +kernel
theorem dX1_fails_537 : decode cX1_fails 537 = .ok (.ireturn, 1) := by decide +kernel
theorem dX1_fails_538 : decode cX1_fails 538 = .ok (.aload_n 0, 1) := by decide +kernel
theorem dX1_fails_539 : decode cX1_fails 539 = .ok (.iload_n 1, 1) := by decide +kernel
theorem dX1_fails_540 : decode cX1_fails 540 = .ok (.iconst 1, 1) := by decide +kernel
theorem dX1_fails_541 : decode cX1_fails 541 = .ok (.invokevirtual 259, 3) := by decide +kernel
theorem dX1_fails_544 : decode cX1_fails 544 = .ok (.ireturn, 1) := by decide +kernel
abbrev cX1_isSaid : ByteArray := prog_1_method_36_code
def yX1_isSaid : MethodName := ⟨RX1, "isSaid", "(IZ)Z"⟩
theorem dX1_isSaid_0 : decode cX1_isSaid 0 = .ok (.iconst 0, 1) := by decide +kernel
theorem dX1_isSaid_1 : decode cX1_isSaid 1 = .ok (.istore_n 3, 1) := by decide +kernel
theorem dX1_isSaid_2 : decode cX1_isSaid 2 = .ok (.iload_n 3, 1) := by decide +kernel
theorem dX1_isSaid_3 : decode cX1_isSaid 3 = .ok (.aload_n 0, 1) := by decide +kernel
theorem dX1_isSaid_4 : decode cX1_isSaid 4 = .ok (.getfield 223, 3) := by decide +kernel
theorem dX1_isSaid_7 : decode cX1_isSaid 7 = .ok (.if_icmp .ge 73, 3) := by decide +kernel
theorem dX1_isSaid_10 : decode cX1_isSaid 10 = .ok (.aload_n 0, 1) := by decide +kernel
theorem dX1_isSaid_11 : decode cX1_isSaid 11 = .ok (.getfield 226, 3) := by decide +kernel
theorem dX1_isSaid_14 : decode cX1_isSaid 14 = .ok (.iload_n 3, 1) := by decide +kernel
theorem dX1_isSaid_15 : decode cX1_isSaid 15 = .ok (.iaload, 1) := by decide +kernel
theorem dX1_isSaid_16 : decode cX1_isSaid 16 = .ok (.istore 4, 2) := by decide +kernel
theorem dX1_isSaid_18 : decode cX1_isSaid 18 = .ok (.aload_n 0, 1) := by decide +kernel
theorem dX1_isSaid_19 : decode cX1_isSaid 19 = .ok (.getfield 1, 3) := by decide +kernel
theorem dX1_isSaid_22 : decode cX1_isSaid 22 = .ok (.getfield 39, 3) := by decide +kernel
theorem dX1_isSaid_25 : decode cX1_isSaid 25 = .ok (.iload 4, 2) := by decide +kernel
theorem dX1_isSaid_27 : decode cX1_isSaid 27 = .ok (.iaload, 1) := by decide +kernel
theorem dX1_isSaid_28 : decode cX1_isSaid 28 = .ok (.bipush 16, 2) := by decide +kernel
theorem dX1_isSaid_30 : decode cX1_isSaid 30 = .ok (.if_icmp .ne 7, 3) := by decide +kernel
theorem dX1_isSaid_33 : decode cX1_isSaid 33 = .ok (.iconst 1, 1) := by decide +kernel
theorem dX1_isSaid_34 : decode cX1_isSaid 34 = .ok (.goto 4, 3) := by decide +kernel
theorem dX1_isSaid_37 : decode cX1_isSaid 37 = .ok (.iconst 0, 1) := by decide +kernel
theorem dX1_isSaid_38 : decode cX1_isSaid 38 = .ok (.iload_n 2, 1) := by decide +kernel
theorem dX1_isSaid_39 : decode cX1_isSaid 39 = .ok (.if_icmp .eq 6, 3) := by decide +kernel
theorem dX1_isSaid_42 : decode cX1_isSaid 42 = .ok (.goto 32, 3) := by decide +kernel
theorem dX1_isSaid_45 : decode cX1_isSaid 45 = .ok (.aload_n 0, 1) := by decide +kernel
theorem dX1_isSaid_46 : decode cX1_isSaid 46 = .ok (.iload_n 1, 1) := by decide +kernel
theorem dX1_isSaid_47 : decode cX1_isSaid 47 = .ok (.iload_n 2, 1) := by decide +kernel
theorem dX1_isSaid_48 : decode cX1_isSaid 48 = .ok (.ifCond .eq 16, 3) := by decide +kernel
theorem dX1_isSaid_51 : decode cX1_isSaid 51 = .ok (.aload_n 0, 1) := by decide +kernel
