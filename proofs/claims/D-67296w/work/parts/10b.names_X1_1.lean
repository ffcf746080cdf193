set_option maxRecDepth 100000
/-! RoundCheck -/
def RX1 : String := "RoundCheck"
def TX1 : u_T := fun k => match k with
  | 0 => ("RoundCheck", "st", "LRoundCheck$Store;", true)
  | 1 => ("RoundCheck", "memo", "[I", false)
  | 2 => ("RoundCheck", "memoStamp", "[I", false)
  | 3 => ("RoundCheck", "stamp", "I", false)
  | 4 => ("RoundCheck", "kn", "[I", false)
  | 5 => ("RoundCheck", "knowns", "I", false)
  | 6 => ("RoundCheck", "run", "I", false)
  | 7 => ("RoundCheck", "isKnown", "[I", false)
  | 8 => ("RoundCheck", "opened", "[I", false)
  | 9 => ("RoundCheck", "hand", "[I", false)
  | 10 => ("RoundCheck", "th", "[I", true)
  | 11 => ("RoundCheck", "up", "[I", true)
  | 12 => ("RoundCheck", "handStamp", "[I", false)
  | 13 => ("RoundCheck", "hands", "I", false)
  | 14 => ("RoundCheck", "firsts", "I", false)
  | 15 => ("RoundCheck", "beyond", "Z", false)
  | 16 => ("RoundCheck", "mTerm", "[I", false)
  | 17 => ("RoundCheck", "mMode", "[I", false)
  | 18 => ("RoundCheck", "mArg", "[I", false)
  | 19 => ("RoundCheck", "jTerm", "[I", false)
  | 20 => ("RoundCheck", "jVal", "[I", false)
  | 21 => ("RoundCheck", "modeFacts", "I", false)
  | 22 => ("RoundCheck", "adjectiveFacts", "I", false)
  | 23 => ("RoundCheck", "coming", "[I", false)
  | 24 => ("RoundCheck", "comes", "I", false)
  | 25 => ("RoundCheck", "brought", "[I", false)
  | 26 => ("RoundCheck", "brings", "I", false)
  | 27 => ("RoundCheck", "newFrom", "I", false)
  | 28 => ("RoundCheck", "found", "Z", false)
  | 29 => ("RoundCheck", "missing", "Z", false)
  | 30 => ("RoundCheck", "caseRow", "[I", false)
  | 31 => ("RoundCheck", "pendForm", "[I", false)
  | 32 => ("RoundCheck", "pendNext", "[I", false)
  | 33 => ("RoundCheck", "pends", "I", false)
  | 34 => ("RoundCheck", "answer", "I", false)
  | 35 => ("RoundCheck", "form", "[I", true)
  | 36 => ("RoundCheck", "forms", "I", false)
  | 37 => ("RoundCheck", "mParent", "[I", true)
  | 38 => ("RoundCheck", "mHas", "[Z", true)
  | 39 => ("RoundCheck", "modes", "I", false)
  | 40 => ("RoundCheck", "attributes", "I", false)
  | 41 => ("RoundCheck", "fMany", "[I", true)
  | 42 => ("RoundCheck", "fResult", "[I", true)
  | 43 => ("RoundCheck", "pMany", "[I", true)
  | 44 => ("RoundCheck", "functors", "I", false)
  | 45 => ("RoundCheck", "predicates", "I", false)
  | 46 => ("RoundCheck", "gSort", "[I", true)
  | 47 => ("RoundCheck", "gOf", "[I", true)
  | 48 => ("RoundCheck", "gLocus0", "[I", true)
  | 49 => ("RoundCheck", "gLocus1", "[I", true)
  | 50 => ("RoundCheck", "gGives", "[I", true)
  | 51 => ("RoundCheck", "registrations", "I", false)
  | 52 => ("RoundCheck", "premises", "[I", true)
  | 53 => ("RoundCheck", "premiseMany", "I", false)
  | 54 => ("RoundCheck", "lastCases", "I", false)
  | 55 => ("RoundCheck", "constType", "[I", false)
  | _ => ("RoundCheck", "constants", "I", false)
def tyX1 : Nat → FieldType := fun k => match k with
  | 0 => .object "RoundCheck$Store"
  | 1 => .array .int
  | 2 => .array .int
  | 3 => .int
  | 4 => .array .int
  | 5 => .int
  | 6 => .int
  | 7 => .array .int
  | 8 => .array .int
  | 9 => .array .int
  | 10 => .array .int
  | 11 => .array .int
  | 12 => .array .int
  | 13 => .int
  | 14 => .int
  | 15 => .boolean
  | 16 => .array .int
  | 17 => .array .int
  | 18 => .array .int
  | 19 => .array .int
  | 20 => .array .int
  | 21 => .int
  | 22 => .int
  | 23 => .array .int
  | 24 => .int
  | 25 => .array .int
  | 26 => .int
  | 27 => .int
  | 28 => .boolean
  | 29 => .boolean
  | 30 => .array .int
  | 31 => .array .int
  | 32 => .array .int
  | 33 => .int
  | 34 => .int
  | 35 => .array .int
  | 36 => .int
  | 37 => .array .int
  | 38 => .array .boolean
  | 39 => .int
  | 40 => .int
  | 41 => .array .int
  | 42 => .array .int
  | 43 => .array .int
  | 44 => .int
  | 45 => .int
  | 46 => .array .int
  | 47 => .array .int
  | 48 => .array .int
  | 49 => .array .int
  | 50 => .array .int
  | 51 => .int
  | 52 => .array .int
  | 53 => .int
  | 54 => .int
  | 55 => .array .int
  | _ => .int
abbrev wsX10 : List Cond := u_ws RX1 TX1 57
theorem nmX1 : ∀ a, a < 57 → ∀ b, b < 57 → a ≠ b → (TX1 a).2.1 ≠ (TX1 b).2.1 := by decide +kernel
theorem tyX1_ok : ∀ k, k < 57 → parseFieldDescriptor (TX1 k).2.2.1 = some (tyX1 k) := by decide +kernel
abbrev cX1_init : ByteArray := prog_1_method_57_code
def yX1_init : MethodName := ⟨RX1, "<init>", "()V"⟩
theorem dX1_init_0 : decode cX1_init 0 = .ok (.aload_n 0, 1) := by decide +kernel
theorem dX1_init_1 : decode cX1_init 1 = .ok (.invokespecial 405, 3) := by decide +kernel
theorem dX1_init_4 : decode cX1_init 4 = .ok (.aload_n 0, 1) := by decide +kernel
theorem dX1_init_5 : decode cX1_init 5 = .ok (.new 8, 3) := by decide +kernel
theorem dX1_init_8 : decode cX1_init 8 = .ok (.dup, 1) := by decide +kernel
theorem dX1_init_9 : decode cX1_init 9 = .ok (.invokespecial 410, 3) := by decide +kernel
theorem dX1_init_12 : decode cX1_init 12 = .ok (.putfield 1, 3) := by decide +kernel
theorem dX1_init_15 : decode cX1_init 15 = .ok (.aload_n 0, 1) := by decide +kernel
theorem dX1_init_16 : decode cX1_init 16 = .ok (.ldc_w 411, 3) := by decide +kernel
theorem dX1_init_19 : decode cX1_init 19 = .ok (.newarray .int, 2) := by decide +kernel
theorem dX1_init_21 : decode cX1_init 21 = .ok (.putfield 65, 3) := by decide +kernel
theorem dX1_init_24 : decode cX1_init 24 = .ok (.aload_n 0, 1) := by decide +kernel
theorem dX1_init_25 : decode cX1_init 25 = .ok (.ldc_w 411, 3) := by decide +kernel
theorem dX1_init_28 : decode cX1_init 28 = .ok (.newarray .int, 2) := by decide +kernel
theorem dX1_init_30 : decode cX1_init 30 = .ok (.putfield 68, 3) := by decide +kernel
theorem dX1_init_33 : decode cX1_init 33 = .ok (.aload_n 0, 1) := by decide +kernel
theorem dX1_init_34 : decode cX1_init 34 = .ok (.iconst 1, 1) := by decide +kernel
theorem dX1_init_35 : decode cX1_init 35 = .ok (.putfield 71, 3) := by decide +kernel
theorem dX1_init_38 : decode cX1_init 38 = .ok (.aload_n 0, 1) := by decide +kernel
theorem dX1_init_39 : decode cX1_init 39 = .ok (.sipush 1024, 3) := by decide +kernel
theorem dX1_init_42 : decode cX1_init 42 = .ok (.newarray .int, 2) := by decide +kernel
theorem dX1_init_44 : decode cX1_init 44 = .ok (.putfield 226, 3) := by decide +kernel
theorem dX1_init_47 : decode cX1_init 47 = .ok (.aload_n 0, 1) := by decide +kernel
theorem dX1_init_48 : decode cX1_init 48 = .ok (.ldc_w 411, 3) := by decide +kernel
theorem dX1_init_51 : decode cX1_init 51 = .ok (.newarray .int, 2) := by decide +kernel
theorem dX1_init_53 : decode cX1_init 53 = .ok (.putfield 131, 3) := by decide +kernel
theorem dX1_init_56 : decode cX1_init 56 = .ok (.aload_n 0, 1) := by decide +kernel
theorem dX1_init_57 : decode cX1_init 57 = .ok (.ldc_w 411, 3) := by decide +kernel
theorem dX1_init_60 : decode cX1_init 60 = .ok (.newarray .int, 2) := by decide +kernel
theorem dX1_init_62 : decode cX1_init 62 = .ok (.putfield 134, 3) := by decide +kernel
theorem dX1_init_65 : decode cX1_init 65 = .ok (.aload_n 0, 1) := by decide +kernel
theorem dX1_init_66 : decode cX1_init 66 = .ok (.ldc_w 411, 3) := by decide +kernel
theorem dX1_init_69 : decode cX1_init 69 = .ok (.newarray .int, 2) := by decide +kernel
theorem dX1_init_71 : decode cX1_init 71 = .ok (.putfield 137, 3) := by decide +kernel
theorem dX1_init_74 : decode cX1_init 74 = .ok (.aload_n 0, 1) := by decide +kernel
theorem dX1_init_75 : decode cX1_init 75 = .ok (.bipush 101, 2) := by decide +kernel
theorem dX1_init_77 : decode cX1_init 77 = .ok (.newarray .int, 2) := by decide +kernel
theorem dX1_init_79 : decode cX1_init 79 = .ok (.putfield 169, 3) := by decide +kernel
theorem dX1_init_82 : decode cX1_init 82 = .ok (.aload_n 0, 1) := by decide +kernel
theorem dX1_init_83 : decode cX1_init 83 = .ok (.bipush 101, 2) := by decide +kernel
theorem dX1_init_85 : decode cX1_init 85 = .ok (.newarray .int, 2) := by decide +kernel
theorem dX1_init_87 : decode cX1_init 87 = .ok (.putfield 146, 3) := by decide +kernel
theorem dX1_init_90 : decode cX1_init 90 = .ok (.aload_n 0, 1) := by decide +kernel
theorem dX1_init_91 : decode cX1_init 91 = .ok (.ldc_w 411, 3) := by decide +kernel
theorem dX1_init_94 : decode cX1_init 94 = .ok (.newarray .int, 2) := by decide +kernel
theorem dX1_init_96 : decode cX1_init 96 = .ok (.putfield 140, 3) := by decide +kernel
theorem dX1_init_99 : decode cX1_init 99 = .ok (.aload_n 0, 1) := by decide +kernel
theorem dX1_init_100 : decode cX1_init 100 = .ok (.sipush 512, 3) := by decide +kernel
theorem dX1_init_103 : decode cX1_init 103 = .ok (.newarray .int, 2) := by decide +kernel
theorem dX1_init_105 : decode cX1_init 105 = .ok (.putfield 187, 3) := by decide +kernel
theorem dX1_init_108 : decode cX1_init 108 = .ok (.aload_n 0, 1) := by decide +kernel
theorem dX1_init_109 : decode cX1_init 109 = .ok (.sipush 512, 3) := by decide +kernel
theorem dX1_init_112 : decode cX1_init 112 = .ok (.newarray .int, 2) := by decide +kernel
theorem dX1_init_114 : decode cX1_init 114 = .ok (.putfield 190, 3) := by decide +kernel
theorem dX1_init_117 : decode cX1_init 117 = .ok (.aload_n 0, 1) := by decide +kernel
theorem dX1_init_118 : decode cX1_init 118 = .ok (.sipush 512, 3) := by decide +kernel
theorem dX1_init_121 : decode cX1_init 121 = .ok (.newarray .int, 2) := by decide +kernel
theorem dX1_init_123 : decode cX1_init 123 = .ok (.putfield 193, 3) := by decide +kernel
theorem dX1_init_126 : decode cX1_init 126 = .ok (.aload_n 0, 1) := by decide +kernel
theorem dX1_init_127 : decode cX1_init 127 = .ok (.sipush 512, 3) := by decide +kernel
theorem dX1_init_130 : decode cX1_init 130 = .ok (.newarray .int, 2) := by decide +kernel
theorem dX1_init_132 : decode cX1_init 132 = .ok (.putfield 199, 3) := by decide +kernel
theorem dX1_init_135 : decode cX1_init 135 = .ok (.aload_n 0, 1) := by decide +kernel
theorem dX1_init_136 : decode cX1_init 136 = .ok (.sipush 512, 3) := by decide +kernel
theorem dX1_init_139 : decode cX1_init 139 = .ok (.newarray .int, 2) := by decide +kernel
theorem dX1_init_141 : decode cX1_init 141 = .ok (.putfield 202, 3) := by decide +kernel
theorem dX1_init_144 : decode cX1_init 144 = .ok (.aload_n 0, 1) := by decide +kernel
theorem dX1_init_145 : decode cX1_init 145 = .ok (.sipush 512, 3) := by decide +kernel
theorem dX1_init_148 : decode cX1_init 148 = .ok (.newarray .int, 2) := by decide +kernel
theorem dX1_init_150 : decode cX1_init 150 = .ok (.putfield 302, 3) := by decide +kernel
theorem dX1_init_153 : decode cX1_init 153 = .ok (.aload_n 0, 1) := by decide +kernel
theorem dX1_init_154 : decode cX1_init 154 = .ok (.bipush 64, 2) := by decide +kernel
theorem dX1_init_156 : decode cX1_init 156 = .ok (.newarray .int, 2) := by decide +kernel
theorem dX1_init_158 : decode cX1_init 158 = .ok (.putfield 311, 3) := by decide +kernel
theorem dX1_init_161 : decode cX1_init 161 = .ok (.aload_n 0, 1) := by decide +kernel
theorem dX1_init_162 : decode cX1_init 162 = .ok (.sipush 512, 3) := by decide +kernel
theorem dX1_init_165 : decode cX1_init 165 = .ok (.newarray .int, 2) := by decide +kernel
theorem dX1_init_167 : decode cX1_init 167 = .ok (.putfield 326, 3) := by decide +kernel
theorem dX1_init_170 : decode cX1_init 170 = .ok (.aload_n 0, 1) := by decide +kernel
theorem dX1_init_171 : decode cX1_init 171 = .ok (.sipush 1024, 3) := by decide +kernel
theorem dX1_init_174 : decode cX1_init 174 = .ok (.newarray .int, 2) := by decide +kernel
theorem dX1_init_176 : decode cX1_init 176 = .ok (.putfield 356, 3) := by decide +kernel
theorem dX1_init_179 : decode cX1_init 179 = .ok (.aload_n 0, 1) := by decide +kernel
theorem dX1_init_180 : decode cX1_init 180 = .ok (.sipush 1024, 3) := by decide +kernel
theorem dX1_init_183 : decode cX1_init 183 = .ok (.newarray .int, 2) := by decide +kernel
theorem dX1_init_185 : decode cX1_init 185 = .ok (.putfield 359, 3) := by decide +kernel
theorem dX1_init_188 : decode cX1_init 188 = .ok (.aload_n 0, 1) := by decide +kernel
theorem dX1_init_189 : decode cX1_init 189 = .ok (.sipush 400, 3) := by decide +kernel
theorem dX1_init_192 : decode cX1_init 192 = .ok (.newarray .int, 2) := by decide +kernel
theorem dX1_init_194 : decode cX1_init 194 = .ok (.putfield 412, 3) := by decide +kernel
theorem dX1_init_197 : decode cX1_init 197 = .ok (.aload_n 0, 1) := by decide +kernel
theorem dX1_init_198 : decode cX1_init 198 = .ok (.bipush 20, 2) := by decide +kernel
theorem dX1_init_200 : decode cX1_init 200 = .ok (.newarray .int, 2) := by decide +kernel
theorem dX1_init_202 : decode cX1_init 202 = .ok (.putfield 55, 3) := by decide +kernel
theorem dX1_init_205 : decode cX1_init 205 = .ok (.aload_n 0, 1) := by decide +kernel
theorem dX1_init_206 : decode cX1_init 206 = .ok (.bipush 20, 2) := by decide +kernel
theorem dX1_init_208 : decode cX1_init 208 = .ok (.newarray .boolean, 2) := by decide +kernel
theorem dX1_init_210 : decode cX1_init 210 = .ok (.putfield 415, 3) := by decide +kernel
theorem dX1_init_213 : decode cX1_init 213 = .ok (.aload_n 0, 1) := by decide +kernel
theorem dX1_init_214 : decode cX1_init 214 = .ok (.iconst 1, 1) := by decide +kernel
theorem dX1_init_215 : decode cX1_init 215 = .ok (.putfield 419, 3) := by decide +kernel
theorem dX1_init_218 : decode cX1_init 218 = .ok (.aload_n 0, 1) := by decide +kernel
theorem dX1_init_219 : decode cX1_init 219 = .ok (.bipush 30, 2) := by decide +kernel
theorem dX1_init_221 : decode cX1_init 221 = .ok (.newarray .int, 2) := by decide +kernel
theorem dX1_init_223 : decode cX1_init 223 = .ok (.putfield 422, 3) := by decide +kernel
theorem dX1_init_226 : decode cX1_init 226 = .ok (.aload_n 0, 1) := by decide +kernel
theorem dX1_init_227 : decode cX1_init 227 = .ok (.bipush 30, 2) := by decide +kernel
theorem dX1_init_229 : decode cX1_init 229 = .ok (.newarray .int, 2) := by decide +kernel
theorem dX1_init_231 : decode cX1_init 231 = .ok (.putfield 48, 3) := by decide +kernel
theorem dX1_init_234 : decode cX1_init 234 = .ok (.aload_n 0, 1) := by decide +kernel
theorem dX1_init_235 : decode cX1_init 235 = .ok (.bipush 10, 2) := by decide +kernel
theorem dX1_init_237 : decode cX1_init 237 = .ok (.newarray .int, 2) := by decide +kernel
theorem dX1_init_239 : decode cX1_init 239 = .ok (.putfield 425, 3) := by decide +kernel
theorem dX1_init_242 : decode cX1_init 242 = .ok (.aload_n 0, 1) := by decide +kernel
theorem dX1_init_243 : decode cX1_init 243 = .ok (.bipush 30, 2) := by decide +kernel
theorem dX1_init_245 : decode cX1_init 245 = .ok (.newarray .int, 2) := by decide +kernel
theorem dX1_init_247 : decode cX1_init 247 = .ok (.putfield 83, 3) := by decide +kernel
theorem dX1_init_250 : decode cX1_init 250 = .ok (.aload_n 0, 1) := by decide +kernel
theorem dX1_init_251 : decode cX1_init 251 = .ok (.bipush 30, 2) := by decide +kernel
theorem dX1_init_253 : decode cX1_init 253 = .ok (.newarray .int, 2) := by decide +kernel
theorem dX1_init_255 : decode cX1_init 255 = .ok (.putfield 86, 3) := by decide +kernel
theorem dX1_init_258 : decode cX1_init 258 = .ok (.aload_n 0, 1) := by decide +kernel
theorem dX1_init_259 : decode cX1_init 259 = .ok (.bipush 30, 2) := by decide +kernel
theorem dX1_init_261 : decode cX1_init 261 = .ok (.newarray .int, 2) := by decide +kernel
theorem dX1_init_263 : decode cX1_init 263 = .ok (.putfield 89, 3) := by decide +kernel
theorem dX1_init_266 : decode cX1_init 266 = .ok (.aload_n 0, 1) := by decide +kernel
theorem dX1_init_267 : decode cX1_init 267 = .ok (.bipush 30, 2) := by decide +kernel
theorem dX1_init_269 : decode cX1_init 269 = .ok (.newarray .int, 2) := by decide +kernel
theorem dX1_init_271 : decode cX1_init 271 = .ok (.putfield 95, 3) := by decide +kernel
theorem dX1_init_274 : decode cX1_init 274 = .ok (.aload_n 0, 1) := by decide +kernel
theorem dX1_init_275 : decode cX1_init 275 = .ok (.bipush 30, 2) := by decide +kernel
theorem dX1_init_277 : decode cX1_init 277 = .ok (.newarray .int, 2) := by decide +kernel
theorem dX1_init_279 : decode cX1_init 279 = .ok (.putfield 98, 3) := by decide +kernel
theorem dX1_init_282 : decode cX1_init 282 = .ok (.aload_n 0, 1) := by decide +kernel
theorem dX1_init_283 : decode cX1_init 283 = .ok (.bipush 20, 2) := by decide +kernel
theorem dX1_init_285 : decode cX1_init 285 = .ok (.newarray .int, 2) := by decide +kernel
theorem dX1_init_287 : decode cX1_init 287 = .ok (.putfield 428, 3) := by decide +kernel
theorem dX1_init_290 : decode cX1_init 290 = .ok (.aload_n 0, 1) := by decide +kernel
theorem dX1_init_291 : decode cX1_init 291 = .ok (.sipush 512, 3) := by decide +kernel
theorem dX1_init_294 : decode cX1_init 294 = .ok (.newarray .int, 2) := by decide +kernel
theorem dX1_init_296 : decode cX1_init 296 = .ok (.putfield 42, 3) := by decide +kernel
theorem dX1_init_299 : decode cX1_init 299 = .ok (.return_, 1) := by decide +kernel
abbrev cX1_clear : ByteArray := prog_1_method_89_code
def yX1_clear : MethodName := ⟨RX1, "clear", "()I"⟩
theorem dX1_clear_0 : decode cX1_clear 0 = .ok (.aload_n 0, 1) := by decide +kernel
theorem dX1_clear_1 : decode cX1_clear 1 = .ok (.getfield 516, 3) := by decide +kernel
theorem dX1_clear_4 : decode cX1_clear 4 = .ok (.istore_n 1, 1) := by decide +kernel
theorem dX1_clear_5 : decode cX1_clear 5 = .ok (.aload_n 0, 1) := by decide +kernel
theorem dX1_clear_6 : decode cX1_clear 6 = .ok (.iconst 0, 1) := by decide +kernel
theorem dX1_clear_7 : decode cX1_clear 7 = .ok (.putfield 516, 3) := by decide +kernel
theorem dX1_clear_10 : decode cX1_clear 10 = .ok (.iload_n 1, 1) := by decide +kernel
theorem dX1_clear_11 : decode cX1_clear 11 = .ok (.ireturn, 1) := by decide +kernel
abbrev cX1_mode : ByteArray := prog_1_method_69_code
def yX1_mode : MethodName := ⟨RX1, "mode", "(IZ)I"⟩
theorem dX1_mode_0 : decode cX1_mode 0 = .ok (.aload_n 0, 1) := by decide +kernel
theorem dX1_mode_1 : decode cX1_mode 1 = .ok (.iload_n 1, 1) := by decide +kernel
theorem dX1_mode_2 : decode cX1_mode 2 = .ok (.invokevirtual 455, 3) := by decide +kernel
theorem dX1_mode_5 : decode cX1_mode 5 = .ok (.istore_n 3, 1) := by decide +kernel
theorem dX1_mode_6 : decode cX1_mode 6 = .ok (.aload_n 0, 1) := by decide +kernel
theorem dX1_mode_7 : decode cX1_mode 7 = .ok (.iload_n 3, 1) := by decide +kernel
theorem dX1_mode_8 : decode cX1_mode 8 = .ok (.invokevirtual 447, 3) := by decide +kernel
theorem dX1_mode_11 : decode cX1_mode 11 = .ok (.iload_n 2, 1) := by decide +kernel
theorem dX1_mode_12 : decode cX1_mode 12 = .ok (.ifCond .eq 7, 3) := by decide +kernel
theorem dX1_mode_15 : decode cX1_mode 15 = .ok (.iconst 1, 1) := by decide +kernel
theorem dX1_mode_16 : decode cX1_mode 16 = .ok (.goto 4, 3) := by decide +kernel
theorem dX1_mode_19 : decode cX1_mode 19 = .ok (.iconst 0, 1) := by decide +kernel
theorem dX1_mode_20 : decode cX1_mode 20 = .ok (.if_icmp .ge 7, 3) := by decide +kernel
theorem dX1_mode_23 : decode cX1_mode 23 = .ok (.iconst 1, 1) := by decide +kernel
theorem dX1_mode_24 : decode cX1_mode 24 = .ok (.goto 4, 3) := by decide +kernel
theorem dX1_mode_27 : decode cX1_mode 27 = .ok (.iconst 0, 1) := by decide +kernel
theorem dX1_mode_28 : decode cX1_mode 28 = .ok (.invokestatic 440, 3) := by decide +kernel
theorem dX1_mode_31 : decode cX1_mode 31 = .ok (.aload_n 0, 1) := by decide +kernel
theorem dX1_mode_32 : decode cX1_mode 32 = .ok (.getfield 419, 3) := by decide +kernel
theorem dX1_mode_35 : decode cX1_mode 35 = .ok (.bipush 20, 2) := by decide +kernel
theorem dX1_mode_37 : decode cX1_mode 37 = .ok (.if_icmp .ge 7, 3) := by decide +kernel
theorem dX1_mode_40 : decode cX1_mode 40 = .ok (.iconst 1, 1) := by decide +kernel
theorem dX1_mode_41 : decode cX1_mode 41 = .ok (.goto 4, 3) := by decide +kernel
theorem dX1_mode_44 : decode cX1_mode 44 = .ok (.iconst 0, 1) := by decide +kernel
theorem dX1_mode_45 : decode cX1_mode 45 = .ok (.invokestatic 458, 3) := by decide +kernel
theorem dX1_mode_48 : decode cX1_mode 48 = .ok (.aload_n 0, 1) := by decide +kernel
theorem dX1_mode_49 : decode cX1_mode 49 = .ok (.getfield 55, 3) := by decide +kernel
theorem dX1_mode_52 : decode cX1_mode 52 = .ok (.aload_n 0, 1) := by decide +kernel
theorem dX1_mode_53 : decode cX1_mode 53 = .ok (.getfield 419, 3) := by decide +kernel
theorem dX1_mode_56 : decode cX1_mode 56 = .ok (.iload_n 3, 1) := by decide +kernel
theorem dX1_mode_57 : decode cX1_mode 57 = .ok (.iastore, 1) := by decide +kernel
theorem dX1_mode_58 : decode cX1_mode 58 = .ok (.aload_n 0, 1) := by decide +kernel
theorem dX1_mode_59 : decode cX1_mode 59 = .ok (.getfield 415, 3) := by decide +kernel
theorem dX1_mode_62 : decode cX1_mode 62 = .ok (.aload_n 0, 1) := by decide +kernel
theorem dX1_mode_63 : decode cX1_mode 63 = .ok (.getfield 419, 3) := by decide +kernel
theorem dX1_mode_66 : decode cX1_mode 66 = .ok (.iload_n 2, 1) := by decide +kernel
theorem dX1_mode_67 : decode cX1_mode 67 = .ok (.bastore, 1) := by decide +kernel
theorem dX1_mode_68 : decode cX1_mode 68 = .ok (.aload_n 0, 1) := by decide +kernel
theorem dX1_mode_69 : decode cX1_mode 69 = .ok (.dup, 1) := by decide +kernel
theorem dX1_mode_70 : decode cX1_mode 70 = .ok (.getfield 419, 3) := by decide +kernel
theorem dX1_mode_73 : decode cX1_mode 73 = .ok (.iconst 1, 1) := by decide +kernel
theorem dX1_mode_74 : decode cX1_mode 74 = .ok (.iadd, 1) := by decide +kernel
theorem dX1_mode_75 : decode cX1_mode 75 = .ok (.putfield 419, 3) := by decide +kernel
theorem dX1_mode_78 : decode cX1_mode 78 = .ok (.aload_n 0, 1) := by decide +kernel
theorem dX1_mode_79 : decode cX1_mode 79 = .ok (.getfield 419, 3) := by decide +kernel
theorem dX1_mode_82 : decode cX1_mode 82 = .ok (.iconst 1, 1) := by decide +kernel
theorem dX1_mode_83 : decode cX1_mode 83 = .ok (.isub, 1) := by decide +kernel
theorem dX1_mode_84 : decode cX1_mode 84 = .ok (.ireturn, 1) := by decide +kernel
abbrev cX1_typeOfNumber : ByteArray := prog_1_method_62_code
def yX1_typeOfNumber : MethodName := ⟨RX1, "typeOfNumber", "(I)I"⟩
theorem dX1_typeOfNumber_0 : decode cX1_typeOfNumber 0 = .ok (.aload_n 0, 1) := by decide +kernel
theorem dX1_typeOfNumber_1 : decode cX1_typeOfNumber 1 = .ok (.iload_n 1, 1) := by decide +kernel
theorem dX1_typeOfNumber_2 : decode cX1_typeOfNumber 2 = .ok (.invokevirtual 444, 3) := by decide +kernel
theorem dX1_typeOfNumber_5 : decode cX1_typeOfNumber 5 = .ok (.istore_n 2, 1) := by decide +kernel
theorem dX1_typeOfNumber_6 : decode cX1_typeOfNumber 6 = .ok (.aload_n 0, 1) := by decide +kernel
theorem dX1_typeOfNumber_7 : decode cX1_typeOfNumber 7 = .ok (.getfield 1, 3) := by decide +kernel
theorem dX1_typeOfNumber_10 : decode cX1_typeOfNumber 10 = .ok (.getfield 39, 3) := by decide +kernel
theorem dX1_typeOfNumber_13 : decode cX1_typeOfNumber 13 = .ok (.iload_n 2, 1) := by decide +kernel
theorem dX1_typeOfNumber_14 : decode cX1_typeOfNumber 14 = .ok (.iaload, 1) := by decide +kernel
theorem dX1_typeOfNumber_15 : decode cX1_typeOfNumber 15 = .ok (.bipush 8, 2) := by decide +kernel
theorem dX1_typeOfNumber_17 : decode cX1_typeOfNumber 17 = .ok (.if_icmp .ne 7, 3) := by decide +kernel
theorem dX1_typeOfNumber_20 : decode cX1_typeOfNumber 20 = .ok (.iconst 1, 1) := by decide +kernel
theorem dX1_typeOfNumber_21 : decode cX1_typeOfNumber 21 = .ok (.goto 4, 3) := by decide +kernel
theorem dX1_typeOfNumber_24 : decode cX1_typeOfNumber 24 = .ok (.iconst 0, 1) := by decide +kernel
theorem dX1_typeOfNumber_25 : decode cX1_typeOfNumber 25 = .ok (.invokestatic 440, 3) := by decide +kernel
theorem dX1_typeOfNumber_28 : decode cX1_typeOfNumber 28 = .ok (.iload_n 2, 1) := by decide +kernel
theorem dX1_typeOfNumber_29 : decode cX1_typeOfNumber 29 = .ok (.ireturn, 1) := by decide +kernel
abbrev cX1_formOf : ByteArray := prog_1_method_60_code
def yX1_formOf : MethodName := ⟨RX1, "formOf", "(I)I"⟩
theorem dX1_formOf_0 : decode cX1_formOf 0 = .ok (.iload_n 1, 1) := by decide +kernel
theorem dX1_formOf_1 : decode cX1_formOf 1 = .ok (.ifCond .lt 15, 3) := by decide +kernel
theorem dX1_formOf_4 : decode cX1_formOf 4 = .ok (.iload_n 1, 1) := by decide +kernel
theorem dX1_formOf_5 : decode cX1_formOf 5 = .ok (.aload_n 0, 1) := by decide +kernel
theorem dX1_formOf_6 : decode cX1_formOf 6 = .ok (.getfield 437, 3) := by decide +kernel
theorem dX1_formOf_9 : decode cX1_formOf 9 = .ok (.if_icmp .ge 7, 3) := by decide +kernel
theorem dX1_formOf_12 : decode cX1_formOf 12 = .ok (.iconst 1, 1) := by decide +kernel
theorem dX1_formOf_13 : decode cX1_formOf 13 = .ok (.goto 4, 3) := by decide +kernel
theorem dX1_formOf_16 : decode cX1_formOf 16 = .ok (.iconst 0, 1) := by decide +kernel
theorem dX1_formOf_17 : decode cX1_formOf 17 = .ok (.invokestatic 440, 3) := by decide +kernel
theorem dX1_formOf_20 : decode cX1_formOf 20 = .ok (.aload_n 0, 1) := by decide +kernel
theorem dX1_formOf_21 : decode cX1_formOf 21 = .ok (.getfield 412, 3) := by decide +kernel
theorem dX1_formOf_24 : decode cX1_formOf 24 = .ok (.iload_n 1, 1) := by decide +kernel
theorem dX1_formOf_25 : decode cX1_formOf 25 = .ok (.iaload, 1) := by decide +kernel
theorem dX1_formOf_26 : decode cX1_formOf 26 = .ok (.ireturn, 1) := by decide +kernel
abbrev cX1_need : ByteArray := prog_1_method_58_code
def yX1_need : MethodName := ⟨RX1, "need", "(Z)V"⟩
theorem dX1_need_0 : decode cX1_need 0 = .ok (.iload_n 0, 1) := by decide +kernel
theorem dX1_need_1 : decode cX1_need 1 = .ok (.ifCond .ne 11, 3) := by decide +kernel
theorem dX1_need_4 : decode cX1_need 4 = .ok (.new 431, 3) := by decide +kernel
theorem dX1_need_7 : decode cX1_need 7 = .ok (.dup, 1) := by decide +kernel
theorem dX1_need_8 : decode cX1_need 8 = .ok (.invokespecial 433, 3) := by decide +kernel
theorem dX1_need_11 : decode cX1_need 11 = .ok (.athrow, 1) := by decide +kernel
theorem dX1_need_12 : decode cX1_need 12 = .ok (.return_, 1) := by decide +kernel
abbrev cX1_loci : ByteArray := prog_1_method_64_code
def yX1_loci : MethodName := ⟨RX1, "loci", "(I)I"⟩
theorem dX1_loci_0 : decode cX1_loci 0 = .ok (.iload_n 1, 1) := by decide +kernel
theorem dX1_loci_1 : decode cX1_loci 1 = .ok (.ifCond .ne 5, 3) := by decide +kernel
theorem dX1_loci_4 : decode cX1_loci 4 = .ok (.iconst (-1), 1) := by decide +kernel
theorem dX1_loci_5 : decode cX1_loci 5 = .ok (.ireturn, 1) := by decide +kernel
theorem dX1_loci_6 : decode cX1_loci 6 = .ok (.aload_n 0, 1) := by decide +kernel
theorem dX1_loci_7 : decode cX1_loci 7 = .ok (.getfield 1, 3) := by decide +kernel
theorem dX1_loci_10 : decode cX1_loci 10 = .ok (.getfield 39, 3) := by decide +kernel
theorem dX1_loci_13 : decode cX1_loci 13 = .ok (.iload_n 1, 1) := by decide +kernel
theorem dX1_loci_14 : decode cX1_loci 14 = .ok (.iaload, 1) := by decide +kernel
theorem dX1_loci_15 : decode cX1_loci 15 = .ok (.iconst 3, 1) := by decide +kernel
theorem dX1_loci_16 : decode cX1_loci 16 = .ok (.if_icmp .ne 13, 3) := by decide +kernel
theorem dX1_loci_19 : decode cX1_loci 19 = .ok (.aload_n 0, 1) := by decide +kernel
theorem dX1_loci_20 : decode cX1_loci 20 = .ok (.getfield 1, 3) := by decide +kernel
theorem dX1_loci_23 : decode cX1_loci 23 = .ok (.getfield 45, 3) := by decide +kernel
theorem dX1_loci_26 : decode cX1_loci 26 = .ok (.iload_n 1, 1) := by decide +kernel
theorem dX1_loci_27 : decode cX1_loci 27 = .ok (.iaload, 1) := by decide +kernel
theorem dX1_loci_28 : decode cX1_loci 28 = .ok (.ireturn, 1) := by decide +kernel
theorem dX1_loci_29 : decode cX1_loci 29 = .ok (.iconst (-1), 1) := by decide +kernel
theorem dX1_loci_30 : decode cX1_loci 30 = .ok (.istore_n 2, 1) := by decide +kernel
theorem dX1_loci_31 : decode cX1_loci 31 = .ok (.aload_n 0, 1) := by decide +kernel
theorem dX1_loci_32 : decode cX1_loci 32 = .ok (.getfield 1, 3) := by decide +kernel
theorem dX1_loci_35 : decode cX1_loci 35 = .ok (.getfield 39, 3) := by decide +kernel
theorem dX1_loci_38 : decode cX1_loci 38 = .ok (.iload_n 1, 1) := by decide +kernel
theorem dX1_loci_39 : decode cX1_loci 39 = .ok (.iaload, 1) := by decide +kernel
theorem dX1_loci_40 : decode cX1_loci 40 = .ok (.bipush 8, 2) := by decide +kernel
theorem dX1_loci_42 : decode cX1_loci 42 = .ok (.if_icmp .ne 7, 3) := by decide +kernel
theorem dX1_loci_45 : decode cX1_loci 45 = .ok (.iconst 1, 1) := by decide +kernel
theorem dX1_loci_46 : decode cX1_loci 46 = .ok (.goto 12, 3) := by decide +kernel
theorem dX1_loci_49 : decode cX1_loci 49 = .ok (.aload_n 0, 1) := by decide +kernel
theorem dX1_loci_50 : decode cX1_loci 50 = .ok (.getfield 1, 3) := by decide +kernel
theorem dX1_loci_53 : decode cX1_loci 53 = .ok (.getfield 32, 3) := by decide +kernel
theorem dX1_loci_56 : decode cX1_loci 56 = .ok (.iload_n 1, 1) := by decide +kernel
theorem dX1_loci_57 : decode cX1_loci 57 = .ok (.iaload, 1) := by decide +kernel
theorem dX1_loci_58 : decode cX1_loci 58 = .ok (.istore_n 3, 1) := by decide +kernel
theorem dX1_loci_59 : decode cX1_loci 59 = .ok (.iconst 0, 1) := by decide +kernel
theorem dX1_loci_60 : decode cX1_loci 60 = .ok (.istore 4, 2) := by decide +kernel
theorem dX1_loci_62 : decode cX1_loci 62 = .ok (.iload 4, 2) := by decide +kernel
theorem dX1_loci_64 : decode cX1_loci 64 = .ok (.iload_n 3, 1) := by decide +kernel
theorem dX1_loci_65 : decode cX1_loci 65 = .ok (.if_icmp .ge 28, 3) := by decide +kernel
theorem dX1_loci_68 : decode cX1_loci 68 = .ok (.iload_n 2, 1) := by decide +kernel
theorem dX1_loci_69 : decode cX1_loci 69 = .ok (.aload_n 0, 1) := by decide +kernel
theorem dX1_loci_70 : decode cX1_loci 70 = .ok (.aload_n 0, 1) := by decide +kernel
theorem dX1_loci_71 : decode cX1_loci 71 = .ok (.getfield 1, 3) := by decide +kernel
theorem dX1_loci_74 : decode cX1_loci 74 = .ok (.iload_n 1, 1) := by decide +kernel
theorem dX1_loci_75 : decode cX1_loci 75 = .ok (.iload 4, 2) := by decide +kernel
theorem dX1_loci_77 : decode cX1_loci 77 = .ok (.invokevirtual 28, 3) := by decide +kernel
theorem dX1_loci_80 : decode cX1_loci 80 = .ok (.invokevirtual 447, 3) := by decide +kernel
theorem dX1_loci_83 : decode cX1_loci 83 = .ok (.invokestatic 107, 3) := by decide +kernel
theorem dX1_loci_86 : decode cX1_loci 86 = .ok (.istore_n 2, 1) := by decide +kernel
theorem dX1_loci_87 : decode cX1_loci 87 = .ok (.iinc 4 1, 3) := by decide +kernel
theorem dX1_loci_90 : decode cX1_loci 90 = .ok (.goto (-28), 3) := by decide +kernel
theorem dX1_loci_93 : decode cX1_loci 93 = .ok (.iload_n 2, 1) := by decide +kernel
theorem dX1_loci_94 : decode cX1_loci 94 = .ok (.ireturn, 1) := by decide +kernel
abbrev cX1_room : ByteArray := prog_1_method_59_code
def yX1_room : MethodName := ⟨RX1, "room", "(Z)V"⟩
theorem dX1_room_0 : decode cX1_room 0 = .ok (.iload_n 0, 1) := by decide +kernel
theorem dX1_room_1 : decode cX1_room 1 = .ok (.ifCond .ne 11, 3) := by decide +kernel
theorem dX1_room_4 : decode cX1_room 4 = .ok (.new 434, 3) := by decide +kernel
theorem dX1_room_7 : decode cX1_room 7 = .ok (.dup, 1) := by decide +kernel
theorem dX1_room_8 : decode cX1_room 8 = .ok (.invokespecial 436, 3) := by decide +kernel
theorem dX1_room_11 : decode cX1_room 11 = .ok (.athrow, 1) := by decide +kernel
theorem dX1_room_12 : decode cX1_room 12 = .ok (.return_, 1) := by decide +kernel
abbrev cX1_attribute : ByteArray := prog_1_method_70_code
def yX1_attribute : MethodName := ⟨RX1, "attribute", "()I"⟩
theorem dX1_attribute_0 : decode cX1_attribute 0 = .ok (.aload_n 0, 1) := by decide +kernel
theorem dX1_attribute_1 : decode cX1_attribute 1 = .ok (.getfield 452, 3) := by decide +kernel
theorem dX1_attribute_4 : decode cX1_attribute 4 = .ok (.bipush 15, 2) := by decide +kernel
theorem dX1_attribute_6 : decode cX1_attribute 6 = .ok (.if_icmp .ge 7, 3) := by decide +kernel
theorem dX1_attribute_9 : decode cX1_attribute 9 = .ok (.iconst 1, 1) := by decide +kernel
theorem dX1_attribute_10 : decode cX1_attribute 10 = .ok (.goto 4, 3) := by decide +kernel
theorem dX1_attribute_13 : decode cX1_attribute 13 = .ok (.iconst 0, 1) := by decide +kernel
theorem dX1_attribute_14 : decode cX1_attribute 14 = .ok (.invokestatic 458, 3) := by decide +kernel
theorem dX1_attribute_17 : decode cX1_attribute 17 = .ok (.aload_n 0, 1) := by decide +kernel
theorem dX1_attribute_18 : decode cX1_attribute 18 = .ok (.dup, 1) := by decide +kernel
theorem dX1_attribute_19 : decode cX1_attribute 19 = .ok (.getfield 452, 3) := by decide +kernel
theorem dX1_attribute_22 : decode cX1_attribute 22 = .ok (.iconst 1, 1) := by decide +kernel
theorem dX1_attribute_23 : decode cX1_attribute 23 = .ok (.iadd, 1) := by decide +kernel
theorem dX1_attribute_24 : decode cX1_attribute 24 = .ok (.putfield 452, 3) := by decide +kernel
theorem dX1_attribute_27 : decode cX1_attribute 27 = .ok (.aload_n 0, 1) := by decide +kernel
theorem dX1_attribute_28 : decode cX1_attribute 28 = .ok (.getfield 452, 3) := by decide +kernel
theorem dX1_attribute_31 : decode cX1_attribute 31 = .ok (.iconst 1, 1) := by decide +kernel
theorem dX1_attribute_32 : decode cX1_attribute 32 = .ok (.isub, 1) := by decide +kernel
theorem dX1_attribute_33 : decode cX1_attribute 33 = .ok (.ireturn, 1) := by decide +kernel
abbrev cX1_functor : ByteArray := prog_1_method_71_code
def yX1_functor : MethodName := ⟨RX1, "functor", "(II)I"⟩
theorem dX1_functor_0 : decode cX1_functor 0 = .ok (.iload_n 1, 1) := by decide +kernel
theorem dX1_functor_1 : decode cX1_functor 1 = .ok (.ifCond .lt 12, 3) := by decide +kernel
theorem dX1_functor_4 : decode cX1_functor 4 = .ok (.iload_n 1, 1) := by decide +kernel
theorem dX1_functor_5 : decode cX1_functor 5 = .ok (.iconst 2, 1) := by decide +kernel
theorem dX1_functor_6 : decode cX1_functor 6 = .ok (.if_icmp .gt 7, 3) := by decide +kernel
theorem dX1_functor_9 : decode cX1_functor 9 = .ok (.iconst 1, 1) := by decide +kernel
theorem dX1_functor_10 : decode cX1_functor 10 = .ok (.goto 4, 3) := by decide +kernel
theorem dX1_functor_13 : decode cX1_functor 13 = .ok (.iconst 0, 1) := by decide +kernel
theorem dX1_functor_14 : decode cX1_functor 14 = .ok (.invokestatic 440, 3) := by decide +kernel
theorem dX1_functor_17 : decode cX1_functor 17 = .ok (.aload_n 0, 1) := by decide +kernel
theorem dX1_functor_18 : decode cX1_functor 18 = .ok (.iload_n 2, 1) := by decide +kernel
theorem dX1_functor_19 : decode cX1_functor 19 = .ok (.invokevirtual 455, 3) := by decide +kernel
theorem dX1_functor_22 : decode cX1_functor 22 = .ok (.istore_n 3, 1) := by decide +kernel
theorem dX1_functor_23 : decode cX1_functor 23 = .ok (.aload_n 0, 1) := by decide +kernel
theorem dX1_functor_24 : decode cX1_functor 24 = .ok (.iload_n 3, 1) := by decide +kernel
theorem dX1_functor_25 : decode cX1_functor 25 = .ok (.invokevirtual 447, 3) := by decide +kernel
theorem dX1_functor_28 : decode cX1_functor 28 = .ok (.iload_n 1, 1) := by decide +kernel
theorem dX1_functor_29 : decode cX1_functor 29 = .ok (.if_icmp .ge 7, 3) := by decide +kernel
theorem dX1_functor_32 : decode cX1_functor 32 = .ok (.iconst 1, 1) := by decide +kernel
theorem dX1_functor_33 : decode cX1_functor 33 = .ok (.goto 4, 3) := by decide +kernel
theorem dX1_functor_36 : decode cX1_functor 36 = .ok (.iconst 0, 1) := by decide +kernel
theorem dX1_functor_37 : decode cX1_functor 37 = .ok (.invokestatic 440, 3) := by decide +kernel
theorem dX1_functor_40 : decode cX1_functor 40 = .ok (.aload_n 0, 1) := by decide +kernel
theorem dX1_functor_41 : decode cX1_functor 41 = .ok (.getfield 460, 3) := by decide +kernel
theorem dX1_functor_44 : decode cX1_functor 44 = .ok (.bipush 30, 2) := by decide +kernel
theorem dX1_functor_46 : decode cX1_functor 46 = .ok (.if_icmp .ge 7, 3) := by decide +kernel
theorem dX1_functor_49 : decode cX1_functor 49 = .ok (.iconst 1, 1) := by decide +kernel
theorem dX1_functor_50 : decode cX1_functor 50 = .ok (.goto 4, 3) := by decide +kernel
theorem dX1_functor_53 : decode cX1_functor 53 = .ok (.iconst 0, 1) := by decide +kernel
theorem dX1_functor_54 : decode cX1_functor 54 = .ok (.invokestatic 458, 3) := by decide +kernel
theorem dX1_functor_57 : decode cX1_functor 57 = .ok (.aload_n 0, 1) := by decide +kernel
theorem dX1_functor_58 : decode cX1_functor 58 = .ok (.getfield 422, 3) := by decide +kernel
theorem dX1_functor_61 : decode cX1_functor 61 = .ok (.aload_n 0, 1) := by decide +kernel
theorem dX1_functor_62 : decode cX1_functor 62 = .ok (.getfield 460, 3) := by decide +kernel
theorem dX1_functor_65 : decode cX1_functor 65 = .ok (.iload_n 1, 1) := by decide +kernel
theorem dX1_functor_66 : decode cX1_functor 66 = .ok (.iastore, 1) := by decide +kernel
theorem dX1_functor_67 : decode cX1_functor 67 = .ok (.aload_n 0, 1) := by decide +kernel
theorem dX1_functor_68 : decode cX1_functor 68 = .ok (.getfield 48, 3) := by decide +kernel
theorem dX1_functor_71 : decode cX1_functor 71 = .ok (.aload_n 0, 1) := by decide +kernel
theorem dX1_functor_72 : decode cX1_functor 72 = .ok (.getfield 460, 3) := by decide +kernel
theorem dX1_functor_75 : decode cX1_functor 75 = .ok (.iload_n 3, 1) := by decide +kernel
theorem dX1_functor_76 : decode cX1_functor 76 = .ok (.iastore, 1) := by decide +kernel
theorem dX1_functor_77 : decode cX1_functor 77 = .ok (.aload_n 0, 1) := by decide +kernel
theorem dX1_functor_78 : decode cX1_functor 78 = .ok (.dup, 1) := by decide +kernel
theorem dX1_functor_79 : decode cX1_functor 79 = .ok (.getfield 460, 3) := by decide +kernel
theorem dX1_functor_82 : decode cX1_functor 82 = .ok (.iconst 1, 1) := by decide +kernel
theorem dX1_functor_83 : decode cX1_functor 83 = .ok (.iadd, 1) := by decide +kernel
theorem dX1_functor_84 : decode cX1_functor 84 = .ok (.putfield 460, 3) := by decide +kernel
theorem dX1_functor_87 : decode cX1_functor 87 = .ok (.aload_n 0, 1) := by decide +kernel
theorem dX1_functor_88 : decode cX1_functor 88 = .ok (.getfield 460, 3) := by decide +kernel
theorem dX1_functor_91 : decode cX1_functor 91 = .ok (.iconst 1, 1) := by decide +kernel
theorem dX1_functor_92 : decode cX1_functor 92 = .ok (.isub, 1) := by decide +kernel
theorem dX1_functor_93 : decode cX1_functor 93 = .ok (.ireturn, 1) := by decide +kernel
abbrev cX1_predicate : ByteArray := prog_1_method_72_code
def yX1_predicate : MethodName := ⟨RX1, "predicate", "(I)I"⟩
theorem dX1_predicate_0 : decode cX1_predicate 0 = .ok (.iload_n 1, 1) := by decide +kernel
theorem dX1_predicate_1 : decode cX1_predicate 1 = .ok (.ifCond .lt 12, 3) := by decide +kernel
theorem dX1_predicate_4 : decode cX1_predicate 4 = .ok (.iload_n 1, 1) := by decide +kernel
theorem dX1_predicate_5 : decode cX1_predicate 5 = .ok (.iconst 2, 1) := by decide +kernel
theorem dX1_predicate_6 : decode cX1_predicate 6 = .ok (.if_icmp .gt 7, 3) := by decide +kernel
theorem dX1_predicate_9 : decode cX1_predicate 9 = .ok (.iconst 1, 1) := by decide +kernel
theorem dX1_predicate_10 : decode cX1_predicate 10 = .ok (.goto 4, 3) := by decide +kernel
theorem dX1_predicate_13 : decode cX1_predicate 13 = .ok (.iconst 0, 1) := by decide +kernel
theorem dX1_predicate_14 : decode cX1_predicate 14 = .ok (.invokestatic 440, 3) := by decide +kernel
theorem dX1_predicate_17 : decode cX1_predicate 17 = .ok (.aload_n 0, 1) := by decide +kernel
theorem dX1_predicate_18 : decode cX1_predicate 18 = .ok (.getfield 463, 3) := by decide +kernel
theorem dX1_predicate_21 : decode cX1_predicate 21 = .ok (.bipush 10, 2) := by decide +kernel
theorem dX1_predicate_23 : decode cX1_predicate 23 = .ok (.if_icmp .ge 7, 3) := by decide +kernel
theorem dX1_predicate_26 : decode cX1_predicate 26 = .ok (.iconst 1, 1) := by decide +kernel
theorem dX1_predicate_27 : decode cX1_predicate 27 = .ok (.goto 4, 3) := by decide +kernel
theorem dX1_predicate_30 : decode cX1_predicate 30 = .ok (.iconst 0, 1) := by decide +kernel
theorem dX1_predicate_31 : decode cX1_predicate 31 = .ok (.invokestatic 458, 3) := by decide +kernel
theorem dX1_predicate_34 : decode cX1_predicate 34 = .ok (.aload_n 0, 1) := by decide +kernel
theorem dX1_predicate_35 : decode cX1_predicate 35 = .ok (.getfield 425, 3) := by decide +kernel
theorem dX1_predicate_38 : decode cX1_predicate 38 = .ok (.aload_n 0, 1) := by decide +kernel
theorem dX1_predicate_39 : decode cX1_predicate 39 = .ok (.getfield 463, 3) := by decide +kernel
theorem dX1_predicate_42 : decode cX1_predicate 42 = .ok (.iload_n 1, 1) := by decide +kernel
theorem dX1_predicate_43 : decode cX1_predicate 43 = .ok (.iastore, 1) := by decide +kernel
theorem dX1_predicate_44 : decode cX1_predicate 44 = .ok (.aload_n 0, 1) := by decide +kernel
theorem dX1_predicate_45 : decode cX1_predicate 45 = .ok (.dup, 1) := by decide +kernel
theorem dX1_predicate_46 : decode cX1_predicate 46 = .ok (.getfield 463, 3) := by decide +kernel
theorem dX1_predicate_49 : decode cX1_predicate 49 = .ok (.iconst 1, 1) := by decide +kernel
theorem dX1_predicate_50 : decode cX1_predicate 50 = .ok (.iadd, 1) := by decide +kernel
theorem dX1_predicate_51 : decode cX1_predicate 51 = .ok (.putfield 463, 3) := by decide +kernel
theorem dX1_predicate_54 : decode cX1_predicate 54 = .ok (.aload_n 0, 1) := by decide +kernel
theorem dX1_predicate_55 : decode cX1_predicate 55 = .ok (.getfield 463, 3) := by decide +kernel
theorem dX1_predicate_58 : decode cX1_predicate 58 = .ok (.iconst 1, 1) := by decide +kernel
theorem dX1_predicate_59 : decode cX1_predicate 59 = .ok (.isub, 1) := by decide +kernel
theorem dX1_predicate_60 : decode cX1_predicate 60 = .ok (.ireturn, 1) := by decide +kernel
abbrev cX1_type : ByteArray := prog_1_method_73_code
def yX1_type : MethodName := ⟨RX1, "type", "(III)I"⟩
theorem dX1_type_0 : decode cX1_type 0 = .ok (.iload_n 1, 1) := by decide +kernel
theorem dX1_type_1 : decode cX1_type 1 = .ok (.ifCond .lt 15, 3) := by decide +kernel
theorem dX1_type_4 : decode cX1_type 4 = .ok (.iload_n 1, 1) := by decide +kernel
theorem dX1_type_5 : decode cX1_type 5 = .ok (.aload_n 0, 1) := by decide +kernel
theorem dX1_type_6 : decode cX1_type 6 = .ok (.getfield 419, 3) := by decide +kernel
theorem dX1_type_9 : decode cX1_type 9 = .ok (.if_icmp .ge 7, 3) := by decide +kernel
theorem dX1_type_12 : decode cX1_type 12 = .ok (.iconst 1, 1) := by decide +kernel
theorem dX1_type_13 : decode cX1_type 13 = .ok (.goto 4, 3) := by decide +kernel
theorem dX1_type_16 : decode cX1_type 16 = .ok (.iconst 0, 1) := by decide +kernel
theorem dX1_type_17 : decode cX1_type 17 = .ok (.invokestatic 440, 3) := by decide +kernel
theorem dX1_type_20 : decode cX1_type 20 = .ok (.aload_n 0, 1) := by decide +kernel
theorem dX1_type_21 : decode cX1_type 21 = .ok (.getfield 415, 3) := by decide +kernel
theorem dX1_type_24 : decode cX1_type 24 = .ok (.iload_n 1, 1) := by decide +kernel
theorem dX1_type_25 : decode cX1_type 25 = .ok (.baload, 1) := by decide +kernel
theorem dX1_type_26 : decode cX1_type 26 = .ok (.iload_n 2, 1) := by decide +kernel
theorem dX1_type_27 : decode cX1_type 27 = .ok (.iconst (-1), 1) := by decide +kernel
theorem dX1_type_28 : decode cX1_type 28 = .ok (.if_icmp .eq 7, 3) := by decide +kernel
theorem dX1_type_31 : decode cX1_type 31 = .ok (.iconst 1, 1) := by decide +kernel
theorem dX1_type_32 : decode cX1_type 32 = .ok (.goto 4, 3) := by decide +kernel
theorem dX1_type_35 : decode cX1_type 35 = .ok (.iconst 0, 1) := by decide +kernel
theorem dX1_type_36 : decode cX1_type 36 = .ok (.if_icmp .ne 7, 3) := by decide +kernel
theorem dX1_type_39 : decode cX1_type 39 = .ok (.iconst 1, 1) := by decide +kernel
theorem dX1_type_40 : decode cX1_type 40 = .ok (.goto 4, 3) := by decide +kernel
theorem dX1_type_43 : decode cX1_type 43 = .ok (.iconst 0, 1) := by decide +kernel
theorem dX1_type_44 : decode cX1_type 44 = .ok (.invokestatic 440, 3) := by decide +kernel
theorem dX1_type_47 : decode cX1_type 47 = .ok (.iload_n 2, 1) := by decide +kernel
theorem dX1_type_48 : decode cX1_type 48 = .ok (.iconst (-1), 1) := by decide +kernel
theorem dX1_type_49 : decode cX1_type 49 = .ok (.if_icmp .ne 7, 3) := by decide +kernel
theorem dX1_type_52 : decode cX1_type 52 = .ok (.iconst 0, 1) := by decide +kernel
theorem dX1_type_53 : decode cX1_type 53 = .ok (.goto 8, 3) := by decide +kernel
theorem dX1_type_56 : decode cX1_type 56 = .ok (.aload_n 0, 1) := by decide +kernel
theorem dX1_type_57 : decode cX1_type 57 = .ok (.iload_n 2, 1) := by decide +kernel
theorem dX1_type_58 : decode cX1_type 58 = .ok (.invokevirtual 466, 3) := by decide +kernel
theorem dX1_type_61 : decode cX1_type 61 = .ok (.istore 4, 2) := by decide +kernel
theorem dX1_type_63 : decode cX1_type 63 = .ok (.aload_n 0, 1) := by decide +kernel
theorem dX1_type_64 : decode cX1_type 64 = .ok (.iload_n 3, 1) := by decide +kernel
theorem dX1_type_65 : decode cX1_type 65 = .ok (.invokevirtual 469, 3) := by decide +kernel
theorem dX1_type_68 : decode cX1_type 68 = .ok (.aload_n 0, 1) := by decide +kernel
theorem dX1_type_69 : decode cX1_type 69 = .ok (.getfield 1, 3) := by decide +kernel
theorem dX1_type_72 : decode cX1_type 72 = .ok (.getfield 390, 3) := by decide +kernel
theorem dX1_type_75 : decode cX1_type 75 = .ok (.istore 5, 2) := by decide +kernel
theorem dX1_type_77 : decode cX1_type 77 = .ok (.aload_n 0, 1) := by decide +kernel
theorem dX1_type_78 : decode cX1_type 78 = .ok (.getfield 1, 3) := by decide +kernel
theorem dX1_type_81 : decode cX1_type 81 = .ok (.getfield 393, 3) := by decide +kernel
theorem dX1_type_84 : decode cX1_type 84 = .ok (.istore 6, 2) := by decide +kernel
theorem dX1_type_86 : decode cX1_type 86 = .ok (.aload_n 0, 1) := by decide +kernel
theorem dX1_type_87 : decode cX1_type 87 = .ok (.aload_n 0, 1) := by decide +kernel
theorem dX1_type_88 : decode cX1_type 88 = .ok (.iload_n 1, 1) := by decide +kernel
theorem dX1_type_89 : decode cX1_type 89 = .ok (.iload 4, 2) := by decide +kernel
theorem dX1_type_91 : decode cX1_type 91 = .ok (.iload_n 3, 1) := by decide +kernel
theorem dX1_type_92 : decode cX1_type 92 = .ok (.invokevirtual 472, 3) := by decide +kernel
theorem dX1_type_95 : decode cX1_type 95 = .ok (.iload 5, 2) := by decide +kernel
theorem dX1_type_97 : decode cX1_type 97 = .ok (.iload 6, 2) := by decide +kernel
theorem dX1_type_99 : decode cX1_type 99 = .ok (.invokevirtual 475, 3) := by decide +kernel
theorem dX1_type_102 : decode cX1_type 102 = .ok (.ireturn, 1) := by decide +kernel
abbrev cX1_termOf : ByteArray := prog_1_method_61_code
def yX1_termOf : MethodName := ⟨RX1, "termOf", "(I)I"⟩
theorem dX1_termOf_0 : decode cX1_termOf 0 = .ok (.aload_n 0, 1) := by decide +kernel
theorem dX1_termOf_1 : decode cX1_termOf 1 = .ok (.iload_n 1, 1) := by decide +kernel
theorem dX1_termOf_2 : decode cX1_termOf 2 = .ok (.invokevirtual 444, 3) := by decide +kernel
theorem dX1_termOf_5 : decode cX1_termOf 5 = .ok (.istore_n 2, 1) := by decide +kernel
theorem dX1_termOf_6 : decode cX1_termOf 6 = .ok (.aload_n 0, 1) := by decide +kernel
theorem dX1_termOf_7 : decode cX1_termOf 7 = .ok (.getfield 1, 3) := by decide +kernel
theorem dX1_termOf_10 : decode cX1_termOf 10 = .ok (.getfield 39, 3) := by decide +kernel
theorem dX1_termOf_13 : decode cX1_termOf 13 = .ok (.iload_n 2, 1) := by decide +kernel
theorem dX1_termOf_14 : decode cX1_termOf 14 = .ok (.iaload, 1) := by decide +kernel
theorem dX1_termOf_15 : decode cX1_termOf 15 = .ok (.invokestatic 214, 3) := by decide +kernel
theorem dX1_termOf_18 : decode cX1_termOf 18 = .ok (.invokestatic 440, 3) := by decide +kernel
theorem dX1_termOf_21 : decode cX1_termOf 21 = .ok (.iload_n 2, 1) := by decide +kernel
theorem dX1_termOf_22 : decode cX1_termOf 22 = .ok (.ireturn, 1) := by decide +kernel
abbrev cX1_isTerm : ByteArray := prog_1_method_20_code
def yX1_isTerm : MethodName := ⟨RX1, "isTerm", "(I)Z"⟩
theorem dX1_isTerm_0 : decode cX1_isTerm 0 = .ok (.iload_n 0, 1) := by decide +kernel
theorem dX1_isTerm_1 : decode cX1_isTerm 1 = .ok (.iconst 5, 1) := by decide +kernel
theorem dX1_isTerm_2 : decode cX1_isTerm 2 = .ok (.if_icmp .gt 7, 3) := by decide +kernel
theorem dX1_isTerm_5 : decode cX1_isTerm 5 = .ok (.iconst 1, 1) := by decide +kernel
theorem dX1_isTerm_6 : decode cX1_isTerm 6 = .ok (.goto 4, 3) := by decide +kernel
theorem dX1_isTerm_9 : decode cX1_isTerm 9 = .ok (.iconst 0, 1) := by decide +kernel
theorem dX1_isTerm_10 : decode cX1_isTerm 10 = .ok (.ireturn, 1) := by decide +kernel
abbrev cX1_isSet : ByteArray := prog_1_method_67_code
def yX1_isSet : MethodName := ⟨RX1, "isSet", "(I)V"⟩
theorem dX1_isSet_0 : decode cX1_isSet 0 = .ok (.iload_n 1, 1) := by decide +kernel
theorem dX1_isSet_1 : decode cX1_isSet 1 = .ok (.ifCond .lt 18, 3) := by decide +kernel
theorem dX1_isSet_4 : decode cX1_isSet 4 = .ok (.iload_n 1, 1) := by decide +kernel
theorem dX1_isSet_5 : decode cX1_isSet 5 = .ok (.iconst 2, 1) := by decide +kernel
theorem dX1_isSet_6 : decode cX1_isSet 6 = .ok (.aload_n 0, 1) := by decide +kernel
theorem dX1_isSet_7 : decode cX1_isSet 7 = .ok (.getfield 452, 3) := by decide +kernel
theorem dX1_isSet_10 : decode cX1_isSet 10 = .ok (.imul, 1) := by decide +kernel
theorem dX1_isSet_11 : decode cX1_isSet 11 = .ok (.iushr, 1) := by decide +kernel
theorem dX1_isSet_12 : decode cX1_isSet 12 = .ok (.ifCond .ne 7, 3) := by decide +kernel
theorem dX1_isSet_15 : decode cX1_isSet 15 = .ok (.iconst 1, 1) := by decide +kernel
theorem dX1_isSet_16 : decode cX1_isSet 16 = .ok (.goto 4, 3) := by decide +kernel
theorem dX1_isSet_19 : decode cX1_isSet 19 = .ok (.iconst 0, 1) := by decide +kernel
theorem dX1_isSet_20 : decode cX1_isSet 20 = .ok (.invokestatic 440, 3) := by decide +kernel
theorem dX1_isSet_23 : decode cX1_isSet 23 = .ok (.return_, 1) := by decide +kernel
abbrev cX1_withSet : ByteArray := prog_1_method_68_code
def yX1_withSet : MethodName := ⟨RX1, "withSet", "(III)I"⟩
theorem dX1_withSet_0 : decode cX1_withSet 0 = .ok (.aload_n 0, 1) := by decide +kernel
theorem dX1_withSet_1 : decode cX1_withSet 1 = .ok (.getfield 1, 3) := by decide +kernel
theorem dX1_withSet_4 : decode cX1_withSet 4 = .ok (.getfield 7, 3) := by decide +kernel
theorem dX1_withSet_7 : decode cX1_withSet 7 = .ok (.istore 4, 2) := by decide +kernel
theorem dX1_withSet_9 : decode cX1_withSet 9 = .ok (.iconst 0, 1) := by decide +kernel
theorem dX1_withSet_10 : decode cX1_withSet 10 = .ok (.istore 5, 2) := by decide +kernel
theorem dX1_withSet_12 : decode cX1_withSet 12 = .ok (.iload 5, 2) := by decide +kernel
theorem dX1_withSet_14 : decode cX1_withSet 14 = .ok (.iconst 2, 1) := by decide +kernel
theorem dX1_withSet_15 : decode cX1_withSet 15 = .ok (.aload_n 0, 1) := by decide +kernel
theorem dX1_withSet_16 : decode cX1_withSet 16 = .ok (.getfield 452, 3) := by decide +kernel
theorem dX1_withSet_19 : decode cX1_withSet 19 = .ok (.imul, 1) := by decide +kernel
theorem dX1_withSet_20 : decode cX1_withSet 20 = .ok (.if_icmp .ge 28, 3) := by decide +kernel
theorem dX1_withSet_23 : decode cX1_withSet 23 = .ok (.iload_n 3, 1) := by decide +kernel
theorem dX1_withSet_24 : decode cX1_withSet 24 = .ok (.iload 5, 2) := by decide +kernel
theorem dX1_withSet_26 : decode cX1_withSet 26 = .ok (.ishr, 1) := by decide +kernel
theorem dX1_withSet_27 : decode cX1_withSet 27 = .ok (.iconst 1, 1) := by decide +kernel
theorem dX1_withSet_28 : decode cX1_withSet 28 = .ok (.iand, 1) := by decide +kernel
theorem dX1_withSet_29 : decode cX1_withSet 29 = .ok (.iconst 1, 1) := by decide +kernel
theorem dX1_withSet_30 : decode cX1_withSet 30 = .ok (.if_icmp .ne 12, 3) := by decide +kernel
theorem dX1_withSet_33 : decode cX1_withSet 33 = .ok (.aload_n 0, 1) := by decide +kernel
theorem dX1_withSet_34 : decode cX1_withSet 34 = .ok (.getfield 1, 3) := by decide +kernel
theorem dX1_withSet_37 : decode cX1_withSet 37 = .ok (.iload 5, 2) := by decide +kernel
theorem dX1_withSet_39 : decode cX1_withSet 39 = .ok (.invokevirtual 17, 3) := by decide +kernel
theorem dX1_withSet_42 : decode cX1_withSet 42 = .ok (.iinc 5 1, 3) := by decide +kernel
theorem dX1_withSet_45 : decode cX1_withSet 45 = .ok (.goto (-33), 3) := by decide +kernel
theorem dX1_withSet_48 : decode cX1_withSet 48 = .ok (.aload_n 0, 1) := by decide +kernel
theorem dX1_withSet_49 : decode cX1_withSet 49 = .ok (.iload_n 1, 1) := by decide +kernel
theorem dX1_withSet_50 : decode cX1_withSet 50 = .ok (.iload_n 2, 1) := by decide +kernel
theorem dX1_withSet_51 : decode cX1_withSet 51 = .ok (.iload 4, 2) := by decide +kernel
theorem dX1_withSet_53 : decode cX1_withSet 53 = .ok (.invokevirtual 25, 3) := by decide +kernel
theorem dX1_withSet_56 : decode cX1_withSet 56 = .ok (.ireturn, 1) := by decide +kernel
abbrev cX1_typed : ByteArray := prog_1_method_1_code
def yX1_typed : MethodName := ⟨RX1, "typed", "(III)I"⟩
theorem dX1_typed_0 : decode cX1_typed 0 = .ok (.aload_n 0, 1) := by decide +kernel
theorem dX1_typed_1 : decode cX1_typed 1 = .ok (.getfield 1, 3) := by decide +kernel
theorem dX1_typed_4 : decode cX1_typed 4 = .ok (.getfield 7, 3) := by decide +kernel
theorem dX1_typed_7 : decode cX1_typed 7 = .ok (.iload_n 3, 1) := by decide +kernel
theorem dX1_typed_8 : decode cX1_typed 8 = .ok (.isub, 1) := by decide +kernel
theorem dX1_typed_9 : decode cX1_typed 9 = .ok (.istore 4, 2) := by decide +kernel
theorem dX1_typed_11 : decode cX1_typed 11 = .ok (.iconst 1, 1) := by decide +kernel
theorem dX1_typed_12 : decode cX1_typed 12 = .ok (.istore 5, 2) := by decide +kernel
theorem dX1_typed_14 : decode cX1_typed 14 = .ok (.iload 5, 2) := by decide +kernel
theorem dX1_typed_16 : decode cX1_typed 16 = .ok (.iload 4, 2) := by decide +kernel
theorem dX1_typed_18 : decode cX1_typed 18 = .ok (.if_icmp .ge 97, 3) := by decide +kernel
theorem dX1_typed_21 : decode cX1_typed 21 = .ok (.aload_n 0, 1) := by decide +kernel
theorem dX1_typed_22 : decode cX1_typed 22 = .ok (.getfield 1, 3) := by decide +kernel
theorem dX1_typed_25 : decode cX1_typed 25 = .ok (.getfield 13, 3) := by decide +kernel
theorem dX1_typed_28 : decode cX1_typed 28 = .ok (.iload_n 3, 1) := by decide +kernel
theorem dX1_typed_29 : decode cX1_typed 29 = .ok (.iload 5, 2) := by decide +kernel
theorem dX1_typed_31 : decode cX1_typed 31 = .ok (.iadd, 1) := by decide +kernel
theorem dX1_typed_32 : decode cX1_typed 32 = .ok (.iaload, 1) := by decide +kernel
theorem dX1_typed_33 : decode cX1_typed 33 = .ok (.istore 6, 2) := by decide +kernel
theorem dX1_typed_35 : decode cX1_typed 35 = .ok (.iload 5, 2) := by decide +kernel
theorem dX1_typed_37 : decode cX1_typed 37 = .ok (.istore 7, 2) := by decide +kernel
theorem dX1_typed_39 : decode cX1_typed 39 = .ok (.iload 7, 2) := by decide +kernel
theorem dX1_typed_41 : decode cX1_typed 41 = .ok (.ifCond .le 54, 3) := by decide +kernel
theorem dX1_typed_44 : decode cX1_typed 44 = .ok (.aload_n 0, 1) := by decide +kernel
theorem dX1_typed_45 : decode cX1_typed 45 = .ok (.getfield 1, 3) := by decide +kernel
theorem dX1_typed_48 : decode cX1_typed 48 = .ok (.getfield 13, 3) := by decide +kernel
theorem dX1_typed_51 : decode cX1_typed 51 = .ok (.iload_n 3, 1) := by decide +kernel
theorem dX1_typed_52 : decode cX1_typed 52 = .ok (.iload 7, 2) := by decide +kernel
theorem dX1_typed_54 : decode cX1_typed 54 = .ok (.iadd, 1) := by decide +kernel
theorem dX1_typed_55 : decode cX1_typed 55 = .ok (.iconst 1, 1) := by decide +kernel
theorem dX1_typed_56 : decode cX1_typed 56 = .ok (.isub, 1) := by decide +kernel
theorem dX1_typed_57 : decode cX1_typed 57 = .ok (.iaload, 1) := by decide +kernel
theorem dX1_typed_58 : decode cX1_typed 58 = .ok (.iload 6, 2) := by decide +kernel
theorem dX1_typed_60 : decode cX1_typed 60 = .ok (.if_icmp .le 35, 3) := by decide +kernel
theorem dX1_typed_63 : decode cX1_typed 63 = .ok (.aload_n 0, 1) := by decide +kernel
theorem dX1_typed_64 : decode cX1_typed 64 = .ok (.getfield 1, 3) := by decide +kernel
theorem dX1_typed_67 : decode cX1_typed 67 = .ok (.getfield 13, 3) := by decide +kernel
theorem dX1_typed_70 : decode cX1_typed 70 = .ok (.iload_n 3, 1) := by decide +kernel
theorem dX1_typed_71 : decode cX1_typed 71 = .ok (.iload 7, 2) := by decide +kernel
theorem dX1_typed_73 : decode cX1_typed 73 = .ok (.iadd, 1) := by decide +kernel
theorem dX1_typed_74 : decode cX1_typed 74 = .ok (.aload_n 0, 1) := by decide +kernel
theorem dX1_typed_75 : decode cX1_typed 75 = .ok (.getfield 1, 3) := by decide +kernel
theorem dX1_typed_78 : decode cX1_typed 78 = .ok (.getfield 13, 3) := by decide +kernel
theorem dX1_typed_81 : decode cX1_typed 81 = .ok (.iload_n 3, 1) := by decide +kernel
theorem dX1_typed_82 : decode cX1_typed 82 = .ok (.iload 7, 2) := by decide +kernel
theorem dX1_typed_84 : decode cX1_typed 84 = .ok (.iadd, 1) := by decide +kernel
theorem dX1_typed_85 : decode cX1_typed 85 = .ok (.iconst 1, 1) := by decide +kernel
theorem dX1_typed_86 : decode cX1_typed 86 = .ok (.isub, 1) := by decide +kernel
theorem dX1_typed_87 : decode cX1_typed 87 = .ok (.iaload, 1) := by decide +kernel
theorem dX1_typed_88 : decode cX1_typed 88 = .ok (.iastore, 1) := by decide +kernel
theorem dX1_typed_89 : decode cX1_typed 89 = .ok (.iinc 7 (-1), 3) := by decide +kernel
theorem dX1_typed_92 : decode cX1_typed 92 = .ok (.goto (-53), 3) := by decide +kernel
theorem dX1_typed_95 : decode cX1_typed 95 = .ok (.aload_n 0, 1) := by decide +kernel
theorem dX1_typed_96 : decode cX1_typed 96 = .ok (.getfield 1, 3) := by decide +kernel
theorem dX1_typed_99 : decode cX1_typed 99 = .ok (.getfield 13, 3) := by decide +kernel
theorem dX1_typed_102 : decode cX1_typed 102 = .ok (.iload_n 3, 1) := by decide +kernel
theorem dX1_typed_103 : decode cX1_typed 103 = .ok (.iload 7, 2) := by decide +kernel
theorem dX1_typed_105 : decode cX1_typed 105 = .ok (.iadd, 1) := by decide +kernel
theorem dX1_typed_106 : decode cX1_typed 106 = .ok (.iload 6, 2) := by decide +kernel
theorem dX1_typed_108 : decode cX1_typed 108 = .ok (.iastore, 1) := by decide +kernel
theorem dX1_typed_109 : decode cX1_typed 109 = .ok (.iinc 5 1, 3) := by decide +kernel
theorem dX1_typed_112 : decode cX1_typed 112 = .ok (.goto (-98), 3) := by decide +kernel
theorem dX1_typed_115 : decode cX1_typed 115 = .ok (.iconst 0, 1) := by decide +kernel
theorem dX1_typed_116 : decode cX1_typed 116 = .ok (.istore 5, 2) := by decide +kernel
theorem dX1_typed_118 : decode cX1_typed 118 = .ok (.iconst 0, 1) := by decide +kernel
theorem dX1_typed_119 : decode cX1_typed 119 = .ok (.istore 6, 2) := by decide +kernel
theorem dX1_typed_121 : decode cX1_typed 121 = .ok (.iload 6, 2) := by decide +kernel
theorem dX1_typed_123 : decode cX1_typed 123 = .ok (.iload 4, 2) := by decide +kernel
theorem dX1_typed_125 : decode cX1_typed 125 = .ok (.if_icmp .ge 73, 3) := by decide +kernel
theorem dX1_typed_128 : decode cX1_typed 128 = .ok (.iload 6, 2) := by decide +kernel
theorem dX1_typed_130 : decode cX1_typed 130 = .ok (.ifCond .le 35, 3) := by decide +kernel
theorem dX1_typed_133 : decode cX1_typed 133 = .ok (.aload_n 0, 1) := by decide +kernel
theorem dX1_typed_134 : decode cX1_typed 134 = .ok (.getfield 1, 3) := by decide +kernel
theorem dX1_typed_137 : decode cX1_typed 137 = .ok (.getfield 13, 3) := by decide +kernel
theorem dX1_typed_140 : decode cX1_typed 140 = .ok (.iload_n 3, 1) := by decide +kernel
theorem dX1_typed_141 : decode cX1_typed 141 = .ok (.iload 6, 2) := by decide +kernel
theorem dX1_typed_143 : decode cX1_typed 143 = .ok (.iadd, 1) := by decide +kernel
theorem dX1_typed_144 : decode cX1_typed 144 = .ok (.iaload, 1) := by decide +kernel
theorem dX1_typed_145 : decode cX1_typed 145 = .ok (.aload_n 0, 1) := by decide +kernel
theorem dX1_typed_146 : decode cX1_typed 146 = .ok (.getfield 1, 3) := by decide +kernel
theorem dX1_typed_149 : decode cX1_typed 149 = .ok (.getfield 13, 3) := by decide +kernel
theorem dX1_typed_152 : decode cX1_typed 152 = .ok (.iload_n 3, 1) := by decide +kernel
theorem dX1_typed_153 : decode cX1_typed 153 = .ok (.iload 5, 2) := by decide +kernel
theorem dX1_typed_155 : decode cX1_typed 155 = .ok (.iadd, 1) := by decide +kernel
theorem dX1_typed_156 : decode cX1_typed 156 = .ok (.iconst 1, 1) := by decide +kernel
theorem dX1_typed_157 : decode cX1_typed 157 = .ok (.isub, 1) := by decide +kernel
theorem dX1_typed_158 : decode cX1_typed 158 = .ok (.iaload, 1) := by decide +kernel
theorem dX1_typed_159 : decode cX1_typed 159 = .ok (.if_icmp .ne 6, 3) := by decide +kernel
theorem dX1_typed_162 : decode cX1_typed 162 = .ok (.goto 30, 3) := by decide +kernel
theorem dX1_typed_165 : decode cX1_typed 165 = .ok (.aload_n 0, 1) := by decide +kernel
theorem dX1_typed_166 : decode cX1_typed 166 = .ok (.getfield 1, 3) := by decide +kernel
theorem dX1_typed_169 : decode cX1_typed 169 = .ok (.getfield 13, 3) := by decide +kernel
theorem dX1_typed_172 : decode cX1_typed 172 = .ok (.iload_n 3, 1) := by decide +kernel
theorem dX1_typed_173 : decode cX1_typed 173 = .ok (.iload 5, 2) := by decide +kernel
theorem dX1_typed_175 : decode cX1_typed 175 = .ok (.iadd, 1) := by decide +kernel
theorem dX1_typed_176 : decode cX1_typed 176 = .ok (.aload_n 0, 1) := by decide +kernel
theorem dX1_typed_177 : decode cX1_typed 177 = .ok (.getfield 1, 3) := by decide +kernel
theorem dX1_typed_180 : decode cX1_typed 180 = .ok (.getfield 13, 3) := by decide +kernel
theorem dX1_typed_183 : decode cX1_typed 183 = .ok (.iload_n 3, 1) := by decide +kernel
theorem dX1_typed_184 : decode cX1_typed 184 = .ok (.iload 6, 2) := by decide +kernel
theorem dX1_typed_186 : decode cX1_typed 186 = .ok (.iadd, 1) := by decide +kernel
theorem dX1_typed_187 : decode cX1_typed 187 = .ok (.iaload, 1) := by decide +kernel
theorem dX1_typed_188 : decode cX1_typed 188 = .ok (.iastore, 1) := by decide +kernel
theorem dX1_typed_189 : decode cX1_typed 189 = .ok (.iinc 5 1, 3) := by decide +kernel
theorem dX1_typed_192 : decode cX1_typed 192 = .ok (.iinc 6 1, 3) := by decide +kernel
theorem dX1_typed_195 : decode cX1_typed 195 = .ok (.goto (-74), 3) := by decide +kernel
theorem dX1_typed_198 : decode cX1_typed 198 = .ok (.aload_n 0, 1) := by decide +kernel
theorem dX1_typed_199 : decode cX1_typed 199 = .ok (.getfield 1, 3) := by decide +kernel
theorem dX1_typed_202 : decode cX1_typed 202 = .ok (.iload_n 3, 1) := by decide +kernel
theorem dX1_typed_203 : decode cX1_typed 203 = .ok (.iload 5, 2) := by decide +kernel
theorem dX1_typed_205 : decode cX1_typed 205 = .ok (.iadd, 1) := by decide +kernel
theorem dX1_typed_206 : decode cX1_typed 206 = .ok (.putfield 7, 3) := by decide +kernel
theorem dX1_typed_209 : decode cX1_typed 209 = .ok (.aload_n 0, 1) := by decide +kernel
theorem dX1_typed_210 : decode cX1_typed 210 = .ok (.getfield 1, 3) := by decide +kernel
theorem dX1_typed_213 : decode cX1_typed 213 = .ok (.iconst 0, 1) := by decide +kernel
theorem dX1_typed_214 : decode cX1_typed 214 = .ok (.invokevirtual 17, 3) := by decide +kernel
theorem dX1_typed_217 : decode cX1_typed 217 = .ok (.iload 5, 2) := by decide +kernel
theorem dX1_typed_219 : decode cX1_typed 219 = .ok (.istore 6, 2) := by decide +kernel
theorem dX1_typed_221 : decode cX1_typed 221 = .ok (.iload 6, 2) := by decide +kernel
theorem dX1_typed_223 : decode cX1_typed 223 = .ok (.ifCond .le 35, 3) := by decide +kernel
theorem dX1_typed_226 : decode cX1_typed 226 = .ok (.aload_n 0, 1) := by decide +kernel
theorem dX1_typed_227 : decode cX1_typed 227 = .ok (.getfield 1, 3) := by decide +kernel
theorem dX1_typed_230 : decode cX1_typed 230 = .ok (.getfield 13, 3) := by decide +kernel
theorem dX1_typed_233 : decode cX1_typed 233 = .ok (.iload_n 3, 1) := by decide +kernel
theorem dX1_typed_234 : decode cX1_typed 234 = .ok (.iload 6, 2) := by decide +kernel
theorem dX1_typed_236 : decode cX1_typed 236 = .ok (.iadd, 1) := by decide +kernel
theorem dX1_typed_237 : decode cX1_typed 237 = .ok (.aload_n 0, 1) := by decide +kernel
theorem dX1_typed_238 : decode cX1_typed 238 = .ok (.getfield 1, 3) := by decide +kernel
theorem dX1_typed_241 : decode cX1_typed 241 = .ok (.getfield 13, 3) := by decide +kernel
theorem dX1_typed_244 : decode cX1_typed 244 = .ok (.iload_n 3, 1) := by decide +kernel
theorem dX1_typed_245 : decode cX1_typed 245 = .ok (.iload 6, 2) := by decide +kernel
theorem dX1_typed_247 : decode cX1_typed 247 = .ok (.iadd, 1) := by decide +kernel
theorem dX1_typed_248 : decode cX1_typed 248 = .ok (.iconst 1, 1) := by decide +kernel
theorem dX1_typed_249 : decode cX1_typed 249 = .ok (.isub, 1) := by decide +kernel
theorem dX1_typed_250 : decode cX1_typed 250 = .ok (.iaload, 1) := by decide +kernel
theorem dX1_typed_251 : decode cX1_typed 251 = .ok (.iastore, 1) := by decide +kernel
theorem dX1_typed_252 : decode cX1_typed 252 = .ok (.iinc 6 (-1), 3) := by decide +kernel
theorem dX1_typed_255 : decode cX1_typed 255 = .ok (.goto (-34), 3) := by decide +kernel
theorem dX1_typed_258 : decode cX1_typed 258 = .ok (.aload_n 0, 1) := by decide +kernel
theorem dX1_typed_259 : decode cX1_typed 259 = .ok (.getfield 1, 3) := by decide +kernel
theorem dX1_typed_262 : decode cX1_typed 262 = .ok (.getfield 13, 3) := by decide +kernel
theorem dX1_typed_265 : decode cX1_typed 265 = .ok (.iload_n 3, 1) := by decide +kernel
theorem dX1_typed_266 : decode cX1_typed 266 = .ok (.iload_n 2, 1) := by decide +kernel
theorem dX1_typed_267 : decode cX1_typed 267 = .ok (.iastore, 1) := by decide +kernel
theorem dX1_typed_268 : decode cX1_typed 268 = .ok (.aload_n 0, 1) := by decide +kernel
theorem dX1_typed_269 : decode cX1_typed 269 = .ok (.getfield 1, 3) := by decide +kernel
theorem dX1_typed_272 : decode cX1_typed 272 = .ok (.bipush 8, 2) := by decide +kernel
theorem dX1_typed_274 : decode cX1_typed 274 = .ok (.iload_n 1, 1) := by decide +kernel
theorem dX1_typed_275 : decode cX1_typed 275 = .ok (.iload_n 3, 1) := by decide +kernel
theorem dX1_typed_276 : decode cX1_typed 276 = .ok (.invokevirtual 21, 3) := by decide +kernel
theorem dX1_typed_279 : decode cX1_typed 279 = .ok (.ireturn, 1) := by decide +kernel
abbrev cX1_keep : ByteArray := prog_1_method_66_code
def yX1_keep : MethodName := ⟨RX1, "keep", "(III)I"⟩
theorem dX1_keep_0 : decode cX1_keep 0 = .ok (.aload_n 0, 1) := by decide +kernel
theorem dX1_keep_1 : decode cX1_keep 1 = .ok (.getfield 437, 3) := by decide +kernel
theorem dX1_keep_4 : decode cX1_keep 4 = .ok (.sipush 400, 3) := by decide +kernel
theorem dX1_keep_7 : decode cX1_keep 7 = .ok (.if_icmp .eq 18, 3) := by decide +kernel
theorem dX1_keep_10 : decode cX1_keep 10 = .ok (.aload_n 0, 1) := by decide +kernel
theorem dX1_keep_11 : decode cX1_keep 11 = .ok (.getfield 1, 3) := by decide +kernel
theorem dX1_keep_14 : decode cX1_keep 14 = .ok (.getfield 449, 3) := by decide +kernel
theorem dX1_keep_17 : decode cX1_keep 17 = .ok (.iload_n 1, 1) := by decide +kernel
theorem dX1_keep_18 : decode cX1_keep 18 = .ok (.iaload, 1) := by decide +kernel
theorem dX1_keep_19 : decode cX1_keep 19 = .ok (.sipush 200, 3) := by decide +kernel
theorem dX1_keep_22 : decode cX1_keep 22 = .ok (.if_icmp .le 30, 3) := by decide +kernel
theorem dX1_keep_25 : decode cX1_keep 25 = .ok (.aload_n 0, 1) := by decide +kernel
theorem dX1_keep_26 : decode cX1_keep 26 = .ok (.getfield 1, 3) := by decide +kernel
theorem dX1_keep_29 : decode cX1_keep 29 = .ok (.iload_n 2, 1) := by decide +kernel
theorem dX1_keep_30 : decode cX1_keep 30 = .ok (.iload_n 3, 1) := by decide +kernel
theorem dX1_keep_31 : decode cX1_keep 31 = .ok (.invokevirtual 403, 3) := by decide +kernel
theorem dX1_keep_34 : decode cX1_keep 34 = .ok (.aload_n 0, 1) := by decide +kernel
theorem dX1_keep_35 : decode cX1_keep 35 = .ok (.dup, 1) := by decide +kernel
theorem dX1_keep_36 : decode cX1_keep 36 = .ok (.getfield 71, 3) := by decide +kernel
theorem dX1_keep_39 : decode cX1_keep 39 = .ok (.iconst 1, 1) := by decide +kernel
theorem dX1_keep_40 : decode cX1_keep 40 = .ok (.iadd, 1) := by decide +kernel
theorem dX1_keep_41 : decode cX1_keep 41 = .ok (.putfield 71, 3) := by decide +kernel
theorem dX1_keep_44 : decode cX1_keep 44 = .ok (.new 434, 3) := by decide +kernel
theorem dX1_keep_47 : decode cX1_keep 47 = .ok (.dup, 1) := by decide +kernel
theorem dX1_keep_48 : decode cX1_keep 48 = .ok (.invokespecial 436, 3) := by decide +kernel
theorem dX1_keep_51 : decode cX1_keep 51 = .ok (.athrow, 1) := by decide +kernel
theorem dX1_keep_52 : decode cX1_keep 52 = .ok (.aload_n 0, 1) := by decide +kernel
theorem dX1_keep_53 : decode cX1_keep 53 = .ok (.getfield 412, 3) := by decide +kernel
theorem dX1_keep_56 : decode cX1_keep 56 = .ok (.aload_n 0, 1) := by decide +kernel
theorem dX1_keep_57 : decode cX1_keep 57 = .ok (.getfield 437, 3) := by decide +kernel
theorem dX1_keep_60 : decode cX1_keep 60 = .ok (.iload_n 1, 1) := by decide +kernel
theorem dX1_keep_61 : decode cX1_keep 61 = .ok (.iastore, 1) := by decide +kernel
theorem dX1_keep_62 : decode cX1_keep 62 = .ok (.aload_n 0, 1) := by decide +kernel
theorem dX1_keep_63 : decode cX1_keep 63 = .ok (.dup, 1) := by decide +kernel
theorem dX1_keep_64 : decode cX1_keep 64 = .ok (.getfield 437, 3) := by decide +kernel
theorem dX1_keep_67 : decode cX1_keep 67 = .ok (.iconst 1, 1) := by decide +kernel
theorem dX1_keep_68 : decode cX1_keep 68 = .ok (.iadd, 1) := by decide +kernel
theorem dX1_keep_69 : decode cX1_keep 69 = .ok (.putfield 437, 3) := by decide +kernel
theorem dX1_keep_72 : decode cX1_keep 72 = .ok (.aload_n 0, 1) := by decide +kernel
theorem dX1_keep_73 : decode cX1_keep 73 = .ok (.getfield 437, 3) := by decide +kernel
theorem dX1_keep_76 : decode cX1_keep 76 = .ok (.iconst 1, 1) := by decide +kernel
theorem dX1_keep_77 : decode cX1_keep 77 = .ok (.isub, 1) := by decide +kernel
theorem dX1_keep_78 : decode cX1_keep 78 = .ok (.ireturn, 1) := by decide +kernel
abbrev cX1_constant : ByteArray := prog_1_method_74_code
def yX1_constant : MethodName := ⟨RX1, "constant", "(I)I"⟩
theorem dX1_constant_0 : decode cX1_constant 0 = .ok (.aload_n 0, 1) := by decide +kernel
theorem dX1_constant_1 : decode cX1_constant 1 = .ok (.aload_n 0, 1) := by decide +kernel
theorem dX1_constant_2 : decode cX1_constant 2 = .ok (.iload_n 1, 1) := by decide +kernel
theorem dX1_constant_3 : decode cX1_constant 3 = .ok (.invokevirtual 455, 3) := by decide +kernel
theorem dX1_constant_6 : decode cX1_constant 6 = .ok (.invokevirtual 478, 3) := by decide +kernel
theorem dX1_constant_9 : decode cX1_constant 9 = .ok (.istore_n 2, 1) := by decide +kernel
theorem dX1_constant_10 : decode cX1_constant 10 = .ok (.aload_n 0, 1) := by decide +kernel
theorem dX1_constant_11 : decode cX1_constant 11 = .ok (.getfield 437, 3) := by decide +kernel
theorem dX1_constant_14 : decode cX1_constant 14 = .ok (.sipush 400, 3) := by decide +kernel
theorem dX1_constant_17 : decode cX1_constant 17 = .ok (.if_icmp .ge 7, 3) := by decide +kernel
theorem dX1_constant_20 : decode cX1_constant 20 = .ok (.iconst 1, 1) := by decide +kernel
theorem dX1_constant_21 : decode cX1_constant 21 = .ok (.goto 4, 3) := by decide +kernel
theorem dX1_constant_24 : decode cX1_constant 24 = .ok (.iconst 0, 1) := by decide +kernel
theorem dX1_constant_25 : decode cX1_constant 25 = .ok (.invokestatic 458, 3) := by decide +kernel
theorem dX1_constant_28 : decode cX1_constant 28 = .ok (.aload_n 0, 1) := by decide +kernel
theorem dX1_constant_29 : decode cX1_constant 29 = .ok (.getfield 1, 3) := by decide +kernel
theorem dX1_constant_32 : decode cX1_constant 32 = .ok (.getfield 390, 3) := by decide +kernel
theorem dX1_constant_35 : decode cX1_constant 35 = .ok (.istore_n 3, 1) := by decide +kernel
theorem dX1_constant_36 : decode cX1_constant 36 = .ok (.aload_n 0, 1) := by decide +kernel
theorem dX1_constant_37 : decode cX1_constant 37 = .ok (.getfield 1, 3) := by decide +kernel
theorem dX1_constant_40 : decode cX1_constant 40 = .ok (.getfield 393, 3) := by decide +kernel
theorem dX1_constant_43 : decode cX1_constant 43 = .ok (.istore 4, 2) := by decide +kernel
theorem dX1_constant_45 : decode cX1_constant 45 = .ok (.aload_n 0, 1) := by decide +kernel
theorem dX1_constant_46 : decode cX1_constant 46 = .ok (.aload_n 0, 1) := by decide +kernel
theorem dX1_constant_47 : decode cX1_constant 47 = .ok (.iload_n 2, 1) := by decide +kernel
theorem dX1_constant_48 : decode cX1_constant 48 = .ok (.invokevirtual 293, 3) := by decide +kernel
theorem dX1_constant_51 : decode cX1_constant 51 = .ok (.iload_n 3, 1) := by decide +kernel
theorem dX1_constant_52 : decode cX1_constant 52 = .ok (.iload 4, 2) := by decide +kernel
theorem dX1_constant_54 : decode cX1_constant 54 = .ok (.invokevirtual 475, 3) := by decide +kernel
theorem dX1_constant_57 : decode cX1_constant 57 = .ok (.ireturn, 1) := by decide +kernel
abbrev cX1_closed : ByteArray := prog_1_method_65_code
def yX1_closed : MethodName := ⟨RX1, "closed", "(I)I"⟩
theorem dX1_closed_0 : decode cX1_closed 0 = .ok (.aload_n 0, 1) := by decide +kernel
theorem dX1_closed_1 : decode cX1_closed 1 = .ok (.iload_n 1, 1) := by decide +kernel
theorem dX1_closed_2 : decode cX1_closed 2 = .ok (.invokevirtual 447, 3) := by decide +kernel
theorem dX1_closed_5 : decode cX1_closed 5 = .ok (.ifCond .ge 7, 3) := by decide +kernel
theorem dX1_closed_8 : decode cX1_closed 8 = .ok (.iconst 1, 1) := by decide +kernel
theorem dX1_closed_9 : decode cX1_closed 9 = .ok (.goto 4, 3) := by decide +kernel
theorem dX1_closed_12 : decode cX1_closed 12 = .ok (.iconst 0, 1) := by decide +kernel
theorem dX1_closed_13 : decode cX1_closed 13 = .ok (.invokestatic 440, 3) := by decide +kernel
theorem dX1_closed_16 : decode cX1_closed 16 = .ok (.iload_n 1, 1) := by decide +kernel
theorem dX1_closed_17 : decode cX1_closed 17 = .ok (.ireturn, 1) := by decide +kernel
abbrev cX1_newOne : ByteArray := prog_1_method_56_code
def yX1_newOne : MethodName := ⟨RX1, "newOne", "(I)I"⟩
theorem dX1_newOne_0 : decode cX1_newOne 0 = .ok (.aload_n 0, 1) := by decide +kernel
theorem dX1_newOne_1 : decode cX1_newOne 1 = .ok (.getfield 333, 3) := by decide +kernel
theorem dX1_newOne_4 : decode cX1_newOne 4 = .ok (.aload_n 0, 1) := by decide +kernel
theorem dX1_newOne_5 : decode cX1_newOne 5 = .ok (.getfield 42, 3) := by decide +kernel
theorem dX1_newOne_8 : decode cX1_newOne 8 = .ok (.arraylength, 1) := by decide +kernel
theorem dX1_newOne_9 : decode cX1_newOne 9 = .ok (.if_icmp .ne 20, 3) := by decide +kernel
theorem dX1_newOne_12 : decode cX1_newOne 12 = .ok (.aload_n 0, 1) := by decide +kernel
theorem dX1_newOne_13 : decode cX1_newOne 13 = .ok (.aload_n 0, 1) := by decide +kernel
theorem dX1_newOne_14 : decode cX1_newOne 14 = .ok (.getfield 42, 3) := by decide +kernel
theorem dX1_newOne_17 : decode cX1_newOne 17 = .ok (.iconst 2, 1) := by decide +kernel
theorem dX1_newOne_18 : decode cX1_newOne 18 = .ok (.aload_n 0, 1) := by decide +kernel
theorem dX1_newOne_19 : decode cX1_newOne 19 = .ok (.getfield 333, 3) := by decide +kernel
theorem dX1_newOne_22 : decode cX1_newOne 22 = .ok (.imul, 1) := by decide +kernel
theorem dX1_newOne_23 : decode cX1_newOne 23 = .ok (.invokestatic 112, 3) := by decide +kernel
theorem dX1_newOne_26 : decode cX1_newOne 26 = .ok (.putfield 42, 3) := by decide +kernel
theorem dX1_newOne_29 : decode cX1_newOne 29 = .ok (.aload_n 0, 1) := by decide +kernel
theorem dX1_newOne_30 : decode cX1_newOne 30 = .ok (.getfield 42, 3) := by decide +kernel
theorem dX1_newOne_33 : decode cX1_newOne 33 = .ok (.aload_n 0, 1) := by decide +kernel
theorem dX1_newOne_34 : decode cX1_newOne 34 = .ok (.getfield 333, 3) := by decide +kernel
theorem dX1_newOne_37 : decode cX1_newOne 37 = .ok (.iload_n 1, 1) := by decide +kernel
theorem dX1_newOne_38 : decode cX1_newOne 38 = .ok (.iastore, 1) := by decide +kernel
theorem dX1_newOne_39 : decode cX1_newOne 39 = .ok (.aload_n 0, 1) := by decide +kernel
theorem dX1_newOne_40 : decode cX1_newOne 40 = .ok (.dup, 1) := by decide +kernel
theorem dX1_newOne_41 : decode cX1_newOne 41 = .ok (.getfield 333, 3) := by decide +kernel
theorem dX1_newOne_44 : decode cX1_newOne 44 = .ok (.iconst 1, 1) := by decide +kernel
theorem dX1_newOne_45 : decode cX1_newOne 45 = .ok (.iadd, 1) := by decide +kernel
theorem dX1_newOne_46 : decode cX1_newOne 46 = .ok (.putfield 333, 3) := by decide +kernel
theorem dX1_newOne_49 : decode cX1_newOne 49 = .ok (.aload_n 0, 1) := by decide +kernel
theorem dX1_newOne_50 : decode cX1_newOne 50 = .ok (.getfield 1, 3) := by decide +kernel
theorem dX1_newOne_53 : decode cX1_newOne 53 = .ok (.iconst 1, 1) := by decide +kernel
theorem dX1_newOne_54 : decode cX1_newOne 54 = .ok (.aload_n 0, 1) := by decide +kernel
theorem dX1_newOne_55 : decode cX1_newOne 55 = .ok (.getfield 333, 3) := by decide +kernel
theorem dX1_newOne_58 : decode cX1_newOne 58 = .ok (.iconst 1, 1) := by decide +kernel
theorem dX1_newOne_59 : decode cX1_newOne 59 = .ok (.isub, 1) := by decide +kernel
theorem dX1_newOne_60 : decode cX1_newOne 60 = .ok (.aload_n 0, 1) := by decide +kernel
theorem dX1_newOne_61 : decode cX1_newOne 61 = .ok (.getfield 1, 3) := by decide +kernel
theorem dX1_newOne_64 : decode cX1_newOne 64 = .ok (.getfield 7, 3) := by decide +kernel
theorem dX1_newOne_67 : decode cX1_newOne 67 = .ok (.invokevirtual 21, 3) := by decide +kernel
theorem dX1_newOne_70 : decode cX1_newOne 70 = .ok (.ireturn, 1) := by decide +kernel
abbrev cX1_locus : ByteArray := prog_1_method_75_code
def yX1_locus : MethodName := ⟨RX1, "locus", "(I)I"⟩
theorem dX1_locus_0 : decode cX1_locus 0 = .ok (.iload_n 1, 1) := by decide +kernel
theorem dX1_locus_1 : decode cX1_locus 1 = .ok (.ifCond .eq 8, 3) := by decide +kernel
theorem dX1_locus_4 : decode cX1_locus 4 = .ok (.iload_n 1, 1) := by decide +kernel
theorem dX1_locus_5 : decode cX1_locus 5 = .ok (.iconst 1, 1) := by decide +kernel
theorem dX1_locus_6 : decode cX1_locus 6 = .ok (.if_icmp .ne 7, 3) := by decide +kernel
theorem dX1_locus_9 : decode cX1_locus 9 = .ok (.iconst 1, 1) := by decide +kernel
theorem dX1_locus_10 : decode cX1_locus 10 = .ok (.goto 4, 3) := by decide +kernel
theorem dX1_locus_13 : decode cX1_locus 13 = .ok (.iconst 0, 1) := by decide +kernel
theorem dX1_locus_14 : decode cX1_locus 14 = .ok (.invokestatic 440, 3) := by decide +kernel
theorem dX1_locus_17 : decode cX1_locus 17 = .ok (.aload_n 0, 1) := by decide +kernel
theorem dX1_locus_18 : decode cX1_locus 18 = .ok (.getfield 1, 3) := by decide +kernel
theorem dX1_locus_21 : decode cX1_locus 21 = .ok (.getfield 390, 3) := by decide +kernel
theorem dX1_locus_24 : decode cX1_locus 24 = .ok (.istore_n 2, 1) := by decide +kernel
theorem dX1_locus_25 : decode cX1_locus 25 = .ok (.aload_n 0, 1) := by decide +kernel
theorem dX1_locus_26 : decode cX1_locus 26 = .ok (.getfield 1, 3) := by decide +kernel
theorem dX1_locus_29 : decode cX1_locus 29 = .ok (.getfield 393, 3) := by decide +kernel
theorem dX1_locus_32 : decode cX1_locus 32 = .ok (.istore_n 3, 1) := by decide +kernel
theorem dX1_locus_33 : decode cX1_locus 33 = .ok (.aload_n 0, 1) := by decide +kernel
theorem dX1_locus_34 : decode cX1_locus 34 = .ok (.aload_n 0, 1) := by decide +kernel
theorem dX1_locus_35 : decode cX1_locus 35 = .ok (.getfield 1, 3) := by decide +kernel
theorem dX1_locus_38 : decode cX1_locus 38 = .ok (.iconst 3, 1) := by decide +kernel
theorem dX1_locus_39 : decode cX1_locus 39 = .ok (.iload_n 1, 1) := by decide +kernel
theorem dX1_locus_40 : decode cX1_locus 40 = .ok (.aload_n 0, 1) := by decide +kernel
theorem dX1_locus_41 : decode cX1_locus 41 = .ok (.getfield 1, 3) := by decide +kernel
theorem dX1_locus_44 : decode cX1_locus 44 = .ok (.getfield 7, 3) := by decide +kernel
theorem dX1_locus_47 : decode cX1_locus 47 = .ok (.invokevirtual 21, 3) := by decide +kernel
theorem dX1_locus_50 : decode cX1_locus 50 = .ok (.iload_n 2, 1) := by decide +kernel
theorem dX1_locus_51 : decode cX1_locus 51 = .ok (.iload_n 3, 1) := by decide +kernel
theorem dX1_locus_52 : decode cX1_locus 52 = .ok (.invokevirtual 475, 3) := by decide +kernel
theorem dX1_locus_55 : decode cX1_locus 55 = .ok (.ireturn, 1) := by decide +kernel
abbrev cX1_apply : ByteArray := prog_1_method_77_code
def yX1_apply : MethodName := ⟨RX1, "apply", "(III)I"⟩
theorem dX1_apply_0 : decode cX1_apply 0 = .ok (.iload_n 1, 1) := by decide +kernel
theorem dX1_apply_1 : decode cX1_apply 1 = .ok (.ifCond .lt 15, 3) := by decide +kernel
theorem dX1_apply_4 : decode cX1_apply 4 = .ok (.iload_n 1, 1) := by decide +kernel
theorem dX1_apply_5 : decode cX1_apply 5 = .ok (.aload_n 0, 1) := by decide +kernel
theorem dX1_apply_6 : decode cX1_apply 6 = .ok (.getfield 460, 3) := by decide +kernel
theorem dX1_apply_9 : decode cX1_apply 9 = .ok (.if_icmp .ge 7, 3) := by decide +kernel
theorem dX1_apply_12 : decode cX1_apply 12 = .ok (.iconst 1, 1) := by decide +kernel
theorem dX1_apply_13 : decode cX1_apply 13 = .ok (.goto 4, 3) := by decide +kernel
theorem dX1_apply_16 : decode cX1_apply 16 = .ok (.iconst 0, 1) := by decide +kernel
theorem dX1_apply_17 : decode cX1_apply 17 = .ok (.invokestatic 440, 3) := by decide +kernel
theorem dX1_apply_20 : decode cX1_apply 20 = .ok (.aload_n 0, 1) := by decide +kernel
theorem dX1_apply_21 : decode cX1_apply 21 = .ok (.iconst 4, 1) := by decide +kernel
theorem dX1_apply_22 : decode cX1_apply 22 = .ok (.iload_n 1, 1) := by decide +kernel
theorem dX1_apply_23 : decode cX1_apply 23 = .ok (.aload_n 0, 1) := by decide +kernel
theorem dX1_apply_24 : decode cX1_apply 24 = .ok (.getfield 422, 3) := by decide +kernel
theorem dX1_apply_27 : decode cX1_apply 27 = .ok (.iload_n 1, 1) := by decide +kernel
theorem dX1_apply_28 : decode cX1_apply 28 = .ok (.iaload, 1) := by decide +kernel
theorem dX1_apply_29 : decode cX1_apply 29 = .ok (.iload_n 2, 1) := by decide +kernel
theorem dX1_apply_30 : decode cX1_apply 30 = .ok (.iload_n 3, 1) := by decide +kernel
theorem dX1_apply_31 : decode cX1_apply 31 = .ok (.invokevirtual 481, 3) := by decide +kernel
theorem dX1_apply_34 : decode cX1_apply 34 = .ok (.ireturn, 1) := by decide +kernel
abbrev cX1_made : ByteArray := prog_1_method_76_code
def yX1_made : MethodName := ⟨RX1, "made", "(IIIII)I"⟩
theorem dX1_made_0 : decode cX1_made 0 = .ok (.iload_n 3, 1) := by decide +kernel
theorem dX1_made_1 : decode cX1_made 1 = .ok (.ifCond .le 7, 3) := by decide +kernel
theorem dX1_made_4 : decode cX1_made 4 = .ok (.iconst 1, 1) := by decide +kernel
theorem dX1_made_5 : decode cX1_made 5 = .ok (.goto 4, 3) := by decide +kernel
theorem dX1_made_8 : decode cX1_made 8 = .ok (.iconst 0, 1) := by decide +kernel
theorem dX1_made_9 : decode cX1_made 9 = .ok (.iload 4, 2) := by decide +kernel
theorem dX1_made_11 : decode cX1_made 11 = .ok (.iconst (-1), 1) := by decide +kernel
theorem dX1_made_12 : decode cX1_made 12 = .ok (.if_icmp .eq 7, 3) := by decide +kernel
theorem dX1_made_15 : decode cX1_made 15 = .ok (.iconst 1, 1) := by decide +kernel
theorem dX1_made_16 : decode cX1_made 16 = .ok (.goto 4, 3) := by decide +kernel
theorem dX1_made_19 : decode cX1_made 19 = .ok (.iconst 0, 1) := by decide +kernel
theorem dX1_made_20 : decode cX1_made 20 = .ok (.if_icmp .ne 31, 3) := by decide +kernel
theorem dX1_made_23 : decode cX1_made 23 = .ok (.iload_n 3, 1) := by decide +kernel
theorem dX1_made_24 : decode cX1_made 24 = .ok (.iconst 1, 1) := by decide +kernel
theorem dX1_made_25 : decode cX1_made 25 = .ok (.if_icmp .le 7, 3) := by decide +kernel
theorem dX1_made_28 : decode cX1_made 28 = .ok (.iconst 1, 1) := by decide +kernel
theorem dX1_made_29 : decode cX1_made 29 = .ok (.goto 4, 3) := by decide +kernel
theorem dX1_made_32 : decode cX1_made 32 = .ok (.iconst 0, 1) := by decide +kernel
theorem dX1_made_33 : decode cX1_made 33 = .ok (.iload 5, 2) := by decide +kernel
theorem dX1_made_35 : decode cX1_made 35 = .ok (.iconst (-1), 1) := by decide +kernel
theorem dX1_made_36 : decode cX1_made 36 = .ok (.if_icmp .eq 7, 3) := by decide +kernel
theorem dX1_made_39 : decode cX1_made 39 = .ok (.iconst 1, 1) := by decide +kernel
theorem dX1_made_40 : decode cX1_made 40 = .ok (.goto 4, 3) := by decide +kernel
theorem dX1_made_43 : decode cX1_made 43 = .ok (.iconst 0, 1) := by decide +kernel
theorem dX1_made_44 : decode cX1_made 44 = .ok (.if_icmp .ne 7, 3) := by decide +kernel
theorem dX1_made_47 : decode cX1_made 47 = .ok (.iconst 1, 1) := by decide +kernel
theorem dX1_made_48 : decode cX1_made 48 = .ok (.goto 4, 3) := by decide +kernel
theorem dX1_made_51 : decode cX1_made 51 = .ok (.iconst 0, 1) := by decide +kernel
theorem dX1_made_52 : decode cX1_made 52 = .ok (.invokestatic 440, 3) := by decide +kernel
theorem dX1_made_55 : decode cX1_made 55 = .ok (.iload_n 3, 1) := by decide +kernel
theorem dX1_made_56 : decode cX1_made 56 = .ok (.ifCond .le 12, 3) := by decide +kernel
theorem dX1_made_59 : decode cX1_made 59 = .ok (.aload_n 0, 1) := by decide +kernel
theorem dX1_made_60 : decode cX1_made 60 = .ok (.iload 4, 2) := by decide +kernel
theorem dX1_made_62 : decode cX1_made 62 = .ok (.invokevirtual 466, 3) := by decide +kernel
theorem dX1_made_65 : decode cX1_made 65 = .ok (.goto 4, 3) := by decide +kernel
theorem dX1_made_68 : decode cX1_made 68 = .ok (.iconst 0, 1) := by decide +kernel
theorem dX1_made_69 : decode cX1_made 69 = .ok (.istore 6, 2) := by decide +kernel
theorem dX1_made_71 : decode cX1_made 71 = .ok (.iload_n 3, 1) := by decide +kernel
theorem dX1_made_72 : decode cX1_made 72 = .ok (.iconst 1, 1) := by decide +kernel
theorem dX1_made_73 : decode cX1_made 73 = .ok (.if_icmp .le 12, 3) := by decide +kernel
theorem dX1_made_76 : decode cX1_made 76 = .ok (.aload_n 0, 1) := by decide +kernel
theorem dX1_made_77 : decode cX1_made 77 = .ok (.iload 5, 2) := by decide +kernel
theorem dX1_made_79 : decode cX1_made 79 = .ok (.invokevirtual 466, 3) := by decide +kernel
theorem dX1_made_82 : decode cX1_made 82 = .ok (.goto 4, 3) := by decide +kernel
theorem dX1_made_85 : decode cX1_made 85 = .ok (.iconst 0, 1) := by decide +kernel
theorem dX1_made_86 : decode cX1_made 86 = .ok (.istore 7, 2) := by decide +kernel
theorem dX1_made_88 : decode cX1_made 88 = .ok (.iload_n 1, 1) := by decide +kernel
theorem dX1_made_89 : decode cX1_made 89 = .ok (.iconst 4, 1) := by decide +kernel
theorem dX1_made_90 : decode cX1_made 90 = .ok (.if_icmp .eq 17, 3) := by decide +kernel
theorem dX1_made_93 : decode cX1_made 93 = .ok (.aload_n 0, 1) := by decide +kernel
theorem dX1_made_94 : decode cX1_made 94 = .ok (.iload 6, 2) := by decide +kernel
theorem dX1_made_96 : decode cX1_made 96 = .ok (.invokevirtual 478, 3) := by decide +kernel
theorem dX1_made_99 : decode cX1_made 99 = .ok (.pop, 1) := by decide +kernel
theorem dX1_made_100 : decode cX1_made 100 = .ok (.aload_n 0, 1) := by decide +kernel
theorem dX1_made_101 : decode cX1_made 101 = .ok (.iload 7, 2) := by decide +kernel
theorem dX1_made_103 : decode cX1_made 103 = .ok (.invokevirtual 478, 3) := by decide +kernel
theorem dX1_made_106 : decode cX1_made 106 = .ok (.pop, 1) := by decide +kernel
theorem dX1_made_107 : decode cX1_made 107 = .ok (.aload_n 0, 1) := by decide +kernel
theorem dX1_made_108 : decode cX1_made 108 = .ok (.getfield 1, 3) := by decide +kernel
theorem dX1_made_111 : decode cX1_made 111 = .ok (.getfield 7, 3) := by decide +kernel
theorem dX1_made_114 : decode cX1_made 114 = .ok (.istore 8, 2) := by decide +kernel
theorem dX1_made_116 : decode cX1_made 116 = .ok (.iload_n 3, 1) := by decide +kernel
theorem dX1_made_117 : decode cX1_made 117 = .ok (.ifCond .le 12, 3) := by decide +kernel
theorem dX1_made_120 : decode cX1_made 120 = .ok (.aload_n 0, 1) := by decide +kernel
theorem dX1_made_121 : decode cX1_made 121 = .ok (.getfield 1, 3) := by decide +kernel
theorem dX1_made_124 : decode cX1_made 124 = .ok (.iload 6, 2) := by decide +kernel
theorem dX1_made_126 : decode cX1_made 126 = .ok (.invokevirtual 17, 3) := by decide +kernel
theorem dX1_made_129 : decode cX1_made 129 = .ok (.iload_n 3, 1) := by decide +kernel
theorem dX1_made_130 : decode cX1_made 130 = .ok (.iconst 1, 1) := by decide +kernel
theorem dX1_made_131 : decode cX1_made 131 = .ok (.if_icmp .le 12, 3) := by decide +kernel
theorem dX1_made_134 : decode cX1_made 134 = .ok (.aload_n 0, 1) := by decide +kernel
theorem dX1_made_135 : decode cX1_made 135 = .ok (.getfield 1, 3) := by decide +kernel
theorem dX1_made_138 : decode cX1_made 138 = .ok (.iload 7, 2) := by decide +kernel
theorem dX1_made_140 : decode cX1_made 140 = .ok (.invokevirtual 17, 3) := by decide +kernel
theorem dX1_made_143 : decode cX1_made 143 = .ok (.aload_n 0, 1) := by decide +kernel
theorem dX1_made_144 : decode cX1_made 144 = .ok (.getfield 1, 3) := by decide +kernel
theorem dX1_made_147 : decode cX1_made 147 = .ok (.getfield 390, 3) := by decide +kernel
theorem dX1_made_150 : decode cX1_made 150 = .ok (.istore 9, 2) := by decide +kernel
theorem dX1_made_152 : decode cX1_made 152 = .ok (.aload_n 0, 1) := by decide +kernel
theorem dX1_made_153 : decode cX1_made 153 = .ok (.getfield 1, 3) := by decide +kernel
theorem dX1_made_156 : decode cX1_made 156 = .ok (.getfield 393, 3) := by decide +kernel
theorem dX1_made_159 : decode cX1_made 159 = .ok (.istore 10, 2) := by decide +kernel
theorem dX1_made_161 : decode cX1_made 161 = .ok (.aload_n 0, 1) := by decide +kernel
theorem dX1_made_162 : decode cX1_made 162 = .ok (.aload_n 0, 1) := by decide +kernel
theorem dX1_made_163 : decode cX1_made 163 = .ok (.getfield 1, 3) := by decide +kernel
theorem dX1_made_166 : decode cX1_made 166 = .ok (.iload_n 1, 1) := by decide +kernel
theorem dX1_made_167 : decode cX1_made 167 = .ok (.iload_n 2, 1) := by decide +kernel
theorem dX1_made_168 : decode cX1_made 168 = .ok (.iload 8, 2) := by decide +kernel
theorem dX1_made_170 : decode cX1_made 170 = .ok (.invokevirtual 21, 3) := by decide +kernel
theorem dX1_made_173 : decode cX1_made 173 = .ok (.iload 9, 2) := by decide +kernel
theorem dX1_made_175 : decode cX1_made 175 = .ok (.iload 10, 2) := by decide +kernel
theorem dX1_made_177 : decode cX1_made 177 = .ok (.invokevirtual 475, 3) := by decide +kernel
theorem dX1_made_180 : decode cX1_made 180 = .ok (.ireturn, 1) := by decide +kernel
abbrev cX1_the : ByteArray := prog_1_method_78_code
def yX1_the : MethodName := ⟨RX1, "the", "(I)I"⟩
theorem dX1_the_0 : decode cX1_the 0 = .ok (.aload_n 0, 1) := by decide +kernel
theorem dX1_the_1 : decode cX1_the 1 = .ok (.iload_n 1, 1) := by decide +kernel
theorem dX1_the_2 : decode cX1_the 2 = .ok (.invokevirtual 455, 3) := by decide +kernel
theorem dX1_the_5 : decode cX1_the 5 = .ok (.istore_n 2, 1) := by decide +kernel
theorem dX1_the_6 : decode cX1_the 6 = .ok (.aload_n 0, 1) := by decide +kernel
theorem dX1_the_7 : decode cX1_the 7 = .ok (.getfield 1, 3) := by decide +kernel
theorem dX1_the_10 : decode cX1_the 10 = .ok (.getfield 390, 3) := by decide +kernel
theorem dX1_the_13 : decode cX1_the 13 = .ok (.istore_n 3, 1) := by decide +kernel
theorem dX1_the_14 : decode cX1_the 14 = .ok (.aload_n 0, 1) := by decide +kernel
theorem dX1_the_15 : decode cX1_the 15 = .ok (.getfield 1, 3) := by decide +kernel
theorem dX1_the_18 : decode cX1_the 18 = .ok (.getfield 393, 3) := by decide +kernel
theorem dX1_the_21 : decode cX1_the 21 = .ok (.istore 4, 2) := by decide +kernel
theorem dX1_the_23 : decode cX1_the 23 = .ok (.aload_n 0, 1) := by decide +kernel
theorem dX1_the_24 : decode cX1_the 24 = .ok (.aload_n 0, 1) := by decide +kernel
theorem dX1_the_25 : decode cX1_the 25 = .ok (.getfield 1, 3) := by decide +kernel
theorem dX1_the_28 : decode cX1_the 28 = .ok (.iconst 5, 1) := by decide +kernel
theorem dX1_the_29 : decode cX1_the 29 = .ok (.iconst 0, 1) := by decide +kernel
theorem dX1_the_30 : decode cX1_the 30 = .ok (.iconst 1, 1) := by decide +kernel
theorem dX1_the_31 : decode cX1_the 31 = .ok (.iload_n 2, 1) := by decide +kernel
theorem dX1_the_32 : decode cX1_the 32 = .ok (.invokevirtual 485, 3) := by decide +kernel
theorem dX1_the_35 : decode cX1_the 35 = .ok (.iload_n 3, 1) := by decide +kernel
theorem dX1_the_36 : decode cX1_the 36 = .ok (.iload 4, 2) := by decide +kernel
theorem dX1_the_38 : decode cX1_the 38 = .ok (.invokevirtual 475, 3) := by decide +kernel
theorem dX1_the_41 : decode cX1_the 41 = .ok (.ireturn, 1) := by decide +kernel
abbrev cX1_atom : ByteArray := prog_1_method_79_code
def yX1_atom : MethodName := ⟨RX1, "atom", "(IIII)I"⟩
theorem dX1_atom_0 : decode cX1_atom 0 = .ok (.iload_n 1, 1) := by decide +kernel
theorem dX1_atom_1 : decode cX1_atom 1 = .ok (.ifCond .lt 12, 3) := by decide +kernel
theorem dX1_atom_4 : decode cX1_atom 4 = .ok (.iload_n 1, 1) := by decide +kernel
theorem dX1_atom_5 : decode cX1_atom 5 = .ok (.iconst 4, 1) := by decide +kernel
theorem dX1_atom_6 : decode cX1_atom 6 = .ok (.if_icmp .gt 7, 3) := by decide +kernel
theorem dX1_atom_9 : decode cX1_atom 9 = .ok (.iconst 1, 1) := by decide +kernel
theorem dX1_atom_10 : decode cX1_atom 10 = .ok (.goto 4, 3) := by decide +kernel
theorem dX1_atom_13 : decode cX1_atom 13 = .ok (.iconst 0, 1) := by decide +kernel
theorem dX1_atom_14 : decode cX1_atom 14 = .ok (.invokestatic 440, 3) := by decide +kernel
theorem dX1_atom_17 : decode cX1_atom 17 = .ok (.iload_n 1, 1) := by decide +kernel
theorem dX1_atom_18 : decode cX1_atom 18 = .ok (.tableswitch 123 0 3 #[30, 42, 54, 91], 30) := by decide +kernel
theorem dX1_atom_48 : decode cX1_atom 48 = .ok (.aload_n 0, 1) := by decide +kernel
theorem dX1_atom_49 : decode cX1_atom 49 = .ok (.bipush 10, 2) := by decide +kernel
theorem dX1_atom_51 : decode cX1_atom 51 = .ok (.iconst 0, 1) := by decide +kernel
theorem dX1_atom_52 : decode cX1_atom 52 = .ok (.iconst 2, 1) := by decide +kernel
theorem dX1_atom_53 : decode cX1_atom 53 = .ok (.iload_n 3, 1) := by decide +kernel
theorem dX1_atom_54 : decode cX1_atom 54 = .ok (.iload 4, 2) := by decide +kernel
theorem dX1_atom_56 : decode cX1_atom 56 = .ok (.invokevirtual 481, 3) := by decide +kernel
theorem dX1_atom_59 : decode cX1_atom 59 = .ok (.ireturn, 1) := by decide +kernel
theorem dX1_atom_60 : decode cX1_atom 60 = .ok (.aload_n 0, 1) := by decide +kernel
theorem dX1_atom_61 : decode cX1_atom 61 = .ok (.bipush 11, 2) := by decide +kernel
theorem dX1_atom_63 : decode cX1_atom 63 = .ok (.iconst 0, 1) := by decide +kernel
theorem dX1_atom_64 : decode cX1_atom 64 = .ok (.iconst 2, 1) := by decide +kernel
theorem dX1_atom_65 : decode cX1_atom 65 = .ok (.iload_n 3, 1) := by decide +kernel
theorem dX1_atom_66 : decode cX1_atom 66 = .ok (.iload 4, 2) := by decide +kernel
theorem dX1_atom_68 : decode cX1_atom 68 = .ok (.invokevirtual 481, 3) := by decide +kernel
theorem dX1_atom_71 : decode cX1_atom 71 = .ok (.ireturn, 1) := by decide +kernel
theorem dX1_atom_72 : decode cX1_atom 72 = .ok (.iload_n 2, 1) := by decide +kernel
theorem dX1_atom_73 : decode cX1_atom 73 = .ok (.ifCond .lt 15, 3) := by decide +kernel
theorem dX1_atom_76 : decode cX1_atom 76 = .ok (.iload_n 2, 1) := by decide +kernel
theorem dX1_atom_77 : decode cX1_atom 77 = .ok (.aload_n 0, 1) := by decide +kernel
theorem dX1_atom_78 : decode cX1_atom 78 = .ok (.getfield 463, 3) := by decide +kernel
theorem dX1_atom_81 : decode cX1_atom 81 = .ok (.if_icmp .ge 7, 3) := by decide +kernel
theorem dX1_atom_84 : decode cX1_atom 84 = .ok (.iconst 1, 1) := by decide +kernel
theorem dX1_atom_85 : decode cX1_atom 85 = .ok (.goto 4, 3) := by decide +kernel
theorem dX1_atom_88 : decode cX1_atom 88 = .ok (.iconst 0, 1) := by decide +kernel
theorem dX1_atom_89 : decode cX1_atom 89 = .ok (.invokestatic 440, 3) := by decide +kernel
theorem dX1_atom_92 : decode cX1_atom 92 = .ok (.aload_n 0, 1) := by decide +kernel
theorem dX1_atom_93 : decode cX1_atom 93 = .ok (.bipush 12, 2) := by decide +kernel
theorem dX1_atom_95 : decode cX1_atom 95 = .ok (.iload_n 2, 1) := by decide +kernel
theorem dX1_atom_96 : decode cX1_atom 96 = .ok (.aload_n 0, 1) := by decide +kernel
theorem dX1_atom_97 : decode cX1_atom 97 = .ok (.getfield 425, 3) := by decide +kernel
theorem dX1_atom_100 : decode cX1_atom 100 = .ok (.iload_n 2, 1) := by decide +kernel
theorem dX1_atom_101 : decode cX1_atom 101 = .ok (.iaload, 1) := by decide +kernel
theorem dX1_atom_102 : decode cX1_atom 102 = .ok (.iload_n 3, 1) := by decide +kernel
theorem dX1_atom_103 : decode cX1_atom 103 = .ok (.iload 4, 2) := by decide +kernel
theorem dX1_atom_105 : decode cX1_atom 105 = .ok (.invokevirtual 481, 3) := by decide +kernel
theorem dX1_atom_108 : decode cX1_atom 108 = .ok (.ireturn, 1) := by decide +kernel
theorem dX1_atom_109 : decode cX1_atom 109 = .ok (.iload_n 2, 1) := by decide +kernel
theorem dX1_atom_110 : decode cX1_atom 110 = .ok (.ifCond .lt 15, 3) := by decide +kernel
theorem dX1_atom_113 : decode cX1_atom 113 = .ok (.iload_n 2, 1) := by decide +kernel
theorem dX1_atom_114 : decode cX1_atom 114 = .ok (.aload_n 0, 1) := by decide +kernel
theorem dX1_atom_115 : decode cX1_atom 115 = .ok (.getfield 452, 3) := by decide +kernel
theorem dX1_atom_118 : decode cX1_atom 118 = .ok (.if_icmp .ge 7, 3) := by decide +kernel
theorem dX1_atom_121 : decode cX1_atom 121 = .ok (.iconst 1, 1) := by decide +kernel
theorem dX1_atom_122 : decode cX1_atom 122 = .ok (.goto 4, 3) := by decide +kernel
theorem dX1_atom_125 : decode cX1_atom 125 = .ok (.iconst 0, 1) := by decide +kernel
theorem dX1_atom_126 : decode cX1_atom 126 = .ok (.invokestatic 440, 3) := by decide +kernel
theorem dX1_atom_129 : decode cX1_atom 129 = .ok (.aload_n 0, 1) := by decide +kernel
theorem dX1_atom_130 : decode cX1_atom 130 = .ok (.bipush 13, 2) := by decide +kernel
theorem dX1_atom_132 : decode cX1_atom 132 = .ok (.iload_n 2, 1) := by decide +kernel
theorem dX1_atom_133 : decode cX1_atom 133 = .ok (.iconst 1, 1) := by decide +kernel
theorem dX1_atom_134 : decode cX1_atom 134 = .ok (.iload_n 3, 1) := by decide +kernel
theorem dX1_atom_135 : decode cX1_atom 135 = .ok (.iload 4, 2) := by decide +kernel
theorem dX1_atom_137 : decode cX1_atom 137 = .ok (.invokevirtual 481, 3) := by decide +kernel
theorem dX1_atom_140 : decode cX1_atom 140 = .ok (.ireturn, 1) := by decide +kernel
theorem dX1_atom_141 : decode cX1_atom 141 = .ok (.iload_n 2, 1) := by decide +kernel
theorem dX1_atom_142 : decode cX1_atom 142 = .ok (.ifCond .lt 15, 3) := by decide +kernel
theorem dX1_atom_145 : decode cX1_atom 145 = .ok (.iload_n 2, 1) := by decide +kernel
theorem dX1_atom_146 : decode cX1_atom 146 = .ok (.aload_n 0, 1) := by decide +kernel
theorem dX1_atom_147 : decode cX1_atom 147 = .ok (.getfield 419, 3) := by decide +kernel
theorem dX1_atom_150 : decode cX1_atom 150 = .ok (.if_icmp .ge 7, 3) := by decide +kernel
theorem dX1_atom_153 : decode cX1_atom 153 = .ok (.iconst 1, 1) := by decide +kernel
theorem dX1_atom_154 : decode cX1_atom 154 = .ok (.goto 4, 3) := by decide +kernel
theorem dX1_atom_157 : decode cX1_atom 157 = .ok (.iconst 0, 1) := by decide +kernel
theorem dX1_atom_158 : decode cX1_atom 158 = .ok (.invokestatic 440, 3) := by decide +kernel
theorem dX1_atom_161 : decode cX1_atom 161 = .ok (.aload_n 0, 1) := by decide +kernel
theorem dX1_atom_162 : decode cX1_atom 162 = .ok (.getfield 415, 3) := by decide +kernel
theorem dX1_atom_165 : decode cX1_atom 165 = .ok (.iload_n 2, 1) := by decide +kernel
theorem dX1_atom_166 : decode cX1_atom 166 = .ok (.baload, 1) := by decide +kernel
theorem dX1_atom_167 : decode cX1_atom 167 = .ok (.iload 4, 2) := by decide +kernel
theorem dX1_atom_169 : decode cX1_atom 169 = .ok (.iconst (-1), 1) := by decide +kernel
theorem dX1_atom_170 : decode cX1_atom 170 = .ok (.if_icmp .eq 7, 3) := by decide +kernel
theorem dX1_atom_173 : decode cX1_atom 173 = .ok (.iconst 1, 1) := by decide +kernel
theorem dX1_atom_174 : decode cX1_atom 174 = .ok (.goto 4, 3) := by decide +kernel
theorem dX1_atom_177 : decode cX1_atom 177 = .ok (.iconst 0, 1) := by decide +kernel
theorem dX1_atom_178 : decode cX1_atom 178 = .ok (.if_icmp .ne 7, 3) := by decide +kernel
theorem dX1_atom_181 : decode cX1_atom 181 = .ok (.iconst 1, 1) := by decide +kernel
theorem dX1_atom_182 : decode cX1_atom 182 = .ok (.goto 4, 3) := by decide +kernel
theorem dX1_atom_185 : decode cX1_atom 185 = .ok (.iconst 0, 1) := by decide +kernel
theorem dX1_atom_186 : decode cX1_atom 186 = .ok (.invokestatic 440, 3) := by decide +kernel
theorem dX1_atom_189 : decode cX1_atom 189 = .ok (.aload_n 0, 1) := by decide +kernel
theorem dX1_atom_190 : decode cX1_atom 190 = .ok (.aload_n 0, 1) := by decide +kernel
theorem dX1_atom_191 : decode cX1_atom 191 = .ok (.iload_n 3, 1) := by decide +kernel
theorem dX1_atom_192 : decode cX1_atom 192 = .ok (.invokevirtual 466, 3) := by decide +kernel
theorem dX1_atom_195 : decode cX1_atom 195 = .ok (.invokevirtual 478, 3) := by decide +kernel
theorem dX1_atom_198 : decode cX1_atom 198 = .ok (.istore 5, 2) := by decide +kernel
theorem dX1_atom_200 : decode cX1_atom 200 = .ok (.iload 4, 2) := by decide +kernel
theorem dX1_atom_202 : decode cX1_atom 202 = .ok (.iconst (-1), 1) := by decide +kernel
theorem dX1_atom_203 : decode cX1_atom 203 = .ok (.if_icmp .ne 7, 3) := by decide +kernel
theorem dX1_atom_206 : decode cX1_atom 206 = .ok (.iconst 0, 1) := by decide +kernel
theorem dX1_atom_207 : decode cX1_atom 207 = .ok (.goto 13, 3) := by decide +kernel
theorem dX1_atom_210 : decode cX1_atom 210 = .ok (.aload_n 0, 1) := by decide +kernel
theorem dX1_atom_211 : decode cX1_atom 211 = .ok (.aload_n 0, 1) := by decide +kernel
theorem dX1_atom_212 : decode cX1_atom 212 = .ok (.iload 4, 2) := by decide +kernel
theorem dX1_atom_214 : decode cX1_atom 214 = .ok (.invokevirtual 466, 3) := by decide +kernel
theorem dX1_atom_217 : decode cX1_atom 217 = .ok (.invokevirtual 478, 3) := by decide +kernel
theorem dX1_atom_220 : decode cX1_atom 220 = .ok (.istore 6, 2) := by decide +kernel
theorem dX1_atom_222 : decode cX1_atom 222 = .ok (.aload_n 0, 1) := by decide +kernel
theorem dX1_atom_223 : decode cX1_atom 223 = .ok (.getfield 1, 3) := by decide +kernel
theorem dX1_atom_226 : decode cX1_atom 226 = .ok (.getfield 390, 3) := by decide +kernel
theorem dX1_atom_229 : decode cX1_atom 229 = .ok (.istore 7, 2) := by decide +kernel
theorem dX1_atom_231 : decode cX1_atom 231 = .ok (.aload_n 0, 1) := by decide +kernel
theorem dX1_atom_232 : decode cX1_atom 232 = .ok (.getfield 1, 3) := by decide +kernel
theorem dX1_atom_235 : decode cX1_atom 235 = .ok (.getfield 393, 3) := by decide +kernel
theorem dX1_atom_238 : decode cX1_atom 238 = .ok (.istore 8, 2) := by decide +kernel
theorem dX1_atom_240 : decode cX1_atom 240 = .ok (.aload_n 0, 1) := by decide +kernel
theorem dX1_atom_241 : decode cX1_atom 241 = .ok (.aload_n 0, 1) := by decide +kernel
theorem dX1_atom_242 : decode cX1_atom 242 = .ok (.getfield 1, 3) := by decide +kernel
theorem dX1_atom_245 : decode cX1_atom 245 = .ok (.iload_n 2, 1) := by decide +kernel
theorem dX1_atom_246 : decode cX1_atom 246 = .ok (.iload 6, 2) := by decide +kernel
theorem dX1_atom_248 : decode cX1_atom 248 = .ok (.iload 5, 2) := by decide +kernel
theorem dX1_atom_250 : decode cX1_atom 250 = .ok (.invokevirtual 487, 3) := by decide +kernel
theorem dX1_atom_253 : decode cX1_atom 253 = .ok (.iload 7, 2) := by decide +kernel
theorem dX1_atom_255 : decode cX1_atom 255 = .ok (.iload 8, 2) := by decide +kernel
theorem dX1_atom_257 : decode cX1_atom 257 = .ok (.invokevirtual 475, 3) := by decide +kernel
theorem dX1_atom_260 : decode cX1_atom 260 = .ok (.ireturn, 1) := by decide +kernel
abbrev cX1_join : ByteArray := prog_1_method_80_code
def yX1_join : MethodName := ⟨RX1, "join", "(III)I"⟩
theorem dX1_join_0 : decode cX1_join 0 = .ok (.iload_n 1, 1) := by decide +kernel
theorem dX1_join_1 : decode cX1_join 1 = .ok (.ifCond .lt 34, 3) := by decide +kernel
theorem dX1_join_4 : decode cX1_join 4 = .ok (.iload_n 1, 1) := by decide +kernel
theorem dX1_join_5 : decode cX1_join 5 = .ok (.iconst 4, 1) := by decide +kernel
theorem dX1_join_6 : decode cX1_join 6 = .ok (.if_icmp .gt 29, 3) := by decide +kernel
theorem dX1_join_9 : decode cX1_join 9 = .ok (.iload_n 1, 1) := by decide +kernel
theorem dX1_join_10 : decode cX1_join 10 = .ok (.ifCond .ne 7, 3) := by decide +kernel
theorem dX1_join_13 : decode cX1_join 13 = .ok (.iconst 1, 1) := by decide +kernel
theorem dX1_join_14 : decode cX1_join 14 = .ok (.goto 4, 3) := by decide +kernel
theorem dX1_join_17 : decode cX1_join 17 = .ok (.iconst 0, 1) := by decide +kernel
theorem dX1_join_18 : decode cX1_join 18 = .ok (.iload_n 3, 1) := by decide +kernel
theorem dX1_join_19 : decode cX1_join 19 = .ok (.iconst (-1), 1) := by decide +kernel
theorem dX1_join_20 : decode cX1_join 20 = .ok (.if_icmp .ne 7, 3) := by decide +kernel
theorem dX1_join_23 : decode cX1_join 23 = .ok (.iconst 1, 1) := by decide +kernel
theorem dX1_join_24 : decode cX1_join 24 = .ok (.goto 4, 3) := by decide +kernel
theorem dX1_join_27 : decode cX1_join 27 = .ok (.iconst 0, 1) := by decide +kernel
theorem dX1_join_28 : decode cX1_join 28 = .ok (.if_icmp .ne 7, 3) := by decide +kernel
theorem dX1_join_31 : decode cX1_join 31 = .ok (.iconst 1, 1) := by decide +kernel
theorem dX1_join_32 : decode cX1_join 32 = .ok (.goto 4, 3) := by decide +kernel
theorem dX1_join_35 : decode cX1_join 35 = .ok (.iconst 0, 1) := by decide +kernel
theorem dX1_join_36 : decode cX1_join 36 = .ok (.invokestatic 440, 3) := by decide +kernel
theorem dX1_join_39 : decode cX1_join 39 = .ok (.aload_n 0, 1) := by decide +kernel
theorem dX1_join_40 : decode cX1_join 40 = .ok (.iload_n 2, 1) := by decide +kernel
theorem dX1_join_41 : decode cX1_join 41 = .ok (.invokevirtual 490, 3) := by decide +kernel
theorem dX1_join_44 : decode cX1_join 44 = .ok (.istore 4, 2) := by decide +kernel
theorem dX1_join_46 : decode cX1_join 46 = .ok (.iload_n 1, 1) := by decide +kernel
theorem dX1_join_47 : decode cX1_join 47 = .ok (.ifCond .ne 7, 3) := by decide +kernel
theorem dX1_join_50 : decode cX1_join 50 = .ok (.iconst 0, 1) := by decide +kernel
theorem dX1_join_51 : decode cX1_join 51 = .ok (.goto 8, 3) := by decide +kernel
theorem dX1_join_54 : decode cX1_join 54 = .ok (.aload_n 0, 1) := by decide +kernel
theorem dX1_join_55 : decode cX1_join 55 = .ok (.iload_n 3, 1) := by decide +kernel
theorem dX1_join_56 : decode cX1_join 56 = .ok (.invokevirtual 490, 3) := by decide +kernel
theorem dX1_join_59 : decode cX1_join 59 = .ok (.istore 5, 2) := by decide +kernel
theorem dX1_join_61 : decode cX1_join 61 = .ok (.aload_n 0, 1) := by decide +kernel
theorem dX1_join_62 : decode cX1_join 62 = .ok (.getfield 1, 3) := by decide +kernel
theorem dX1_join_65 : decode cX1_join 65 = .ok (.getfield 390, 3) := by decide +kernel
theorem dX1_join_68 : decode cX1_join 68 = .ok (.istore 6, 2) := by decide +kernel
theorem dX1_join_70 : decode cX1_join 70 = .ok (.aload_n 0, 1) := by decide +kernel
theorem dX1_join_71 : decode cX1_join 71 = .ok (.getfield 1, 3) := by decide +kernel
theorem dX1_join_74 : decode cX1_join 74 = .ok (.getfield 393, 3) := by decide +kernel
theorem dX1_join_77 : decode cX1_join 77 = .ok (.istore 7, 2) := by decide +kernel
theorem dX1_join_79 : decode cX1_join 79 = .ok (.iload_n 1, 1) := by decide +kernel
theorem dX1_join_80 : decode cX1_join 80 = .ok (.ifCond .ne 15, 3) := by decide +kernel
theorem dX1_join_83 : decode cX1_join 83 = .ok (.aload_n 0, 1) := by decide +kernel
theorem dX1_join_84 : decode cX1_join 84 = .ok (.getfield 1, 3) := by decide +kernel
theorem dX1_join_87 : decode cX1_join 87 = .ok (.iload 4, 2) := by decide +kernel
theorem dX1_join_89 : decode cX1_join 89 = .ok (.invokevirtual 263, 3) := by decide +kernel
theorem dX1_join_92 : decode cX1_join 92 = .ok (.goto 68, 3) := by decide +kernel
theorem dX1_join_95 : decode cX1_join 95 = .ok (.iload_n 1, 1) := by decide +kernel
theorem dX1_join_96 : decode cX1_join 96 = .ok (.iconst 1, 1) := by decide +kernel
theorem dX1_join_97 : decode cX1_join 97 = .ok (.if_icmp .ne 17, 3) := by decide +kernel
theorem dX1_join_100 : decode cX1_join 100 = .ok (.aload_n 0, 1) := by decide +kernel
theorem dX1_join_101 : decode cX1_join 101 = .ok (.getfield 1, 3) := by decide +kernel
theorem dX1_join_104 : decode cX1_join 104 = .ok (.iload 4, 2) := by decide +kernel
theorem dX1_join_106 : decode cX1_join 106 = .ok (.iload 5, 2) := by decide +kernel
theorem dX1_join_108 : decode cX1_join 108 = .ok (.invokevirtual 493, 3) := by decide +kernel
theorem dX1_join_111 : decode cX1_join 111 = .ok (.goto 49, 3) := by decide +kernel
theorem dX1_join_114 : decode cX1_join 114 = .ok (.iload_n 1, 1) := by decide +kernel
theorem dX1_join_115 : decode cX1_join 115 = .ok (.iconst 2, 1) := by decide +kernel
theorem dX1_join_116 : decode cX1_join 116 = .ok (.if_icmp .ne 14, 3) := by decide +kernel
theorem dX1_join_119 : decode cX1_join 119 = .ok (.aload_n 0, 1) := by decide +kernel
theorem dX1_join_120 : decode cX1_join 120 = .ok (.iload 4, 2) := by decide +kernel
theorem dX1_join_122 : decode cX1_join 122 = .ok (.iload 5, 2) := by decide +kernel
theorem dX1_join_124 : decode cX1_join 124 = .ok (.invokevirtual 495, 3) := by decide +kernel
theorem dX1_join_127 : decode cX1_join 127 = .ok (.goto 33, 3) := by decide +kernel
theorem dX1_join_130 : decode cX1_join 130 = .ok (.iload_n 1, 1) := by decide +kernel
theorem dX1_join_131 : decode cX1_join 131 = .ok (.iconst 3, 1) := by decide +kernel
theorem dX1_join_132 : decode cX1_join 132 = .ok (.if_icmp .ne 17, 3) := by decide +kernel
theorem dX1_join_135 : decode cX1_join 135 = .ok (.aload_n 0, 1) := by decide +kernel
theorem dX1_join_136 : decode cX1_join 136 = .ok (.getfield 1, 3) := by decide +kernel
theorem dX1_join_139 : decode cX1_join 139 = .ok (.iload 4, 2) := by decide +kernel
theorem dX1_join_141 : decode cX1_join 141 = .ok (.iload 5, 2) := by decide +kernel
theorem dX1_join_143 : decode cX1_join 143 = .ok (.invokevirtual 498, 3) := by decide +kernel
theorem dX1_join_146 : decode cX1_join 146 = .ok (.goto 14, 3) := by decide +kernel
theorem dX1_join_149 : decode cX1_join 149 = .ok (.aload_n 0, 1) := by decide +kernel
theorem dX1_join_150 : decode cX1_join 150 = .ok (.getfield 1, 3) := by decide +kernel
theorem dX1_join_153 : decode cX1_join 153 = .ok (.iload 4, 2) := by decide +kernel
theorem dX1_join_155 : decode cX1_join 155 = .ok (.iload 5, 2) := by decide +kernel
theorem dX1_join_157 : decode cX1_join 157 = .ok (.invokevirtual 501, 3) := by decide +kernel
theorem dX1_join_160 : decode cX1_join 160 = .ok (.istore 8, 2) := by decide +kernel
theorem dX1_join_162 : decode cX1_join 162 = .ok (.aload_n 0, 1) := by decide +kernel
theorem dX1_join_163 : decode cX1_join 163 = .ok (.iload 8, 2) := by decide +kernel
theorem dX1_join_165 : decode cX1_join 165 = .ok (.iload 6, 2) := by decide +kernel
theorem dX1_join_167 : decode cX1_join 167 = .ok (.iload 7, 2) := by decide +kernel
theorem dX1_join_169 : decode cX1_join 169 = .ok (.invokevirtual 475, 3) := by decide +kernel
theorem dX1_join_172 : decode cX1_join 172 = .ok (.ireturn, 1) := by decide +kernel
abbrev cX1_formulaOf : ByteArray := prog_1_method_63_code
def yX1_formulaOf : MethodName := ⟨RX1, "formulaOf", "(I)I"⟩
theorem dX1_formulaOf_0 : decode cX1_formulaOf 0 = .ok (.aload_n 0, 1) := by decide +kernel
theorem dX1_formulaOf_1 : decode cX1_formulaOf 1 = .ok (.iload_n 1, 1) := by decide +kernel
theorem dX1_formulaOf_2 : decode cX1_formulaOf 2 = .ok (.invokevirtual 444, 3) := by decide +kernel
theorem dX1_formulaOf_5 : decode cX1_formulaOf 5 = .ok (.istore_n 2, 1) := by decide +kernel
theorem dX1_formulaOf_6 : decode cX1_formulaOf 6 = .ok (.aload_n 0, 1) := by decide +kernel
theorem dX1_formulaOf_7 : decode cX1_formulaOf 7 = .ok (.getfield 1, 3) := by decide +kernel
theorem dX1_formulaOf_10 : decode cX1_formulaOf 10 = .ok (.getfield 39, 3) := by decide +kernel
theorem dX1_formulaOf_13 : decode cX1_formulaOf 13 = .ok (.iload_n 2, 1) := by decide +kernel
theorem dX1_formulaOf_14 : decode cX1_formulaOf 14 = .ok (.iaload, 1) := by decide +kernel
theorem dX1_formulaOf_15 : decode cX1_formulaOf 15 = .ok (.bipush 8, 2) := by decide +kernel
theorem dX1_formulaOf_17 : decode cX1_formulaOf 17 = .ok (.if_icmp .le 7, 3) := by decide +kernel
theorem dX1_formulaOf_20 : decode cX1_formulaOf 20 = .ok (.iconst 1, 1) := by decide +kernel
theorem dX1_formulaOf_21 : decode cX1_formulaOf 21 = .ok (.goto 4, 3) := by decide +kernel
theorem dX1_formulaOf_24 : decode cX1_formulaOf 24 = .ok (.iconst 0, 1) := by decide +kernel
theorem dX1_formulaOf_25 : decode cX1_formulaOf 25 = .ok (.invokestatic 440, 3) := by decide +kernel
theorem dX1_formulaOf_28 : decode cX1_formulaOf 28 = .ok (.iload_n 2, 1) := by decide +kernel
theorem dX1_formulaOf_29 : decode cX1_formulaOf 29 = .ok (.ireturn, 1) := by decide +kernel
abbrev cX1_either : ByteArray := prog_1_method_81_code
def yX1_either : MethodName := ⟨RX1, "either", "(II)I"⟩
theorem dX1_either_0 : decode cX1_either 0 = .ok (.aload_n 0, 1) := by decide +kernel
theorem dX1_either_1 : decode cX1_either 1 = .ok (.getfield 1, 3) := by decide +kernel
theorem dX1_either_4 : decode cX1_either 4 = .ok (.iload_n 1, 1) := by decide +kernel
theorem dX1_either_5 : decode cX1_either 5 = .ok (.invokevirtual 263, 3) := by decide +kernel
theorem dX1_either_8 : decode cX1_either 8 = .ok (.istore_n 3, 1) := by decide +kernel
theorem dX1_either_9 : decode cX1_either 9 = .ok (.aload_n 0, 1) := by decide +kernel
theorem dX1_either_10 : decode cX1_either 10 = .ok (.getfield 1, 3) := by decide +kernel
theorem dX1_either_13 : decode cX1_either 13 = .ok (.iload_n 2, 1) := by decide +kernel
theorem dX1_either_14 : decode cX1_either 14 = .ok (.invokevirtual 263, 3) := by decide +kernel
theorem dX1_either_17 : decode cX1_either 17 = .ok (.istore 4, 2) := by decide +kernel
theorem dX1_either_19 : decode cX1_either 19 = .ok (.aload_n 0, 1) := by decide +kernel
theorem dX1_either_20 : decode cX1_either 20 = .ok (.getfield 1, 3) := by decide +kernel
theorem dX1_either_23 : decode cX1_either 23 = .ok (.aload_n 0, 1) := by decide +kernel
theorem dX1_either_24 : decode cX1_either 24 = .ok (.getfield 1, 3) := by decide +kernel
theorem dX1_either_27 : decode cX1_either 27 = .ok (.iload_n 3, 1) := by decide +kernel
theorem dX1_either_28 : decode cX1_either 28 = .ok (.iload 4, 2) := by decide +kernel
theorem dX1_either_30 : decode cX1_either 30 = .ok (.invokevirtual 493, 3) := by decide +kernel
theorem dX1_either_33 : decode cX1_either 33 = .ok (.invokevirtual 263, 3) := by decide +kernel
theorem dX1_either_36 : decode cX1_either 36 = .ok (.ireturn, 1) := by decide +kernel
abbrev cX1_bind : ByteArray := prog_1_method_82_code
def yX1_bind : MethodName := ⟨RX1, "bind", "(ZII)I"⟩
theorem dX1_bind_0 : decode cX1_bind 0 = .ok (.aload_n 0, 1) := by decide +kernel
theorem dX1_bind_1 : decode cX1_bind 1 = .ok (.iload_n 2, 1) := by decide +kernel
theorem dX1_bind_2 : decode cX1_bind 2 = .ok (.invokevirtual 466, 3) := by decide +kernel
theorem dX1_bind_5 : decode cX1_bind 5 = .ok (.istore 4, 2) := by decide +kernel
theorem dX1_bind_7 : decode cX1_bind 7 = .ok (.aload_n 0, 1) := by decide +kernel
theorem dX1_bind_8 : decode cX1_bind 8 = .ok (.getfield 1, 3) := by decide +kernel
theorem dX1_bind_11 : decode cX1_bind 11 = .ok (.getfield 39, 3) := by decide +kernel
theorem dX1_bind_14 : decode cX1_bind 14 = .ok (.iload 4, 2) := by decide +kernel
theorem dX1_bind_16 : decode cX1_bind 16 = .ok (.iaload, 1) := by decide +kernel
theorem dX1_bind_17 : decode cX1_bind 17 = .ok (.iconst 1, 1) := by decide +kernel
theorem dX1_bind_18 : decode cX1_bind 18 = .ok (.if_icmp .ne 7, 3) := by decide +kernel
theorem dX1_bind_21 : decode cX1_bind 21 = .ok (.iconst 1, 1) := by decide +kernel
theorem dX1_bind_22 : decode cX1_bind 22 = .ok (.goto 4, 3) := by decide +kernel
theorem dX1_bind_25 : decode cX1_bind 25 = .ok (.iconst 0, 1) := by decide +kernel
theorem dX1_bind_26 : decode cX1_bind 26 = .ok (.invokestatic 440, 3) := by decide +kernel
theorem dX1_bind_29 : decode cX1_bind 29 = .ok (.aload_n 0, 1) := by decide +kernel
theorem dX1_bind_30 : decode cX1_bind 30 = .ok (.iload_n 3, 1) := by decide +kernel
theorem dX1_bind_31 : decode cX1_bind 31 = .ok (.invokevirtual 490, 3) := by decide +kernel
theorem dX1_bind_34 : decode cX1_bind 34 = .ok (.istore 5, 2) := by decide +kernel
theorem dX1_bind_36 : decode cX1_bind 36 = .ok (.aload_n 0, 1) := by decide +kernel
theorem dX1_bind_37 : decode cX1_bind 37 = .ok (.getfield 1, 3) := by decide +kernel
theorem dX1_bind_40 : decode cX1_bind 40 = .ok (.getfield 390, 3) := by decide +kernel
theorem dX1_bind_43 : decode cX1_bind 43 = .ok (.istore 6, 2) := by decide +kernel
theorem dX1_bind_45 : decode cX1_bind 45 = .ok (.aload_n 0, 1) := by decide +kernel
theorem dX1_bind_46 : decode cX1_bind 46 = .ok (.getfield 1, 3) := by decide +kernel
theorem dX1_bind_49 : decode cX1_bind 49 = .ok (.getfield 393, 3) := by decide +kernel
theorem dX1_bind_52 : decode cX1_bind 52 = .ok (.istore 7, 2) := by decide +kernel
theorem dX1_bind_54 : decode cX1_bind 54 = .ok (.aload_n 0, 1) := by decide +kernel
theorem dX1_bind_55 : decode cX1_bind 55 = .ok (.getfield 1, 3) := by decide +kernel
theorem dX1_bind_58 : decode cX1_bind 58 = .ok (.iload_n 1, 1) := by decide +kernel
theorem dX1_bind_59 : decode cX1_bind 59 = .ok (.ifCond .eq 15, 3) := by decide +kernel
theorem dX1_bind_62 : decode cX1_bind 62 = .ok (.aload_n 0, 1) := by decide +kernel
theorem dX1_bind_63 : decode cX1_bind 63 = .ok (.getfield 1, 3) := by decide +kernel
theorem dX1_bind_66 : decode cX1_bind 66 = .ok (.iload 5, 2) := by decide +kernel
theorem dX1_bind_68 : decode cX1_bind 68 = .ok (.invokevirtual 263, 3) := by decide +kernel
theorem dX1_bind_71 : decode cX1_bind 71 = .ok (.goto 5, 3) := by decide +kernel
theorem dX1_bind_74 : decode cX1_bind 74 = .ok (.iload 5, 2) := by decide +kernel
theorem dX1_bind_76 : decode cX1_bind 76 = .ok (.iload 4, 2) := by decide +kernel
theorem dX1_bind_78 : decode cX1_bind 78 = .ok (.invokevirtual 504, 3) := by decide +kernel
theorem dX1_bind_81 : decode cX1_bind 81 = .ok (.istore 8, 2) := by decide +kernel
theorem dX1_bind_83 : decode cX1_bind 83 = .ok (.aload_n 0, 1) := by decide +kernel
theorem dX1_bind_84 : decode cX1_bind 84 = .ok (.getfield 1, 3) := by decide +kernel
theorem dX1_bind_87 : decode cX1_bind 87 = .ok (.aload_n 0, 1) := by decide +kernel
theorem dX1_bind_88 : decode cX1_bind 88 = .ok (.getfield 42, 3) := by decide +kernel
theorem dX1_bind_91 : decode cX1_bind 91 = .ok (.aload_n 0, 1) := by decide +kernel
theorem dX1_bind_92 : decode cX1_bind 92 = .ok (.getfield 1, 3) := by decide +kernel
theorem dX1_bind_95 : decode cX1_bind 95 = .ok (.getfield 45, 3) := by decide +kernel
theorem dX1_bind_98 : decode cX1_bind 98 = .ok (.iload 4, 2) := by decide +kernel
theorem dX1_bind_100 : decode cX1_bind 100 = .ok (.iaload, 1) := by decide +kernel
theorem dX1_bind_101 : decode cX1_bind 101 = .ok (.iaload, 1) := by decide +kernel
theorem dX1_bind_102 : decode cX1_bind 102 = .ok (.iload 8, 2) := by decide +kernel
theorem dX1_bind_104 : decode cX1_bind 104 = .ok (.invokevirtual 507, 3) := by decide +kernel
theorem dX1_bind_107 : decode cX1_bind 107 = .ok (.istore 9, 2) := by decide +kernel
theorem dX1_bind_109 : decode cX1_bind 109 = .ok (.aload_n 0, 1) := by decide +kernel
theorem dX1_bind_110 : decode cX1_bind 110 = .ok (.iload_n 1, 1) := by decide +kernel
theorem dX1_bind_111 : decode cX1_bind 111 = .ok (.ifCond .eq 15, 3) := by decide +kernel
theorem dX1_bind_114 : decode cX1_bind 114 = .ok (.aload_n 0, 1) := by decide +kernel
theorem dX1_bind_115 : decode cX1_bind 115 = .ok (.getfield 1, 3) := by decide +kernel
theorem dX1_bind_118 : decode cX1_bind 118 = .ok (.iload 9, 2) := by decide +kernel
theorem dX1_bind_120 : decode cX1_bind 120 = .ok (.invokevirtual 263, 3) := by decide +kernel
theorem dX1_bind_123 : decode cX1_bind 123 = .ok (.goto 5, 3) := by decide +kernel
theorem dX1_bind_126 : decode cX1_bind 126 = .ok (.iload 9, 2) := by decide +kernel
theorem dX1_bind_128 : decode cX1_bind 128 = .ok (.iload 6, 2) := by decide +kernel
theorem dX1_bind_130 : decode cX1_bind 130 = .ok (.iload 7, 2) := by decide +kernel
theorem dX1_bind_132 : decode cX1_bind 132 = .ok (.invokevirtual 475, 3) := by decide +kernel
theorem dX1_bind_135 : decode cX1_bind 135 = .ok (.ireturn, 1) := by decide +kernel
abbrev cX1_cluster : ByteArray := prog_1_method_84_code
def yX1_cluster : MethodName := ⟨RX1, "cluster", "(III)I"⟩
theorem dX1_cluster_0 : decode cX1_cluster 0 = .ok (.aload_n 0, 1) := by decide +kernel
theorem dX1_cluster_1 : decode cX1_cluster 1 = .ok (.iload_n 1, 1) := by decide +kernel
theorem dX1_cluster_2 : decode cX1_cluster 2 = .ok (.invokevirtual 455, 3) := by decide +kernel
theorem dX1_cluster_5 : decode cX1_cluster 5 = .ok (.istore 4, 2) := by decide +kernel
theorem dX1_cluster_7 : decode cX1_cluster 7 = .ok (.aload_n 0, 1) := by decide +kernel
theorem dX1_cluster_8 : decode cX1_cluster 8 = .ok (.iload 4, 2) := by decide +kernel
theorem dX1_cluster_10 : decode cX1_cluster 10 = .ok (.invokevirtual 58, 3) := by decide +kernel
theorem dX1_cluster_13 : decode cX1_cluster 13 = .ok (.istore 5, 2) := by decide +kernel
theorem dX1_cluster_15 : decode cX1_cluster 15 = .ok (.iload 5, 2) := by decide +kernel
theorem dX1_cluster_17 : decode cX1_cluster 17 = .ok (.ifCond .ne 7, 3) := by decide +kernel
theorem dX1_cluster_20 : decode cX1_cluster 20 = .ok (.iconst 1, 1) := by decide +kernel
theorem dX1_cluster_21 : decode cX1_cluster 21 = .ok (.goto 4, 3) := by decide +kernel
theorem dX1_cluster_24 : decode cX1_cluster 24 = .ok (.iconst 0, 1) := by decide +kernel
theorem dX1_cluster_25 : decode cX1_cluster 25 = .ok (.iload_n 2, 1) := by decide +kernel
theorem dX1_cluster_26 : decode cX1_cluster 26 = .ok (.iconst (-1), 1) := by decide +kernel
theorem dX1_cluster_27 : decode cX1_cluster 27 = .ok (.if_icmp .ne 7, 3) := by decide +kernel
theorem dX1_cluster_30 : decode cX1_cluster 30 = .ok (.iconst 1, 1) := by decide +kernel
theorem dX1_cluster_31 : decode cX1_cluster 31 = .ok (.goto 4, 3) := by decide +kernel
theorem dX1_cluster_34 : decode cX1_cluster 34 = .ok (.iconst 0, 1) := by decide +kernel
theorem dX1_cluster_35 : decode cX1_cluster 35 = .ok (.if_icmp .ne 39, 3) := by decide +kernel
theorem dX1_cluster_38 : decode cX1_cluster 38 = .ok (.iload 5, 2) := by decide +kernel
theorem dX1_cluster_40 : decode cX1_cluster 40 = .ok (.ifCond .eq 30, 3) := by decide +kernel
theorem dX1_cluster_43 : decode cX1_cluster 43 = .ok (.aload_n 0, 1) := by decide +kernel
theorem dX1_cluster_44 : decode cX1_cluster 44 = .ok (.getfield 1, 3) := by decide +kernel
theorem dX1_cluster_47 : decode cX1_cluster 47 = .ok (.getfield 39, 3) := by decide +kernel
theorem dX1_cluster_50 : decode cX1_cluster 50 = .ok (.iload 5, 2) := by decide +kernel
theorem dX1_cluster_52 : decode cX1_cluster 52 = .ok (.iaload, 1) := by decide +kernel
theorem dX1_cluster_53 : decode cX1_cluster 53 = .ok (.iconst 3, 1) := by decide +kernel
theorem dX1_cluster_54 : decode cX1_cluster 54 = .ok (.if_icmp .ne 20, 3) := by decide +kernel
theorem dX1_cluster_57 : decode cX1_cluster 57 = .ok (.aload_n 0, 1) := by decide +kernel
theorem dX1_cluster_58 : decode cX1_cluster 58 = .ok (.getfield 1, 3) := by decide +kernel
theorem dX1_cluster_61 : decode cX1_cluster 61 = .ok (.getfield 45, 3) := by decide +kernel
theorem dX1_cluster_64 : decode cX1_cluster 64 = .ok (.iload 5, 2) := by decide +kernel
theorem dX1_cluster_66 : decode cX1_cluster 66 = .ok (.iaload, 1) := by decide +kernel
theorem dX1_cluster_67 : decode cX1_cluster 67 = .ok (.ifCond .ne 7, 3) := by decide +kernel
theorem dX1_cluster_70 : decode cX1_cluster 70 = .ok (.iconst 1, 1) := by decide +kernel
theorem dX1_cluster_71 : decode cX1_cluster 71 = .ok (.goto 4, 3) := by decide +kernel
theorem dX1_cluster_74 : decode cX1_cluster 74 = .ok (.iconst 0, 1) := by decide +kernel
theorem dX1_cluster_75 : decode cX1_cluster 75 = .ok (.invokestatic 440, 3) := by decide +kernel
theorem dX1_cluster_78 : decode cX1_cluster 78 = .ok (.iload_n 2, 1) := by decide +kernel
theorem dX1_cluster_79 : decode cX1_cluster 79 = .ok (.iconst (-1), 1) := by decide +kernel
theorem dX1_cluster_80 : decode cX1_cluster 80 = .ok (.if_icmp .ne 7, 3) := by decide +kernel
theorem dX1_cluster_83 : decode cX1_cluster 83 = .ok (.iconst 0, 1) := by decide +kernel
theorem dX1_cluster_84 : decode cX1_cluster 84 = .ok (.goto 12, 3) := by decide +kernel
theorem dX1_cluster_87 : decode cX1_cluster 87 = .ok (.aload_n 0, 1) := by decide +kernel
theorem dX1_cluster_88 : decode cX1_cluster 88 = .ok (.aload_n 0, 1) := by decide +kernel
theorem dX1_cluster_89 : decode cX1_cluster 89 = .ok (.iload_n 2, 1) := by decide +kernel
theorem dX1_cluster_90 : decode cX1_cluster 90 = .ok (.invokevirtual 455, 3) := by decide +kernel
theorem dX1_cluster_93 : decode cX1_cluster 93 = .ok (.invokevirtual 478, 3) := by decide +kernel
theorem dX1_cluster_96 : decode cX1_cluster 96 = .ok (.istore 6, 2) := by decide +kernel
theorem dX1_cluster_98 : decode cX1_cluster 98 = .ok (.aload_n 0, 1) := by decide +kernel
theorem dX1_cluster_99 : decode cX1_cluster 99 = .ok (.iload_n 3, 1) := by decide +kernel
theorem dX1_cluster_100 : decode cX1_cluster 100 = .ok (.invokevirtual 469, 3) := by decide +kernel
theorem dX1_cluster_103 : decode cX1_cluster 103 = .ok (.aload_n 0, 1) := by decide +kernel
theorem dX1_cluster_104 : decode cX1_cluster 104 = .ok (.getfield 80, 3) := by decide +kernel
theorem dX1_cluster_107 : decode cX1_cluster 107 = .ok (.bipush 30, 2) := by decide +kernel
theorem dX1_cluster_109 : decode cX1_cluster 109 = .ok (.if_icmp .ge 7, 3) := by decide +kernel
theorem dX1_cluster_112 : decode cX1_cluster 112 = .ok (.iconst 1, 1) := by decide +kernel
theorem dX1_cluster_113 : decode cX1_cluster 113 = .ok (.goto 4, 3) := by decide +kernel
theorem dX1_cluster_116 : decode cX1_cluster 116 = .ok (.iconst 0, 1) := by decide +kernel
theorem dX1_cluster_117 : decode cX1_cluster 117 = .ok (.invokestatic 458, 3) := by decide +kernel
theorem dX1_cluster_120 : decode cX1_cluster 120 = .ok (.aload_n 0, 1) := by decide +kernel
theorem dX1_cluster_121 : decode cX1_cluster 121 = .ok (.iconst 0, 1) := by decide +kernel
theorem dX1_cluster_122 : decode cX1_cluster 122 = .ok (.iload 4, 2) := by decide +kernel
theorem dX1_cluster_124 : decode cX1_cluster 124 = .ok (.iload 6, 2) := by decide +kernel
theorem dX1_cluster_126 : decode cX1_cluster 126 = .ok (.iconst 0, 1) := by decide +kernel
theorem dX1_cluster_127 : decode cX1_cluster 127 = .ok (.aload_n 0, 1) := by decide +kernel
theorem dX1_cluster_128 : decode cX1_cluster 128 = .ok (.iconst 0, 1) := by decide +kernel
theorem dX1_cluster_129 : decode cX1_cluster 129 = .ok (.iconst 0, 1) := by decide +kernel
theorem dX1_cluster_130 : decode cX1_cluster 130 = .ok (.iload_n 3, 1) := by decide +kernel
theorem dX1_cluster_131 : decode cX1_cluster 131 = .ok (.invokevirtual 472, 3) := by decide +kernel
theorem dX1_cluster_134 : decode cX1_cluster 134 = .ok (.invokevirtual 510, 3) := by decide +kernel
theorem dX1_cluster_137 : decode cX1_cluster 137 = .ok (.ireturn, 1) := by decide +kernel
abbrev cX1_argOf : ByteArray := prog_1_method_3_code
def yX1_argOf : MethodName := ⟨RX1, "argOf", "(I)I"⟩
theorem dX1_argOf_0 : decode cX1_argOf 0 = .ok (.aload_n 0, 1) := by decide +kernel
theorem dX1_argOf_1 : decode cX1_argOf 1 = .ok (.getfield 1, 3) := by decide +kernel
theorem dX1_argOf_4 : decode cX1_argOf 4 = .ok (.iload_n 1, 1) := by decide +kernel
theorem dX1_argOf_5 : decode cX1_argOf 5 = .ok (.iconst 0, 1) := by decide +kernel
theorem dX1_argOf_6 : decode cX1_argOf 6 = .ok (.invokevirtual 28, 3) := by decide +kernel
theorem dX1_argOf_9 : decode cX1_argOf 9 = .ok (.ireturn, 1) := by decide +kernel
abbrev cX1_register : ByteArray := prog_1_method_83_code
def yX1_register : MethodName := ⟨RX1, "register", "(IIIII)I"⟩
theorem dX1_register_0 : decode cX1_register 0 = .ok (.aload_n 0, 1) := by decide +kernel
theorem dX1_register_1 : decode cX1_register 1 = .ok (.getfield 80, 3) := by decide +kernel
theorem dX1_register_4 : decode cX1_register 4 = .ok (.bipush 30, 2) := by decide +kernel
theorem dX1_register_6 : decode cX1_register 6 = .ok (.if_icmp .ge 7, 3) := by decide +kernel
theorem dX1_register_9 : decode cX1_register 9 = .ok (.iconst 1, 1) := by decide +kernel
theorem dX1_register_10 : decode cX1_register 10 = .ok (.goto 4, 3) := by decide +kernel
theorem dX1_register_13 : decode cX1_register 13 = .ok (.iconst 0, 1) := by decide +kernel
theorem dX1_register_14 : decode cX1_register 14 = .ok (.invokestatic 458, 3) := by decide +kernel
theorem dX1_register_17 : decode cX1_register 17 = .ok (.aload_n 0, 1) := by decide +kernel
theorem dX1_register_18 : decode cX1_register 18 = .ok (.getfield 83, 3) := by decide +kernel
theorem dX1_register_21 : decode cX1_register 21 = .ok (.aload_n 0, 1) := by decide +kernel
theorem dX1_register_22 : decode cX1_register 22 = .ok (.getfield 80, 3) := by decide +kernel
theorem dX1_register_25 : decode cX1_register 25 = .ok (.iload_n 1, 1) := by decide +kernel
theorem dX1_register_26 : decode cX1_register 26 = .ok (.iastore, 1) := by decide +kernel
theorem dX1_register_27 : decode cX1_register 27 = .ok (.aload_n 0, 1) := by decide +kernel
theorem dX1_register_28 : decode cX1_register 28 = .ok (.getfield 86, 3) := by decide +kernel
theorem dX1_register_31 : decode cX1_register 31 = .ok (.aload_n 0, 1) := by decide +kernel
theorem dX1_register_32 : decode cX1_register 32 = .ok (.getfield 80, 3) := by decide +kernel
theorem dX1_register_35 : decode cX1_register 35 = .ok (.iload_n 2, 1) := by decide +kernel
theorem dX1_register_36 : decode cX1_register 36 = .ok (.iastore, 1) := by decide +kernel
theorem dX1_register_37 : decode cX1_register 37 = .ok (.aload_n 0, 1) := by decide +kernel
theorem dX1_register_38 : decode cX1_register 38 = .ok (.getfield 89, 3) := by decide +kernel
theorem dX1_register_41 : decode cX1_register 41 = .ok (.aload_n 0, 1) := by decide +kernel
theorem dX1_register_42 : decode cX1_register 42 = .ok (.getfield 80, 3) := by decide +kernel
theorem dX1_register_45 : decode cX1_register 45 = .ok (.iload_n 3, 1) := by decide +kernel
theorem dX1_register_46 : decode cX1_register 46 = .ok (.iastore, 1) := by decide +kernel
theorem dX1_register_47 : decode cX1_register 47 = .ok (.aload_n 0, 1) := by decide +kernel
theorem dX1_register_48 : decode cX1_register 48 = .ok (.getfield 95, 3) := by decide +kernel
theorem dX1_register_51 : decode cX1_register 51 = .ok (.aload_n 0, 1) := by decide +kernel
theorem dX1_register_52 : decode cX1_register 52 = .ok (.getfield 80, 3) := by decide +kernel
theorem dX1_register_55 : decode cX1_register 55 = .ok (.iload 4, 2) := by decide +kernel
theorem dX1_register_57 : decode cX1_register 57 = .ok (.iastore, 1) := by decide +kernel
theorem dX1_register_58 : decode cX1_register 58 = .ok (.aload_n 0, 1) := by decide +kernel
theorem dX1_register_59 : decode cX1_register 59 = .ok (.getfield 98, 3) := by decide +kernel
theorem dX1_register_62 : decode cX1_register 62 = .ok (.aload_n 0, 1) := by decide +kernel
theorem dX1_register_63 : decode cX1_register 63 = .ok (.getfield 80, 3) := by decide +kernel
theorem dX1_register_66 : decode cX1_register 66 = .ok (.iload 5, 2) := by decide +kernel
theorem dX1_register_68 : decode cX1_register 68 = .ok (.iastore, 1) := by decide +kernel
theorem dX1_register_69 : decode cX1_register 69 = .ok (.aload_n 0, 1) := by decide +kernel
theorem dX1_register_70 : decode cX1_register 70 = .ok (.dup, 1) := by decide +kernel
theorem dX1_register_71 : decode cX1_register 71 = .ok (.getfield 80, 3) := by decide +kernel
theorem dX1_register_74 : decode cX1_register 74 = .ok (.iconst 1, 1) := by decide +kernel
theorem dX1_register_75 : decode cX1_register 75 = .ok (.iadd, 1) := by decide +kernel
theorem dX1_register_76 : decode cX1_register 76 = .ok (.putfield 80, 3) := by decide +kernel
theorem dX1_register_79 : decode cX1_register 79 = .ok (.aload_n 0, 1) := by decide +kernel
theorem dX1_register_80 : decode cX1_register 80 = .ok (.dup, 1) := by decide +kernel
theorem dX1_register_81 : decode cX1_register 81 = .ok (.getfield 71, 3) := by decide +kernel
theorem dX1_register_84 : decode cX1_register 84 = .ok (.iconst 1, 1) := by decide +kernel
theorem dX1_register_85 : decode cX1_register 85 = .ok (.iadd, 1) := by decide +kernel
theorem dX1_register_86 : decode cX1_register 86 = .ok (.putfield 71, 3) := by decide +kernel
theorem dX1_register_89 : decode cX1_register 89 = .ok (.aload_n 0, 1) := by decide +kernel
theorem dX1_register_90 : decode cX1_register 90 = .ok (.getfield 80, 3) := by decide +kernel
theorem dX1_register_93 : decode cX1_register 93 = .ok (.iconst 1, 1) := by decide +kernel
theorem dX1_register_94 : decode cX1_register 94 = .ok (.isub, 1) := by decide +kernel
theorem dX1_register_95 : decode cX1_register 95 = .ok (.ireturn, 1) := by decide +kernel
abbrev cX1_gives : ByteArray := prog_1_method_86_code
def yX1_gives : MethodName := ⟨RX1, "gives", "(IIII)I"⟩
theorem dX1_gives_0 : decode cX1_gives 0 = .ok (.iload_n 1, 1) := by decide +kernel
