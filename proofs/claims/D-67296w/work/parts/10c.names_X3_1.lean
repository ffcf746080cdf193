set_option maxRecDepth 100000
/-! RoundCheckModel -/
def RX3 : String := "RoundCheckModel"
def TX3 : u_T := fun k => match k with
  | 0 => ("RoundCheckModel", "thrown", "I", false)
  | 1 => ("RoundCheckModel", "kind", "[I", false)
  | 2 => ("RoundCheckModel", "at", "[I", false)
  | 3 => ("RoundCheckModel", "len", "[I", false)
  | 4 => ("RoundCheckModel", "size", "[I", false)
  | 5 => ("RoundCheckModel", "loose", "[I", false)
  | 6 => ("RoundCheckModel", "nextNode", "[I", false)
  | 7 => ("RoundCheckModel", "hashOf", "[I", false)
  | 8 => ("RoundCheckModel", "nodes", "I", false)
  | 9 => ("RoundCheckModel", "data", "[I", false)
  | 10 => ("RoundCheckModel", "dataTop", "I", false)
  | 11 => ("RoundCheckModel", "nodeHead", "[I", true)
  | 12 => ("RoundCheckModel", "hand", "[I", false)
  | 13 => ("RoundCheckModel", "hands", "I", false)
  | 14 => ("RoundCheckModel", "fromConst", "[I", false)
  | 15 => ("RoundCheckModel", "toTerm", "[I", false)
  | 16 => ("RoundCheckModel", "moves", "I", false)
  | 17 => ("RoundCheckModel", "cName", "[I", false)
  | 18 => ("RoundCheckModel", "cType", "[I", false)
  | 19 => ("RoundCheckModel", "constants", "I", false)
  | 20 => ("RoundCheckModel", "funMany", "[I", true)
  | 21 => ("RoundCheckModel", "funType", "[I", true)
  | 22 => ("RoundCheckModel", "funs", "I", false)
  | 23 => ("RoundCheckModel", "predMany", "[I", true)
  | 24 => ("RoundCheckModel", "preds", "I", false)
  | 25 => ("RoundCheckModel", "modeParent", "[I", true)
  | 26 => ("RoundCheckModel", "modeIsOf", "[Z", true)
  | 27 => ("RoundCheckModel", "modes", "I", false)
  | 28 => ("RoundCheckModel", "attrs", "I", false)
  | 29 => ("RoundCheckModel", "gKind", "[I", true)
  | 30 => ("RoundCheckModel", "gType", "[I", true)
  | 31 => ("RoundCheckModel", "gOf", "[I", true)
  | 32 => ("RoundCheckModel", "gFun", "[I", true)
  | 33 => ("RoundCheckModel", "gA", "[I", true)
  | 34 => ("RoundCheckModel", "gB", "[I", true)
  | 35 => ("RoundCheckModel", "gSet", "[I", true)
  | 36 => ("RoundCheckModel", "gTo", "[I", true)
  | 37 => ("RoundCheckModel", "regs", "I", false)
  | 38 => ("RoundCheckModel", "memo", "[I", false)
  | 39 => ("RoundCheckModel", "memoMark", "[I", false)
  | 40 => ("RoundCheckModel", "memoNow", "I", false)
  | 41 => ("RoundCheckModel", "wanted", "[I", false)
  | 42 => ("RoundCheckModel", "wants", "I", false)
  | 43 => ("RoundCheckModel", "qKind", "[I", false)
  | 44 => ("RoundCheckModel", "qFirst", "[I", false)
  | 45 => ("RoundCheckModel", "qNext", "[I", false)
  | 46 => ("RoundCheckModel", "qLeaf", "[I", false)
  | 47 => ("RoundCheckModel", "qCases", "[J", false)
  | 48 => ("RoundCheckModel", "qs", "I", false)
  | 49 => ("RoundCheckModel", "known", "[I", false)
  | 50 => ("RoundCheckModel", "knowns", "I", false)
  | 51 => ("RoundCheckModel", "knownMark", "[I", false)
  | 52 => ("RoundCheckModel", "termMark", "[I", false)
  | 53 => ("RoundCheckModel", "termIndex", "[I", false)
  | 54 => ("RoundCheckModel", "stamp", "I", false)
  | 55 => ("RoundCheckModel", "terms", "[I", false)
  | 56 => ("RoundCheckModel", "root", "[I", false)
  | 57 => ("RoundCheckModel", "hand100", "I", false)
  | 58 => ("RoundCheckModel", "firsts", "I", false)
  | 59 => ("RoundCheckModel", "mTerm", "[I", false)
  | 60 => ("RoundCheckModel", "mMode", "[I", false)
  | 61 => ("RoundCheckModel", "mOf", "[I", false)
  | 62 => ("RoundCheckModel", "mTop", "I", false)
  | 63 => ("RoundCheckModel", "aTermOf", "[I", false)
  | 64 => ("RoundCheckModel", "aAdj", "[I", false)
  | 65 => ("RoundCheckModel", "aTop", "I", false)
  | 66 => ("RoundCheckModel", "changed", "Z", false)
  | 67 => ("RoundCheckModel", "knownSeen", "I", false)
  | 68 => ("RoundCheckModel", "termSeen", "I", false)
  | 69 => ("RoundCheckModel", "newTerm", "[I", false)
  | 70 => ("RoundCheckModel", "news", "I", false)
  | 71 => ("RoundCheckModel", "loses", "Z", false)
  | 72 => ("RoundCheckModel", "meets", "Z", false)
  | 73 => ("RoundCheckModel", "coming", "[I", false)
  | 74 => ("RoundCheckModel", "comingMark", "[I", false)
  | 75 => ("RoundCheckModel", "comings", "I", false)
  | 76 => ("RoundCheckModel", "comingNow", "I", false)
  | 77 => ("RoundCheckModel", "doneMark", "[I", false)
  | 78 => ("RoundCheckModel", "forms", "[I", true)
  | 79 => ("RoundCheckModel", "given", "I", false)
  | 80 => ("RoundCheckModel", "premise", "[I", true)
  | 81 => ("RoundCheckModel", "premises", "I", false)
  | _ => ("RoundCheckModel", "lastCases", "I", false)
def tyX3 : Nat → FieldType := fun k => match k with
  | 0 => .int
  | 1 => .array .int
  | 2 => .array .int
  | 3 => .array .int
  | 4 => .array .int
  | 5 => .array .int
  | 6 => .array .int
  | 7 => .array .int
  | 8 => .int
  | 9 => .array .int
  | 10 => .int
  | 11 => .array .int
  | 12 => .array .int
  | 13 => .int
  | 14 => .array .int
  | 15 => .array .int
  | 16 => .int
  | 17 => .array .int
  | 18 => .array .int
  | 19 => .int
  | 20 => .array .int
  | 21 => .array .int
  | 22 => .int
  | 23 => .array .int
  | 24 => .int
  | 25 => .array .int
  | 26 => .array .boolean
  | 27 => .int
  | 28 => .int
  | 29 => .array .int
  | 30 => .array .int
  | 31 => .array .int
  | 32 => .array .int
  | 33 => .array .int
  | 34 => .array .int
  | 35 => .array .int
  | 36 => .array .int
  | 37 => .int
  | 38 => .array .int
  | 39 => .array .int
  | 40 => .int
  | 41 => .array .int
  | 42 => .int
  | 43 => .array .int
  | 44 => .array .int
  | 45 => .array .int
  | 46 => .array .int
  | 47 => .array .long
  | 48 => .int
  | 49 => .array .int
  | 50 => .int
  | 51 => .array .int
  | 52 => .array .int
  | 53 => .array .int
  | 54 => .int
  | 55 => .array .int
  | 56 => .array .int
  | 57 => .int
  | 58 => .int
  | 59 => .array .int
  | 60 => .array .int
  | 61 => .array .int
  | 62 => .int
  | 63 => .array .int
  | 64 => .array .int
  | 65 => .int
  | 66 => .boolean
  | 67 => .int
  | 68 => .int
  | 69 => .array .int
  | 70 => .int
  | 71 => .boolean
  | 72 => .boolean
  | 73 => .array .int
  | 74 => .array .int
  | 75 => .int
  | 76 => .int
  | 77 => .array .int
  | 78 => .array .int
  | 79 => .int
  | 80 => .array .int
  | 81 => .int
  | _ => .int
abbrev wsX30 : List Cond := u_ws RX3 TX3 83
theorem nmX3 : ∀ a, a < 83 → ∀ b, b < 83 → a ≠ b → (TX3 a).2.1 ≠ (TX3 b).2.1 := by decide +kernel
theorem tyX3_ok : ∀ k, k < 83 → parseFieldDescriptor (TX3 k).2.2.1 = some (tyX3 k) := by decide +kernel
abbrev cX3_thrown : ByteArray := prog_4_method_1_code
def yX3_thrown : MethodName := ⟨RX3, "thrown", "()I"⟩
theorem dX3_thrown_0 : decode cX3_thrown 0 = .ok (.aload_n 0, 1) := by decide +kernel
theorem dX3_thrown_1 : decode cX3_thrown 1 = .ok (.getfield 1, 3) := by decide +kernel
theorem dX3_thrown_4 : decode cX3_thrown 4 = .ok (.ireturn, 1) := by decide +kernel
abbrev cX3_init : ByteArray := prog_4_method_86_code
def yX3_init : MethodName := ⟨RX3, "<init>", "()V"⟩
theorem dX3_init_0 : decode cX3_init 0 = .ok (.aload_n 0, 1) := by decide +kernel
theorem dX3_init_1 : decode cX3_init 1 = .ok (.invokespecial 499, 3) := by decide +kernel
theorem dX3_init_4 : decode cX3_init 4 = .ok (.aload_n 0, 1) := by decide +kernel
theorem dX3_init_5 : decode cX3_init 5 = .ok (.sipush 8192, 3) := by decide +kernel
theorem dX3_init_8 : decode cX3_init 8 = .ok (.newarray .int, 2) := by decide +kernel
theorem dX3_init_10 : decode cX3_init 10 = .ok (.putfield 33, 3) := by decide +kernel
theorem dX3_init_13 : decode cX3_init 13 = .ok (.aload_n 0, 1) := by decide +kernel
theorem dX3_init_14 : decode cX3_init 14 = .ok (.sipush 8192, 3) := by decide +kernel
theorem dX3_init_17 : decode cX3_init 17 = .ok (.newarray .int, 2) := by decide +kernel
theorem dX3_init_19 : decode cX3_init 19 = .ok (.putfield 27, 3) := by decide +kernel
theorem dX3_init_22 : decode cX3_init 22 = .ok (.aload_n 0, 1) := by decide +kernel
theorem dX3_init_23 : decode cX3_init 23 = .ok (.sipush 8192, 3) := by decide +kernel
theorem dX3_init_26 : decode cX3_init 26 = .ok (.newarray .int, 2) := by decide +kernel
theorem dX3_init_28 : decode cX3_init 28 = .ok (.putfield 36, 3) := by decide +kernel
theorem dX3_init_31 : decode cX3_init 31 = .ok (.aload_n 0, 1) := by decide +kernel
theorem dX3_init_32 : decode cX3_init 32 = .ok (.sipush 8192, 3) := by decide +kernel
theorem dX3_init_35 : decode cX3_init 35 = .ok (.newarray .int, 2) := by decide +kernel
theorem dX3_init_37 : decode cX3_init 37 = .ok (.putfield 45, 3) := by decide +kernel
theorem dX3_init_40 : decode cX3_init 40 = .ok (.aload_n 0, 1) := by decide +kernel
theorem dX3_init_41 : decode cX3_init 41 = .ok (.sipush 8192, 3) := by decide +kernel
theorem dX3_init_44 : decode cX3_init 44 = .ok (.newarray .int, 2) := by decide +kernel
theorem dX3_init_46 : decode cX3_init 46 = .ok (.putfield 48, 3) := by decide +kernel
theorem dX3_init_49 : decode cX3_init 49 = .ok (.aload_n 0, 1) := by decide +kernel
theorem dX3_init_50 : decode cX3_init 50 = .ok (.sipush 8192, 3) := by decide +kernel
theorem dX3_init_53 : decode cX3_init 53 = .ok (.newarray .int, 2) := by decide +kernel
theorem dX3_init_55 : decode cX3_init 55 = .ok (.putfield 39, 3) := by decide +kernel
theorem dX3_init_58 : decode cX3_init 58 = .ok (.aload_n 0, 1) := by decide +kernel
theorem dX3_init_59 : decode cX3_init 59 = .ok (.sipush 8192, 3) := by decide +kernel
theorem dX3_init_62 : decode cX3_init 62 = .ok (.newarray .int, 2) := by decide +kernel
theorem dX3_init_64 : decode cX3_init 64 = .ok (.putfield 51, 3) := by decide +kernel
theorem dX3_init_67 : decode cX3_init 67 = .ok (.aload_n 0, 1) := by decide +kernel
theorem dX3_init_68 : decode cX3_init 68 = .ok (.ldc_w 504, 3) := by decide +kernel
theorem dX3_init_71 : decode cX3_init 71 = .ok (.newarray .int, 2) := by decide +kernel
theorem dX3_init_73 : decode cX3_init 73 = .ok (.putfield 24, 3) := by decide +kernel
theorem dX3_init_76 : decode cX3_init 76 = .ok (.aload_n 0, 1) := by decide +kernel
theorem dX3_init_77 : decode cX3_init 77 = .ok (.sipush 8192, 3) := by decide +kernel
theorem dX3_init_80 : decode cX3_init 80 = .ok (.newarray .int, 2) := by decide +kernel
theorem dX3_init_82 : decode cX3_init 82 = .ok (.putfield 30, 3) := by decide +kernel
theorem dX3_init_85 : decode cX3_init 85 = .ok (.aload_n 0, 1) := by decide +kernel
theorem dX3_init_86 : decode cX3_init 86 = .ok (.sipush 1024, 3) := by decide +kernel
theorem dX3_init_89 : decode cX3_init 89 = .ok (.newarray .int, 2) := by decide +kernel
theorem dX3_init_91 : decode cX3_init 91 = .ok (.putfield 13, 3) := by decide +kernel
theorem dX3_init_94 : decode cX3_init 94 = .ok (.aload_n 0, 1) := by decide +kernel
theorem dX3_init_95 : decode cX3_init 95 = .ok (.bipush 16, 2) := by decide +kernel
theorem dX3_init_97 : decode cX3_init 97 = .ok (.newarray .int, 2) := by decide +kernel
theorem dX3_init_99 : decode cX3_init 99 = .ok (.putfield 130, 3) := by decide +kernel
theorem dX3_init_102 : decode cX3_init 102 = .ok (.aload_n 0, 1) := by decide +kernel
theorem dX3_init_103 : decode cX3_init 103 = .ok (.bipush 16, 2) := by decide +kernel
theorem dX3_init_105 : decode cX3_init 105 = .ok (.newarray .int, 2) := by decide +kernel
theorem dX3_init_107 : decode cX3_init 107 = .ok (.putfield 133, 3) := by decide +kernel
theorem dX3_init_110 : decode cX3_init 110 = .ok (.aload_n 0, 1) := by decide +kernel
theorem dX3_init_111 : decode cX3_init 111 = .ok (.sipush 256, 3) := by decide +kernel
theorem dX3_init_114 : decode cX3_init 114 = .ok (.newarray .int, 2) := by decide +kernel
theorem dX3_init_116 : decode cX3_init 116 = .ok (.putfield 139, 3) := by decide +kernel
theorem dX3_init_119 : decode cX3_init 119 = .ok (.aload_n 0, 1) := by decide +kernel
theorem dX3_init_120 : decode cX3_init 120 = .ok (.sipush 256, 3) := by decide +kernel
theorem dX3_init_123 : decode cX3_init 123 = .ok (.newarray .int, 2) := by decide +kernel
theorem dX3_init_125 : decode cX3_init 125 = .ok (.putfield 145, 3) := by decide +kernel
theorem dX3_init_128 : decode cX3_init 128 = .ok (.aload_n 0, 1) := by decide +kernel
theorem dX3_init_129 : decode cX3_init 129 = .ok (.bipush 30, 2) := by decide +kernel
theorem dX3_init_131 : decode cX3_init 131 = .ok (.newarray .int, 2) := by decide +kernel
theorem dX3_init_133 : decode cX3_init 133 = .ok (.putfield 505, 3) := by decide +kernel
theorem dX3_init_136 : decode cX3_init 136 = .ok (.aload_n 0, 1) := by decide +kernel
theorem dX3_init_137 : decode cX3_init 137 = .ok (.bipush 30, 2) := by decide +kernel
theorem dX3_init_139 : decode cX3_init 139 = .ok (.newarray .int, 2) := by decide +kernel
theorem dX3_init_141 : decode cX3_init 141 = .ok (.putfield 151, 3) := by decide +kernel
theorem dX3_init_144 : decode cX3_init 144 = .ok (.aload_n 0, 1) := by decide +kernel
theorem dX3_init_145 : decode cX3_init 145 = .ok (.bipush 10, 2) := by decide +kernel
theorem dX3_init_147 : decode cX3_init 147 = .ok (.newarray .int, 2) := by decide +kernel
theorem dX3_init_149 : decode cX3_init 149 = .ok (.putfield 508, 3) := by decide +kernel
theorem dX3_init_152 : decode cX3_init 152 = .ok (.aload_n 0, 1) := by decide +kernel
theorem dX3_init_153 : decode cX3_init 153 = .ok (.bipush 24, 2) := by decide +kernel
theorem dX3_init_155 : decode cX3_init 155 = .ok (.newarray .int, 2) := by decide +kernel
theorem dX3_init_157 : decode cX3_init 157 = .ok (.putfield 156, 3) := by decide +kernel
theorem dX3_init_160 : decode cX3_init 160 = .ok (.aload_n 0, 1) := by decide +kernel
theorem dX3_init_161 : decode cX3_init 161 = .ok (.bipush 24, 2) := by decide +kernel
theorem dX3_init_163 : decode cX3_init 163 = .ok (.newarray .boolean, 2) := by decide +kernel
theorem dX3_init_165 : decode cX3_init 165 = .ok (.putfield 511, 3) := by decide +kernel
theorem dX3_init_168 : decode cX3_init 168 = .ok (.aload_n 0, 1) := by decide +kernel
theorem dX3_init_169 : decode cX3_init 169 = .ok (.iconst 1, 1) := by decide +kernel
theorem dX3_init_170 : decode cX3_init 170 = .ok (.putfield 515, 3) := by decide +kernel
theorem dX3_init_173 : decode cX3_init 173 = .ok (.aload_n 0, 1) := by decide +kernel
theorem dX3_init_174 : decode cX3_init 174 = .ok (.bipush 30, 2) := by decide +kernel
theorem dX3_init_176 : decode cX3_init 176 = .ok (.newarray .int, 2) := by decide +kernel
theorem dX3_init_178 : decode cX3_init 178 = .ok (.putfield 199, 3) := by decide +kernel
theorem dX3_init_181 : decode cX3_init 181 = .ok (.aload_n 0, 1) := by decide +kernel
theorem dX3_init_182 : decode cX3_init 182 = .ok (.bipush 30, 2) := by decide +kernel
theorem dX3_init_184 : decode cX3_init 184 = .ok (.newarray .int, 2) := by decide +kernel
theorem dX3_init_186 : decode cX3_init 186 = .ok (.putfield 211, 3) := by decide +kernel
theorem dX3_init_189 : decode cX3_init 189 = .ok (.aload_n 0, 1) := by decide +kernel
theorem dX3_init_190 : decode cX3_init 190 = .ok (.bipush 30, 2) := by decide +kernel
theorem dX3_init_192 : decode cX3_init 192 = .ok (.newarray .int, 2) := by decide +kernel
theorem dX3_init_194 : decode cX3_init 194 = .ok (.putfield 217, 3) := by decide +kernel
theorem dX3_init_197 : decode cX3_init 197 = .ok (.aload_n 0, 1) := by decide +kernel
theorem dX3_init_198 : decode cX3_init 198 = .ok (.bipush 30, 2) := by decide +kernel
theorem dX3_init_200 : decode cX3_init 200 = .ok (.newarray .int, 2) := by decide +kernel
theorem dX3_init_202 : decode cX3_init 202 = .ok (.putfield 202, 3) := by decide +kernel
theorem dX3_init_205 : decode cX3_init 205 = .ok (.aload_n 0, 1) := by decide +kernel
theorem dX3_init_206 : decode cX3_init 206 = .ok (.bipush 30, 2) := by decide +kernel
theorem dX3_init_208 : decode cX3_init 208 = .ok (.newarray .int, 2) := by decide +kernel
theorem dX3_init_210 : decode cX3_init 210 = .ok (.putfield 224, 3) := by decide +kernel
theorem dX3_init_213 : decode cX3_init 213 = .ok (.aload_n 0, 1) := by decide +kernel
theorem dX3_init_214 : decode cX3_init 214 = .ok (.bipush 30, 2) := by decide +kernel
theorem dX3_init_216 : decode cX3_init 216 = .ok (.newarray .int, 2) := by decide +kernel
theorem dX3_init_218 : decode cX3_init 218 = .ok (.putfield 227, 3) := by decide +kernel
theorem dX3_init_221 : decode cX3_init 221 = .ok (.aload_n 0, 1) := by decide +kernel
theorem dX3_init_222 : decode cX3_init 222 = .ok (.bipush 30, 2) := by decide +kernel
theorem dX3_init_224 : decode cX3_init 224 = .ok (.newarray .int, 2) := by decide +kernel
theorem dX3_init_226 : decode cX3_init 226 = .ok (.putfield 208, 3) := by decide +kernel
theorem dX3_init_229 : decode cX3_init 229 = .ok (.aload_n 0, 1) := by decide +kernel
theorem dX3_init_230 : decode cX3_init 230 = .ok (.bipush 30, 2) := by decide +kernel
theorem dX3_init_232 : decode cX3_init 232 = .ok (.newarray .int, 2) := by decide +kernel
theorem dX3_init_234 : decode cX3_init 234 = .ok (.putfield 493, 3) := by decide +kernel
theorem dX3_init_237 : decode cX3_init 237 = .ok (.aload_n 0, 1) := by decide +kernel
theorem dX3_init_238 : decode cX3_init 238 = .ok (.sipush 1024, 3) := by decide +kernel
theorem dX3_init_241 : decode cX3_init 241 = .ok (.newarray .int, 2) := by decide +kernel
theorem dX3_init_243 : decode cX3_init 243 = .ok (.putfield 187, 3) := by decide +kernel
theorem dX3_init_246 : decode cX3_init 246 = .ok (.aload_n 0, 1) := by decide +kernel
theorem dX3_init_247 : decode cX3_init 247 = .ok (.sipush 1024, 3) := by decide +kernel
theorem dX3_init_250 : decode cX3_init 250 = .ok (.newarray .int, 2) := by decide +kernel
theorem dX3_init_252 : decode cX3_init 252 = .ok (.putfield 169, 3) := by decide +kernel
theorem dX3_init_255 : decode cX3_init 255 = .ok (.aload_n 0, 1) := by decide +kernel
theorem dX3_init_256 : decode cX3_init 256 = .ok (.iconst 1, 1) := by decide +kernel
theorem dX3_init_257 : decode cX3_init 257 = .ok (.putfield 165, 3) := by decide +kernel
theorem dX3_init_260 : decode cX3_init 260 = .ok (.aload_n 0, 1) := by decide +kernel
theorem dX3_init_261 : decode cX3_init 261 = .ok (.bipush 64, 2) := by decide +kernel
theorem dX3_init_263 : decode cX3_init 263 = .ok (.newarray .int, 2) := by decide +kernel
theorem dX3_init_265 : decode cX3_init 265 = .ok (.putfield 176, 3) := by decide +kernel
theorem dX3_init_268 : decode cX3_init 268 = .ok (.aload_n 0, 1) := by decide +kernel
theorem dX3_init_269 : decode cX3_init 269 = .ok (.sipush 256, 3) := by decide +kernel
theorem dX3_init_272 : decode cX3_init 272 = .ok (.newarray .int, 2) := by decide +kernel
theorem dX3_init_274 : decode cX3_init 274 = .ok (.putfield 239, 3) := by decide +kernel
theorem dX3_init_277 : decode cX3_init 277 = .ok (.aload_n 0, 1) := by decide +kernel
theorem dX3_init_278 : decode cX3_init 278 = .ok (.sipush 256, 3) := by decide +kernel
theorem dX3_init_281 : decode cX3_init 281 = .ok (.newarray .int, 2) := by decide +kernel
theorem dX3_init_283 : decode cX3_init 283 = .ok (.putfield 242, 3) := by decide +kernel
theorem dX3_init_286 : decode cX3_init 286 = .ok (.aload_n 0, 1) := by decide +kernel
theorem dX3_init_287 : decode cX3_init 287 = .ok (.sipush 256, 3) := by decide +kernel
theorem dX3_init_290 : decode cX3_init 290 = .ok (.newarray .int, 2) := by decide +kernel
theorem dX3_init_292 : decode cX3_init 292 = .ok (.putfield 245, 3) := by decide +kernel
theorem dX3_init_295 : decode cX3_init 295 = .ok (.aload_n 0, 1) := by decide +kernel
theorem dX3_init_296 : decode cX3_init 296 = .ok (.sipush 256, 3) := by decide +kernel
theorem dX3_init_299 : decode cX3_init 299 = .ok (.newarray .int, 2) := by decide +kernel
theorem dX3_init_301 : decode cX3_init 301 = .ok (.putfield 248, 3) := by decide +kernel
theorem dX3_init_304 : decode cX3_init 304 = .ok (.aload_n 0, 1) := by decide +kernel
theorem dX3_init_305 : decode cX3_init 305 = .ok (.sipush 256, 3) := by decide +kernel
theorem dX3_init_308 : decode cX3_init 308 = .ok (.newarray .long, 2) := by decide +kernel
theorem dX3_init_310 : decode cX3_init 310 = .ok (.putfield 251, 3) := by decide +kernel
theorem dX3_init_313 : decode cX3_init 313 = .ok (.aload_n 0, 1) := by decide +kernel
theorem dX3_init_314 : decode cX3_init 314 = .ok (.sipush 320, 3) := by decide +kernel
theorem dX3_init_317 : decode cX3_init 317 = .ok (.newarray .int, 2) := by decide +kernel
theorem dX3_init_319 : decode cX3_init 319 = .ok (.putfield 310, 3) := by decide +kernel
theorem dX3_init_322 : decode cX3_init 322 = .ok (.aload_n 0, 1) := by decide +kernel
theorem dX3_init_323 : decode cX3_init 323 = .ok (.sipush 8192, 3) := by decide +kernel
theorem dX3_init_326 : decode cX3_init 326 = .ok (.newarray .int, 2) := by decide +kernel
theorem dX3_init_328 : decode cX3_init 328 = .ok (.putfield 304, 3) := by decide +kernel
theorem dX3_init_331 : decode cX3_init 331 = .ok (.aload_n 0, 1) := by decide +kernel
theorem dX3_init_332 : decode cX3_init 332 = .ok (.sipush 8192, 3) := by decide +kernel
theorem dX3_init_335 : decode cX3_init 335 = .ok (.newarray .int, 2) := by decide +kernel
theorem dX3_init_337 : decode cX3_init 337 = .ok (.putfield 316, 3) := by decide +kernel
theorem dX3_init_340 : decode cX3_init 340 = .ok (.aload_n 0, 1) := by decide +kernel
theorem dX3_init_341 : decode cX3_init 341 = .ok (.sipush 8192, 3) := by decide +kernel
theorem dX3_init_344 : decode cX3_init 344 = .ok (.newarray .int, 2) := by decide +kernel
theorem dX3_init_346 : decode cX3_init 346 = .ok (.putfield 319, 3) := by decide +kernel
theorem dX3_init_349 : decode cX3_init 349 = .ok (.aload_n 0, 1) := by decide +kernel
theorem dX3_init_350 : decode cX3_init 350 = .ok (.sipush 128, 3) := by decide +kernel
theorem dX3_init_353 : decode cX3_init 353 = .ok (.newarray .int, 2) := by decide +kernel
theorem dX3_init_355 : decode cX3_init 355 = .ok (.putfield 344, 3) := by decide +kernel
theorem dX3_init_358 : decode cX3_init 358 = .ok (.aload_n 0, 1) := by decide +kernel
theorem dX3_init_359 : decode cX3_init 359 = .ok (.sipush 128, 3) := by decide +kernel
theorem dX3_init_362 : decode cX3_init 362 = .ok (.newarray .int, 2) := by decide +kernel
theorem dX3_init_364 : decode cX3_init 364 = .ok (.putfield 322, 3) := by decide +kernel
theorem dX3_init_367 : decode cX3_init 367 = .ok (.aload_n 0, 1) := by decide +kernel
theorem dX3_init_368 : decode cX3_init 368 = .ok (.sipush 256, 3) := by decide +kernel
theorem dX3_init_371 : decode cX3_init 371 = .ok (.newarray .int, 2) := by decide +kernel
theorem dX3_init_373 : decode cX3_init 373 = .ok (.putfield 352, 3) := by decide +kernel
theorem dX3_init_376 : decode cX3_init 376 = .ok (.aload_n 0, 1) := by decide +kernel
theorem dX3_init_377 : decode cX3_init 377 = .ok (.sipush 256, 3) := by decide +kernel
theorem dX3_init_380 : decode cX3_init 380 = .ok (.newarray .int, 2) := by decide +kernel
theorem dX3_init_382 : decode cX3_init 382 = .ok (.putfield 349, 3) := by decide +kernel
theorem dX3_init_385 : decode cX3_init 385 = .ok (.aload_n 0, 1) := by decide +kernel
theorem dX3_init_386 : decode cX3_init 386 = .ok (.sipush 256, 3) := by decide +kernel
theorem dX3_init_389 : decode cX3_init 389 = .ok (.newarray .int, 2) := by decide +kernel
theorem dX3_init_391 : decode cX3_init 391 = .ok (.putfield 355, 3) := by decide +kernel
theorem dX3_init_394 : decode cX3_init 394 = .ok (.aload_n 0, 1) := by decide +kernel
theorem dX3_init_395 : decode cX3_init 395 = .ok (.sipush 256, 3) := by decide +kernel
theorem dX3_init_398 : decode cX3_init 398 = .ok (.newarray .int, 2) := by decide +kernel
theorem dX3_init_400 : decode cX3_init 400 = .ok (.putfield 367, 3) := by decide +kernel
theorem dX3_init_403 : decode cX3_init 403 = .ok (.aload_n 0, 1) := by decide +kernel
theorem dX3_init_404 : decode cX3_init 404 = .ok (.sipush 256, 3) := by decide +kernel
theorem dX3_init_407 : decode cX3_init 407 = .ok (.newarray .int, 2) := by decide +kernel
theorem dX3_init_409 : decode cX3_init 409 = .ok (.putfield 364, 3) := by decide +kernel
theorem dX3_init_412 : decode cX3_init 412 = .ok (.aload_n 0, 1) := by decide +kernel
theorem dX3_init_413 : decode cX3_init 413 = .ok (.bipush 64, 2) := by decide +kernel
theorem dX3_init_415 : decode cX3_init 415 = .ok (.newarray .int, 2) := by decide +kernel
theorem dX3_init_417 : decode cX3_init 417 = .ok (.putfield 436, 3) := by decide +kernel
theorem dX3_init_420 : decode cX3_init 420 = .ok (.aload_n 0, 1) := by decide +kernel
theorem dX3_init_421 : decode cX3_init 421 = .ok (.sipush 256, 3) := by decide +kernel
theorem dX3_init_424 : decode cX3_init 424 = .ok (.newarray .int, 2) := by decide +kernel
theorem dX3_init_426 : decode cX3_init 426 = .ok (.putfield 457, 3) := by decide +kernel
theorem dX3_init_429 : decode cX3_init 429 = .ok (.aload_n 0, 1) := by decide +kernel
theorem dX3_init_430 : decode cX3_init 430 = .ok (.sipush 8192, 3) := by decide +kernel
theorem dX3_init_433 : decode cX3_init 433 = .ok (.newarray .int, 2) := by decide +kernel
theorem dX3_init_435 : decode cX3_init 435 = .ok (.putfield 451, 3) := by decide +kernel
theorem dX3_init_438 : decode cX3_init 438 = .ok (.aload_n 0, 1) := by decide +kernel
theorem dX3_init_439 : decode cX3_init 439 = .ok (.sipush 8192, 3) := by decide +kernel
theorem dX3_init_442 : decode cX3_init 442 = .ok (.newarray .int, 2) := by decide +kernel
theorem dX3_init_444 : decode cX3_init 444 = .ok (.putfield 481, 3) := by decide +kernel
theorem dX3_init_447 : decode cX3_init 447 = .ok (.aload_n 0, 1) := by decide +kernel
theorem dX3_init_448 : decode cX3_init 448 = .ok (.sipush 400, 3) := by decide +kernel
theorem dX3_init_451 : decode cX3_init 451 = .ok (.newarray .int, 2) := by decide +kernel
theorem dX3_init_453 : decode cX3_init 453 = .ok (.putfield 518, 3) := by decide +kernel
theorem dX3_init_456 : decode cX3_init 456 = .ok (.aload_n 0, 1) := by decide +kernel
theorem dX3_init_457 : decode cX3_init 457 = .ok (.bipush 20, 2) := by decide +kernel
theorem dX3_init_459 : decode cX3_init 459 = .ok (.newarray .int, 2) := by decide +kernel
theorem dX3_init_461 : decode cX3_init 461 = .ok (.putfield 286, 3) := by decide +kernel
theorem dX3_init_464 : decode cX3_init 464 = .ok (.aload_n 0, 1) := by decide +kernel
theorem dX3_init_465 : decode cX3_init 465 = .ok (.iconst 0, 1) := by decide +kernel
theorem dX3_init_466 : decode cX3_init 466 = .ok (.aload_n 0, 1) := by decide +kernel
theorem dX3_init_467 : decode cX3_init 467 = .ok (.iconst 0, 1) := by decide +kernel
theorem dX3_init_468 : decode cX3_init 468 = .ok (.iconst 0, 1) := by decide +kernel
theorem dX3_init_469 : decode cX3_init 469 = .ok (.invokevirtual 388, 3) := by decide +kernel
theorem dX3_init_472 : decode cX3_init 472 = .ok (.invokevirtual 267, 3) := by decide +kernel
theorem dX3_init_475 : decode cX3_init 475 = .ok (.pop, 1) := by decide +kernel
theorem dX3_init_476 : decode cX3_init 476 = .ok (.aload_n 0, 1) := by decide +kernel
theorem dX3_init_477 : decode cX3_init 477 = .ok (.iconst 0, 1) := by decide +kernel
theorem dX3_init_478 : decode cX3_init 478 = .ok (.aload_n 0, 1) := by decide +kernel
theorem dX3_init_479 : decode cX3_init 479 = .ok (.iconst 0, 1) := by decide +kernel
theorem dX3_init_480 : decode cX3_init 480 = .ok (.iconst 0, 1) := by decide +kernel
theorem dX3_init_481 : decode cX3_init 481 = .ok (.invokevirtual 388, 3) := by decide +kernel
theorem dX3_init_484 : decode cX3_init 484 = .ok (.invokevirtual 267, 3) := by decide +kernel
theorem dX3_init_487 : decode cX3_init 487 = .ok (.pop, 1) := by decide +kernel
theorem dX3_init_488 : decode cX3_init 488 = .ok (.return_, 1) := by decide +kernel
abbrev cX3_plain : ByteArray := prog_4_method_20_code
def yX3_plain : MethodName := ⟨RX3, "plain", "(II)I"⟩
theorem dX3_plain_0 : decode cX3_plain 0 = .ok (.aload_n 0, 1) := by decide +kernel
theorem dX3_plain_1 : decode cX3_plain 1 = .ok (.iload_n 1, 1) := by decide +kernel
theorem dX3_plain_2 : decode cX3_plain 2 = .ok (.iload_n 2, 1) := by decide +kernel
theorem dX3_plain_3 : decode cX3_plain 3 = .ok (.aload_n 0, 1) := by decide +kernel
theorem dX3_plain_4 : decode cX3_plain 4 = .ok (.getfield 17, 3) := by decide +kernel
theorem dX3_plain_7 : decode cX3_plain 7 = .ok (.invokevirtual 97, 3) := by decide +kernel
theorem dX3_plain_10 : decode cX3_plain 10 = .ok (.ireturn, 1) := by decide +kernel
abbrev cX3_typed : ByteArray := prog_4_method_19_code
def yX3_typed : MethodName := ⟨RX3, "typed", "(III)I"⟩
theorem dX3_typed_0 : decode cX3_typed 0 = .ok (.aload_n 0, 1) := by decide +kernel
theorem dX3_typed_1 : decode cX3_typed 1 = .ok (.getfield 17, 3) := by decide +kernel
theorem dX3_typed_4 : decode cX3_typed 4 = .ok (.istore 4, 2) := by decide +kernel
theorem dX3_typed_6 : decode cX3_typed 6 = .ok (.iload_n 3, 1) := by decide +kernel
theorem dX3_typed_7 : decode cX3_typed 7 = .ok (.iconst 1, 1) := by decide +kernel
theorem dX3_typed_8 : decode cX3_typed 8 = .ok (.iadd, 1) := by decide +kernel
theorem dX3_typed_9 : decode cX3_typed 9 = .ok (.istore 5, 2) := by decide +kernel
theorem dX3_typed_11 : decode cX3_typed 11 = .ok (.iload 5, 2) := by decide +kernel
theorem dX3_typed_13 : decode cX3_typed 13 = .ok (.iload 4, 2) := by decide +kernel
theorem dX3_typed_15 : decode cX3_typed 15 = .ok (.if_icmp .ge 73, 3) := by decide +kernel
theorem dX3_typed_18 : decode cX3_typed 18 = .ok (.aload_n 0, 1) := by decide +kernel
theorem dX3_typed_19 : decode cX3_typed 19 = .ok (.getfield 13, 3) := by decide +kernel
theorem dX3_typed_22 : decode cX3_typed 22 = .ok (.iload 5, 2) := by decide +kernel
theorem dX3_typed_24 : decode cX3_typed 24 = .ok (.iaload, 1) := by decide +kernel
theorem dX3_typed_25 : decode cX3_typed 25 = .ok (.istore 6, 2) := by decide +kernel
theorem dX3_typed_27 : decode cX3_typed 27 = .ok (.iload 5, 2) := by decide +kernel
theorem dX3_typed_29 : decode cX3_typed 29 = .ok (.istore 7, 2) := by decide +kernel
theorem dX3_typed_31 : decode cX3_typed 31 = .ok (.iload 7, 2) := by decide +kernel
theorem dX3_typed_33 : decode cX3_typed 33 = .ok (.iload_n 3, 1) := by decide +kernel
theorem dX3_typed_34 : decode cX3_typed 34 = .ok (.if_icmp .le 39, 3) := by decide +kernel
theorem dX3_typed_37 : decode cX3_typed 37 = .ok (.aload_n 0, 1) := by decide +kernel
theorem dX3_typed_38 : decode cX3_typed 38 = .ok (.getfield 13, 3) := by decide +kernel
theorem dX3_typed_41 : decode cX3_typed 41 = .ok (.iload 7, 2) := by decide +kernel
theorem dX3_typed_43 : decode cX3_typed 43 = .ok (.iconst 1, 1) := by decide +kernel
theorem dX3_typed_44 : decode cX3_typed 44 = .ok (.isub, 1) := by decide +kernel
theorem dX3_typed_45 : decode cX3_typed 45 = .ok (.iaload, 1) := by decide +kernel
theorem dX3_typed_46 : decode cX3_typed 46 = .ok (.iload 6, 2) := by decide +kernel
theorem dX3_typed_48 : decode cX3_typed 48 = .ok (.if_icmp .le 25, 3) := by decide +kernel
theorem dX3_typed_51 : decode cX3_typed 51 = .ok (.aload_n 0, 1) := by decide +kernel
theorem dX3_typed_52 : decode cX3_typed 52 = .ok (.getfield 13, 3) := by decide +kernel
theorem dX3_typed_55 : decode cX3_typed 55 = .ok (.iload 7, 2) := by decide +kernel
theorem dX3_typed_57 : decode cX3_typed 57 = .ok (.aload_n 0, 1) := by decide +kernel
theorem dX3_typed_58 : decode cX3_typed 58 = .ok (.getfield 13, 3) := by decide +kernel
theorem dX3_typed_61 : decode cX3_typed 61 = .ok (.iload 7, 2) := by decide +kernel
theorem dX3_typed_63 : decode cX3_typed 63 = .ok (.iconst 1, 1) := by decide +kernel
theorem dX3_typed_64 : decode cX3_typed 64 = .ok (.isub, 1) := by decide +kernel
theorem dX3_typed_65 : decode cX3_typed 65 = .ok (.iaload, 1) := by decide +kernel
theorem dX3_typed_66 : decode cX3_typed 66 = .ok (.iastore, 1) := by decide +kernel
theorem dX3_typed_67 : decode cX3_typed 67 = .ok (.iinc 7 (-1), 3) := by decide +kernel
theorem dX3_typed_70 : decode cX3_typed 70 = .ok (.goto (-39), 3) := by decide +kernel
theorem dX3_typed_73 : decode cX3_typed 73 = .ok (.aload_n 0, 1) := by decide +kernel
theorem dX3_typed_74 : decode cX3_typed 74 = .ok (.getfield 13, 3) := by decide +kernel
theorem dX3_typed_77 : decode cX3_typed 77 = .ok (.iload 7, 2) := by decide +kernel
theorem dX3_typed_79 : decode cX3_typed 79 = .ok (.iload 6, 2) := by decide +kernel
theorem dX3_typed_81 : decode cX3_typed 81 = .ok (.iastore, 1) := by decide +kernel
theorem dX3_typed_82 : decode cX3_typed 82 = .ok (.iinc 5 1, 3) := by decide +kernel
theorem dX3_typed_85 : decode cX3_typed 85 = .ok (.goto (-74), 3) := by decide +kernel
theorem dX3_typed_88 : decode cX3_typed 88 = .ok (.iload_n 3, 1) := by decide +kernel
theorem dX3_typed_89 : decode cX3_typed 89 = .ok (.istore 5, 2) := by decide +kernel
theorem dX3_typed_91 : decode cX3_typed 91 = .ok (.iload_n 3, 1) := by decide +kernel
theorem dX3_typed_92 : decode cX3_typed 92 = .ok (.istore 6, 2) := by decide +kernel
theorem dX3_typed_94 : decode cX3_typed 94 = .ok (.iload 6, 2) := by decide +kernel
theorem dX3_typed_96 : decode cX3_typed 96 = .ok (.iload 4, 2) := by decide +kernel
theorem dX3_typed_98 : decode cX3_typed 98 = .ok (.if_icmp .ge 51, 3) := by decide +kernel
theorem dX3_typed_101 : decode cX3_typed 101 = .ok (.iload 6, 2) := by decide +kernel
theorem dX3_typed_103 : decode cX3_typed 103 = .ok (.iload_n 3, 1) := by decide +kernel
theorem dX3_typed_104 : decode cX3_typed 104 = .ok (.if_icmp .eq 22, 3) := by decide +kernel
theorem dX3_typed_107 : decode cX3_typed 107 = .ok (.aload_n 0, 1) := by decide +kernel
theorem dX3_typed_108 : decode cX3_typed 108 = .ok (.getfield 13, 3) := by decide +kernel
theorem dX3_typed_111 : decode cX3_typed 111 = .ok (.iload 6, 2) := by decide +kernel
theorem dX3_typed_113 : decode cX3_typed 113 = .ok (.iaload, 1) := by decide +kernel
theorem dX3_typed_114 : decode cX3_typed 114 = .ok (.aload_n 0, 1) := by decide +kernel
theorem dX3_typed_115 : decode cX3_typed 115 = .ok (.getfield 13, 3) := by decide +kernel
theorem dX3_typed_118 : decode cX3_typed 118 = .ok (.iload 6, 2) := by decide +kernel
theorem dX3_typed_120 : decode cX3_typed 120 = .ok (.iconst 1, 1) := by decide +kernel
theorem dX3_typed_121 : decode cX3_typed 121 = .ok (.isub, 1) := by decide +kernel
theorem dX3_typed_122 : decode cX3_typed 122 = .ok (.iaload, 1) := by decide +kernel
theorem dX3_typed_123 : decode cX3_typed 123 = .ok (.if_icmp .eq 20, 3) := by decide +kernel
theorem dX3_typed_126 : decode cX3_typed 126 = .ok (.aload_n 0, 1) := by decide +kernel
theorem dX3_typed_127 : decode cX3_typed 127 = .ok (.getfield 13, 3) := by decide +kernel
theorem dX3_typed_130 : decode cX3_typed 130 = .ok (.iload 5, 2) := by decide +kernel
theorem dX3_typed_132 : decode cX3_typed 132 = .ok (.iinc 5 1, 3) := by decide +kernel
theorem dX3_typed_135 : decode cX3_typed 135 = .ok (.aload_n 0, 1) := by decide +kernel
theorem dX3_typed_136 : decode cX3_typed 136 = .ok (.getfield 13, 3) := by decide +kernel
theorem dX3_typed_139 : decode cX3_typed 139 = .ok (.iload 6, 2) := by decide +kernel
theorem dX3_typed_141 : decode cX3_typed 141 = .ok (.iaload, 1) := by decide +kernel
theorem dX3_typed_142 : decode cX3_typed 142 = .ok (.iastore, 1) := by decide +kernel
theorem dX3_typed_143 : decode cX3_typed 143 = .ok (.iinc 6 1, 3) := by decide +kernel
theorem dX3_typed_146 : decode cX3_typed 146 = .ok (.goto (-52), 3) := by decide +kernel
theorem dX3_typed_149 : decode cX3_typed 149 = .ok (.aload_n 0, 1) := by decide +kernel
theorem dX3_typed_150 : decode cX3_typed 150 = .ok (.iload 5, 2) := by decide +kernel
theorem dX3_typed_152 : decode cX3_typed 152 = .ok (.putfield 17, 3) := by decide +kernel
theorem dX3_typed_155 : decode cX3_typed 155 = .ok (.aload_n 0, 1) := by decide +kernel
theorem dX3_typed_156 : decode cX3_typed 156 = .ok (.getfield 17, 3) := by decide +kernel
theorem dX3_typed_159 : decode cX3_typed 159 = .ok (.istore 6, 2) := by decide +kernel
theorem dX3_typed_161 : decode cX3_typed 161 = .ok (.aload_n 0, 1) := by decide +kernel
theorem dX3_typed_162 : decode cX3_typed 162 = .ok (.iload_n 1, 1) := by decide +kernel
theorem dX3_typed_163 : decode cX3_typed 163 = .ok (.invokevirtual 72, 3) := by decide +kernel
theorem dX3_typed_166 : decode cX3_typed 166 = .ok (.aload_n 0, 1) := by decide +kernel
theorem dX3_typed_167 : decode cX3_typed 167 = .ok (.iload_n 2, 1) := by decide +kernel
theorem dX3_typed_168 : decode cX3_typed 168 = .ok (.invokevirtual 72, 3) := by decide +kernel
theorem dX3_typed_171 : decode cX3_typed 171 = .ok (.iload_n 3, 1) := by decide +kernel
theorem dX3_typed_172 : decode cX3_typed 172 = .ok (.istore 7, 2) := by decide +kernel
theorem dX3_typed_174 : decode cX3_typed 174 = .ok (.iload 7, 2) := by decide +kernel
theorem dX3_typed_176 : decode cX3_typed 176 = .ok (.iload 5, 2) := by decide +kernel
theorem dX3_typed_178 : decode cX3_typed 178 = .ok (.if_icmp .ge 20, 3) := by decide +kernel
theorem dX3_typed_181 : decode cX3_typed 181 = .ok (.aload_n 0, 1) := by decide +kernel
theorem dX3_typed_182 : decode cX3_typed 182 = .ok (.aload_n 0, 1) := by decide +kernel
theorem dX3_typed_183 : decode cX3_typed 183 = .ok (.getfield 13, 3) := by decide +kernel
theorem dX3_typed_186 : decode cX3_typed 186 = .ok (.iload 7, 2) := by decide +kernel
theorem dX3_typed_188 : decode cX3_typed 188 = .ok (.iaload, 1) := by decide +kernel
theorem dX3_typed_189 : decode cX3_typed 189 = .ok (.invokevirtual 72, 3) := by decide +kernel
theorem dX3_typed_192 : decode cX3_typed 192 = .ok (.iinc 7 1, 3) := by decide +kernel
theorem dX3_typed_195 : decode cX3_typed 195 = .ok (.goto (-21), 3) := by decide +kernel
theorem dX3_typed_198 : decode cX3_typed 198 = .ok (.aload_n 0, 1) := by decide +kernel
theorem dX3_typed_199 : decode cX3_typed 199 = .ok (.bipush 7, 2) := by decide +kernel
theorem dX3_typed_201 : decode cX3_typed 201 = .ok (.iload 6, 2) := by decide +kernel
theorem dX3_typed_203 : decode cX3_typed 203 = .ok (.invokevirtual 75, 3) := by decide +kernel
theorem dX3_typed_206 : decode cX3_typed 206 = .ok (.istore 7, 2) := by decide +kernel
theorem dX3_typed_208 : decode cX3_typed 208 = .ok (.aload_n 0, 1) := by decide +kernel
theorem dX3_typed_209 : decode cX3_typed 209 = .ok (.iload_n 3, 1) := by decide +kernel
theorem dX3_typed_210 : decode cX3_typed 210 = .ok (.putfield 17, 3) := by decide +kernel
theorem dX3_typed_213 : decode cX3_typed 213 = .ok (.iload 7, 2) := by decide +kernel
theorem dX3_typed_215 : decode cX3_typed 215 = .ok (.ireturn, 1) := by decide +kernel
abbrev cX3_give : ByteArray := prog_4_method_3_code
def yX3_give : MethodName := ⟨RX3, "give", "(I)V"⟩
theorem dX3_give_0 : decode cX3_give 0 = .ok (.aload_n 0, 1) := by decide +kernel
theorem dX3_give_1 : decode cX3_give 1 = .ok (.aload_n 0, 1) := by decide +kernel
theorem dX3_give_2 : decode cX3_give 2 = .ok (.getfield 13, 3) := by decide +kernel
theorem dX3_give_5 : decode cX3_give 5 = .ok (.aload_n 0, 1) := by decide +kernel
theorem dX3_give_6 : decode cX3_give 6 = .ok (.getfield 17, 3) := by decide +kernel
theorem dX3_give_9 : decode cX3_give 9 = .ok (.invokestatic 20, 3) := by decide +kernel
theorem dX3_give_12 : decode cX3_give 12 = .ok (.putfield 13, 3) := by decide +kernel
theorem dX3_give_15 : decode cX3_give 15 = .ok (.aload_n 0, 1) := by decide +kernel
theorem dX3_give_16 : decode cX3_give 16 = .ok (.getfield 13, 3) := by decide +kernel
theorem dX3_give_19 : decode cX3_give 19 = .ok (.aload_n 0, 1) := by decide +kernel
theorem dX3_give_20 : decode cX3_give 20 = .ok (.dup, 1) := by decide +kernel
theorem dX3_give_21 : decode cX3_give 21 = .ok (.getfield 17, 3) := by decide +kernel
theorem dX3_give_24 : decode cX3_give 24 = .ok (.dup_x1, 1) := by decide +kernel
theorem dX3_give_25 : decode cX3_give 25 = .ok (.iconst 1, 1) := by decide +kernel
theorem dX3_give_26 : decode cX3_give 26 = .ok (.iadd, 1) := by decide +kernel
theorem dX3_give_27 : decode cX3_give 27 = .ok (.putfield 17, 3) := by decide +kernel
theorem dX3_give_30 : decode cX3_give 30 = .ok (.iload_n 1, 1) := by decide +kernel
theorem dX3_give_31 : decode cX3_give 31 = .ok (.iastore, 1) := by decide +kernel
theorem dX3_give_32 : decode cX3_give 32 = .ok (.return_, 1) := by decide +kernel
abbrev cX3_more : ByteArray := prog_4_method_2_code
def yX3_more : MethodName := ⟨RX3, "more", "([II)[I"⟩
theorem dX3_more_0 : decode cX3_more 0 = .ok (.iload_n 1, 1) := by decide +kernel
theorem dX3_more_1 : decode cX3_more 1 = .ok (.aload_n 0, 1) := by decide +kernel
theorem dX3_more_2 : decode cX3_more 2 = .ok (.arraylength, 1) := by decide +kernel
theorem dX3_more_3 : decode cX3_more 3 = .ok (.if_icmp .ge 5, 3) := by decide +kernel
theorem dX3_more_6 : decode cX3_more 6 = .ok (.aload_n 0, 1) := by decide +kernel
theorem dX3_more_7 : decode cX3_more 7 = .ok (.areturn, 1) := by decide +kernel
theorem dX3_more_8 : decode cX3_more 8 = .ok (.iload_n 1, 1) := by decide +kernel
theorem dX3_more_9 : decode cX3_more 9 = .ok (.iconst 1, 1) := by decide +kernel
theorem dX3_more_10 : decode cX3_more 10 = .ok (.iadd, 1) := by decide +kernel
theorem dX3_more_11 : decode cX3_more 11 = .ok (.iconst 2, 1) := by decide +kernel
theorem dX3_more_12 : decode cX3_more 12 = .ok (.aload_n 0, 1) := by decide +kernel
theorem dX3_more_13 : decode cX3_more 13 = .ok (.arraylength, 1) := by decide +kernel
theorem dX3_more_14 : decode cX3_more 14 = .ok (.imul, 1) := by decide +kernel
theorem dX3_more_15 : decode cX3_more 15 = .ok (.invokestatic 7, 3) := by decide +kernel
theorem dX3_more_18 : decode cX3_more 18 = .ok (.newarray .int, 2) := by decide +kernel
theorem dX3_more_20 : decode cX3_more 20 = .ok (.astore_n 2, 1) := by decide +kernel
theorem dX3_more_21 : decode cX3_more 21 = .ok (.iconst 0, 1) := by decide +kernel
theorem dX3_more_22 : decode cX3_more 22 = .ok (.istore_n 3, 1) := by decide +kernel
theorem dX3_more_23 : decode cX3_more 23 = .ok (.iload_n 3, 1) := by decide +kernel
theorem dX3_more_24 : decode cX3_more 24 = .ok (.aload_n 0, 1) := by decide +kernel
theorem dX3_more_25 : decode cX3_more 25 = .ok (.arraylength, 1) := by decide +kernel
theorem dX3_more_26 : decode cX3_more 26 = .ok (.if_icmp .ge 15, 3) := by decide +kernel
theorem dX3_more_29 : decode cX3_more 29 = .ok (.aload_n 2, 1) := by decide +kernel
theorem dX3_more_30 : decode cX3_more 30 = .ok (.iload_n 3, 1) := by decide +kernel
theorem dX3_more_31 : decode cX3_more 31 = .ok (.aload_n 0, 1) := by decide +kernel
theorem dX3_more_32 : decode cX3_more 32 = .ok (.iload_n 3, 1) := by decide +kernel
theorem dX3_more_33 : decode cX3_more 33 = .ok (.iaload, 1) := by decide +kernel
theorem dX3_more_34 : decode cX3_more 34 = .ok (.iastore, 1) := by decide +kernel
theorem dX3_more_35 : decode cX3_more 35 = .ok (.iinc 3 1, 3) := by decide +kernel
theorem dX3_more_38 : decode cX3_more 38 = .ok (.goto (-15), 3) := by decide +kernel
theorem dX3_more_41 : decode cX3_more 41 = .ok (.aload_n 2, 1) := by decide +kernel
theorem dX3_more_42 : decode cX3_more 42 = .ok (.areturn, 1) := by decide +kernel
abbrev cX3_node : ByteArray := prog_4_method_5_code
def yX3_node : MethodName := ⟨RX3, "node", "(II)I"⟩
theorem dX3_node_0 : decode cX3_node 0 = .ok (.aload_n 0, 1) := by decide +kernel
theorem dX3_node_1 : decode cX3_node 1 = .ok (.getfield 17, 3) := by decide +kernel
theorem dX3_node_4 : decode cX3_node 4 = .ok (.iload_n 2, 1) := by decide +kernel
theorem dX3_node_5 : decode cX3_node 5 = .ok (.isub, 1) := by decide +kernel
theorem dX3_node_6 : decode cX3_node 6 = .ok (.istore_n 3, 1) := by decide +kernel
theorem dX3_node_7 : decode cX3_node 7 = .ok (.iload_n 1, 1) := by decide +kernel
theorem dX3_node_8 : decode cX3_node 8 = .ok (.istore 4, 2) := by decide +kernel
theorem dX3_node_10 : decode cX3_node 10 = .ok (.iload_n 2, 1) := by decide +kernel
theorem dX3_node_11 : decode cX3_node 11 = .ok (.istore 5, 2) := by decide +kernel
theorem dX3_node_13 : decode cX3_node 13 = .ok (.iload 5, 2) := by decide +kernel
theorem dX3_node_15 : decode cX3_node 15 = .ok (.aload_n 0, 1) := by decide +kernel
theorem dX3_node_16 : decode cX3_node 16 = .ok (.getfield 17, 3) := by decide +kernel
theorem dX3_node_19 : decode cX3_node 19 = .ok (.if_icmp .ge 24, 3) := by decide +kernel
theorem dX3_node_22 : decode cX3_node 22 = .ok (.bipush 31, 2) := by decide +kernel
theorem dX3_node_24 : decode cX3_node 24 = .ok (.iload 4, 2) := by decide +kernel
theorem dX3_node_26 : decode cX3_node 26 = .ok (.imul, 1) := by decide +kernel
theorem dX3_node_27 : decode cX3_node 27 = .ok (.aload_n 0, 1) := by decide +kernel
theorem dX3_node_28 : decode cX3_node 28 = .ok (.getfield 13, 3) := by decide +kernel
theorem dX3_node_31 : decode cX3_node 31 = .ok (.iload 5, 2) := by decide +kernel
theorem dX3_node_33 : decode cX3_node 33 = .ok (.iaload, 1) := by decide +kernel
theorem dX3_node_34 : decode cX3_node 34 = .ok (.iadd, 1) := by decide +kernel
theorem dX3_node_35 : decode cX3_node 35 = .ok (.istore 4, 2) := by decide +kernel
theorem dX3_node_37 : decode cX3_node 37 = .ok (.iinc 5 1, 3) := by decide +kernel
theorem dX3_node_40 : decode cX3_node 40 = .ok (.goto (-27), 3) := by decide +kernel
theorem dX3_node_43 : decode cX3_node 43 = .ok (.iload 4, 2) := by decide +kernel
theorem dX3_node_45 : decode cX3_node 45 = .ok (.iload 4, 2) := by decide +kernel
theorem dX3_node_47 : decode cX3_node 47 = .ok (.bipush 13, 2) := by decide +kernel
theorem dX3_node_49 : decode cX3_node 49 = .ok (.iushr, 1) := by decide +kernel
theorem dX3_node_50 : decode cX3_node 50 = .ok (.ixor, 1) := by decide +kernel
theorem dX3_node_51 : decode cX3_node 51 = .ok (.aload_n 0, 1) := by decide +kernel
theorem dX3_node_52 : decode cX3_node 52 = .ok (.getfield 30, 3) := by decide +kernel
theorem dX3_node_55 : decode cX3_node 55 = .ok (.arraylength, 1) := by decide +kernel
theorem dX3_node_56 : decode cX3_node 56 = .ok (.iconst 1, 1) := by decide +kernel
theorem dX3_node_57 : decode cX3_node 57 = .ok (.isub, 1) := by decide +kernel
theorem dX3_node_58 : decode cX3_node 58 = .ok (.iand, 1) := by decide +kernel
theorem dX3_node_59 : decode cX3_node 59 = .ok (.istore 4, 2) := by decide +kernel
theorem dX3_node_61 : decode cX3_node 61 = .ok (.aload_n 0, 1) := by decide +kernel
theorem dX3_node_62 : decode cX3_node 62 = .ok (.getfield 30, 3) := by decide +kernel
theorem dX3_node_65 : decode cX3_node 65 = .ok (.iload 4, 2) := by decide +kernel
theorem dX3_node_67 : decode cX3_node 67 = .ok (.iaload, 1) := by decide +kernel
theorem dX3_node_68 : decode cX3_node 68 = .ok (.istore 5, 2) := by decide +kernel
theorem dX3_node_70 : decode cX3_node 70 = .ok (.iload 5, 2) := by decide +kernel
theorem dX3_node_72 : decode cX3_node 72 = .ok (.ifCond .le 99, 3) := by decide +kernel
theorem dX3_node_75 : decode cX3_node 75 = .ok (.aload_n 0, 1) := by decide +kernel
theorem dX3_node_76 : decode cX3_node 76 = .ok (.getfield 33, 3) := by decide +kernel
theorem dX3_node_79 : decode cX3_node 79 = .ok (.iload 5, 2) := by decide +kernel
theorem dX3_node_81 : decode cX3_node 81 = .ok (.iaload, 1) := by decide +kernel
theorem dX3_node_82 : decode cX3_node 82 = .ok (.iload_n 1, 1) := by decide +kernel
theorem dX3_node_83 : decode cX3_node 83 = .ok (.if_icmp .ne 76, 3) := by decide +kernel
theorem dX3_node_86 : decode cX3_node 86 = .ok (.aload_n 0, 1) := by decide +kernel
theorem dX3_node_87 : decode cX3_node 87 = .ok (.getfield 36, 3) := by decide +kernel
theorem dX3_node_90 : decode cX3_node 90 = .ok (.iload 5, 2) := by decide +kernel
theorem dX3_node_92 : decode cX3_node 92 = .ok (.iaload, 1) := by decide +kernel
theorem dX3_node_93 : decode cX3_node 93 = .ok (.iload_n 3, 1) := by decide +kernel
theorem dX3_node_94 : decode cX3_node 94 = .ok (.if_icmp .eq 6, 3) := by decide +kernel
theorem dX3_node_97 : decode cX3_node 97 = .ok (.goto 62, 3) := by decide +kernel
theorem dX3_node_100 : decode cX3_node 100 = .ok (.iconst 0, 1) := by decide +kernel
theorem dX3_node_101 : decode cX3_node 101 = .ok (.istore 6, 2) := by decide +kernel
theorem dX3_node_103 : decode cX3_node 103 = .ok (.iload 6, 2) := by decide +kernel
theorem dX3_node_105 : decode cX3_node 105 = .ok (.iload_n 3, 1) := by decide +kernel
theorem dX3_node_106 : decode cX3_node 106 = .ok (.if_icmp .ge 36, 3) := by decide +kernel
theorem dX3_node_109 : decode cX3_node 109 = .ok (.aload_n 0, 1) := by decide +kernel
theorem dX3_node_110 : decode cX3_node 110 = .ok (.getfield 24, 3) := by decide +kernel
theorem dX3_node_113 : decode cX3_node 113 = .ok (.aload_n 0, 1) := by decide +kernel
theorem dX3_node_114 : decode cX3_node 114 = .ok (.getfield 27, 3) := by decide +kernel
theorem dX3_node_117 : decode cX3_node 117 = .ok (.iload 5, 2) := by decide +kernel
theorem dX3_node_119 : decode cX3_node 119 = .ok (.iaload, 1) := by decide +kernel
theorem dX3_node_120 : decode cX3_node 120 = .ok (.iload 6, 2) := by decide +kernel
theorem dX3_node_122 : decode cX3_node 122 = .ok (.iadd, 1) := by decide +kernel
theorem dX3_node_123 : decode cX3_node 123 = .ok (.iaload, 1) := by decide +kernel
theorem dX3_node_124 : decode cX3_node 124 = .ok (.aload_n 0, 1) := by decide +kernel
theorem dX3_node_125 : decode cX3_node 125 = .ok (.getfield 13, 3) := by decide +kernel
theorem dX3_node_128 : decode cX3_node 128 = .ok (.iload_n 2, 1) := by decide +kernel
theorem dX3_node_129 : decode cX3_node 129 = .ok (.iload 6, 2) := by decide +kernel
theorem dX3_node_131 : decode cX3_node 131 = .ok (.iadd, 1) := by decide +kernel
theorem dX3_node_132 : decode cX3_node 132 = .ok (.iaload, 1) := by decide +kernel
theorem dX3_node_133 : decode cX3_node 133 = .ok (.if_icmp .ne 9, 3) := by decide +kernel
theorem dX3_node_136 : decode cX3_node 136 = .ok (.iinc 6 1, 3) := by decide +kernel
theorem dX3_node_139 : decode cX3_node 139 = .ok (.goto (-36), 3) := by decide +kernel
theorem dX3_node_142 : decode cX3_node 142 = .ok (.iload 6, 2) := by decide +kernel
theorem dX3_node_144 : decode cX3_node 144 = .ok (.iload_n 3, 1) := by decide +kernel
theorem dX3_node_145 : decode cX3_node 145 = .ok (.if_icmp .ge 6, 3) := by decide +kernel
theorem dX3_node_148 : decode cX3_node 148 = .ok (.goto 11, 3) := by decide +kernel
theorem dX3_node_151 : decode cX3_node 151 = .ok (.aload_n 0, 1) := by decide +kernel
theorem dX3_node_152 : decode cX3_node 152 = .ok (.iload_n 2, 1) := by decide +kernel
theorem dX3_node_153 : decode cX3_node 153 = .ok (.putfield 17, 3) := by decide +kernel
theorem dX3_node_156 : decode cX3_node 156 = .ok (.iload 5, 2) := by decide +kernel
theorem dX3_node_158 : decode cX3_node 158 = .ok (.ireturn, 1) := by decide +kernel
theorem dX3_node_159 : decode cX3_node 159 = .ok (.aload_n 0, 1) := by decide +kernel
theorem dX3_node_160 : decode cX3_node 160 = .ok (.getfield 39, 3) := by decide +kernel
theorem dX3_node_163 : decode cX3_node 163 = .ok (.iload 5, 2) := by decide +kernel
theorem dX3_node_165 : decode cX3_node 165 = .ok (.iaload, 1) := by decide +kernel
theorem dX3_node_166 : decode cX3_node 166 = .ok (.istore 5, 2) := by decide +kernel
theorem dX3_node_168 : decode cX3_node 168 = .ok (.goto (-98), 3) := by decide +kernel
theorem dX3_node_171 : decode cX3_node 171 = .ok (.aload_n 0, 1) := by decide +kernel
theorem dX3_node_172 : decode cX3_node 172 = .ok (.dup, 1) := by decide +kernel
theorem dX3_node_173 : decode cX3_node 173 = .ok (.getfield 42, 3) := by decide +kernel
theorem dX3_node_176 : decode cX3_node 176 = .ok (.iconst 1, 1) := by decide +kernel
theorem dX3_node_177 : decode cX3_node 177 = .ok (.iadd, 1) := by decide +kernel
theorem dX3_node_178 : decode cX3_node 178 = .ok (.putfield 42, 3) := by decide +kernel
theorem dX3_node_181 : decode cX3_node 181 = .ok (.aload_n 0, 1) := by decide +kernel
theorem dX3_node_182 : decode cX3_node 182 = .ok (.aload_n 0, 1) := by decide +kernel
theorem dX3_node_183 : decode cX3_node 183 = .ok (.getfield 33, 3) := by decide +kernel
theorem dX3_node_186 : decode cX3_node 186 = .ok (.aload_n 0, 1) := by decide +kernel
theorem dX3_node_187 : decode cX3_node 187 = .ok (.getfield 42, 3) := by decide +kernel
theorem dX3_node_190 : decode cX3_node 190 = .ok (.invokestatic 20, 3) := by decide +kernel
theorem dX3_node_193 : decode cX3_node 193 = .ok (.putfield 33, 3) := by decide +kernel
theorem dX3_node_196 : decode cX3_node 196 = .ok (.aload_n 0, 1) := by decide +kernel
theorem dX3_node_197 : decode cX3_node 197 = .ok (.aload_n 0, 1) := by decide +kernel
theorem dX3_node_198 : decode cX3_node 198 = .ok (.getfield 27, 3) := by decide +kernel
theorem dX3_node_201 : decode cX3_node 201 = .ok (.aload_n 0, 1) := by decide +kernel
theorem dX3_node_202 : decode cX3_node 202 = .ok (.getfield 42, 3) := by decide +kernel
theorem dX3_node_205 : decode cX3_node 205 = .ok (.invokestatic 20, 3) := by decide +kernel
theorem dX3_node_208 : decode cX3_node 208 = .ok (.putfield 27, 3) := by decide +kernel
theorem dX3_node_211 : decode cX3_node 211 = .ok (.aload_n 0, 1) := by decide +kernel
theorem dX3_node_212 : decode cX3_node 212 = .ok (.aload_n 0, 1) := by decide +kernel
theorem dX3_node_213 : decode cX3_node 213 = .ok (.getfield 36, 3) := by decide +kernel
theorem dX3_node_216 : decode cX3_node 216 = .ok (.aload_n 0, 1) := by decide +kernel
theorem dX3_node_217 : decode cX3_node 217 = .ok (.getfield 42, 3) := by decide +kernel
theorem dX3_node_220 : decode cX3_node 220 = .ok (.invokestatic 20, 3) := by decide +kernel
theorem dX3_node_223 : decode cX3_node 223 = .ok (.putfield 36, 3) := by decide +kernel
theorem dX3_node_226 : decode cX3_node 226 = .ok (.aload_n 0, 1) := by decide +kernel
theorem dX3_node_227 : decode cX3_node 227 = .ok (.aload_n 0, 1) := by decide +kernel
theorem dX3_node_228 : decode cX3_node 228 = .ok (.getfield 45, 3) := by decide +kernel
theorem dX3_node_231 : decode cX3_node 231 = .ok (.aload_n 0, 1) := by decide +kernel
theorem dX3_node_232 : decode cX3_node 232 = .ok (.getfield 42, 3) := by decide +kernel
theorem dX3_node_235 : decode cX3_node 235 = .ok (.invokestatic 20, 3) := by decide +kernel
theorem dX3_node_238 : decode cX3_node 238 = .ok (.putfield 45, 3) := by decide +kernel
theorem dX3_node_241 : decode cX3_node 241 = .ok (.aload_n 0, 1) := by decide +kernel
theorem dX3_node_242 : decode cX3_node 242 = .ok (.aload_n 0, 1) := by decide +kernel
theorem dX3_node_243 : decode cX3_node 243 = .ok (.getfield 48, 3) := by decide +kernel
theorem dX3_node_246 : decode cX3_node 246 = .ok (.aload_n 0, 1) := by decide +kernel
theorem dX3_node_247 : decode cX3_node 247 = .ok (.getfield 42, 3) := by decide +kernel
theorem dX3_node_250 : decode cX3_node 250 = .ok (.invokestatic 20, 3) := by decide +kernel
theorem dX3_node_253 : decode cX3_node 253 = .ok (.putfield 48, 3) := by decide +kernel
theorem dX3_node_256 : decode cX3_node 256 = .ok (.aload_n 0, 1) := by decide +kernel
theorem dX3_node_257 : decode cX3_node 257 = .ok (.aload_n 0, 1) := by decide +kernel
theorem dX3_node_258 : decode cX3_node 258 = .ok (.getfield 39, 3) := by decide +kernel
theorem dX3_node_261 : decode cX3_node 261 = .ok (.aload_n 0, 1) := by decide +kernel
theorem dX3_node_262 : decode cX3_node 262 = .ok (.getfield 42, 3) := by decide +kernel
theorem dX3_node_265 : decode cX3_node 265 = .ok (.invokestatic 20, 3) := by decide +kernel
theorem dX3_node_268 : decode cX3_node 268 = .ok (.putfield 39, 3) := by decide +kernel
theorem dX3_node_271 : decode cX3_node 271 = .ok (.aload_n 0, 1) := by decide +kernel
theorem dX3_node_272 : decode cX3_node 272 = .ok (.aload_n 0, 1) := by decide +kernel
theorem dX3_node_273 : decode cX3_node 273 = .ok (.getfield 51, 3) := by decide +kernel
theorem dX3_node_276 : decode cX3_node 276 = .ok (.aload_n 0, 1) := by decide +kernel
theorem dX3_node_277 : decode cX3_node 277 = .ok (.getfield 42, 3) := by decide +kernel
theorem dX3_node_280 : decode cX3_node 280 = .ok (.invokestatic 20, 3) := by decide +kernel
theorem dX3_node_283 : decode cX3_node 283 = .ok (.putfield 51, 3) := by decide +kernel
theorem dX3_node_286 : decode cX3_node 286 = .ok (.aload_n 0, 1) := by decide +kernel
theorem dX3_node_287 : decode cX3_node 287 = .ok (.aload_n 0, 1) := by decide +kernel
theorem dX3_node_288 : decode cX3_node 288 = .ok (.getfield 24, 3) := by decide +kernel
theorem dX3_node_291 : decode cX3_node 291 = .ok (.aload_n 0, 1) := by decide +kernel
theorem dX3_node_292 : decode cX3_node 292 = .ok (.getfield 54, 3) := by decide +kernel
theorem dX3_node_295 : decode cX3_node 295 = .ok (.iload_n 3, 1) := by decide +kernel
theorem dX3_node_296 : decode cX3_node 296 = .ok (.iadd, 1) := by decide +kernel
theorem dX3_node_297 : decode cX3_node 297 = .ok (.invokestatic 20, 3) := by decide +kernel
theorem dX3_node_300 : decode cX3_node 300 = .ok (.putfield 24, 3) := by decide +kernel
theorem dX3_node_303 : decode cX3_node 303 = .ok (.aload_n 0, 1) := by decide +kernel
theorem dX3_node_304 : decode cX3_node 304 = .ok (.getfield 33, 3) := by decide +kernel
theorem dX3_node_307 : decode cX3_node 307 = .ok (.aload_n 0, 1) := by decide +kernel
theorem dX3_node_308 : decode cX3_node 308 = .ok (.getfield 42, 3) := by decide +kernel
theorem dX3_node_311 : decode cX3_node 311 = .ok (.iload_n 1, 1) := by decide +kernel
theorem dX3_node_312 : decode cX3_node 312 = .ok (.iastore, 1) := by decide +kernel
theorem dX3_node_313 : decode cX3_node 313 = .ok (.aload_n 0, 1) := by decide +kernel
theorem dX3_node_314 : decode cX3_node 314 = .ok (.getfield 27, 3) := by decide +kernel
theorem dX3_node_317 : decode cX3_node 317 = .ok (.aload_n 0, 1) := by decide +kernel
theorem dX3_node_318 : decode cX3_node 318 = .ok (.getfield 42, 3) := by decide +kernel
theorem dX3_node_321 : decode cX3_node 321 = .ok (.aload_n 0, 1) := by decide +kernel
theorem dX3_node_322 : decode cX3_node 322 = .ok (.getfield 54, 3) := by decide +kernel
theorem dX3_node_325 : decode cX3_node 325 = .ok (.iastore, 1) := by decide +kernel
theorem dX3_node_326 : decode cX3_node 326 = .ok (.aload_n 0, 1) := by decide +kernel
theorem dX3_node_327 : decode cX3_node 327 = .ok (.getfield 36, 3) := by decide +kernel
theorem dX3_node_330 : decode cX3_node 330 = .ok (.aload_n 0, 1) := by decide +kernel
theorem dX3_node_331 : decode cX3_node 331 = .ok (.getfield 42, 3) := by decide +kernel
theorem dX3_node_334 : decode cX3_node 334 = .ok (.iload_n 3, 1) := by decide +kernel
theorem dX3_node_335 : decode cX3_node 335 = .ok (.iastore, 1) := by decide +kernel
theorem dX3_node_336 : decode cX3_node 336 = .ok (.iconst 0, 1) := by decide +kernel
theorem dX3_node_337 : decode cX3_node 337 = .ok (.istore 5, 2) := by decide +kernel
theorem dX3_node_339 : decode cX3_node 339 = .ok (.iload 5, 2) := by decide +kernel
theorem dX3_node_341 : decode cX3_node 341 = .ok (.iload_n 3, 1) := by decide +kernel
theorem dX3_node_342 : decode cX3_node 342 = .ok (.if_icmp .ge 30, 3) := by decide +kernel
theorem dX3_node_345 : decode cX3_node 345 = .ok (.aload_n 0, 1) := by decide +kernel
theorem dX3_node_346 : decode cX3_node 346 = .ok (.getfield 24, 3) := by decide +kernel
theorem dX3_node_349 : decode cX3_node 349 = .ok (.aload_n 0, 1) := by decide +kernel
theorem dX3_node_350 : decode cX3_node 350 = .ok (.getfield 54, 3) := by decide +kernel
theorem dX3_node_353 : decode cX3_node 353 = .ok (.iload 5, 2) := by decide +kernel
theorem dX3_node_355 : decode cX3_node 355 = .ok (.iadd, 1) := by decide +kernel
theorem dX3_node_356 : decode cX3_node 356 = .ok (.aload_n 0, 1) := by decide +kernel
theorem dX3_node_357 : decode cX3_node 357 = .ok (.getfield 13, 3) := by decide +kernel
theorem dX3_node_360 : decode cX3_node 360 = .ok (.iload_n 2, 1) := by decide +kernel
theorem dX3_node_361 : decode cX3_node 361 = .ok (.iload 5, 2) := by decide +kernel
theorem dX3_node_363 : decode cX3_node 363 = .ok (.iadd, 1) := by decide +kernel
theorem dX3_node_364 : decode cX3_node 364 = .ok (.iaload, 1) := by decide +kernel
theorem dX3_node_365 : decode cX3_node 365 = .ok (.iastore, 1) := by decide +kernel
theorem dX3_node_366 : decode cX3_node 366 = .ok (.iinc 5 1, 3) := by decide +kernel
theorem dX3_node_369 : decode cX3_node 369 = .ok (.goto (-30), 3) := by decide +kernel
theorem dX3_node_372 : decode cX3_node 372 = .ok (.aload_n 0, 1) := by decide +kernel
theorem dX3_node_373 : decode cX3_node 373 = .ok (.dup, 1) := by decide +kernel
theorem dX3_node_374 : decode cX3_node 374 = .ok (.getfield 54, 3) := by decide +kernel
theorem dX3_node_377 : decode cX3_node 377 = .ok (.iload_n 3, 1) := by decide +kernel
theorem dX3_node_378 : decode cX3_node 378 = .ok (.iadd, 1) := by decide +kernel
theorem dX3_node_379 : decode cX3_node 379 = .ok (.putfield 54, 3) := by decide +kernel
theorem dX3_node_382 : decode cX3_node 382 = .ok (.aload_n 0, 1) := by decide +kernel
theorem dX3_node_383 : decode cX3_node 383 = .ok (.iload_n 2, 1) := by decide +kernel
theorem dX3_node_384 : decode cX3_node 384 = .ok (.putfield 17, 3) := by decide +kernel
theorem dX3_node_387 : decode cX3_node 387 = .ok (.aload_n 0, 1) := by decide +kernel
theorem dX3_node_388 : decode cX3_node 388 = .ok (.getfield 39, 3) := by decide +kernel
theorem dX3_node_391 : decode cX3_node 391 = .ok (.aload_n 0, 1) := by decide +kernel
theorem dX3_node_392 : decode cX3_node 392 = .ok (.getfield 42, 3) := by decide +kernel
theorem dX3_node_395 : decode cX3_node 395 = .ok (.aload_n 0, 1) := by decide +kernel
theorem dX3_node_396 : decode cX3_node 396 = .ok (.getfield 30, 3) := by decide +kernel
theorem dX3_node_399 : decode cX3_node 399 = .ok (.iload 4, 2) := by decide +kernel
theorem dX3_node_401 : decode cX3_node 401 = .ok (.iaload, 1) := by decide +kernel
theorem dX3_node_402 : decode cX3_node 402 = .ok (.iastore, 1) := by decide +kernel
theorem dX3_node_403 : decode cX3_node 403 = .ok (.aload_n 0, 1) := by decide +kernel
theorem dX3_node_404 : decode cX3_node 404 = .ok (.getfield 51, 3) := by decide +kernel
theorem dX3_node_407 : decode cX3_node 407 = .ok (.aload_n 0, 1) := by decide +kernel
theorem dX3_node_408 : decode cX3_node 408 = .ok (.getfield 42, 3) := by decide +kernel
theorem dX3_node_411 : decode cX3_node 411 = .ok (.iload 4, 2) := by decide +kernel
theorem dX3_node_413 : decode cX3_node 413 = .ok (.iastore, 1) := by decide +kernel
theorem dX3_node_414 : decode cX3_node 414 = .ok (.aload_n 0, 1) := by decide +kernel
theorem dX3_node_415 : decode cX3_node 415 = .ok (.getfield 30, 3) := by decide +kernel
theorem dX3_node_418 : decode cX3_node 418 = .ok (.iload 4, 2) := by decide +kernel
theorem dX3_node_420 : decode cX3_node 420 = .ok (.aload_n 0, 1) := by decide +kernel
theorem dX3_node_421 : decode cX3_node 421 = .ok (.getfield 42, 3) := by decide +kernel
theorem dX3_node_424 : decode cX3_node 424 = .ok (.iastore, 1) := by decide +kernel
theorem dX3_node_425 : decode cX3_node 425 = .ok (.aload_n 0, 1) := by decide +kernel
theorem dX3_node_426 : decode cX3_node 426 = .ok (.aload_n 0, 1) := by decide +kernel
theorem dX3_node_427 : decode cX3_node 427 = .ok (.getfield 42, 3) := by decide +kernel
theorem dX3_node_430 : decode cX3_node 430 = .ok (.invokevirtual 57, 3) := by decide +kernel
theorem dX3_node_433 : decode cX3_node 433 = .ok (.aload_n 0, 1) := by decide +kernel
theorem dX3_node_434 : decode cX3_node 434 = .ok (.getfield 42, 3) := by decide +kernel
theorem dX3_node_437 : decode cX3_node 437 = .ok (.ireturn, 1) := by decide +kernel
abbrev cX3_measure : ByteArray := prog_4_method_8_code
def yX3_measure : MethodName := ⟨RX3, "measure", "(I)V"⟩
theorem dX3_measure_0 : decode cX3_measure 0 = .ok (.aload_n 0, 1) := by decide +kernel
theorem dX3_measure_1 : decode cX3_measure 1 = .ok (.getfield 33, 3) := by decide +kernel
theorem dX3_measure_4 : decode cX3_measure 4 = .ok (.iload_n 1, 1) := by decide +kernel
theorem dX3_measure_5 : decode cX3_measure 5 = .ok (.iaload, 1) := by decide +kernel
theorem dX3_measure_6 : decode cX3_measure 6 = .ok (.istore_n 2, 1) := by decide +kernel
theorem dX3_measure_7 : decode cX3_measure 7 = .ok (.iconst 1, 1) := by decide +kernel
theorem dX3_measure_8 : decode cX3_measure 8 = .ok (.istore_n 3, 1) := by decide +kernel
theorem dX3_measure_9 : decode cX3_measure 9 = .ok (.iconst 0, 1) := by decide +kernel
theorem dX3_measure_10 : decode cX3_measure 10 = .ok (.istore 4, 2) := by decide +kernel
theorem dX3_measure_12 : decode cX3_measure 12 = .ok (.iload_n 2, 1) := by decide +kernel
theorem dX3_measure_13 : decode cX3_measure 13 = .ok (.iconst 1, 1) := by decide +kernel
theorem dX3_measure_14 : decode cX3_measure 14 = .ok (.if_icmp .ne 16, 3) := by decide +kernel
theorem dX3_measure_17 : decode cX3_measure 17 = .ok (.aload_n 0, 1) := by decide +kernel
theorem dX3_measure_18 : decode cX3_measure 18 = .ok (.iload_n 1, 1) := by decide +kernel
theorem dX3_measure_19 : decode cX3_measure 19 = .ok (.iconst 0, 1) := by decide +kernel
theorem dX3_measure_20 : decode cX3_measure 20 = .ok (.invokevirtual 65, 3) := by decide +kernel
theorem dX3_measure_23 : decode cX3_measure 23 = .ok (.iconst 1, 1) := by decide +kernel
theorem dX3_measure_24 : decode cX3_measure 24 = .ok (.iadd, 1) := by decide +kernel
theorem dX3_measure_25 : decode cX3_measure 25 = .ok (.istore 4, 2) := by decide +kernel
theorem dX3_measure_27 : decode cX3_measure 27 = .ok (.goto 163, 3) := by decide +kernel
theorem dX3_measure_30 : decode cX3_measure 30 = .ok (.iload_n 2, 1) := by decide +kernel
theorem dX3_measure_31 : decode cX3_measure 31 = .ok (.bipush 7, 2) := by decide +kernel
theorem dX3_measure_33 : decode cX3_measure 33 = .ok (.if_icmp .ne 53, 3) := by decide +kernel
theorem dX3_measure_36 : decode cX3_measure 36 = .ok (.iload_n 3, 1) := by decide +kernel
theorem dX3_measure_37 : decode cX3_measure 37 = .ok (.aload_n 0, 1) := by decide +kernel
theorem dX3_measure_38 : decode cX3_measure 38 = .ok (.getfield 36, 3) := by decide +kernel
theorem dX3_measure_41 : decode cX3_measure 41 = .ok (.iload_n 1, 1) := by decide +kernel
theorem dX3_measure_42 : decode cX3_measure 42 = .ok (.iaload, 1) := by decide +kernel
theorem dX3_measure_43 : decode cX3_measure 43 = .ok (.iconst 2, 1) := by decide +kernel
theorem dX3_measure_44 : decode cX3_measure 44 = .ok (.isub, 1) := by decide +kernel
theorem dX3_measure_45 : decode cX3_measure 45 = .ok (.iadd, 1) := by decide +kernel
theorem dX3_measure_46 : decode cX3_measure 46 = .ok (.istore_n 3, 1) := by decide +kernel
theorem dX3_measure_47 : decode cX3_measure 47 = .ok (.aload_n 0, 1) := by decide +kernel
theorem dX3_measure_48 : decode cX3_measure 48 = .ok (.iload_n 1, 1) := by decide +kernel
theorem dX3_measure_49 : decode cX3_measure 49 = .ok (.iconst 1, 1) := by decide +kernel
theorem dX3_measure_50 : decode cX3_measure 50 = .ok (.invokevirtual 65, 3) := by decide +kernel
theorem dX3_measure_53 : decode cX3_measure 53 = .ok (.ifCond .le 137, 3) := by decide +kernel
theorem dX3_measure_56 : decode cX3_measure 56 = .ok (.iload_n 3, 1) := by decide +kernel
theorem dX3_measure_57 : decode cX3_measure 57 = .ok (.aload_n 0, 1) := by decide +kernel
theorem dX3_measure_58 : decode cX3_measure 58 = .ok (.getfield 45, 3) := by decide +kernel
theorem dX3_measure_61 : decode cX3_measure 61 = .ok (.aload_n 0, 1) := by decide +kernel
theorem dX3_measure_62 : decode cX3_measure 62 = .ok (.iload_n 1, 1) := by decide +kernel
theorem dX3_measure_63 : decode cX3_measure 63 = .ok (.iconst 1, 1) := by decide +kernel
theorem dX3_measure_64 : decode cX3_measure 64 = .ok (.invokevirtual 65, 3) := by decide +kernel
theorem dX3_measure_67 : decode cX3_measure 67 = .ok (.iaload, 1) := by decide +kernel
theorem dX3_measure_68 : decode cX3_measure 68 = .ok (.iadd, 1) := by decide +kernel
theorem dX3_measure_69 : decode cX3_measure 69 = .ok (.istore_n 3, 1) := by decide +kernel
theorem dX3_measure_70 : decode cX3_measure 70 = .ok (.aload_n 0, 1) := by decide +kernel
theorem dX3_measure_71 : decode cX3_measure 71 = .ok (.getfield 48, 3) := by decide +kernel
theorem dX3_measure_74 : decode cX3_measure 74 = .ok (.aload_n 0, 1) := by decide +kernel
theorem dX3_measure_75 : decode cX3_measure 75 = .ok (.iload_n 1, 1) := by decide +kernel
theorem dX3_measure_76 : decode cX3_measure 76 = .ok (.iconst 1, 1) := by decide +kernel
theorem dX3_measure_77 : decode cX3_measure 77 = .ok (.invokevirtual 65, 3) := by decide +kernel
theorem dX3_measure_80 : decode cX3_measure 80 = .ok (.iaload, 1) := by decide +kernel
theorem dX3_measure_81 : decode cX3_measure 81 = .ok (.istore 4, 2) := by decide +kernel
theorem dX3_measure_83 : decode cX3_measure 83 = .ok (.goto 107, 3) := by decide +kernel
theorem dX3_measure_86 : decode cX3_measure 86 = .ok (.iload_n 2, 1) := by decide +kernel
theorem dX3_measure_87 : decode cX3_measure 87 = .ok (.iconst 2, 1) := by decide +kernel
theorem dX3_measure_88 : decode cX3_measure 88 = .ok (.if_icmp .eq 102, 3) := by decide +kernel
theorem dX3_measure_91 : decode cX3_measure 91 = .ok (.iload_n 2, 1) := by decide +kernel
theorem dX3_measure_92 : decode cX3_measure 92 = .ok (.iconst 3, 1) := by decide +kernel
theorem dX3_measure_93 : decode cX3_measure 93 = .ok (.if_icmp .eq 97, 3) := by decide +kernel
theorem dX3_measure_96 : decode cX3_measure 96 = .ok (.iload_n 2, 1) := by decide +kernel
theorem dX3_measure_97 : decode cX3_measure 97 = .ok (.bipush 8, 2) := by decide +kernel
theorem dX3_measure_99 : decode cX3_measure 99 = .ok (.if_icmp .eq 91, 3) := by decide +kernel
theorem dX3_measure_102 : decode cX3_measure 102 = .ok (.iload_n 2, 1) := by decide +kernel
theorem dX3_measure_103 : decode cX3_measure 103 = .ok (.invokestatic 68, 3) := by decide +kernel
theorem dX3_measure_106 : decode cX3_measure 106 = .ok (.istore 5, 2) := by decide +kernel
theorem dX3_measure_108 : decode cX3_measure 108 = .ok (.iload 5, 2) := by decide +kernel
theorem dX3_measure_110 : decode cX3_measure 110 = .ok (.aload_n 0, 1) := by decide +kernel
theorem dX3_measure_111 : decode cX3_measure 111 = .ok (.getfield 36, 3) := by decide +kernel
theorem dX3_measure_114 : decode cX3_measure 114 = .ok (.iload_n 1, 1) := by decide +kernel
theorem dX3_measure_115 : decode cX3_measure 115 = .ok (.iaload, 1) := by decide +kernel
theorem dX3_measure_116 : decode cX3_measure 116 = .ok (.if_icmp .ge 74, 3) := by decide +kernel
theorem dX3_measure_119 : decode cX3_measure 119 = .ok (.aload_n 0, 1) := by decide +kernel
theorem dX3_measure_120 : decode cX3_measure 120 = .ok (.iload_n 1, 1) := by decide +kernel
theorem dX3_measure_121 : decode cX3_measure 121 = .ok (.iload 5, 2) := by decide +kernel
theorem dX3_measure_123 : decode cX3_measure 123 = .ok (.invokevirtual 65, 3) := by decide +kernel
theorem dX3_measure_126 : decode cX3_measure 126 = .ok (.istore 6, 2) := by decide +kernel
theorem dX3_measure_128 : decode cX3_measure 128 = .ok (.iload 6, 2) := by decide +kernel
theorem dX3_measure_130 : decode cX3_measure 130 = .ok (.ifCond .ne 6, 3) := by decide +kernel
theorem dX3_measure_133 : decode cX3_measure 133 = .ok (.goto 51, 3) := by decide +kernel
theorem dX3_measure_136 : decode cX3_measure 136 = .ok (.iload_n 3, 1) := by decide +kernel
theorem dX3_measure_137 : decode cX3_measure 137 = .ok (.aload_n 0, 1) := by decide +kernel
theorem dX3_measure_138 : decode cX3_measure 138 = .ok (.getfield 45, 3) := by decide +kernel
theorem dX3_measure_141 : decode cX3_measure 141 = .ok (.iload 6, 2) := by decide +kernel
theorem dX3_measure_143 : decode cX3_measure 143 = .ok (.iaload, 1) := by decide +kernel
theorem dX3_measure_144 : decode cX3_measure 144 = .ok (.iadd, 1) := by decide +kernel
theorem dX3_measure_145 : decode cX3_measure 145 = .ok (.istore_n 3, 1) := by decide +kernel
theorem dX3_measure_146 : decode cX3_measure 146 = .ok (.aload_n 0, 1) := by decide +kernel
theorem dX3_measure_147 : decode cX3_measure 147 = .ok (.getfield 48, 3) := by decide +kernel
theorem dX3_measure_150 : decode cX3_measure 150 = .ok (.iload 6, 2) := by decide +kernel
theorem dX3_measure_152 : decode cX3_measure 152 = .ok (.iaload, 1) := by decide +kernel
theorem dX3_measure_153 : decode cX3_measure 153 = .ok (.iload_n 2, 1) := by decide +kernel
theorem dX3_measure_154 : decode cX3_measure 154 = .ok (.bipush 17, 2) := by decide +kernel
theorem dX3_measure_156 : decode cX3_measure 156 = .ok (.if_icmp .ne 13, 3) := by decide +kernel
theorem dX3_measure_159 : decode cX3_measure 159 = .ok (.iload 5, 2) := by decide +kernel
theorem dX3_measure_161 : decode cX3_measure 161 = .ok (.iconst 1, 1) := by decide +kernel
theorem dX3_measure_162 : decode cX3_measure 162 = .ok (.if_icmp .ne 7, 3) := by decide +kernel
theorem dX3_measure_165 : decode cX3_measure 165 = .ok (.iconst 1, 1) := by decide +kernel
theorem dX3_measure_166 : decode cX3_measure 166 = .ok (.goto 4, 3) := by decide +kernel
theorem dX3_measure_169 : decode cX3_measure 169 = .ok (.iconst 0, 1) := by decide +kernel
theorem dX3_measure_170 : decode cX3_measure 170 = .ok (.isub, 1) := by decide +kernel
theorem dX3_measure_171 : decode cX3_measure 171 = .ok (.istore 7, 2) := by decide +kernel
theorem dX3_measure_173 : decode cX3_measure 173 = .ok (.iload 7, 2) := by decide +kernel
theorem dX3_measure_175 : decode cX3_measure 175 = .ok (.iload 4, 2) := by decide +kernel
theorem dX3_measure_177 : decode cX3_measure 177 = .ok (.if_icmp .le 7, 3) := by decide +kernel
theorem dX3_measure_180 : decode cX3_measure 180 = .ok (.iload 7, 2) := by decide +kernel
theorem dX3_measure_182 : decode cX3_measure 182 = .ok (.istore 4, 2) := by decide +kernel
theorem dX3_measure_184 : decode cX3_measure 184 = .ok (.iinc 5 1, 3) := by decide +kernel
theorem dX3_measure_187 : decode cX3_measure 187 = .ok (.goto (-79), 3) := by decide +kernel
theorem dX3_measure_190 : decode cX3_measure 190 = .ok (.aload_n 0, 1) := by decide +kernel
theorem dX3_measure_191 : decode cX3_measure 191 = .ok (.getfield 45, 3) := by decide +kernel
theorem dX3_measure_194 : decode cX3_measure 194 = .ok (.iload_n 1, 1) := by decide +kernel
theorem dX3_measure_195 : decode cX3_measure 195 = .ok (.iload_n 3, 1) := by decide +kernel
theorem dX3_measure_196 : decode cX3_measure 196 = .ok (.iastore, 1) := by decide +kernel
theorem dX3_measure_197 : decode cX3_measure 197 = .ok (.aload_n 0, 1) := by decide +kernel
theorem dX3_measure_198 : decode cX3_measure 198 = .ok (.getfield 48, 3) := by decide +kernel
theorem dX3_measure_201 : decode cX3_measure 201 = .ok (.iload_n 1, 1) := by decide +kernel
theorem dX3_measure_202 : decode cX3_measure 202 = .ok (.iload 4, 2) := by decide +kernel
theorem dX3_measure_204 : decode cX3_measure 204 = .ok (.iastore, 1) := by decide +kernel
theorem dX3_measure_205 : decode cX3_measure 205 = .ok (.return_, 1) := by decide +kernel
abbrev cX3_get : ByteArray := prog_4_method_4_code
def yX3_get : MethodName := ⟨RX3, "get", "(II)I"⟩
theorem dX3_get_0 : decode cX3_get 0 = .ok (.aload_n 0, 1) := by decide +kernel
theorem dX3_get_1 : decode cX3_get 1 = .ok (.getfield 24, 3) := by decide +kernel
theorem dX3_get_4 : decode cX3_get 4 = .ok (.aload_n 0, 1) := by decide +kernel
theorem dX3_get_5 : decode cX3_get 5 = .ok (.getfield 27, 3) := by decide +kernel
theorem dX3_get_8 : decode cX3_get 8 = .ok (.iload_n 1, 1) := by decide +kernel
theorem dX3_get_9 : decode cX3_get 9 = .ok (.iaload, 1) := by decide +kernel
theorem dX3_get_10 : decode cX3_get 10 = .ok (.iload_n 2, 1) := by decide +kernel
theorem dX3_get_11 : decode cX3_get 11 = .ok (.iadd, 1) := by decide +kernel
theorem dX3_get_12 : decode cX3_get 12 = .ok (.iaload, 1) := by decide +kernel
theorem dX3_get_13 : decode cX3_get 13 = .ok (.ireturn, 1) := by decide +kernel
abbrev cX3_first : ByteArray := prog_4_method_7_code
def yX3_first : MethodName := ⟨RX3, "first", "(I)I"⟩
theorem dX3_first_0 : decode cX3_first 0 = .ok (.iload_n 0, 1) := by decide +kernel
theorem dX3_first_1 : decode cX3_first 1 = .ok (.iconst 4, 1) := by decide +kernel
theorem dX3_first_2 : decode cX3_first 2 = .ok (.if_icmp .eq 39, 3) := by decide +kernel
theorem dX3_first_5 : decode cX3_first 5 = .ok (.iload_n 0, 1) := by decide +kernel
theorem dX3_first_6 : decode cX3_first 6 = .ok (.bipush 6, 2) := by decide +kernel
theorem dX3_first_8 : decode cX3_first 8 = .ok (.if_icmp .eq 33, 3) := by decide +kernel
theorem dX3_first_11 : decode cX3_first 11 = .ok (.iload_n 0, 1) := by decide +kernel
theorem dX3_first_12 : decode cX3_first 12 = .ok (.bipush 11, 2) := by decide +kernel
theorem dX3_first_14 : decode cX3_first 14 = .ok (.if_icmp .eq 27, 3) := by decide +kernel
theorem dX3_first_17 : decode cX3_first 17 = .ok (.iload_n 0, 1) := by decide +kernel
theorem dX3_first_18 : decode cX3_first 18 = .ok (.bipush 14, 2) := by decide +kernel
theorem dX3_first_20 : decode cX3_first 20 = .ok (.if_icmp .eq 21, 3) := by decide +kernel
theorem dX3_first_23 : decode cX3_first 23 = .ok (.iload_n 0, 1) := by decide +kernel
theorem dX3_first_24 : decode cX3_first 24 = .ok (.bipush 12, 2) := by decide +kernel
theorem dX3_first_26 : decode cX3_first 26 = .ok (.if_icmp .eq 15, 3) := by decide +kernel
theorem dX3_first_29 : decode cX3_first 29 = .ok (.iload_n 0, 1) := by decide +kernel
theorem dX3_first_30 : decode cX3_first 30 = .ok (.bipush 13, 2) := by decide +kernel
theorem dX3_first_32 : decode cX3_first 32 = .ok (.if_icmp .eq 9, 3) := by decide +kernel
theorem dX3_first_35 : decode cX3_first 35 = .ok (.iload_n 0, 1) := by decide +kernel
theorem dX3_first_36 : decode cX3_first 36 = .ok (.bipush 7, 2) := by decide +kernel
theorem dX3_first_38 : decode cX3_first 38 = .ok (.if_icmp .ne 7, 3) := by decide +kernel
theorem dX3_first_41 : decode cX3_first 41 = .ok (.iconst 1, 1) := by decide +kernel
theorem dX3_first_42 : decode cX3_first 42 = .ok (.goto 4, 3) := by decide +kernel
theorem dX3_first_45 : decode cX3_first 45 = .ok (.iconst 0, 1) := by decide +kernel
theorem dX3_first_46 : decode cX3_first 46 = .ok (.ireturn, 1) := by decide +kernel
abbrev cX3_fresh : ByteArray := prog_4_method_30_code
def yX3_fresh : MethodName := ⟨RX3, "fresh", "(II)I"⟩
theorem dX3_fresh_0 : decode cX3_fresh 0 = .ok (.aload_n 0, 1) := by decide +kernel
theorem dX3_fresh_1 : decode cX3_fresh 1 = .ok (.invokevirtual 61, 3) := by decide +kernel
theorem dX3_fresh_4 : decode cX3_fresh 4 = .ok (.aload_n 0, 1) := by decide +kernel
theorem dX3_fresh_5 : decode cX3_fresh 5 = .ok (.aload_n 0, 1) := by decide +kernel
theorem dX3_fresh_6 : decode cX3_fresh 6 = .ok (.getfield 139, 3) := by decide +kernel
theorem dX3_fresh_9 : decode cX3_fresh 9 = .ok (.aload_n 0, 1) := by decide +kernel
theorem dX3_fresh_10 : decode cX3_fresh 10 = .ok (.getfield 142, 3) := by decide +kernel
theorem dX3_fresh_13 : decode cX3_fresh 13 = .ok (.invokestatic 20, 3) := by decide +kernel
theorem dX3_fresh_16 : decode cX3_fresh 16 = .ok (.putfield 139, 3) := by decide +kernel
theorem dX3_fresh_19 : decode cX3_fresh 19 = .ok (.aload_n 0, 1) := by decide +kernel
theorem dX3_fresh_20 : decode cX3_fresh 20 = .ok (.aload_n 0, 1) := by decide +kernel
theorem dX3_fresh_21 : decode cX3_fresh 21 = .ok (.getfield 145, 3) := by decide +kernel
theorem dX3_fresh_24 : decode cX3_fresh 24 = .ok (.aload_n 0, 1) := by decide +kernel
theorem dX3_fresh_25 : decode cX3_fresh 25 = .ok (.getfield 142, 3) := by decide +kernel
theorem dX3_fresh_28 : decode cX3_fresh 28 = .ok (.invokestatic 20, 3) := by decide +kernel
theorem dX3_fresh_31 : decode cX3_fresh 31 = .ok (.putfield 145, 3) := by decide +kernel
theorem dX3_fresh_34 : decode cX3_fresh 34 = .ok (.aload_n 0, 1) := by decide +kernel
theorem dX3_fresh_35 : decode cX3_fresh 35 = .ok (.getfield 139, 3) := by decide +kernel
theorem dX3_fresh_38 : decode cX3_fresh 38 = .ok (.aload_n 0, 1) := by decide +kernel
theorem dX3_fresh_39 : decode cX3_fresh 39 = .ok (.getfield 142, 3) := by decide +kernel
theorem dX3_fresh_42 : decode cX3_fresh 42 = .ok (.iload_n 1, 1) := by decide +kernel
theorem dX3_fresh_43 : decode cX3_fresh 43 = .ok (.iastore, 1) := by decide +kernel
theorem dX3_fresh_44 : decode cX3_fresh 44 = .ok (.aload_n 0, 1) := by decide +kernel
theorem dX3_fresh_45 : decode cX3_fresh 45 = .ok (.getfield 145, 3) := by decide +kernel
theorem dX3_fresh_48 : decode cX3_fresh 48 = .ok (.aload_n 0, 1) := by decide +kernel
theorem dX3_fresh_49 : decode cX3_fresh 49 = .ok (.getfield 142, 3) := by decide +kernel
theorem dX3_fresh_52 : decode cX3_fresh 52 = .ok (.iload_n 2, 1) := by decide +kernel
theorem dX3_fresh_53 : decode cX3_fresh 53 = .ok (.iastore, 1) := by decide +kernel
theorem dX3_fresh_54 : decode cX3_fresh 54 = .ok (.aload_n 0, 1) := by decide +kernel
theorem dX3_fresh_55 : decode cX3_fresh 55 = .ok (.dup, 1) := by decide +kernel
theorem dX3_fresh_56 : decode cX3_fresh 56 = .ok (.getfield 142, 3) := by decide +kernel
theorem dX3_fresh_59 : decode cX3_fresh 59 = .ok (.dup_x1, 1) := by decide +kernel
theorem dX3_fresh_60 : decode cX3_fresh 60 = .ok (.iconst 1, 1) := by decide +kernel
theorem dX3_fresh_61 : decode cX3_fresh 61 = .ok (.iadd, 1) := by decide +kernel
theorem dX3_fresh_62 : decode cX3_fresh 62 = .ok (.putfield 142, 3) := by decide +kernel
theorem dX3_fresh_65 : decode cX3_fresh 65 = .ok (.ireturn, 1) := by decide +kernel
abbrev cX3_anew : ByteArray := prog_4_method_37_code
def yX3_anew : MethodName := ⟨RX3, "anew", "()V"⟩
theorem dX3_anew_0 : decode cX3_anew 0 = .ok (.aload_n 0, 1) := by decide +kernel
theorem dX3_anew_1 : decode cX3_anew 1 = .ok (.dup, 1) := by decide +kernel
theorem dX3_anew_2 : decode cX3_anew 2 = .ok (.getfield 165, 3) := by decide +kernel
theorem dX3_anew_5 : decode cX3_anew 5 = .ok (.iconst 1, 1) := by decide +kernel
theorem dX3_anew_6 : decode cX3_anew 6 = .ok (.iadd, 1) := by decide +kernel
theorem dX3_anew_7 : decode cX3_anew 7 = .ok (.putfield 165, 3) := by decide +kernel
theorem dX3_anew_10 : decode cX3_anew 10 = .ok (.aload_n 0, 1) := by decide +kernel
theorem dX3_anew_11 : decode cX3_anew 11 = .ok (.getfield 165, 3) := by decide +kernel
theorem dX3_anew_14 : decode cX3_anew 14 = .ok (.ldc 168, 2) := by decide +kernel
theorem dX3_anew_16 : decode cX3_anew 16 = .ok (.if_icmp .ge 4, 3) := by decide +kernel
theorem dX3_anew_19 : decode cX3_anew 19 = .ok (.return_, 1) := by decide +kernel
theorem dX3_anew_20 : decode cX3_anew 20 = .ok (.iconst 0, 1) := by decide +kernel
theorem dX3_anew_21 : decode cX3_anew 21 = .ok (.istore_n 1, 1) := by decide +kernel
theorem dX3_anew_22 : decode cX3_anew 22 = .ok (.iload_n 1, 1) := by decide +kernel
theorem dX3_anew_23 : decode cX3_anew 23 = .ok (.aload_n 0, 1) := by decide +kernel
theorem dX3_anew_24 : decode cX3_anew 24 = .ok (.getfield 169, 3) := by decide +kernel
theorem dX3_anew_27 : decode cX3_anew 27 = .ok (.arraylength, 1) := by decide +kernel
theorem dX3_anew_28 : decode cX3_anew 28 = .ok (.if_icmp .ge 16, 3) := by decide +kernel
theorem dX3_anew_31 : decode cX3_anew 31 = .ok (.aload_n 0, 1) := by decide +kernel
theorem dX3_anew_32 : decode cX3_anew 32 = .ok (.getfield 169, 3) := by decide +kernel
theorem dX3_anew_35 : decode cX3_anew 35 = .ok (.iload_n 1, 1) := by decide +kernel
theorem dX3_anew_36 : decode cX3_anew 36 = .ok (.iconst 0, 1) := by decide +kernel
theorem dX3_anew_37 : decode cX3_anew 37 = .ok (.iastore, 1) := by decide +kernel
theorem dX3_anew_38 : decode cX3_anew 38 = .ok (.iinc 1 1, 3) := by decide +kernel
theorem dX3_anew_41 : decode cX3_anew 41 = .ok (.goto (-19), 3) := by decide +kernel
theorem dX3_anew_44 : decode cX3_anew 44 = .ok (.aload_n 0, 1) := by decide +kernel
theorem dX3_anew_45 : decode cX3_anew 45 = .ok (.iconst 1, 1) := by decide +kernel
theorem dX3_anew_46 : decode cX3_anew 46 = .ok (.putfield 165, 3) := by decide +kernel
theorem dX3_anew_49 : decode cX3_anew 49 = .ok (.return_, 1) := by decide +kernel
abbrev cX3_mode : ByteArray := prog_4_method_95_code
def yX3_mode : MethodName := ⟨RX3, "mode", "(IZ)I"⟩
theorem dX3_mode_0 : decode cX3_mode 0 = .ok (.aload_n 0, 1) := by decide +kernel
theorem dX3_mode_1 : decode cX3_mode 1 = .ok (.iconst 0, 1) := by decide +kernel
theorem dX3_mode_2 : decode cX3_mode 2 = .ok (.putfield 1, 3) := by decide +kernel
theorem dX3_mode_5 : decode cX3_mode 5 = .ok (.aload_n 0, 1) := by decide +kernel
theorem dX3_mode_6 : decode cX3_mode 6 = .ok (.iload_n 1, 1) := by decide +kernel
theorem dX3_mode_7 : decode cX3_mode 7 = .ok (.iconst 1, 1) := by decide +kernel
theorem dX3_mode_8 : decode cX3_mode 8 = .ok (.invokevirtual 527, 3) := by decide +kernel
theorem dX3_mode_11 : decode cX3_mode 11 = .ok (.istore_n 3, 1) := by decide +kernel
theorem dX3_mode_12 : decode cX3_mode 12 = .ok (.iload_n 3, 1) := by decide +kernel
theorem dX3_mode_13 : decode cX3_mode 13 = .ok (.ifCond .eq 20, 3) := by decide +kernel
theorem dX3_mode_16 : decode cX3_mode 16 = .ok (.aload_n 0, 1) := by decide +kernel
theorem dX3_mode_17 : decode cX3_mode 17 = .ok (.iload_n 3, 1) := by decide +kernel
theorem dX3_mode_18 : decode cX3_mode 18 = .ok (.iload_n 2, 1) := by decide +kernel
theorem dX3_mode_19 : decode cX3_mode 19 = .ok (.ifCond .eq 7, 3) := by decide +kernel
theorem dX3_mode_22 : decode cX3_mode 22 = .ok (.iconst 1, 1) := by decide +kernel
theorem dX3_mode_23 : decode cX3_mode 23 = .ok (.goto 4, 3) := by decide +kernel
theorem dX3_mode_26 : decode cX3_mode 26 = .ok (.iconst 0, 1) := by decide +kernel
theorem dX3_mode_27 : decode cX3_mode 27 = .ok (.invokevirtual 539, 3) := by decide +kernel
theorem dX3_mode_30 : decode cX3_mode 30 = .ok (.ifCond .ne 9, 3) := by decide +kernel
theorem dX3_mode_33 : decode cX3_mode 33 = .ok (.aload_n 0, 1) := by decide +kernel
theorem dX3_mode_34 : decode cX3_mode 34 = .ok (.iconst 1, 1) := by decide +kernel
theorem dX3_mode_35 : decode cX3_mode 35 = .ok (.invokevirtual 533, 3) := by decide +kernel
theorem dX3_mode_38 : decode cX3_mode 38 = .ok (.ireturn, 1) := by decide +kernel
theorem dX3_mode_39 : decode cX3_mode 39 = .ok (.aload_n 0, 1) := by decide +kernel
theorem dX3_mode_40 : decode cX3_mode 40 = .ok (.getfield 515, 3) := by decide +kernel
theorem dX3_mode_43 : decode cX3_mode 43 = .ok (.bipush 20, 2) := by decide +kernel
theorem dX3_mode_45 : decode cX3_mode 45 = .ok (.if_icmp .ne 9, 3) := by decide +kernel
theorem dX3_mode_48 : decode cX3_mode 48 = .ok (.aload_n 0, 1) := by decide +kernel
theorem dX3_mode_49 : decode cX3_mode 49 = .ok (.iconst 2, 1) := by decide +kernel
theorem dX3_mode_50 : decode cX3_mode 50 = .ok (.invokevirtual 533, 3) := by decide +kernel
theorem dX3_mode_53 : decode cX3_mode 53 = .ok (.ireturn, 1) := by decide +kernel
theorem dX3_mode_54 : decode cX3_mode 54 = .ok (.aload_n 0, 1) := by decide +kernel
theorem dX3_mode_55 : decode cX3_mode 55 = .ok (.getfield 156, 3) := by decide +kernel
theorem dX3_mode_58 : decode cX3_mode 58 = .ok (.aload_n 0, 1) := by decide +kernel
theorem dX3_mode_59 : decode cX3_mode 59 = .ok (.getfield 515, 3) := by decide +kernel
theorem dX3_mode_62 : decode cX3_mode 62 = .ok (.iload_n 3, 1) := by decide +kernel
theorem dX3_mode_63 : decode cX3_mode 63 = .ok (.iastore, 1) := by decide +kernel
theorem dX3_mode_64 : decode cX3_mode 64 = .ok (.aload_n 0, 1) := by decide +kernel
theorem dX3_mode_65 : decode cX3_mode 65 = .ok (.getfield 511, 3) := by decide +kernel
theorem dX3_mode_68 : decode cX3_mode 68 = .ok (.aload_n 0, 1) := by decide +kernel
theorem dX3_mode_69 : decode cX3_mode 69 = .ok (.getfield 515, 3) := by decide +kernel
theorem dX3_mode_72 : decode cX3_mode 72 = .ok (.iload_n 2, 1) := by decide +kernel
theorem dX3_mode_73 : decode cX3_mode 73 = .ok (.bastore, 1) := by decide +kernel
theorem dX3_mode_74 : decode cX3_mode 74 = .ok (.aload_n 0, 1) := by decide +kernel
theorem dX3_mode_75 : decode cX3_mode 75 = .ok (.dup, 1) := by decide +kernel
theorem dX3_mode_76 : decode cX3_mode 76 = .ok (.getfield 515, 3) := by decide +kernel
theorem dX3_mode_79 : decode cX3_mode 79 = .ok (.dup_x1, 1) := by decide +kernel
theorem dX3_mode_80 : decode cX3_mode 80 = .ok (.iconst 1, 1) := by decide +kernel
theorem dX3_mode_81 : decode cX3_mode 81 = .ok (.iadd, 1) := by decide +kernel
theorem dX3_mode_82 : decode cX3_mode 82 = .ok (.putfield 515, 3) := by decide +kernel
theorem dX3_mode_85 : decode cX3_mode 85 = .ok (.ireturn, 1) := by decide +kernel
abbrev cX3_form : ByteArray := prog_4_method_89_code
def yX3_form : MethodName := ⟨RX3, "form", "(II)I"⟩
theorem dX3_form_0 : decode cX3_form 0 = .ok (.iload_n 1, 1) := by decide +kernel
theorem dX3_form_1 : decode cX3_form 1 = .ok (.ifCond .lt 34, 3) := by decide +kernel
theorem dX3_form_4 : decode cX3_form 4 = .ok (.iload_n 1, 1) := by decide +kernel
theorem dX3_form_5 : decode cX3_form 5 = .ok (.aload_n 0, 1) := by decide +kernel
theorem dX3_form_6 : decode cX3_form 6 = .ok (.getfield 521, 3) := by decide +kernel
theorem dX3_form_9 : decode cX3_form 9 = .ok (.if_icmp .ge 26, 3) := by decide +kernel
theorem dX3_form_12 : decode cX3_form 12 = .ok (.aload_n 0, 1) := by decide +kernel
theorem dX3_form_13 : decode cX3_form 13 = .ok (.aload_n 0, 1) := by decide +kernel
theorem dX3_form_14 : decode cX3_form 14 = .ok (.getfield 518, 3) := by decide +kernel
theorem dX3_form_17 : decode cX3_form 17 = .ok (.iload_n 1, 1) := by decide +kernel
theorem dX3_form_18 : decode cX3_form 18 = .ok (.iaload, 1) := by decide +kernel
theorem dX3_form_19 : decode cX3_form 19 = .ok (.invokevirtual 524, 3) := by decide +kernel
theorem dX3_form_22 : decode cX3_form 22 = .ok (.iload_n 2, 1) := by decide +kernel
theorem dX3_form_23 : decode cX3_form 23 = .ok (.if_icmp .ne 12, 3) := by decide +kernel
theorem dX3_form_26 : decode cX3_form 26 = .ok (.aload_n 0, 1) := by decide +kernel
theorem dX3_form_27 : decode cX3_form 27 = .ok (.getfield 518, 3) := by decide +kernel
theorem dX3_form_30 : decode cX3_form 30 = .ok (.iload_n 1, 1) := by decide +kernel
theorem dX3_form_31 : decode cX3_form 31 = .ok (.iaload, 1) := by decide +kernel
theorem dX3_form_32 : decode cX3_form 32 = .ok (.goto 4, 3) := by decide +kernel
theorem dX3_form_35 : decode cX3_form 35 = .ok (.iconst 0, 1) := by decide +kernel
theorem dX3_form_36 : decode cX3_form 36 = .ok (.ireturn, 1) := by decide +kernel
abbrev cX3_sortOf : ByteArray := prog_4_method_88_code
def yX3_sortOf : MethodName := ⟨RX3, "sortOf", "(I)I"⟩
theorem dX3_sortOf_0 : decode cX3_sortOf 0 = .ok (.aload_n 0, 1) := by decide +kernel
theorem dX3_sortOf_1 : decode cX3_sortOf 1 = .ok (.getfield 33, 3) := by decide +kernel
theorem dX3_sortOf_4 : decode cX3_sortOf 4 = .ok (.iload_n 1, 1) := by decide +kernel
theorem dX3_sortOf_5 : decode cX3_sortOf 5 = .ok (.iaload, 1) := by decide +kernel
theorem dX3_sortOf_6 : decode cX3_sortOf 6 = .ok (.iconst 4, 1) := by decide +kernel
theorem dX3_sortOf_7 : decode cX3_sortOf 7 = .ok (.if_icmp .le 13, 3) := by decide +kernel
theorem dX3_sortOf_10 : decode cX3_sortOf 10 = .ok (.aload_n 0, 1) := by decide +kernel
theorem dX3_sortOf_11 : decode cX3_sortOf 11 = .ok (.getfield 33, 3) := by decide +kernel
theorem dX3_sortOf_14 : decode cX3_sortOf 14 = .ok (.iload_n 1, 1) := by decide +kernel
theorem dX3_sortOf_15 : decode cX3_sortOf 15 = .ok (.iaload, 1) := by decide +kernel
theorem dX3_sortOf_16 : decode cX3_sortOf 16 = .ok (.iconst 5, 1) := by decide +kernel
theorem dX3_sortOf_17 : decode cX3_sortOf 17 = .ok (.if_icmp .ne 7, 3) := by decide +kernel
theorem dX3_sortOf_20 : decode cX3_sortOf 20 = .ok (.iconst 0, 1) := by decide +kernel
theorem dX3_sortOf_21 : decode cX3_sortOf 21 = .ok (.goto 19, 3) := by decide +kernel
theorem dX3_sortOf_24 : decode cX3_sortOf 24 = .ok (.aload_n 0, 1) := by decide +kernel
theorem dX3_sortOf_25 : decode cX3_sortOf 25 = .ok (.getfield 33, 3) := by decide +kernel
theorem dX3_sortOf_28 : decode cX3_sortOf 28 = .ok (.iload_n 1, 1) := by decide +kernel
theorem dX3_sortOf_29 : decode cX3_sortOf 29 = .ok (.iaload, 1) := by decide +kernel
theorem dX3_sortOf_30 : decode cX3_sortOf 30 = .ok (.bipush 7, 2) := by decide +kernel
theorem dX3_sortOf_32 : decode cX3_sortOf 32 = .ok (.if_icmp .ne 7, 3) := by decide +kernel
theorem dX3_sortOf_35 : decode cX3_sortOf 35 = .ok (.iconst 1, 1) := by decide +kernel
theorem dX3_sortOf_36 : decode cX3_sortOf 36 = .ok (.goto 4, 3) := by decide +kernel
theorem dX3_sortOf_39 : decode cX3_sortOf 39 = .ok (.iconst 2, 1) := by decide +kernel
theorem dX3_sortOf_40 : decode cX3_sortOf 40 = .ok (.ireturn, 1) := by decide +kernel
abbrev cX3_isBelow : ByteArray := prog_4_method_93_code
def yX3_isBelow : MethodName := ⟨RX3, "isBelow", "(II)Z"⟩
theorem dX3_isBelow_0 : decode cX3_isBelow 0 = .ok (.iload_n 2, 1) := by decide +kernel
theorem dX3_isBelow_1 : decode cX3_isBelow 1 = .ok (.ifCond .gt 12, 3) := by decide +kernel
theorem dX3_isBelow_4 : decode cX3_isBelow 4 = .ok (.aload_n 0, 1) := by decide +kernel
theorem dX3_isBelow_5 : decode cX3_isBelow 5 = .ok (.iload_n 1, 1) := by decide +kernel
theorem dX3_isBelow_6 : decode cX3_isBelow 6 = .ok (.iconst 0, 1) := by decide +kernel
theorem dX3_isBelow_7 : decode cX3_isBelow 7 = .ok (.invokevirtual 136, 3) := by decide +kernel
theorem dX3_isBelow_10 : decode cX3_isBelow 10 = .ok (.ifCond .ne 21, 3) := by decide +kernel
theorem dX3_isBelow_13 : decode cX3_isBelow 13 = .ok (.iload_n 2, 1) := by decide +kernel
theorem dX3_isBelow_14 : decode cX3_isBelow 14 = .ok (.iconst 1, 1) := by decide +kernel
theorem dX3_isBelow_15 : decode cX3_isBelow 15 = .ok (.if_icmp .gt 12, 3) := by decide +kernel
theorem dX3_isBelow_18 : decode cX3_isBelow 18 = .ok (.aload_n 0, 1) := by decide +kernel
theorem dX3_isBelow_19 : decode cX3_isBelow 19 = .ok (.iload_n 1, 1) := by decide +kernel
theorem dX3_isBelow_20 : decode cX3_isBelow 20 = .ok (.iconst 1, 1) := by decide +kernel
theorem dX3_isBelow_21 : decode cX3_isBelow 21 = .ok (.invokevirtual 136, 3) := by decide +kernel
theorem dX3_isBelow_24 : decode cX3_isBelow 24 = .ok (.ifCond .ne 7, 3) := by decide +kernel
theorem dX3_isBelow_27 : decode cX3_isBelow 27 = .ok (.iconst 1, 1) := by decide +kernel
theorem dX3_isBelow_28 : decode cX3_isBelow 28 = .ok (.goto 4, 3) := by decide +kernel
theorem dX3_isBelow_31 : decode cX3_isBelow 31 = .ok (.iconst 0, 1) := by decide +kernel
theorem dX3_isBelow_32 : decode cX3_isBelow 32 = .ok (.ireturn, 1) := by decide +kernel
abbrev cX3_mentions : ByteArray := prog_4_method_29_code
def yX3_mentions : MethodName := ⟨RX3, "mentions", "(II)Z"⟩
theorem dX3_mentions_0 : decode cX3_mentions 0 = .ok (.aload_n 0, 1) := by decide +kernel
theorem dX3_mentions_1 : decode cX3_mentions 1 = .ok (.getfield 33, 3) := by decide +kernel
theorem dX3_mentions_4 : decode cX3_mentions 4 = .ok (.iload_n 1, 1) := by decide +kernel
theorem dX3_mentions_5 : decode cX3_mentions 5 = .ok (.iaload, 1) := by decide +kernel
theorem dX3_mentions_6 : decode cX3_mentions 6 = .ok (.iconst 2, 1) := by decide +kernel
theorem dX3_mentions_7 : decode cX3_mentions 7 = .ok (.if_icmp .ne 19, 3) := by decide +kernel
theorem dX3_mentions_10 : decode cX3_mentions 10 = .ok (.aload_n 0, 1) := by decide +kernel
theorem dX3_mentions_11 : decode cX3_mentions 11 = .ok (.iload_n 1, 1) := by decide +kernel
theorem dX3_mentions_12 : decode cX3_mentions 12 = .ok (.iconst 0, 1) := by decide +kernel
theorem dX3_mentions_13 : decode cX3_mentions 13 = .ok (.invokevirtual 65, 3) := by decide +kernel
theorem dX3_mentions_16 : decode cX3_mentions 16 = .ok (.iload_n 2, 1) := by decide +kernel
theorem dX3_mentions_17 : decode cX3_mentions 17 = .ok (.if_icmp .ne 7, 3) := by decide +kernel
theorem dX3_mentions_20 : decode cX3_mentions 20 = .ok (.iconst 1, 1) := by decide +kernel
theorem dX3_mentions_21 : decode cX3_mentions 21 = .ok (.goto 4, 3) := by decide +kernel
theorem dX3_mentions_24 : decode cX3_mentions 24 = .ok (.iconst 0, 1) := by decide +kernel
theorem dX3_mentions_25 : decode cX3_mentions 25 = .ok (.ireturn, 1) := by decide +kernel
theorem dX3_mentions_26 : decode cX3_mentions 26 = .ok (.iconst 0, 1) := by decide +kernel
theorem dX3_mentions_27 : decode cX3_mentions 27 = .ok (.istore_n 3, 1) := by decide +kernel
theorem dX3_mentions_28 : decode cX3_mentions 28 = .ok (.iload_n 3, 1) := by decide +kernel
theorem dX3_mentions_29 : decode cX3_mentions 29 = .ok (.aload_n 0, 1) := by decide +kernel
theorem dX3_mentions_30 : decode cX3_mentions 30 = .ok (.getfield 36, 3) := by decide +kernel
theorem dX3_mentions_33 : decode cX3_mentions 33 = .ok (.iload_n 1, 1) := by decide +kernel
theorem dX3_mentions_34 : decode cX3_mentions 34 = .ok (.iaload, 1) := by decide +kernel
theorem dX3_mentions_35 : decode cX3_mentions 35 = .ok (.if_icmp .ge 34, 3) := by decide +kernel
theorem dX3_mentions_38 : decode cX3_mentions 38 = .ok (.aload_n 0, 1) := by decide +kernel
theorem dX3_mentions_39 : decode cX3_mentions 39 = .ok (.iload_n 1, 1) := by decide +kernel
theorem dX3_mentions_40 : decode cX3_mentions 40 = .ok (.iload_n 3, 1) := by decide +kernel
theorem dX3_mentions_41 : decode cX3_mentions 41 = .ok (.invokevirtual 109, 3) := by decide +kernel
theorem dX3_mentions_44 : decode cX3_mentions 44 = .ok (.ifCond .eq 19, 3) := by decide +kernel
theorem dX3_mentions_47 : decode cX3_mentions 47 = .ok (.aload_n 0, 1) := by decide +kernel
theorem dX3_mentions_48 : decode cX3_mentions 48 = .ok (.aload_n 0, 1) := by decide +kernel
theorem dX3_mentions_49 : decode cX3_mentions 49 = .ok (.iload_n 1, 1) := by decide +kernel
theorem dX3_mentions_50 : decode cX3_mentions 50 = .ok (.iload_n 3, 1) := by decide +kernel
theorem dX3_mentions_51 : decode cX3_mentions 51 = .ok (.invokevirtual 65, 3) := by decide +kernel
theorem dX3_mentions_54 : decode cX3_mentions 54 = .ok (.iload_n 2, 1) := by decide +kernel
theorem dX3_mentions_55 : decode cX3_mentions 55 = .ok (.invokevirtual 136, 3) := by decide +kernel
theorem dX3_mentions_58 : decode cX3_mentions 58 = .ok (.ifCond .eq 5, 3) := by decide +kernel
theorem dX3_mentions_61 : decode cX3_mentions 61 = .ok (.iconst 1, 1) := by decide +kernel
theorem dX3_mentions_62 : decode cX3_mentions 62 = .ok (.ireturn, 1) := by decide +kernel
theorem dX3_mentions_63 : decode cX3_mentions 63 = .ok (.iinc 3 1, 3) := by decide +kernel
theorem dX3_mentions_66 : decode cX3_mentions 66 = .ok (.goto (-38), 3) := by decide +kernel
theorem dX3_mentions_69 : decode cX3_mentions 69 = .ok (.iconst 0, 1) := by decide +kernel
theorem dX3_mentions_70 : decode cX3_mentions 70 = .ok (.ireturn, 1) := by decide +kernel
abbrev cX3_isPart : ByteArray := prog_4_method_23_code
def yX3_isPart : MethodName := ⟨RX3, "isPart", "(II)Z"⟩
theorem dX3_isPart_0 : decode cX3_isPart 0 = .ok (.aload_n 0, 1) := by decide +kernel
theorem dX3_isPart_1 : decode cX3_isPart 1 = .ok (.getfield 33, 3) := by decide +kernel
theorem dX3_isPart_4 : decode cX3_isPart 4 = .ok (.iload_n 1, 1) := by decide +kernel
theorem dX3_isPart_5 : decode cX3_isPart 5 = .ok (.iaload, 1) := by decide +kernel
theorem dX3_isPart_6 : decode cX3_isPart 6 = .ok (.istore_n 3, 1) := by decide +kernel
theorem dX3_isPart_7 : decode cX3_isPart 7 = .ok (.iload_n 3, 1) := by decide +kernel
theorem dX3_isPart_8 : decode cX3_isPart 8 = .ok (.iconst 2, 1) := by decide +kernel
theorem dX3_isPart_9 : decode cX3_isPart 9 = .ok (.if_icmp .eq 19, 3) := by decide +kernel
theorem dX3_isPart_12 : decode cX3_isPart 12 = .ok (.iload_n 3, 1) := by decide +kernel
theorem dX3_isPart_13 : decode cX3_isPart 13 = .ok (.iconst 3, 1) := by decide +kernel
theorem dX3_isPart_14 : decode cX3_isPart 14 = .ok (.if_icmp .eq 14, 3) := by decide +kernel
theorem dX3_isPart_17 : decode cX3_isPart 17 = .ok (.iload_n 3, 1) := by decide +kernel
theorem dX3_isPart_18 : decode cX3_isPart 18 = .ok (.iconst 1, 1) := by decide +kernel
theorem dX3_isPart_19 : decode cX3_isPart 19 = .ok (.if_icmp .eq 9, 3) := by decide +kernel
theorem dX3_isPart_22 : decode cX3_isPart 22 = .ok (.iload_n 3, 1) := by decide +kernel
theorem dX3_isPart_23 : decode cX3_isPart 23 = .ok (.bipush 8, 2) := by decide +kernel
theorem dX3_isPart_25 : decode cX3_isPart 25 = .ok (.if_icmp .ne 5, 3) := by decide +kernel
theorem dX3_isPart_28 : decode cX3_isPart 28 = .ok (.iconst 0, 1) := by decide +kernel
theorem dX3_isPart_29 : decode cX3_isPart 29 = .ok (.ireturn, 1) := by decide +kernel
theorem dX3_isPart_30 : decode cX3_isPart 30 = .ok (.iload_n 3, 1) := by decide +kernel
theorem dX3_isPart_31 : decode cX3_isPart 31 = .ok (.bipush 7, 2) := by decide +kernel
theorem dX3_isPart_33 : decode cX3_isPart 33 = .ok (.if_icmp .ne 23, 3) := by decide +kernel
theorem dX3_isPart_36 : decode cX3_isPart 36 = .ok (.iload_n 2, 1) := by decide +kernel
theorem dX3_isPart_37 : decode cX3_isPart 37 = .ok (.iconst 1, 1) := by decide +kernel
theorem dX3_isPart_38 : decode cX3_isPart 38 = .ok (.if_icmp .ne 16, 3) := by decide +kernel
theorem dX3_isPart_41 : decode cX3_isPart 41 = .ok (.aload_n 0, 1) := by decide +kernel
theorem dX3_isPart_42 : decode cX3_isPart 42 = .ok (.iload_n 1, 1) := by decide +kernel
theorem dX3_isPart_43 : decode cX3_isPart 43 = .ok (.iconst 1, 1) := by decide +kernel
theorem dX3_isPart_44 : decode cX3_isPart 44 = .ok (.invokevirtual 65, 3) := by decide +kernel
theorem dX3_isPart_47 : decode cX3_isPart 47 = .ok (.ifCond .le 7, 3) := by decide +kernel
theorem dX3_isPart_50 : decode cX3_isPart 50 = .ok (.iconst 1, 1) := by decide +kernel
theorem dX3_isPart_51 : decode cX3_isPart 51 = .ok (.goto 4, 3) := by decide +kernel
theorem dX3_isPart_54 : decode cX3_isPart 54 = .ok (.iconst 0, 1) := by decide +kernel
theorem dX3_isPart_55 : decode cX3_isPart 55 = .ok (.ireturn, 1) := by decide +kernel
theorem dX3_isPart_56 : decode cX3_isPart 56 = .ok (.iload_n 2, 1) := by decide +kernel
theorem dX3_isPart_57 : decode cX3_isPart 57 = .ok (.iload_n 3, 1) := by decide +kernel
theorem dX3_isPart_58 : decode cX3_isPart 58 = .ok (.invokestatic 68, 3) := by decide +kernel
theorem dX3_isPart_61 : decode cX3_isPart 61 = .ok (.if_icmp .lt 16, 3) := by decide +kernel
theorem dX3_isPart_64 : decode cX3_isPart 64 = .ok (.aload_n 0, 1) := by decide +kernel
theorem dX3_isPart_65 : decode cX3_isPart 65 = .ok (.iload_n 1, 1) := by decide +kernel
theorem dX3_isPart_66 : decode cX3_isPart 66 = .ok (.iload_n 2, 1) := by decide +kernel
theorem dX3_isPart_67 : decode cX3_isPart 67 = .ok (.invokevirtual 65, 3) := by decide +kernel
theorem dX3_isPart_70 : decode cX3_isPart 70 = .ok (.ifCond .le 7, 3) := by decide +kernel
theorem dX3_isPart_73 : decode cX3_isPart 73 = .ok (.iconst 1, 1) := by decide +kernel
theorem dX3_isPart_74 : decode cX3_isPart 74 = .ok (.goto 4, 3) := by decide +kernel
theorem dX3_isPart_77 : decode cX3_isPart 77 = .ok (.iconst 0, 1) := by decide +kernel
theorem dX3_isPart_78 : decode cX3_isPart 78 = .ok (.ireturn, 1) := by decide +kernel
abbrev cX3_fails : ByteArray := prog_4_method_87_code
def yX3_fails : MethodName := ⟨RX3, "fails", "(I)I"⟩
theorem dX3_fails_0 : decode cX3_fails 0 = .ok (.aload_n 0, 1) := by decide +kernel
theorem dX3_fails_1 : decode cX3_fails 1 = .ok (.iload_n 1, 1) := by decide +kernel
theorem dX3_fails_2 : decode cX3_fails 2 = .ok (.putfield 1, 3) := by decide +kernel
theorem dX3_fails_5 : decode cX3_fails 5 = .ok (.iconst 0, 1) := by decide +kernel
theorem dX3_fails_6 : decode cX3_fails 6 = .ok (.ireturn, 1) := by decide +kernel
abbrev cX3_attribute : ByteArray := prog_4_method_96_code
def yX3_attribute : MethodName := ⟨RX3, "attribute", "()I"⟩
theorem dX3_attribute_0 : decode cX3_attribute 0 = .ok (.aload_n 0, 1) := by decide +kernel
theorem dX3_attribute_1 : decode cX3_attribute 1 = .ok (.iconst 0, 1) := by decide +kernel
theorem dX3_attribute_2 : decode cX3_attribute 2 = .ok (.putfield 1, 3) := by decide +kernel
theorem dX3_attribute_5 : decode cX3_attribute 5 = .ok (.aload_n 0, 1) := by decide +kernel
theorem dX3_attribute_6 : decode cX3_attribute 6 = .ok (.getfield 536, 3) := by decide +kernel
theorem dX3_attribute_9 : decode cX3_attribute 9 = .ok (.bipush 15, 2) := by decide +kernel
theorem dX3_attribute_11 : decode cX3_attribute 11 = .ok (.if_icmp .ne 11, 3) := by decide +kernel
theorem dX3_attribute_14 : decode cX3_attribute 14 = .ok (.aload_n 0, 1) := by decide +kernel
theorem dX3_attribute_15 : decode cX3_attribute 15 = .ok (.iconst 1, 1) := by decide +kernel
theorem dX3_attribute_16 : decode cX3_attribute 16 = .ok (.invokevirtual 533, 3) := by decide +kernel
theorem dX3_attribute_19 : decode cX3_attribute 19 = .ok (.goto 14, 3) := by decide +kernel
theorem dX3_attribute_22 : decode cX3_attribute 22 = .ok (.aload_n 0, 1) := by decide +kernel
theorem dX3_attribute_23 : decode cX3_attribute 23 = .ok (.dup, 1) := by decide +kernel
theorem dX3_attribute_24 : decode cX3_attribute 24 = .ok (.getfield 536, 3) := by decide +kernel
theorem dX3_attribute_27 : decode cX3_attribute 27 = .ok (.dup_x1, 1) := by decide +kernel
theorem dX3_attribute_28 : decode cX3_attribute 28 = .ok (.iconst 1, 1) := by decide +kernel
theorem dX3_attribute_29 : decode cX3_attribute 29 = .ok (.iadd, 1) := by decide +kernel
theorem dX3_attribute_30 : decode cX3_attribute 30 = .ok (.putfield 536, 3) := by decide +kernel
theorem dX3_attribute_33 : decode cX3_attribute 33 = .ok (.ireturn, 1) := by decide +kernel
abbrev cX3_functor : ByteArray := prog_4_method_97_code
def yX3_functor : MethodName := ⟨RX3, "functor", "(II)I"⟩
theorem dX3_functor_0 : decode cX3_functor 0 = .ok (.aload_n 0, 1) := by decide +kernel
theorem dX3_functor_1 : decode cX3_functor 1 = .ok (.iconst 0, 1) := by decide +kernel
theorem dX3_functor_2 : decode cX3_functor 2 = .ok (.putfield 1, 3) := by decide +kernel
theorem dX3_functor_5 : decode cX3_functor 5 = .ok (.aload_n 0, 1) := by decide +kernel
theorem dX3_functor_6 : decode cX3_functor 6 = .ok (.iload_n 2, 1) := by decide +kernel
theorem dX3_functor_7 : decode cX3_functor 7 = .ok (.iconst 1, 1) := by decide +kernel
theorem dX3_functor_8 : decode cX3_functor 8 = .ok (.invokevirtual 527, 3) := by decide +kernel
theorem dX3_functor_11 : decode cX3_functor 11 = .ok (.istore_n 3, 1) := by decide +kernel
theorem dX3_functor_12 : decode cX3_functor 12 = .ok (.iload_n 1, 1) := by decide +kernel
theorem dX3_functor_13 : decode cX3_functor 13 = .ok (.ifCond .lt 21, 3) := by decide +kernel
theorem dX3_functor_16 : decode cX3_functor 16 = .ok (.iload_n 1, 1) := by decide +kernel
theorem dX3_functor_17 : decode cX3_functor 17 = .ok (.iconst 2, 1) := by decide +kernel
theorem dX3_functor_18 : decode cX3_functor 18 = .ok (.if_icmp .gt 16, 3) := by decide +kernel
theorem dX3_functor_21 : decode cX3_functor 21 = .ok (.iload_n 3, 1) := by decide +kernel
theorem dX3_functor_22 : decode cX3_functor 22 = .ok (.ifCond .eq 12, 3) := by decide +kernel
theorem dX3_functor_25 : decode cX3_functor 25 = .ok (.aload_n 0, 1) := by decide +kernel
theorem dX3_functor_26 : decode cX3_functor 26 = .ok (.iload_n 3, 1) := by decide +kernel
theorem dX3_functor_27 : decode cX3_functor 27 = .ok (.iload_n 1, 1) := by decide +kernel
theorem dX3_functor_28 : decode cX3_functor 28 = .ok (.invokevirtual 539, 3) := by decide +kernel
theorem dX3_functor_31 : decode cX3_functor 31 = .ok (.ifCond .ne 9, 3) := by decide +kernel
theorem dX3_functor_34 : decode cX3_functor 34 = .ok (.aload_n 0, 1) := by decide +kernel
theorem dX3_functor_35 : decode cX3_functor 35 = .ok (.iconst 1, 1) := by decide +kernel
theorem dX3_functor_36 : decode cX3_functor 36 = .ok (.invokevirtual 533, 3) := by decide +kernel
theorem dX3_functor_39 : decode cX3_functor 39 = .ok (.ireturn, 1) := by decide +kernel
theorem dX3_functor_40 : decode cX3_functor 40 = .ok (.aload_n 0, 1) := by decide +kernel
theorem dX3_functor_41 : decode cX3_functor 41 = .ok (.getfield 542, 3) := by decide +kernel
theorem dX3_functor_44 : decode cX3_functor 44 = .ok (.bipush 30, 2) := by decide +kernel
theorem dX3_functor_46 : decode cX3_functor 46 = .ok (.if_icmp .ne 9, 3) := by decide +kernel
theorem dX3_functor_49 : decode cX3_functor 49 = .ok (.aload_n 0, 1) := by decide +kernel
theorem dX3_functor_50 : decode cX3_functor 50 = .ok (.iconst 2, 1) := by decide +kernel
theorem dX3_functor_51 : decode cX3_functor 51 = .ok (.invokevirtual 533, 3) := by decide +kernel
theorem dX3_functor_54 : decode cX3_functor 54 = .ok (.ireturn, 1) := by decide +kernel
theorem dX3_functor_55 : decode cX3_functor 55 = .ok (.aload_n 0, 1) := by decide +kernel
theorem dX3_functor_56 : decode cX3_functor 56 = .ok (.getfield 505, 3) := by decide +kernel
theorem dX3_functor_59 : decode cX3_functor 59 = .ok (.aload_n 0, 1) := by decide +kernel
theorem dX3_functor_60 : decode cX3_functor 60 = .ok (.getfield 542, 3) := by decide +kernel
theorem dX3_functor_63 : decode cX3_functor 63 = .ok (.iload_n 1, 1) := by decide +kernel
theorem dX3_functor_64 : decode cX3_functor 64 = .ok (.iastore, 1) := by decide +kernel
theorem dX3_functor_65 : decode cX3_functor 65 = .ok (.aload_n 0, 1) := by decide +kernel
theorem dX3_functor_66 : decode cX3_functor 66 = .ok (.getfield 151, 3) := by decide +kernel
theorem dX3_functor_69 : decode cX3_functor 69 = .ok (.aload_n 0, 1) := by decide +kernel
theorem dX3_functor_70 : decode cX3_functor 70 = .ok (.getfield 542, 3) := by decide +kernel
theorem dX3_functor_73 : decode cX3_functor 73 = .ok (.iload_n 3, 1) := by decide +kernel
theorem dX3_functor_74 : decode cX3_functor 74 = .ok (.iastore, 1) := by decide +kernel
theorem dX3_functor_75 : decode cX3_functor 75 = .ok (.aload_n 0, 1) := by decide +kernel
theorem dX3_functor_76 : decode cX3_functor 76 = .ok (.dup, 1) := by decide +kernel
theorem dX3_functor_77 : decode cX3_functor 77 = .ok (.getfield 542, 3) := by decide +kernel
theorem dX3_functor_80 : decode cX3_functor 80 = .ok (.dup_x1, 1) := by decide +kernel
theorem dX3_functor_81 : decode cX3_functor 81 = .ok (.iconst 1, 1) := by decide +kernel
theorem dX3_functor_82 : decode cX3_functor 82 = .ok (.iadd, 1) := by decide +kernel
theorem dX3_functor_83 : decode cX3_functor 83 = .ok (.putfield 542, 3) := by decide +kernel
theorem dX3_functor_86 : decode cX3_functor 86 = .ok (.ireturn, 1) := by decide +kernel
abbrev cX3_predicate : ByteArray := prog_4_method_98_code
def yX3_predicate : MethodName := ⟨RX3, "predicate", "(I)I"⟩
theorem dX3_predicate_0 : decode cX3_predicate 0 = .ok (.aload_n 0, 1) := by decide +kernel
theorem dX3_predicate_1 : decode cX3_predicate 1 = .ok (.iconst 0, 1) := by decide +kernel
theorem dX3_predicate_2 : decode cX3_predicate 2 = .ok (.putfield 1, 3) := by decide +kernel
theorem dX3_predicate_5 : decode cX3_predicate 5 = .ok (.iload_n 1, 1) := by decide +kernel
theorem dX3_predicate_6 : decode cX3_predicate 6 = .ok (.ifCond .lt 8, 3) := by decide +kernel
theorem dX3_predicate_9 : decode cX3_predicate 9 = .ok (.iload_n 1, 1) := by decide +kernel
theorem dX3_predicate_10 : decode cX3_predicate 10 = .ok (.iconst 2, 1) := by decide +kernel
theorem dX3_predicate_11 : decode cX3_predicate 11 = .ok (.if_icmp .le 9, 3) := by decide +kernel
theorem dX3_predicate_14 : decode cX3_predicate 14 = .ok (.aload_n 0, 1) := by decide +kernel
theorem dX3_predicate_15 : decode cX3_predicate 15 = .ok (.iconst 1, 1) := by decide +kernel
theorem dX3_predicate_16 : decode cX3_predicate 16 = .ok (.invokevirtual 533, 3) := by decide +kernel
theorem dX3_predicate_19 : decode cX3_predicate 19 = .ok (.ireturn, 1) := by decide +kernel
theorem dX3_predicate_20 : decode cX3_predicate 20 = .ok (.aload_n 0, 1) := by decide +kernel
theorem dX3_predicate_21 : decode cX3_predicate 21 = .ok (.getfield 545, 3) := by decide +kernel
theorem dX3_predicate_24 : decode cX3_predicate 24 = .ok (.bipush 10, 2) := by decide +kernel
theorem dX3_predicate_26 : decode cX3_predicate 26 = .ok (.if_icmp .ne 9, 3) := by decide +kernel
theorem dX3_predicate_29 : decode cX3_predicate 29 = .ok (.aload_n 0, 1) := by decide +kernel
theorem dX3_predicate_30 : decode cX3_predicate 30 = .ok (.iconst 2, 1) := by decide +kernel
theorem dX3_predicate_31 : decode cX3_predicate 31 = .ok (.invokevirtual 533, 3) := by decide +kernel
theorem dX3_predicate_34 : decode cX3_predicate 34 = .ok (.ireturn, 1) := by decide +kernel
theorem dX3_predicate_35 : decode cX3_predicate 35 = .ok (.aload_n 0, 1) := by decide +kernel
theorem dX3_predicate_36 : decode cX3_predicate 36 = .ok (.getfield 508, 3) := by decide +kernel
theorem dX3_predicate_39 : decode cX3_predicate 39 = .ok (.aload_n 0, 1) := by decide +kernel
theorem dX3_predicate_40 : decode cX3_predicate 40 = .ok (.getfield 545, 3) := by decide +kernel
theorem dX3_predicate_43 : decode cX3_predicate 43 = .ok (.iload_n 1, 1) := by decide +kernel
theorem dX3_predicate_44 : decode cX3_predicate 44 = .ok (.iastore, 1) := by decide +kernel
theorem dX3_predicate_45 : decode cX3_predicate 45 = .ok (.aload_n 0, 1) := by decide +kernel
theorem dX3_predicate_46 : decode cX3_predicate 46 = .ok (.dup, 1) := by decide +kernel
theorem dX3_predicate_47 : decode cX3_predicate 47 = .ok (.getfield 545, 3) := by decide +kernel
theorem dX3_predicate_50 : decode cX3_predicate 50 = .ok (.dup_x1, 1) := by decide +kernel
theorem dX3_predicate_51 : decode cX3_predicate 51 = .ok (.iconst 1, 1) := by decide +kernel
theorem dX3_predicate_52 : decode cX3_predicate 52 = .ok (.iadd, 1) := by decide +kernel
theorem dX3_predicate_53 : decode cX3_predicate 53 = .ok (.putfield 545, 3) := by decide +kernel
theorem dX3_predicate_56 : decode cX3_predicate 56 = .ok (.ireturn, 1) := by decide +kernel
abbrev cX3_type : ByteArray := prog_4_method_99_code
def yX3_type : MethodName := ⟨RX3, "type", "(III)I"⟩
theorem dX3_type_0 : decode cX3_type 0 = .ok (.aload_n 0, 1) := by decide +kernel
theorem dX3_type_1 : decode cX3_type 1 = .ok (.iconst 0, 1) := by decide +kernel
theorem dX3_type_2 : decode cX3_type 2 = .ok (.putfield 1, 3) := by decide +kernel
theorem dX3_type_5 : decode cX3_type 5 = .ok (.iload_n 1, 1) := by decide +kernel
theorem dX3_type_6 : decode cX3_type 6 = .ok (.ifCond .lt 19, 3) := by decide +kernel
theorem dX3_type_9 : decode cX3_type 9 = .ok (.iload_n 1, 1) := by decide +kernel
theorem dX3_type_10 : decode cX3_type 10 = .ok (.aload_n 0, 1) := by decide +kernel
theorem dX3_type_11 : decode cX3_type 11 = .ok (.getfield 515, 3) := by decide +kernel
theorem dX3_type_14 : decode cX3_type 14 = .ok (.if_icmp .ge 11, 3) := by decide +kernel
theorem dX3_type_17 : decode cX3_type 17 = .ok (.aload_n 0, 1) := by decide +kernel
theorem dX3_type_18 : decode cX3_type 18 = .ok (.iload_n 3, 1) := by decide +kernel
theorem dX3_type_19 : decode cX3_type 19 = .ok (.invokevirtual 548, 3) := by decide +kernel
theorem dX3_type_22 : decode cX3_type 22 = .ok (.ifCond .ne 9, 3) := by decide +kernel
theorem dX3_type_25 : decode cX3_type 25 = .ok (.aload_n 0, 1) := by decide +kernel
theorem dX3_type_26 : decode cX3_type 26 = .ok (.iconst 1, 1) := by decide +kernel
theorem dX3_type_27 : decode cX3_type 27 = .ok (.invokevirtual 533, 3) := by decide +kernel
theorem dX3_type_30 : decode cX3_type 30 = .ok (.ireturn, 1) := by decide +kernel
theorem dX3_type_31 : decode cX3_type 31 = .ok (.aload_n 0, 1) := by decide +kernel
theorem dX3_type_32 : decode cX3_type 32 = .ok (.getfield 511, 3) := by decide +kernel
theorem dX3_type_35 : decode cX3_type 35 = .ok (.iload_n 1, 1) := by decide +kernel
theorem dX3_type_36 : decode cX3_type 36 = .ok (.baload, 1) := by decide +kernel
theorem dX3_type_37 : decode cX3_type 37 = .ok (.ifCond .eq 12, 3) := by decide +kernel
theorem dX3_type_40 : decode cX3_type 40 = .ok (.aload_n 0, 1) := by decide +kernel
theorem dX3_type_41 : decode cX3_type 41 = .ok (.iload_n 2, 1) := by decide +kernel
theorem dX3_type_42 : decode cX3_type 42 = .ok (.iconst 0, 1) := by decide +kernel
theorem dX3_type_43 : decode cX3_type 43 = .ok (.invokevirtual 527, 3) := by decide +kernel
theorem dX3_type_46 : decode cX3_type 46 = .ok (.goto 4, 3) := by decide +kernel
theorem dX3_type_49 : decode cX3_type 49 = .ok (.iconst 0, 1) := by decide +kernel
theorem dX3_type_50 : decode cX3_type 50 = .ok (.istore 4, 2) := by decide +kernel
theorem dX3_type_52 : decode cX3_type 52 = .ok (.aload_n 0, 1) := by decide +kernel
theorem dX3_type_53 : decode cX3_type 53 = .ok (.getfield 511, 3) := by decide +kernel
theorem dX3_type_56 : decode cX3_type 56 = .ok (.iload_n 1, 1) := by decide +kernel
theorem dX3_type_57 : decode cX3_type 57 = .ok (.baload, 1) := by decide +kernel
theorem dX3_type_58 : decode cX3_type 58 = .ok (.ifCond .eq 11, 3) := by decide +kernel
theorem dX3_type_61 : decode cX3_type 61 = .ok (.iload 4, 2) := by decide +kernel
theorem dX3_type_63 : decode cX3_type 63 = .ok (.ifCond .ne 17, 3) := by decide +kernel
theorem dX3_type_66 : decode cX3_type 66 = .ok (.goto 8, 3) := by decide +kernel
theorem dX3_type_69 : decode cX3_type 69 = .ok (.iload_n 2, 1) := by decide +kernel
theorem dX3_type_70 : decode cX3_type 70 = .ok (.iconst (-1), 1) := by decide +kernel
theorem dX3_type_71 : decode cX3_type 71 = .ok (.if_icmp .eq 9, 3) := by decide +kernel
theorem dX3_type_74 : decode cX3_type 74 = .ok (.aload_n 0, 1) := by decide +kernel
theorem dX3_type_75 : decode cX3_type 75 = .ok (.iconst 1, 1) := by decide +kernel
theorem dX3_type_76 : decode cX3_type 76 = .ok (.invokevirtual 533, 3) := by decide +kernel
theorem dX3_type_79 : decode cX3_type 79 = .ok (.ireturn, 1) := by decide +kernel
theorem dX3_type_80 : decode cX3_type 80 = .ok (.aload_n 0, 1) := by decide +kernel
theorem dX3_type_81 : decode cX3_type 81 = .ok (.getfield 17, 3) := by decide +kernel
theorem dX3_type_84 : decode cX3_type 84 = .ok (.istore 5, 2) := by decide +kernel
theorem dX3_type_86 : decode cX3_type 86 = .ok (.iconst 0, 1) := by decide +kernel
theorem dX3_type_87 : decode cX3_type 87 = .ok (.istore 6, 2) := by decide +kernel
theorem dX3_type_89 : decode cX3_type 89 = .ok (.iload 6, 2) := by decide +kernel
theorem dX3_type_91 : decode cX3_type 91 = .ok (.bipush 31, 2) := by decide +kernel
theorem dX3_type_93 : decode cX3_type 93 = .ok (.if_icmp .ge 25, 3) := by decide +kernel
theorem dX3_type_96 : decode cX3_type 96 = .ok (.iload_n 3, 1) := by decide +kernel
theorem dX3_type_97 : decode cX3_type 97 = .ok (.iload 6, 2) := by decide +kernel
theorem dX3_type_99 : decode cX3_type 99 = .ok (.ishr, 1) := by decide +kernel
theorem dX3_type_100 : decode cX3_type 100 = .ok (.iconst 1, 1) := by decide +kernel
theorem dX3_type_101 : decode cX3_type 101 = .ok (.iand, 1) := by decide +kernel
theorem dX3_type_102 : decode cX3_type 102 = .ok (.iconst 1, 1) := by decide +kernel
theorem dX3_type_103 : decode cX3_type 103 = .ok (.if_icmp .ne 9, 3) := by decide +kernel
theorem dX3_type_106 : decode cX3_type 106 = .ok (.aload_n 0, 1) := by decide +kernel
theorem dX3_type_107 : decode cX3_type 107 = .ok (.iload 6, 2) := by decide +kernel
theorem dX3_type_109 : decode cX3_type 109 = .ok (.invokevirtual 72, 3) := by decide +kernel
theorem dX3_type_112 : decode cX3_type 112 = .ok (.iinc 6 1, 3) := by decide +kernel
theorem dX3_type_115 : decode cX3_type 115 = .ok (.goto (-26), 3) := by decide +kernel
theorem dX3_type_118 : decode cX3_type 118 = .ok (.aload_n 0, 1) := by decide +kernel
theorem dX3_type_119 : decode cX3_type 119 = .ok (.aload_n 0, 1) := by decide +kernel
theorem dX3_type_120 : decode cX3_type 120 = .ok (.iload_n 1, 1) := by decide +kernel
theorem dX3_type_121 : decode cX3_type 121 = .ok (.iload 4, 2) := by decide +kernel
theorem dX3_type_123 : decode cX3_type 123 = .ok (.iload 5, 2) := by decide +kernel
theorem dX3_type_125 : decode cX3_type 125 = .ok (.invokevirtual 97, 3) := by decide +kernel
theorem dX3_type_128 : decode cX3_type 128 = .ok (.invokevirtual 551, 3) := by decide +kernel
theorem dX3_type_131 : decode cX3_type 131 = .ok (.ireturn, 1) := by decide +kernel
abbrev cX3_isSet : ByteArray := prog_4_method_94_code
def yX3_isSet : MethodName := ⟨RX3, "isSet", "(I)Z"⟩
theorem dX3_isSet_0 : decode cX3_isSet 0 = .ok (.iload_n 1, 1) := by decide +kernel
theorem dX3_isSet_1 : decode cX3_isSet 1 = .ok (.iconst 1, 1) := by decide +kernel
theorem dX3_isSet_2 : decode cX3_isSet 2 = .ok (.iconst 2, 1) := by decide +kernel
theorem dX3_isSet_3 : decode cX3_isSet 3 = .ok (.aload_n 0, 1) := by decide +kernel
theorem dX3_isSet_4 : decode cX3_isSet 4 = .ok (.getfield 536, 3) := by decide +kernel
theorem dX3_isSet_7 : decode cX3_isSet 7 = .ok (.imul, 1) := by decide +kernel
theorem dX3_isSet_8 : decode cX3_isSet 8 = .ok (.ishl, 1) := by decide +kernel
theorem dX3_isSet_9 : decode cX3_isSet 9 = .ok (.iconst 1, 1) := by decide +kernel
theorem dX3_isSet_10 : decode cX3_isSet 10 = .ok (.isub, 1) := by decide +kernel
theorem dX3_isSet_11 : decode cX3_isSet 11 = .ok (.iconst (-1), 1) := by decide +kernel
theorem dX3_isSet_12 : decode cX3_isSet 12 = .ok (.ixor, 1) := by decide +kernel
theorem dX3_isSet_13 : decode cX3_isSet 13 = .ok (.iand, 1) := by decide +kernel
theorem dX3_isSet_14 : decode cX3_isSet 14 = .ok (.ifCond .ne 7, 3) := by decide +kernel
theorem dX3_isSet_17 : decode cX3_isSet 17 = .ok (.iconst 1, 1) := by decide +kernel
theorem dX3_isSet_18 : decode cX3_isSet 18 = .ok (.goto 4, 3) := by decide +kernel
theorem dX3_isSet_21 : decode cX3_isSet 21 = .ok (.iconst 0, 1) := by decide +kernel
theorem dX3_isSet_22 : decode cX3_isSet 22 = .ok (.ireturn, 1) := by decide +kernel
abbrev cX3_gives : ByteArray := prog_4_method_92_code
def yX3_gives : MethodName := ⟨RX3, "gives", "(I)I"⟩
theorem dX3_gives_0 : decode cX3_gives 0 = .ok (.aload_n 0, 1) := by decide +kernel
theorem dX3_gives_1 : decode cX3_gives 1 = .ok (.getfield 521, 3) := by decide +kernel
theorem dX3_gives_4 : decode cX3_gives 4 = .ok (.sipush 400, 3) := by decide +kernel
theorem dX3_gives_7 : decode cX3_gives 7 = .ok (.if_icmp .eq 15, 3) := by decide +kernel
theorem dX3_gives_10 : decode cX3_gives 10 = .ok (.aload_n 0, 1) := by decide +kernel
theorem dX3_gives_11 : decode cX3_gives 11 = .ok (.getfield 45, 3) := by decide +kernel
theorem dX3_gives_14 : decode cX3_gives 14 = .ok (.iload_n 1, 1) := by decide +kernel
theorem dX3_gives_15 : decode cX3_gives 15 = .ok (.iaload, 1) := by decide +kernel
theorem dX3_gives_16 : decode cX3_gives 16 = .ok (.sipush 200, 3) := by decide +kernel
theorem dX3_gives_19 : decode cX3_gives 19 = .ok (.if_icmp .le 9, 3) := by decide +kernel
theorem dX3_gives_22 : decode cX3_gives 22 = .ok (.aload_n 0, 1) := by decide +kernel
theorem dX3_gives_23 : decode cX3_gives 23 = .ok (.iconst 2, 1) := by decide +kernel
theorem dX3_gives_24 : decode cX3_gives 24 = .ok (.invokevirtual 533, 3) := by decide +kernel
theorem dX3_gives_27 : decode cX3_gives 27 = .ok (.ireturn, 1) := by decide +kernel
theorem dX3_gives_28 : decode cX3_gives 28 = .ok (.aload_n 0, 1) := by decide +kernel
theorem dX3_gives_29 : decode cX3_gives 29 = .ok (.getfield 518, 3) := by decide +kernel
theorem dX3_gives_32 : decode cX3_gives 32 = .ok (.aload_n 0, 1) := by decide +kernel
theorem dX3_gives_33 : decode cX3_gives 33 = .ok (.getfield 521, 3) := by decide +kernel
theorem dX3_gives_36 : decode cX3_gives 36 = .ok (.iload_n 1, 1) := by decide +kernel
theorem dX3_gives_37 : decode cX3_gives 37 = .ok (.iastore, 1) := by decide +kernel
theorem dX3_gives_38 : decode cX3_gives 38 = .ok (.aload_n 0, 1) := by decide +kernel
theorem dX3_gives_39 : decode cX3_gives 39 = .ok (.dup, 1) := by decide +kernel
theorem dX3_gives_40 : decode cX3_gives 40 = .ok (.getfield 521, 3) := by decide +kernel
theorem dX3_gives_43 : decode cX3_gives 43 = .ok (.dup_x1, 1) := by decide +kernel
theorem dX3_gives_44 : decode cX3_gives 44 = .ok (.iconst 1, 1) := by decide +kernel
theorem dX3_gives_45 : decode cX3_gives 45 = .ok (.iadd, 1) := by decide +kernel
theorem dX3_gives_46 : decode cX3_gives 46 = .ok (.putfield 521, 3) := by decide +kernel
theorem dX3_gives_49 : decode cX3_gives 49 = .ok (.ireturn, 1) := by decide +kernel
abbrev cX3_constant : ByteArray := prog_4_method_100_code
def yX3_constant : MethodName := ⟨RX3, "constant", "(I)I"⟩
theorem dX3_constant_0 : decode cX3_constant 0 = .ok (.aload_n 0, 1) := by decide +kernel
theorem dX3_constant_1 : decode cX3_constant 1 = .ok (.iconst 0, 1) := by decide +kernel
theorem dX3_constant_2 : decode cX3_constant 2 = .ok (.putfield 1, 3) := by decide +kernel
theorem dX3_constant_5 : decode cX3_constant 5 = .ok (.aload_n 0, 1) := by decide +kernel
theorem dX3_constant_6 : decode cX3_constant 6 = .ok (.iload_n 1, 1) := by decide +kernel
theorem dX3_constant_7 : decode cX3_constant 7 = .ok (.iconst 1, 1) := by decide +kernel
theorem dX3_constant_8 : decode cX3_constant 8 = .ok (.invokevirtual 554, 3) := by decide +kernel
theorem dX3_constant_11 : decode cX3_constant 11 = .ok (.istore_n 2, 1) := by decide +kernel
theorem dX3_constant_12 : decode cX3_constant 12 = .ok (.iload_n 2, 1) := by decide +kernel
theorem dX3_constant_13 : decode cX3_constant 13 = .ok (.ifCond .ne 9, 3) := by decide +kernel
theorem dX3_constant_16 : decode cX3_constant 16 = .ok (.aload_n 0, 1) := by decide +kernel
theorem dX3_constant_17 : decode cX3_constant 17 = .ok (.iconst 1, 1) := by decide +kernel
theorem dX3_constant_18 : decode cX3_constant 18 = .ok (.invokevirtual 533, 3) := by decide +kernel
theorem dX3_constant_21 : decode cX3_constant 21 = .ok (.ireturn, 1) := by decide +kernel
theorem dX3_constant_22 : decode cX3_constant 22 = .ok (.aload_n 0, 1) := by decide +kernel
theorem dX3_constant_23 : decode cX3_constant 23 = .ok (.getfield 521, 3) := by decide +kernel
theorem dX3_constant_26 : decode cX3_constant 26 = .ok (.sipush 400, 3) := by decide +kernel
theorem dX3_constant_29 : decode cX3_constant 29 = .ok (.if_icmp .ne 9, 3) := by decide +kernel
theorem dX3_constant_32 : decode cX3_constant 32 = .ok (.aload_n 0, 1) := by decide +kernel
theorem dX3_constant_33 : decode cX3_constant 33 = .ok (.iconst 2, 1) := by decide +kernel
theorem dX3_constant_34 : decode cX3_constant 34 = .ok (.invokevirtual 533, 3) := by decide +kernel
theorem dX3_constant_37 : decode cX3_constant 37 = .ok (.ireturn, 1) := by decide +kernel
theorem dX3_constant_38 : decode cX3_constant 38 = .ok (.aload_n 0, 1) := by decide +kernel
theorem dX3_constant_39 : decode cX3_constant 39 = .ok (.aload_n 0, 1) := by decide +kernel
theorem dX3_constant_40 : decode cX3_constant 40 = .ok (.iconst 2, 1) := by decide +kernel
theorem dX3_constant_41 : decode cX3_constant 41 = .ok (.aload_n 0, 1) := by decide +kernel
theorem dX3_constant_42 : decode cX3_constant 42 = .ok (.iconst 0, 1) := by decide +kernel
theorem dX3_constant_43 : decode cX3_constant 43 = .ok (.iload_n 2, 1) := by decide +kernel
theorem dX3_constant_44 : decode cX3_constant 44 = .ok (.invokevirtual 267, 3) := by decide +kernel
theorem dX3_constant_47 : decode cX3_constant 47 = .ok (.invokevirtual 78, 3) := by decide +kernel
theorem dX3_constant_50 : decode cX3_constant 50 = .ok (.invokevirtual 551, 3) := by decide +kernel
theorem dX3_constant_53 : decode cX3_constant 53 = .ok (.ireturn, 1) := by decide +kernel
abbrev cX3_closed : ByteArray := prog_4_method_91_code
def yX3_closed : MethodName := ⟨RX3, "closed", "(II)I"⟩
theorem dX3_closed_0 : decode cX3_closed 0 = .ok (.aload_n 0, 1) := by decide +kernel
theorem dX3_closed_1 : decode cX3_closed 1 = .ok (.iload_n 1, 1) := by decide +kernel
theorem dX3_closed_2 : decode cX3_closed 2 = .ok (.iload_n 2, 1) := by decide +kernel
theorem dX3_closed_3 : decode cX3_closed 3 = .ok (.invokevirtual 527, 3) := by decide +kernel
theorem dX3_closed_6 : decode cX3_closed 6 = .ok (.istore_n 3, 1) := by decide +kernel
theorem dX3_closed_7 : decode cX3_closed 7 = .ok (.iload_n 3, 1) := by decide +kernel
theorem dX3_closed_8 : decode cX3_closed 8 = .ok (.ifCond .le 15, 3) := by decide +kernel
theorem dX3_closed_11 : decode cX3_closed 11 = .ok (.aload_n 0, 1) := by decide +kernel
theorem dX3_closed_12 : decode cX3_closed 12 = .ok (.iload_n 3, 1) := by decide +kernel
theorem dX3_closed_13 : decode cX3_closed 13 = .ok (.invokevirtual 530, 3) := by decide +kernel
theorem dX3_closed_16 : decode cX3_closed 16 = .ok (.ifCond .eq 7, 3) := by decide +kernel
theorem dX3_closed_19 : decode cX3_closed 19 = .ok (.iload_n 3, 1) := by decide +kernel
theorem dX3_closed_20 : decode cX3_closed 20 = .ok (.goto 4, 3) := by decide +kernel
theorem dX3_closed_23 : decode cX3_closed 23 = .ok (.iconst 0, 1) := by decide +kernel
theorem dX3_closed_24 : decode cX3_closed 24 = .ok (.ireturn, 1) := by decide +kernel
abbrev cX3_isClosed : ByteArray := prog_4_method_90_code
def yX3_isClosed : MethodName := ⟨RX3, "isClosed", "(I)Z"⟩
theorem dX3_isClosed_0 : decode cX3_isClosed 0 = .ok (.aload_n 0, 1) := by decide +kernel
theorem dX3_isClosed_1 : decode cX3_isClosed 1 = .ok (.iload_n 1, 1) := by decide +kernel
theorem dX3_isClosed_2 : decode cX3_isClosed 2 = .ok (.iconst 0, 1) := by decide +kernel
theorem dX3_isClosed_3 : decode cX3_isClosed 3 = .ok (.invokevirtual 136, 3) := by decide +kernel
theorem dX3_isClosed_6 : decode cX3_isClosed 6 = .ok (.ifCond .ne 16, 3) := by decide +kernel
theorem dX3_isClosed_9 : decode cX3_isClosed 9 = .ok (.aload_n 0, 1) := by decide +kernel
theorem dX3_isClosed_10 : decode cX3_isClosed 10 = .ok (.iload_n 1, 1) := by decide +kernel
theorem dX3_isClosed_11 : decode cX3_isClosed 11 = .ok (.iconst 1, 1) := by decide +kernel
theorem dX3_isClosed_12 : decode cX3_isClosed 12 = .ok (.invokevirtual 136, 3) := by decide +kernel
theorem dX3_isClosed_15 : decode cX3_isClosed 15 = .ok (.ifCond .ne 7, 3) := by decide +kernel
theorem dX3_isClosed_18 : decode cX3_isClosed 18 = .ok (.iconst 1, 1) := by decide +kernel
theorem dX3_isClosed_19 : decode cX3_isClosed 19 = .ok (.goto 4, 3) := by decide +kernel
theorem dX3_isClosed_22 : decode cX3_isClosed 22 = .ok (.iconst 0, 1) := by decide +kernel
theorem dX3_isClosed_23 : decode cX3_isClosed 23 = .ok (.ireturn, 1) := by decide +kernel
abbrev cX3_leaf : ByteArray := prog_4_method_9_code
def yX3_leaf : MethodName := ⟨RX3, "leaf", "(II)I"⟩
theorem dX3_leaf_0 : decode cX3_leaf 0 = .ok (.aload_n 0, 1) := by decide +kernel
theorem dX3_leaf_1 : decode cX3_leaf 1 = .ok (.getfield 17, 3) := by decide +kernel
theorem dX3_leaf_4 : decode cX3_leaf 4 = .ok (.istore_n 3, 1) := by decide +kernel
theorem dX3_leaf_5 : decode cX3_leaf 5 = .ok (.aload_n 0, 1) := by decide +kernel
theorem dX3_leaf_6 : decode cX3_leaf 6 = .ok (.iload_n 2, 1) := by decide +kernel
theorem dX3_leaf_7 : decode cX3_leaf 7 = .ok (.invokevirtual 72, 3) := by decide +kernel
theorem dX3_leaf_10 : decode cX3_leaf 10 = .ok (.aload_n 0, 1) := by decide +kernel
theorem dX3_leaf_11 : decode cX3_leaf 11 = .ok (.iload_n 1, 1) := by decide +kernel
theorem dX3_leaf_12 : decode cX3_leaf 12 = .ok (.iload_n 3, 1) := by decide +kernel
theorem dX3_leaf_13 : decode cX3_leaf 13 = .ok (.invokevirtual 75, 3) := by decide +kernel
theorem dX3_leaf_16 : decode cX3_leaf 16 = .ok (.ireturn, 1) := by decide +kernel
abbrev cX3_locus : ByteArray := prog_4_method_101_code
def yX3_locus : MethodName := ⟨RX3, "locus", "(I)I"⟩
theorem dX3_locus_0 : decode cX3_locus 0 = .ok (.aload_n 0, 1) := by decide +kernel
theorem dX3_locus_1 : decode cX3_locus 1 = .ok (.iconst 0, 1) := by decide +kernel
theorem dX3_locus_2 : decode cX3_locus 2 = .ok (.putfield 1, 3) := by decide +kernel
theorem dX3_locus_5 : decode cX3_locus 5 = .ok (.iload_n 1, 1) := by decide +kernel
theorem dX3_locus_6 : decode cX3_locus 6 = .ok (.ifCond .lt 8, 3) := by decide +kernel
theorem dX3_locus_9 : decode cX3_locus 9 = .ok (.iload_n 1, 1) := by decide +kernel
theorem dX3_locus_10 : decode cX3_locus 10 = .ok (.iconst 1, 1) := by decide +kernel
theorem dX3_locus_11 : decode cX3_locus 11 = .ok (.if_icmp .le 9, 3) := by decide +kernel
theorem dX3_locus_14 : decode cX3_locus 14 = .ok (.aload_n 0, 1) := by decide +kernel
theorem dX3_locus_15 : decode cX3_locus 15 = .ok (.iconst 1, 1) := by decide +kernel
theorem dX3_locus_16 : decode cX3_locus 16 = .ok (.invokevirtual 533, 3) := by decide +kernel
theorem dX3_locus_19 : decode cX3_locus 19 = .ok (.ireturn, 1) := by decide +kernel
theorem dX3_locus_20 : decode cX3_locus 20 = .ok (.aload_n 0, 1) := by decide +kernel
theorem dX3_locus_21 : decode cX3_locus 21 = .ok (.aload_n 0, 1) := by decide +kernel
theorem dX3_locus_22 : decode cX3_locus 22 = .ok (.iconst 2, 1) := by decide +kernel
theorem dX3_locus_23 : decode cX3_locus 23 = .ok (.iload_n 1, 1) := by decide +kernel
theorem dX3_locus_24 : decode cX3_locus 24 = .ok (.invokevirtual 78, 3) := by decide +kernel
theorem dX3_locus_27 : decode cX3_locus 27 = .ok (.invokevirtual 551, 3) := by decide +kernel
theorem dX3_locus_30 : decode cX3_locus 30 = .ok (.ireturn, 1) := by decide +kernel
abbrev cX3_apply : ByteArray := prog_4_method_102_code
def yX3_apply : MethodName := ⟨RX3, "apply", "(III)I"⟩
theorem dX3_apply_0 : decode cX3_apply 0 = .ok (.aload_n 0, 1) := by decide +kernel
theorem dX3_apply_1 : decode cX3_apply 1 = .ok (.iconst 0, 1) := by decide +kernel
theorem dX3_apply_2 : decode cX3_apply 2 = .ok (.putfield 1, 3) := by decide +kernel
theorem dX3_apply_5 : decode cX3_apply 5 = .ok (.iload_n 1, 1) := by decide +kernel
theorem dX3_apply_6 : decode cX3_apply 6 = .ok (.ifCond .lt 11, 3) := by decide +kernel
theorem dX3_apply_9 : decode cX3_apply 9 = .ok (.iload_n 1, 1) := by decide +kernel
