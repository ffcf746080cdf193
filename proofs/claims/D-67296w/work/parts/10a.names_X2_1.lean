set_option maxRecDepth 100000
/-! RoundCheck$Store -/
def RX2 : String := "RoundCheck$Store"
def TX2 : u_T := fun k => match k with
  | 0 => ("RoundCheck$Store", "kind", "[I", false)
  | 1 => ("RoundCheck$Store", "what", "[I", false)
  | 2 => ("RoundCheck$Store", "from", "[I", false)
  | 3 => ("RoundCheck$Store", "count", "[I", false)
  | 4 => ("RoundCheck$Store", "size", "[I", false)
  | 5 => ("RoundCheck$Store", "loose", "[I", false)
  | 6 => ("RoundCheck$Store", "chain", "[I", false)
  | 7 => ("RoundCheck$Store", "part", "[I", false)
  | 8 => ("RoundCheck$Store", "head", "[I", true)
  | 9 => ("RoundCheck$Store", "nodes", "I", false)
  | 10 => ("RoundCheck$Store", "parts", "I", false)
  | 11 => ("RoundCheck$Store", "row", "[I", false)
  | 12 => ("RoundCheck$Store", "rows", "I", false)
  | 13 => ("RoundCheck$Store", "yes", "I", true)
  | 14 => ("RoundCheck$Store", "no", "I", true)
  | 15 => ("RoundCheck$Store", "how", "I", false)
  | 16 => ("RoundCheck$Store", "subject", "I", false)
  | 17 => ("RoundCheck$Store", "with", "I", false)
  | 18 => ("RoundCheck$Store", "l0", "I", false)
  | 19 => ("RoundCheck$Store", "l1", "I", false)
  | _ => ("RoundCheck$Store", "l2", "I", false)
def tyX2 : Nat → FieldType := fun k => match k with
  | 0 => .array .int
  | 1 => .array .int
  | 2 => .array .int
  | 3 => .array .int
  | 4 => .array .int
  | 5 => .array .int
  | 6 => .array .int
  | 7 => .array .int
  | 8 => .array .int
  | 9 => .int
  | 10 => .int
  | 11 => .array .int
  | 12 => .int
  | 13 => .int
  | 14 => .int
  | 15 => .int
  | 16 => .int
  | 17 => .int
  | 18 => .int
  | 19 => .int
  | _ => .int
abbrev wsX20 : List Cond := u_ws RX2 TX2 21
theorem nmX2 : ∀ a, a < 21 → ∀ b, b < 21 → a ≠ b → (TX2 a).2.1 ≠ (TX2 b).2.1 := by decide +kernel
theorem tyX2_ok : ∀ k, k < 21 → parseFieldDescriptor (TX2 k).2.2.1 = some (tyX2 k) := by decide +kernel
abbrev cX2_init : ByteArray := prog_2_method_1_code
def yX2_init : MethodName := ⟨RX2, "<init>", "()V"⟩
theorem dX2_init_0 : decode cX2_init 0 = .ok (.aload_n 0, 1) := by decide +kernel
theorem dX2_init_1 : decode cX2_init 1 = .ok (.invokespecial 3, 3) := by decide +kernel
theorem dX2_init_4 : decode cX2_init 4 = .ok (.aload_n 0, 1) := by decide +kernel
theorem dX2_init_5 : decode cX2_init 5 = .ok (.ldc 9, 2) := by decide +kernel
theorem dX2_init_7 : decode cX2_init 7 = .ok (.newarray .int, 2) := by decide +kernel
theorem dX2_init_9 : decode cX2_init 9 = .ok (.putfield 10, 3) := by decide +kernel
theorem dX2_init_12 : decode cX2_init 12 = .ok (.aload_n 0, 1) := by decide +kernel
theorem dX2_init_13 : decode cX2_init 13 = .ok (.ldc 9, 2) := by decide +kernel
theorem dX2_init_15 : decode cX2_init 15 = .ok (.newarray .int, 2) := by decide +kernel
theorem dX2_init_17 : decode cX2_init 17 = .ok (.putfield 16, 3) := by decide +kernel
theorem dX2_init_20 : decode cX2_init 20 = .ok (.aload_n 0, 1) := by decide +kernel
theorem dX2_init_21 : decode cX2_init 21 = .ok (.ldc 9, 2) := by decide +kernel
theorem dX2_init_23 : decode cX2_init 23 = .ok (.newarray .int, 2) := by decide +kernel
theorem dX2_init_25 : decode cX2_init 25 = .ok (.putfield 19, 3) := by decide +kernel
theorem dX2_init_28 : decode cX2_init 28 = .ok (.aload_n 0, 1) := by decide +kernel
theorem dX2_init_29 : decode cX2_init 29 = .ok (.ldc 9, 2) := by decide +kernel
theorem dX2_init_31 : decode cX2_init 31 = .ok (.newarray .int, 2) := by decide +kernel
theorem dX2_init_33 : decode cX2_init 33 = .ok (.putfield 22, 3) := by decide +kernel
theorem dX2_init_36 : decode cX2_init 36 = .ok (.aload_n 0, 1) := by decide +kernel
theorem dX2_init_37 : decode cX2_init 37 = .ok (.ldc 9, 2) := by decide +kernel
theorem dX2_init_39 : decode cX2_init 39 = .ok (.newarray .int, 2) := by decide +kernel
theorem dX2_init_41 : decode cX2_init 41 = .ok (.putfield 25, 3) := by decide +kernel
theorem dX2_init_44 : decode cX2_init 44 = .ok (.aload_n 0, 1) := by decide +kernel
theorem dX2_init_45 : decode cX2_init 45 = .ok (.ldc 9, 2) := by decide +kernel
theorem dX2_init_47 : decode cX2_init 47 = .ok (.newarray .int, 2) := by decide +kernel
theorem dX2_init_49 : decode cX2_init 49 = .ok (.putfield 28, 3) := by decide +kernel
theorem dX2_init_52 : decode cX2_init 52 = .ok (.aload_n 0, 1) := by decide +kernel
theorem dX2_init_53 : decode cX2_init 53 = .ok (.ldc 9, 2) := by decide +kernel
theorem dX2_init_55 : decode cX2_init 55 = .ok (.newarray .int, 2) := by decide +kernel
theorem dX2_init_57 : decode cX2_init 57 = .ok (.putfield 31, 3) := by decide +kernel
theorem dX2_init_60 : decode cX2_init 60 = .ok (.aload_n 0, 1) := by decide +kernel
theorem dX2_init_61 : decode cX2_init 61 = .ok (.ldc 34, 2) := by decide +kernel
theorem dX2_init_63 : decode cX2_init 63 = .ok (.newarray .int, 2) := by decide +kernel
theorem dX2_init_65 : decode cX2_init 65 = .ok (.putfield 35, 3) := by decide +kernel
theorem dX2_init_68 : decode cX2_init 68 = .ok (.aload_n 0, 1) := by decide +kernel
theorem dX2_init_69 : decode cX2_init 69 = .ok (.ldc 38, 2) := by decide +kernel
theorem dX2_init_71 : decode cX2_init 71 = .ok (.newarray .int, 2) := by decide +kernel
theorem dX2_init_73 : decode cX2_init 73 = .ok (.putfield 39, 3) := by decide +kernel
theorem dX2_init_76 : decode cX2_init 76 = .ok (.aload_n 0, 1) := by decide +kernel
theorem dX2_init_77 : decode cX2_init 77 = .ok (.iconst 1, 1) := by decide +kernel
theorem dX2_init_78 : decode cX2_init 78 = .ok (.putfield 42, 3) := by decide +kernel
theorem dX2_init_81 : decode cX2_init 81 = .ok (.aload_n 0, 1) := by decide +kernel
theorem dX2_init_82 : decode cX2_init 82 = .ok (.sipush 1024, 3) := by decide +kernel
theorem dX2_init_85 : decode cX2_init 85 = .ok (.newarray .int, 2) := by decide +kernel
theorem dX2_init_87 : decode cX2_init 87 = .ok (.putfield 46, 3) := by decide +kernel
theorem dX2_init_90 : decode cX2_init 90 = .ok (.aload_n 0, 1) := by decide +kernel
theorem dX2_init_91 : decode cX2_init 91 = .ok (.aload_n 0, 1) := by decide +kernel
theorem dX2_init_92 : decode cX2_init 92 = .ok (.bipush 9, 2) := by decide +kernel
theorem dX2_init_94 : decode cX2_init 94 = .ok (.iconst 0, 1) := by decide +kernel
theorem dX2_init_95 : decode cX2_init 95 = .ok (.iconst 0, 1) := by decide +kernel
theorem dX2_init_96 : decode cX2_init 96 = .ok (.invokevirtual 49, 3) := by decide +kernel
theorem dX2_init_99 : decode cX2_init 99 = .ok (.putfield 53, 3) := by decide +kernel
theorem dX2_init_102 : decode cX2_init 102 = .ok (.aload_n 0, 1) := by decide +kernel
theorem dX2_init_103 : decode cX2_init 103 = .ok (.aload_n 0, 1) := by decide +kernel
theorem dX2_init_104 : decode cX2_init 104 = .ok (.bipush 16, 2) := by decide +kernel
theorem dX2_init_106 : decode cX2_init 106 = .ok (.iconst 0, 1) := by decide +kernel
theorem dX2_init_107 : decode cX2_init 107 = .ok (.iconst 0, 1) := by decide +kernel
theorem dX2_init_108 : decode cX2_init 108 = .ok (.aload_n 0, 1) := by decide +kernel
theorem dX2_init_109 : decode cX2_init 109 = .ok (.getfield 53, 3) := by decide +kernel
theorem dX2_init_112 : decode cX2_init 112 = .ok (.invokevirtual 56, 3) := by decide +kernel
theorem dX2_init_115 : decode cX2_init 115 = .ok (.putfield 59, 3) := by decide +kernel
theorem dX2_init_118 : decode cX2_init 118 = .ok (.return_, 1) := by decide +kernel
abbrev cX2_make : ByteArray := prog_2_method_4_code
def yX2_make : MethodName := ⟨RX2, "make", "(III)I"⟩
theorem dX2_make_0 : decode cX2_make 0 = .ok (.aload_n 0, 1) := by decide +kernel
theorem dX2_make_1 : decode cX2_make 1 = .ok (.iload_n 1, 1) := by decide +kernel
theorem dX2_make_2 : decode cX2_make 2 = .ok (.iload_n 2, 1) := by decide +kernel
theorem dX2_make_3 : decode cX2_make 3 = .ok (.iload_n 3, 1) := by decide +kernel
theorem dX2_make_4 : decode cX2_make 4 = .ok (.invokevirtual 72, 3) := by decide +kernel
theorem dX2_make_7 : decode cX2_make 7 = .ok (.istore 4, 2) := by decide +kernel
theorem dX2_make_9 : decode cX2_make 9 = .ok (.aload_n 0, 1) := by decide +kernel
theorem dX2_make_10 : decode cX2_make 10 = .ok (.getfield 62, 3) := by decide +kernel
theorem dX2_make_13 : decode cX2_make 13 = .ok (.iload_n 3, 1) := by decide +kernel
theorem dX2_make_14 : decode cX2_make 14 = .ok (.isub, 1) := by decide +kernel
theorem dX2_make_15 : decode cX2_make 15 = .ok (.istore 5, 2) := by decide +kernel
theorem dX2_make_17 : decode cX2_make 17 = .ok (.aload_n 0, 1) := by decide +kernel
theorem dX2_make_18 : decode cX2_make 18 = .ok (.getfield 39, 3) := by decide +kernel
theorem dX2_make_21 : decode cX2_make 21 = .ok (.iload 4, 2) := by decide +kernel
theorem dX2_make_23 : decode cX2_make 23 = .ok (.iaload, 1) := by decide +kernel
theorem dX2_make_24 : decode cX2_make 24 = .ok (.istore 6, 2) := by decide +kernel
theorem dX2_make_26 : decode cX2_make 26 = .ok (.iload 6, 2) := by decide +kernel
theorem dX2_make_28 : decode cX2_make 28 = .ok (.ifCond .eq 123, 3) := by decide +kernel
theorem dX2_make_31 : decode cX2_make 31 = .ok (.aload_n 0, 1) := by decide +kernel
theorem dX2_make_32 : decode cX2_make 32 = .ok (.getfield 10, 3) := by decide +kernel
theorem dX2_make_35 : decode cX2_make 35 = .ok (.iload 6, 2) := by decide +kernel
theorem dX2_make_37 : decode cX2_make 37 = .ok (.iaload, 1) := by decide +kernel
theorem dX2_make_38 : decode cX2_make 38 = .ok (.iload_n 1, 1) := by decide +kernel
theorem dX2_make_39 : decode cX2_make 39 = .ok (.if_icmp .ne 100, 3) := by decide +kernel
theorem dX2_make_42 : decode cX2_make 42 = .ok (.aload_n 0, 1) := by decide +kernel
theorem dX2_make_43 : decode cX2_make 43 = .ok (.getfield 16, 3) := by decide +kernel
theorem dX2_make_46 : decode cX2_make 46 = .ok (.iload 6, 2) := by decide +kernel
theorem dX2_make_48 : decode cX2_make 48 = .ok (.iaload, 1) := by decide +kernel
theorem dX2_make_49 : decode cX2_make 49 = .ok (.iload_n 2, 1) := by decide +kernel
theorem dX2_make_50 : decode cX2_make 50 = .ok (.if_icmp .ne 89, 3) := by decide +kernel
theorem dX2_make_53 : decode cX2_make 53 = .ok (.aload_n 0, 1) := by decide +kernel
theorem dX2_make_54 : decode cX2_make 54 = .ok (.getfield 22, 3) := by decide +kernel
theorem dX2_make_57 : decode cX2_make 57 = .ok (.iload 6, 2) := by decide +kernel
theorem dX2_make_59 : decode cX2_make 59 = .ok (.iaload, 1) := by decide +kernel
theorem dX2_make_60 : decode cX2_make 60 = .ok (.iload 5, 2) := by decide +kernel
theorem dX2_make_62 : decode cX2_make 62 = .ok (.if_icmp .eq 6, 3) := by decide +kernel
theorem dX2_make_65 : decode cX2_make 65 = .ok (.goto 74, 3) := by decide +kernel
theorem dX2_make_68 : decode cX2_make 68 = .ok (.iconst 1, 1) := by decide +kernel
theorem dX2_make_69 : decode cX2_make 69 = .ok (.istore 7, 2) := by decide +kernel
theorem dX2_make_71 : decode cX2_make 71 = .ok (.iconst 0, 1) := by decide +kernel
theorem dX2_make_72 : decode cX2_make 72 = .ok (.istore 8, 2) := by decide +kernel
theorem dX2_make_74 : decode cX2_make 74 = .ok (.iload 8, 2) := by decide +kernel
theorem dX2_make_76 : decode cX2_make 76 = .ok (.iload 5, 2) := by decide +kernel
theorem dX2_make_78 : decode cX2_make 78 = .ok (.if_icmp .ge 48, 3) := by decide +kernel
theorem dX2_make_81 : decode cX2_make 81 = .ok (.iload 7, 2) := by decide +kernel
theorem dX2_make_83 : decode cX2_make 83 = .ok (.ifCond .eq 43, 3) := by decide +kernel
theorem dX2_make_86 : decode cX2_make 86 = .ok (.aload_n 0, 1) := by decide +kernel
theorem dX2_make_87 : decode cX2_make 87 = .ok (.getfield 35, 3) := by decide +kernel
theorem dX2_make_90 : decode cX2_make 90 = .ok (.aload_n 0, 1) := by decide +kernel
theorem dX2_make_91 : decode cX2_make 91 = .ok (.getfield 19, 3) := by decide +kernel
theorem dX2_make_94 : decode cX2_make 94 = .ok (.iload 6, 2) := by decide +kernel
theorem dX2_make_96 : decode cX2_make 96 = .ok (.iaload, 1) := by decide +kernel
theorem dX2_make_97 : decode cX2_make 97 = .ok (.iload 8, 2) := by decide +kernel
theorem dX2_make_99 : decode cX2_make 99 = .ok (.iadd, 1) := by decide +kernel
theorem dX2_make_100 : decode cX2_make 100 = .ok (.iaload, 1) := by decide +kernel
theorem dX2_make_101 : decode cX2_make 101 = .ok (.aload_n 0, 1) := by decide +kernel
theorem dX2_make_102 : decode cX2_make 102 = .ok (.getfield 46, 3) := by decide +kernel
theorem dX2_make_105 : decode cX2_make 105 = .ok (.iload_n 3, 1) := by decide +kernel
theorem dX2_make_106 : decode cX2_make 106 = .ok (.iload 8, 2) := by decide +kernel
theorem dX2_make_108 : decode cX2_make 108 = .ok (.iadd, 1) := by decide +kernel
theorem dX2_make_109 : decode cX2_make 109 = .ok (.iaload, 1) := by decide +kernel
theorem dX2_make_110 : decode cX2_make 110 = .ok (.if_icmp .ne 7, 3) := by decide +kernel
theorem dX2_make_113 : decode cX2_make 113 = .ok (.iconst 1, 1) := by decide +kernel
theorem dX2_make_114 : decode cX2_make 114 = .ok (.goto 4, 3) := by decide +kernel
theorem dX2_make_117 : decode cX2_make 117 = .ok (.iconst 0, 1) := by decide +kernel
theorem dX2_make_118 : decode cX2_make 118 = .ok (.istore 7, 2) := by decide +kernel
theorem dX2_make_120 : decode cX2_make 120 = .ok (.iinc 8 1, 3) := by decide +kernel
theorem dX2_make_123 : decode cX2_make 123 = .ok (.goto (-49), 3) := by decide +kernel
theorem dX2_make_126 : decode cX2_make 126 = .ok (.iload 7, 2) := by decide +kernel
theorem dX2_make_128 : decode cX2_make 128 = .ok (.ifCond .eq 11, 3) := by decide +kernel
theorem dX2_make_131 : decode cX2_make 131 = .ok (.aload_n 0, 1) := by decide +kernel
theorem dX2_make_132 : decode cX2_make 132 = .ok (.iload_n 3, 1) := by decide +kernel
theorem dX2_make_133 : decode cX2_make 133 = .ok (.putfield 62, 3) := by decide +kernel
theorem dX2_make_136 : decode cX2_make 136 = .ok (.iload 6, 2) := by decide +kernel
theorem dX2_make_138 : decode cX2_make 138 = .ok (.ireturn, 1) := by decide +kernel
theorem dX2_make_139 : decode cX2_make 139 = .ok (.aload_n 0, 1) := by decide +kernel
theorem dX2_make_140 : decode cX2_make 140 = .ok (.getfield 31, 3) := by decide +kernel
theorem dX2_make_143 : decode cX2_make 143 = .ok (.iload 6, 2) := by decide +kernel
theorem dX2_make_145 : decode cX2_make 145 = .ok (.iaload, 1) := by decide +kernel
theorem dX2_make_146 : decode cX2_make 146 = .ok (.istore 6, 2) := by decide +kernel
theorem dX2_make_148 : decode cX2_make 148 = .ok (.goto (-122), 3) := by decide +kernel
theorem dX2_make_151 : decode cX2_make 151 = .ok (.aload_n 0, 1) := by decide +kernel
theorem dX2_make_152 : decode cX2_make 152 = .ok (.getfield 42, 3) := by decide +kernel
theorem dX2_make_155 : decode cX2_make 155 = .ok (.aload_n 0, 1) := by decide +kernel
theorem dX2_make_156 : decode cX2_make 156 = .ok (.getfield 10, 3) := by decide +kernel
theorem dX2_make_159 : decode cX2_make 159 = .ok (.arraylength, 1) := by decide +kernel
theorem dX2_make_160 : decode cX2_make 160 = .ok (.if_icmp .ne 107, 3) := by decide +kernel
theorem dX2_make_163 : decode cX2_make 163 = .ok (.aload_n 0, 1) := by decide +kernel
theorem dX2_make_164 : decode cX2_make 164 = .ok (.getfield 42, 3) := by decide +kernel
theorem dX2_make_167 : decode cX2_make 167 = .ok (.aload_n 0, 1) := by decide +kernel
theorem dX2_make_168 : decode cX2_make 168 = .ok (.getfield 42, 3) := by decide +kernel
theorem dX2_make_171 : decode cX2_make 171 = .ok (.iconst 2, 1) := by decide +kernel
theorem dX2_make_172 : decode cX2_make 172 = .ok (.idiv, 1) := by decide +kernel
theorem dX2_make_173 : decode cX2_make 173 = .ok (.iadd, 1) := by decide +kernel
theorem dX2_make_174 : decode cX2_make 174 = .ok (.istore 6, 2) := by decide +kernel
theorem dX2_make_176 : decode cX2_make 176 = .ok (.aload_n 0, 1) := by decide +kernel
theorem dX2_make_177 : decode cX2_make 177 = .ok (.aload_n 0, 1) := by decide +kernel
theorem dX2_make_178 : decode cX2_make 178 = .ok (.getfield 10, 3) := by decide +kernel
theorem dX2_make_181 : decode cX2_make 181 = .ok (.iload 6, 2) := by decide +kernel
theorem dX2_make_183 : decode cX2_make 183 = .ok (.invokestatic 65, 3) := by decide +kernel
theorem dX2_make_186 : decode cX2_make 186 = .ok (.putfield 10, 3) := by decide +kernel
theorem dX2_make_189 : decode cX2_make 189 = .ok (.aload_n 0, 1) := by decide +kernel
theorem dX2_make_190 : decode cX2_make 190 = .ok (.aload_n 0, 1) := by decide +kernel
theorem dX2_make_191 : decode cX2_make 191 = .ok (.getfield 16, 3) := by decide +kernel
theorem dX2_make_194 : decode cX2_make 194 = .ok (.iload 6, 2) := by decide +kernel
theorem dX2_make_196 : decode cX2_make 196 = .ok (.invokestatic 65, 3) := by decide +kernel
theorem dX2_make_199 : decode cX2_make 199 = .ok (.putfield 16, 3) := by decide +kernel
theorem dX2_make_202 : decode cX2_make 202 = .ok (.aload_n 0, 1) := by decide +kernel
theorem dX2_make_203 : decode cX2_make 203 = .ok (.aload_n 0, 1) := by decide +kernel
theorem dX2_make_204 : decode cX2_make 204 = .ok (.getfield 19, 3) := by decide +kernel
theorem dX2_make_207 : decode cX2_make 207 = .ok (.iload 6, 2) := by decide +kernel
theorem dX2_make_209 : decode cX2_make 209 = .ok (.invokestatic 65, 3) := by decide +kernel
theorem dX2_make_212 : decode cX2_make 212 = .ok (.putfield 19, 3) := by decide +kernel
theorem dX2_make_215 : decode cX2_make 215 = .ok (.aload_n 0, 1) := by decide +kernel
theorem dX2_make_216 : decode cX2_make 216 = .ok (.aload_n 0, 1) := by decide +kernel
theorem dX2_make_217 : decode cX2_make 217 = .ok (.getfield 22, 3) := by decide +kernel
theorem dX2_make_220 : decode cX2_make 220 = .ok (.iload 6, 2) := by decide +kernel
theorem dX2_make_222 : decode cX2_make 222 = .ok (.invokestatic 65, 3) := by decide +kernel
theorem dX2_make_225 : decode cX2_make 225 = .ok (.putfield 22, 3) := by decide +kernel
theorem dX2_make_228 : decode cX2_make 228 = .ok (.aload_n 0, 1) := by decide +kernel
theorem dX2_make_229 : decode cX2_make 229 = .ok (.aload_n 0, 1) := by decide +kernel
theorem dX2_make_230 : decode cX2_make 230 = .ok (.getfield 25, 3) := by decide +kernel
theorem dX2_make_233 : decode cX2_make 233 = .ok (.iload 6, 2) := by decide +kernel
theorem dX2_make_235 : decode cX2_make 235 = .ok (.invokestatic 65, 3) := by decide +kernel
theorem dX2_make_238 : decode cX2_make 238 = .ok (.putfield 25, 3) := by decide +kernel
theorem dX2_make_241 : decode cX2_make 241 = .ok (.aload_n 0, 1) := by decide +kernel
theorem dX2_make_242 : decode cX2_make 242 = .ok (.aload_n 0, 1) := by decide +kernel
theorem dX2_make_243 : decode cX2_make 243 = .ok (.getfield 28, 3) := by decide +kernel
theorem dX2_make_246 : decode cX2_make 246 = .ok (.iload 6, 2) := by decide +kernel
theorem dX2_make_248 : decode cX2_make 248 = .ok (.invokestatic 65, 3) := by decide +kernel
theorem dX2_make_251 : decode cX2_make 251 = .ok (.putfield 28, 3) := by decide +kernel
theorem dX2_make_254 : decode cX2_make 254 = .ok (.aload_n 0, 1) := by decide +kernel
theorem dX2_make_255 : decode cX2_make 255 = .ok (.aload_n 0, 1) := by decide +kernel
theorem dX2_make_256 : decode cX2_make 256 = .ok (.getfield 31, 3) := by decide +kernel
theorem dX2_make_259 : decode cX2_make 259 = .ok (.iload 6, 2) := by decide +kernel
theorem dX2_make_261 : decode cX2_make 261 = .ok (.invokestatic 65, 3) := by decide +kernel
theorem dX2_make_264 : decode cX2_make 264 = .ok (.putfield 31, 3) := by decide +kernel
theorem dX2_make_267 : decode cX2_make 267 = .ok (.aload_n 0, 1) := by decide +kernel
theorem dX2_make_268 : decode cX2_make 268 = .ok (.getfield 75, 3) := by decide +kernel
theorem dX2_make_271 : decode cX2_make 271 = .ok (.iload 5, 2) := by decide +kernel
theorem dX2_make_273 : decode cX2_make 273 = .ok (.iadd, 1) := by decide +kernel
theorem dX2_make_274 : decode cX2_make 274 = .ok (.aload_n 0, 1) := by decide +kernel
theorem dX2_make_275 : decode cX2_make 275 = .ok (.getfield 35, 3) := by decide +kernel
theorem dX2_make_278 : decode cX2_make 278 = .ok (.arraylength, 1) := by decide +kernel
theorem dX2_make_279 : decode cX2_make 279 = .ok (.if_icmp .le 30, 3) := by decide +kernel
theorem dX2_make_282 : decode cX2_make 282 = .ok (.aload_n 0, 1) := by decide +kernel
theorem dX2_make_283 : decode cX2_make 283 = .ok (.aload_n 0, 1) := by decide +kernel
theorem dX2_make_284 : decode cX2_make 284 = .ok (.getfield 35, 3) := by decide +kernel
theorem dX2_make_287 : decode cX2_make 287 = .ok (.aload_n 0, 1) := by decide +kernel
theorem dX2_make_288 : decode cX2_make 288 = .ok (.getfield 35, 3) := by decide +kernel
theorem dX2_make_291 : decode cX2_make 291 = .ok (.arraylength, 1) := by decide +kernel
theorem dX2_make_292 : decode cX2_make 292 = .ok (.aload_n 0, 1) := by decide +kernel
theorem dX2_make_293 : decode cX2_make 293 = .ok (.getfield 35, 3) := by decide +kernel
theorem dX2_make_296 : decode cX2_make 296 = .ok (.arraylength, 1) := by decide +kernel
theorem dX2_make_297 : decode cX2_make 297 = .ok (.iconst 2, 1) := by decide +kernel
theorem dX2_make_298 : decode cX2_make 298 = .ok (.idiv, 1) := by decide +kernel
theorem dX2_make_299 : decode cX2_make 299 = .ok (.iadd, 1) := by decide +kernel
theorem dX2_make_300 : decode cX2_make 300 = .ok (.invokestatic 65, 3) := by decide +kernel
theorem dX2_make_303 : decode cX2_make 303 = .ok (.putfield 35, 3) := by decide +kernel
theorem dX2_make_306 : decode cX2_make 306 = .ok (.goto (-39), 3) := by decide +kernel
theorem dX2_make_309 : decode cX2_make 309 = .ok (.aload_n 0, 1) := by decide +kernel
theorem dX2_make_310 : decode cX2_make 310 = .ok (.getfield 42, 3) := by decide +kernel
theorem dX2_make_313 : decode cX2_make 313 = .ok (.istore 6, 2) := by decide +kernel
theorem dX2_make_315 : decode cX2_make 315 = .ok (.aload_n 0, 1) := by decide +kernel
theorem dX2_make_316 : decode cX2_make 316 = .ok (.dup, 1) := by decide +kernel
theorem dX2_make_317 : decode cX2_make 317 = .ok (.getfield 42, 3) := by decide +kernel
theorem dX2_make_320 : decode cX2_make 320 = .ok (.iconst 1, 1) := by decide +kernel
theorem dX2_make_321 : decode cX2_make 321 = .ok (.iadd, 1) := by decide +kernel
theorem dX2_make_322 : decode cX2_make 322 = .ok (.putfield 42, 3) := by decide +kernel
theorem dX2_make_325 : decode cX2_make 325 = .ok (.aload_n 0, 1) := by decide +kernel
theorem dX2_make_326 : decode cX2_make 326 = .ok (.getfield 10, 3) := by decide +kernel
theorem dX2_make_329 : decode cX2_make 329 = .ok (.iload 6, 2) := by decide +kernel
theorem dX2_make_331 : decode cX2_make 331 = .ok (.iload_n 1, 1) := by decide +kernel
theorem dX2_make_332 : decode cX2_make 332 = .ok (.iastore, 1) := by decide +kernel
theorem dX2_make_333 : decode cX2_make 333 = .ok (.aload_n 0, 1) := by decide +kernel
theorem dX2_make_334 : decode cX2_make 334 = .ok (.getfield 16, 3) := by decide +kernel
theorem dX2_make_337 : decode cX2_make 337 = .ok (.iload 6, 2) := by decide +kernel
theorem dX2_make_339 : decode cX2_make 339 = .ok (.iload_n 2, 1) := by decide +kernel
theorem dX2_make_340 : decode cX2_make 340 = .ok (.iastore, 1) := by decide +kernel
theorem dX2_make_341 : decode cX2_make 341 = .ok (.aload_n 0, 1) := by decide +kernel
theorem dX2_make_342 : decode cX2_make 342 = .ok (.getfield 19, 3) := by decide +kernel
theorem dX2_make_345 : decode cX2_make 345 = .ok (.iload 6, 2) := by decide +kernel
theorem dX2_make_347 : decode cX2_make 347 = .ok (.aload_n 0, 1) := by decide +kernel
theorem dX2_make_348 : decode cX2_make 348 = .ok (.getfield 75, 3) := by decide +kernel
theorem dX2_make_351 : decode cX2_make 351 = .ok (.iastore, 1) := by decide +kernel
theorem dX2_make_352 : decode cX2_make 352 = .ok (.aload_n 0, 1) := by decide +kernel
theorem dX2_make_353 : decode cX2_make 353 = .ok (.getfield 22, 3) := by decide +kernel
theorem dX2_make_356 : decode cX2_make 356 = .ok (.iload 6, 2) := by decide +kernel
theorem dX2_make_358 : decode cX2_make 358 = .ok (.iload 5, 2) := by decide +kernel
theorem dX2_make_360 : decode cX2_make 360 = .ok (.iastore, 1) := by decide +kernel
theorem dX2_make_361 : decode cX2_make 361 = .ok (.aload_n 0, 1) := by decide +kernel
theorem dX2_make_362 : decode cX2_make 362 = .ok (.getfield 31, 3) := by decide +kernel
theorem dX2_make_365 : decode cX2_make 365 = .ok (.iload 6, 2) := by decide +kernel
theorem dX2_make_367 : decode cX2_make 367 = .ok (.aload_n 0, 1) := by decide +kernel
theorem dX2_make_368 : decode cX2_make 368 = .ok (.getfield 39, 3) := by decide +kernel
theorem dX2_make_371 : decode cX2_make 371 = .ok (.iload 4, 2) := by decide +kernel
theorem dX2_make_373 : decode cX2_make 373 = .ok (.iaload, 1) := by decide +kernel
theorem dX2_make_374 : decode cX2_make 374 = .ok (.iastore, 1) := by decide +kernel
theorem dX2_make_375 : decode cX2_make 375 = .ok (.aload_n 0, 1) := by decide +kernel
theorem dX2_make_376 : decode cX2_make 376 = .ok (.getfield 39, 3) := by decide +kernel
theorem dX2_make_379 : decode cX2_make 379 = .ok (.iload 4, 2) := by decide +kernel
theorem dX2_make_381 : decode cX2_make 381 = .ok (.iload 6, 2) := by decide +kernel
theorem dX2_make_383 : decode cX2_make 383 = .ok (.iastore, 1) := by decide +kernel
theorem dX2_make_384 : decode cX2_make 384 = .ok (.lconst 1, 1) := by decide +kernel
theorem dX2_make_385 : decode cX2_make 385 = .ok (.lstore 7, 2) := by decide +kernel
theorem dX2_make_387 : decode cX2_make 387 = .ok (.iload_n 1, 1) := by decide +kernel
theorem dX2_make_388 : decode cX2_make 388 = .ok (.iconst 2, 1) := by decide +kernel
theorem dX2_make_389 : decode cX2_make 389 = .ok (.if_icmp .ne 9, 3) := by decide +kernel
theorem dX2_make_392 : decode cX2_make 392 = .ok (.iload_n 2, 1) := by decide +kernel
theorem dX2_make_393 : decode cX2_make 393 = .ok (.iconst 1, 1) := by decide +kernel
theorem dX2_make_394 : decode cX2_make 394 = .ok (.iadd, 1) := by decide +kernel
theorem dX2_make_395 : decode cX2_make 395 = .ok (.goto 4, 3) := by decide +kernel
theorem dX2_make_398 : decode cX2_make 398 = .ok (.iconst 0, 1) := by decide +kernel
theorem dX2_make_399 : decode cX2_make 399 = .ok (.istore 9, 2) := by decide +kernel
theorem dX2_make_401 : decode cX2_make 401 = .ok (.iload_n 1, 1) := by decide +kernel
theorem dX2_make_402 : decode cX2_make 402 = .ok (.bipush 8, 2) := by decide +kernel
theorem dX2_make_404 : decode cX2_make 404 = .ok (.if_icmp .ne 7, 3) := by decide +kernel
theorem dX2_make_407 : decode cX2_make 407 = .ok (.iconst 1, 1) := by decide +kernel
theorem dX2_make_408 : decode cX2_make 408 = .ok (.goto 5, 3) := by decide +kernel
theorem dX2_make_411 : decode cX2_make 411 = .ok (.iload 5, 2) := by decide +kernel
theorem dX2_make_413 : decode cX2_make 413 = .ok (.istore 10, 2) := by decide +kernel
theorem dX2_make_415 : decode cX2_make 415 = .ok (.iconst 0, 1) := by decide +kernel
theorem dX2_make_416 : decode cX2_make 416 = .ok (.istore 11, 2) := by decide +kernel
theorem dX2_make_418 : decode cX2_make 418 = .ok (.iload 11, 2) := by decide +kernel
theorem dX2_make_420 : decode cX2_make 420 = .ok (.iload 5, 2) := by decide +kernel
theorem dX2_make_422 : decode cX2_make 422 = .ok (.if_icmp .ge 106, 3) := by decide +kernel
theorem dX2_make_425 : decode cX2_make 425 = .ok (.aload_n 0, 1) := by decide +kernel
theorem dX2_make_426 : decode cX2_make 426 = .ok (.getfield 46, 3) := by decide +kernel
theorem dX2_make_429 : decode cX2_make 429 = .ok (.iload_n 3, 1) := by decide +kernel
theorem dX2_make_430 : decode cX2_make 430 = .ok (.iload 11, 2) := by decide +kernel
theorem dX2_make_432 : decode cX2_make 432 = .ok (.iadd, 1) := by decide +kernel
theorem dX2_make_433 : decode cX2_make 433 = .ok (.iaload, 1) := by decide +kernel
theorem dX2_make_434 : decode cX2_make 434 = .ok (.istore 12, 2) := by decide +kernel
theorem dX2_make_436 : decode cX2_make 436 = .ok (.aload_n 0, 1) := by decide +kernel
theorem dX2_make_437 : decode cX2_make 437 = .ok (.getfield 35, 3) := by decide +kernel
theorem dX2_make_440 : decode cX2_make 440 = .ok (.aload_n 0, 1) := by decide +kernel
theorem dX2_make_441 : decode cX2_make 441 = .ok (.getfield 75, 3) := by decide +kernel
theorem dX2_make_444 : decode cX2_make 444 = .ok (.iload 11, 2) := by decide +kernel
theorem dX2_make_446 : decode cX2_make 446 = .ok (.iadd, 1) := by decide +kernel
theorem dX2_make_447 : decode cX2_make 447 = .ok (.iload 12, 2) := by decide +kernel
theorem dX2_make_449 : decode cX2_make 449 = .ok (.iastore, 1) := by decide +kernel
theorem dX2_make_450 : decode cX2_make 450 = .ok (.iload 11, 2) := by decide +kernel
theorem dX2_make_452 : decode cX2_make 452 = .ok (.iload 10, 2) := by decide +kernel
theorem dX2_make_454 : decode cX2_make 454 = .ok (.if_icmp .lt 12, 3) := by decide +kernel
theorem dX2_make_457 : decode cX2_make 457 = .ok (.lload 7, 2) := by decide +kernel
theorem dX2_make_459 : decode cX2_make 459 = .ok (.lconst 1, 1) := by decide +kernel
theorem dX2_make_460 : decode cX2_make 460 = .ok (.ladd, 1) := by decide +kernel
theorem dX2_make_461 : decode cX2_make 461 = .ok (.lstore 7, 2) := by decide +kernel
theorem dX2_make_463 : decode cX2_make 463 = .ok (.goto 59, 3) := by decide +kernel
theorem dX2_make_466 : decode cX2_make 466 = .ok (.iload 12, 2) := by decide +kernel
theorem dX2_make_468 : decode cX2_make 468 = .ok (.ifCond .eq 54, 3) := by decide +kernel
theorem dX2_make_471 : decode cX2_make 471 = .ok (.lload 7, 2) := by decide +kernel
theorem dX2_make_473 : decode cX2_make 473 = .ok (.aload_n 0, 1) := by decide +kernel
theorem dX2_make_474 : decode cX2_make 474 = .ok (.getfield 25, 3) := by decide +kernel
theorem dX2_make_477 : decode cX2_make 477 = .ok (.iload 12, 2) := by decide +kernel
theorem dX2_make_479 : decode cX2_make 479 = .ok (.iaload, 1) := by decide +kernel
theorem dX2_make_480 : decode cX2_make 480 = .ok (.i2l, 1) := by decide +kernel
theorem dX2_make_481 : decode cX2_make 481 = .ok (.ladd, 1) := by decide +kernel
theorem dX2_make_482 : decode cX2_make 482 = .ok (.lstore 7, 2) := by decide +kernel
theorem dX2_make_484 : decode cX2_make 484 = .ok (.iload 9, 2) := by decide +kernel
theorem dX2_make_486 : decode cX2_make 486 = .ok (.iload_n 1, 1) := by decide +kernel
theorem dX2_make_487 : decode cX2_make 487 = .ok (.bipush 18, 2) := by decide +kernel
theorem dX2_make_489 : decode cX2_make 489 = .ok (.if_icmp .ne 21, 3) := by decide +kernel
theorem dX2_make_492 : decode cX2_make 492 = .ok (.iload 11, 2) := by decide +kernel
theorem dX2_make_494 : decode cX2_make 494 = .ok (.iconst 1, 1) := by decide +kernel
theorem dX2_make_495 : decode cX2_make 495 = .ok (.if_icmp .ne 15, 3) := by decide +kernel
theorem dX2_make_498 : decode cX2_make 498 = .ok (.aload_n 0, 1) := by decide +kernel
theorem dX2_make_499 : decode cX2_make 499 = .ok (.getfield 28, 3) := by decide +kernel
theorem dX2_make_502 : decode cX2_make 502 = .ok (.iload 12, 2) := by decide +kernel
theorem dX2_make_504 : decode cX2_make 504 = .ok (.iaload, 1) := by decide +kernel
theorem dX2_make_505 : decode cX2_make 505 = .ok (.iconst 1, 1) := by decide +kernel
theorem dX2_make_506 : decode cX2_make 506 = .ok (.isub, 1) := by decide +kernel
theorem dX2_make_507 : decode cX2_make 507 = .ok (.goto 10, 3) := by decide +kernel
theorem dX2_make_510 : decode cX2_make 510 = .ok (.aload_n 0, 1) := by decide +kernel
theorem dX2_make_511 : decode cX2_make 511 = .ok (.getfield 28, 3) := by decide +kernel
theorem dX2_make_514 : decode cX2_make 514 = .ok (.iload 12, 2) := by decide +kernel
theorem dX2_make_516 : decode cX2_make 516 = .ok (.iaload, 1) := by decide +kernel
theorem dX2_make_517 : decode cX2_make 517 = .ok (.invokestatic 78, 3) := by decide +kernel
theorem dX2_make_520 : decode cX2_make 520 = .ok (.istore 9, 2) := by decide +kernel
theorem dX2_make_522 : decode cX2_make 522 = .ok (.iinc 11 1, 3) := by decide +kernel
theorem dX2_make_525 : decode cX2_make 525 = .ok (.goto (-107), 3) := by decide +kernel
theorem dX2_make_528 : decode cX2_make 528 = .ok (.aload_n 0, 1) := by decide +kernel
theorem dX2_make_529 : decode cX2_make 529 = .ok (.getfield 25, 3) := by decide +kernel
theorem dX2_make_532 : decode cX2_make 532 = .ok (.iload 6, 2) := by decide +kernel
theorem dX2_make_534 : decode cX2_make 534 = .ok (.lload 7, 2) := by decide +kernel
theorem dX2_make_536 : decode cX2_make 536 = .ok (.ldc2_w 84, 3) := by decide +kernel
theorem dX2_make_539 : decode cX2_make 539 = .ok (.invokestatic 86, 3) := by decide +kernel
theorem dX2_make_542 : decode cX2_make 542 = .ok (.l2i, 1) := by decide +kernel
theorem dX2_make_543 : decode cX2_make 543 = .ok (.iastore, 1) := by decide +kernel
theorem dX2_make_544 : decode cX2_make 544 = .ok (.aload_n 0, 1) := by decide +kernel
theorem dX2_make_545 : decode cX2_make 545 = .ok (.getfield 28, 3) := by decide +kernel
theorem dX2_make_548 : decode cX2_make 548 = .ok (.iload 6, 2) := by decide +kernel
theorem dX2_make_550 : decode cX2_make 550 = .ok (.iload 9, 2) := by decide +kernel
theorem dX2_make_552 : decode cX2_make 552 = .ok (.iastore, 1) := by decide +kernel
theorem dX2_make_553 : decode cX2_make 553 = .ok (.aload_n 0, 1) := by decide +kernel
theorem dX2_make_554 : decode cX2_make 554 = .ok (.dup, 1) := by decide +kernel
theorem dX2_make_555 : decode cX2_make 555 = .ok (.getfield 75, 3) := by decide +kernel
theorem dX2_make_558 : decode cX2_make 558 = .ok (.iload 5, 2) := by decide +kernel
theorem dX2_make_560 : decode cX2_make 560 = .ok (.iadd, 1) := by decide +kernel
theorem dX2_make_561 : decode cX2_make 561 = .ok (.putfield 75, 3) := by decide +kernel
theorem dX2_make_564 : decode cX2_make 564 = .ok (.aload_n 0, 1) := by decide +kernel
theorem dX2_make_565 : decode cX2_make 565 = .ok (.iload_n 3, 1) := by decide +kernel
theorem dX2_make_566 : decode cX2_make 566 = .ok (.putfield 62, 3) := by decide +kernel
theorem dX2_make_569 : decode cX2_make 569 = .ok (.iload 6, 2) := by decide +kernel
theorem dX2_make_571 : decode cX2_make 571 = .ok (.ireturn, 1) := by decide +kernel
abbrev cX2_hash : ByteArray := prog_2_method_3_code
def yX2_hash : MethodName := ⟨RX2, "hash", "(III)I"⟩
theorem dX2_hash_0 : decode cX2_hash 0 = .ok (.bipush 31, 2) := by decide +kernel
theorem dX2_hash_2 : decode cX2_hash 2 = .ok (.iload_n 1, 1) := by decide +kernel
theorem dX2_hash_3 : decode cX2_hash 3 = .ok (.imul, 1) := by decide +kernel
theorem dX2_hash_4 : decode cX2_hash 4 = .ok (.iload_n 2, 1) := by decide +kernel
theorem dX2_hash_5 : decode cX2_hash 5 = .ok (.iadd, 1) := by decide +kernel
theorem dX2_hash_6 : decode cX2_hash 6 = .ok (.istore 4, 2) := by decide +kernel
theorem dX2_hash_8 : decode cX2_hash 8 = .ok (.iload_n 3, 1) := by decide +kernel
theorem dX2_hash_9 : decode cX2_hash 9 = .ok (.istore 5, 2) := by decide +kernel
theorem dX2_hash_11 : decode cX2_hash 11 = .ok (.iload 5, 2) := by decide +kernel
theorem dX2_hash_13 : decode cX2_hash 13 = .ok (.aload_n 0, 1) := by decide +kernel
theorem dX2_hash_14 : decode cX2_hash 14 = .ok (.getfield 62, 3) := by decide +kernel
theorem dX2_hash_17 : decode cX2_hash 17 = .ok (.if_icmp .ge 24, 3) := by decide +kernel
theorem dX2_hash_20 : decode cX2_hash 20 = .ok (.bipush 31, 2) := by decide +kernel
theorem dX2_hash_22 : decode cX2_hash 22 = .ok (.iload 4, 2) := by decide +kernel
theorem dX2_hash_24 : decode cX2_hash 24 = .ok (.imul, 1) := by decide +kernel
theorem dX2_hash_25 : decode cX2_hash 25 = .ok (.aload_n 0, 1) := by decide +kernel
theorem dX2_hash_26 : decode cX2_hash 26 = .ok (.getfield 46, 3) := by decide +kernel
theorem dX2_hash_29 : decode cX2_hash 29 = .ok (.iload 5, 2) := by decide +kernel
theorem dX2_hash_31 : decode cX2_hash 31 = .ok (.iaload, 1) := by decide +kernel
theorem dX2_hash_32 : decode cX2_hash 32 = .ok (.iadd, 1) := by decide +kernel
theorem dX2_hash_33 : decode cX2_hash 33 = .ok (.istore 4, 2) := by decide +kernel
theorem dX2_hash_35 : decode cX2_hash 35 = .ok (.iinc 5 1, 3) := by decide +kernel
theorem dX2_hash_38 : decode cX2_hash 38 = .ok (.goto (-27), 3) := by decide +kernel
theorem dX2_hash_41 : decode cX2_hash 41 = .ok (.iload 4, 2) := by decide +kernel
theorem dX2_hash_43 : decode cX2_hash 43 = .ok (.ldc 71, 2) := by decide +kernel
theorem dX2_hash_45 : decode cX2_hash 45 = .ok (.imul, 1) := by decide +kernel
theorem dX2_hash_46 : decode cX2_hash 46 = .ok (.istore 4, 2) := by decide +kernel
theorem dX2_hash_48 : decode cX2_hash 48 = .ok (.iload 4, 2) := by decide +kernel
theorem dX2_hash_50 : decode cX2_hash 50 = .ok (.bipush 17, 2) := by decide +kernel
theorem dX2_hash_52 : decode cX2_hash 52 = .ok (.iushr, 1) := by decide +kernel
theorem dX2_hash_53 : decode cX2_hash 53 = .ok (.ireturn, 1) := by decide +kernel
abbrev cX2_make_2 : ByteArray := prog_2_method_6_code
def yX2_make_2 : MethodName := ⟨RX2, "make", "(IIII)I"⟩
theorem dX2_make_2_0 : decode cX2_make_2 0 = .ok (.aload_n 0, 1) := by decide +kernel
theorem dX2_make_2_1 : decode cX2_make_2 1 = .ok (.getfield 62, 3) := by decide +kernel
theorem dX2_make_2_4 : decode cX2_make_2 4 = .ok (.istore 5, 2) := by decide +kernel
theorem dX2_make_2_6 : decode cX2_make_2 6 = .ok (.aload_n 0, 1) := by decide +kernel
theorem dX2_make_2_7 : decode cX2_make_2 7 = .ok (.iload 4, 2) := by decide +kernel
theorem dX2_make_2_9 : decode cX2_make_2 9 = .ok (.invokevirtual 90, 3) := by decide +kernel
theorem dX2_make_2_12 : decode cX2_make_2 12 = .ok (.aload_n 0, 1) := by decide +kernel
theorem dX2_make_2_13 : decode cX2_make_2 13 = .ok (.iload_n 1, 1) := by decide +kernel
theorem dX2_make_2_14 : decode cX2_make_2 14 = .ok (.iload_n 2, 1) := by decide +kernel
theorem dX2_make_2_15 : decode cX2_make_2 15 = .ok (.iload 5, 2) := by decide +kernel
theorem dX2_make_2_17 : decode cX2_make_2 17 = .ok (.invokevirtual 49, 3) := by decide +kernel
theorem dX2_make_2_20 : decode cX2_make_2 20 = .ok (.ireturn, 1) := by decide +kernel
abbrev cX2_push : ByteArray := prog_2_method_2_code
def yX2_push : MethodName := ⟨RX2, "push", "(I)V"⟩
theorem dX2_push_0 : decode cX2_push 0 = .ok (.aload_n 0, 1) := by decide +kernel
theorem dX2_push_1 : decode cX2_push 1 = .ok (.getfield 62, 3) := by decide +kernel
theorem dX2_push_4 : decode cX2_push 4 = .ok (.aload_n 0, 1) := by decide +kernel
theorem dX2_push_5 : decode cX2_push 5 = .ok (.getfield 46, 3) := by decide +kernel
theorem dX2_push_8 : decode cX2_push 8 = .ok (.arraylength, 1) := by decide +kernel
theorem dX2_push_9 : decode cX2_push 9 = .ok (.if_icmp .ne 20, 3) := by decide +kernel
theorem dX2_push_12 : decode cX2_push 12 = .ok (.aload_n 0, 1) := by decide +kernel
theorem dX2_push_13 : decode cX2_push 13 = .ok (.aload_n 0, 1) := by decide +kernel
theorem dX2_push_14 : decode cX2_push 14 = .ok (.getfield 46, 3) := by decide +kernel
theorem dX2_push_17 : decode cX2_push 17 = .ok (.iconst 2, 1) := by decide +kernel
theorem dX2_push_18 : decode cX2_push 18 = .ok (.aload_n 0, 1) := by decide +kernel
theorem dX2_push_19 : decode cX2_push 19 = .ok (.getfield 62, 3) := by decide +kernel
theorem dX2_push_22 : decode cX2_push 22 = .ok (.imul, 1) := by decide +kernel
theorem dX2_push_23 : decode cX2_push 23 = .ok (.invokestatic 65, 3) := by decide +kernel
theorem dX2_push_26 : decode cX2_push 26 = .ok (.putfield 46, 3) := by decide +kernel
theorem dX2_push_29 : decode cX2_push 29 = .ok (.aload_n 0, 1) := by decide +kernel
theorem dX2_push_30 : decode cX2_push 30 = .ok (.getfield 46, 3) := by decide +kernel
theorem dX2_push_33 : decode cX2_push 33 = .ok (.aload_n 0, 1) := by decide +kernel
theorem dX2_push_34 : decode cX2_push 34 = .ok (.getfield 62, 3) := by decide +kernel
theorem dX2_push_37 : decode cX2_push 37 = .ok (.iload_n 1, 1) := by decide +kernel
theorem dX2_push_38 : decode cX2_push 38 = .ok (.iastore, 1) := by decide +kernel
theorem dX2_push_39 : decode cX2_push 39 = .ok (.aload_n 0, 1) := by decide +kernel
theorem dX2_push_40 : decode cX2_push 40 = .ok (.dup, 1) := by decide +kernel
theorem dX2_push_41 : decode cX2_push 41 = .ok (.getfield 62, 3) := by decide +kernel
theorem dX2_push_44 : decode cX2_push 44 = .ok (.iconst 1, 1) := by decide +kernel
theorem dX2_push_45 : decode cX2_push 45 = .ok (.iadd, 1) := by decide +kernel
theorem dX2_push_46 : decode cX2_push 46 = .ok (.putfield 62, 3) := by decide +kernel
theorem dX2_push_49 : decode cX2_push 49 = .ok (.return_, 1) := by decide +kernel
abbrev cX2_at : ByteArray := prog_2_method_9_code
def yX2_at : MethodName := ⟨RX2, "at", "(II)I"⟩
theorem dX2_at_0 : decode cX2_at 0 = .ok (.aload_n 0, 1) := by decide +kernel
theorem dX2_at_1 : decode cX2_at 1 = .ok (.getfield 35, 3) := by decide +kernel
theorem dX2_at_4 : decode cX2_at 4 = .ok (.aload_n 0, 1) := by decide +kernel
theorem dX2_at_5 : decode cX2_at 5 = .ok (.getfield 19, 3) := by decide +kernel
theorem dX2_at_8 : decode cX2_at 8 = .ok (.iload_n 1, 1) := by decide +kernel
theorem dX2_at_9 : decode cX2_at 9 = .ok (.iaload, 1) := by decide +kernel
theorem dX2_at_10 : decode cX2_at 10 = .ok (.iload_n 2, 1) := by decide +kernel
theorem dX2_at_11 : decode cX2_at 11 = .ok (.iadd, 1) := by decide +kernel
theorem dX2_at_12 : decode cX2_at 12 = .ok (.iaload, 1) := by decide +kernel
theorem dX2_at_13 : decode cX2_at 13 = .ok (.ireturn, 1) := by decide +kernel
abbrev cX2_forget : ByteArray := prog_2_method_8_code
def yX2_forget : MethodName := ⟨RX2, "forget", "(II)V"⟩
theorem dX2_forget_0 : decode cX2_forget 0 = .ok (.aload_n 0, 1) := by decide +kernel
theorem dX2_forget_1 : decode cX2_forget 1 = .ok (.getfield 42, 3) := by decide +kernel
theorem dX2_forget_4 : decode cX2_forget 4 = .ok (.iload_n 1, 1) := by decide +kernel
theorem dX2_forget_5 : decode cX2_forget 5 = .ok (.if_icmp .le 116, 3) := by decide +kernel
theorem dX2_forget_8 : decode cX2_forget 8 = .ok (.aload_n 0, 1) := by decide +kernel
theorem dX2_forget_9 : decode cX2_forget 9 = .ok (.dup, 1) := by decide +kernel
theorem dX2_forget_10 : decode cX2_forget 10 = .ok (.getfield 42, 3) := by decide +kernel
theorem dX2_forget_13 : decode cX2_forget 13 = .ok (.iconst 1, 1) := by decide +kernel
theorem dX2_forget_14 : decode cX2_forget 14 = .ok (.isub, 1) := by decide +kernel
theorem dX2_forget_15 : decode cX2_forget 15 = .ok (.putfield 42, 3) := by decide +kernel
theorem dX2_forget_18 : decode cX2_forget 18 = .ok (.aload_n 0, 1) := by decide +kernel
theorem dX2_forget_19 : decode cX2_forget 19 = .ok (.getfield 42, 3) := by decide +kernel
theorem dX2_forget_22 : decode cX2_forget 22 = .ok (.istore_n 3, 1) := by decide +kernel
theorem dX2_forget_23 : decode cX2_forget 23 = .ok (.iconst 0, 1) := by decide +kernel
theorem dX2_forget_24 : decode cX2_forget 24 = .ok (.istore 4, 2) := by decide +kernel
theorem dX2_forget_26 : decode cX2_forget 26 = .ok (.iload 4, 2) := by decide +kernel
theorem dX2_forget_28 : decode cX2_forget 28 = .ok (.aload_n 0, 1) := by decide +kernel
theorem dX2_forget_29 : decode cX2_forget 29 = .ok (.getfield 22, 3) := by decide +kernel
theorem dX2_forget_32 : decode cX2_forget 32 = .ok (.iload_n 3, 1) := by decide +kernel
theorem dX2_forget_33 : decode cX2_forget 33 = .ok (.iaload, 1) := by decide +kernel
theorem dX2_forget_34 : decode cX2_forget 34 = .ok (.if_icmp .ge 27, 3) := by decide +kernel
theorem dX2_forget_37 : decode cX2_forget 37 = .ok (.aload_n 0, 1) := by decide +kernel
theorem dX2_forget_38 : decode cX2_forget 38 = .ok (.aload_n 0, 1) := by decide +kernel
theorem dX2_forget_39 : decode cX2_forget 39 = .ok (.getfield 35, 3) := by decide +kernel
theorem dX2_forget_42 : decode cX2_forget 42 = .ok (.aload_n 0, 1) := by decide +kernel
theorem dX2_forget_43 : decode cX2_forget 43 = .ok (.getfield 19, 3) := by decide +kernel
theorem dX2_forget_46 : decode cX2_forget 46 = .ok (.iload_n 3, 1) := by decide +kernel
theorem dX2_forget_47 : decode cX2_forget 47 = .ok (.iaload, 1) := by decide +kernel
theorem dX2_forget_48 : decode cX2_forget 48 = .ok (.iload 4, 2) := by decide +kernel
theorem dX2_forget_50 : decode cX2_forget 50 = .ok (.iadd, 1) := by decide +kernel
theorem dX2_forget_51 : decode cX2_forget 51 = .ok (.iaload, 1) := by decide +kernel
theorem dX2_forget_52 : decode cX2_forget 52 = .ok (.invokevirtual 90, 3) := by decide +kernel
theorem dX2_forget_55 : decode cX2_forget 55 = .ok (.iinc 4 1, 3) := by decide +kernel
theorem dX2_forget_58 : decode cX2_forget 58 = .ok (.goto (-32), 3) := by decide +kernel
theorem dX2_forget_61 : decode cX2_forget 61 = .ok (.aload_n 0, 1) := by decide +kernel
theorem dX2_forget_62 : decode cX2_forget 62 = .ok (.aload_n 0, 1) := by decide +kernel
theorem dX2_forget_63 : decode cX2_forget 63 = .ok (.getfield 10, 3) := by decide +kernel
theorem dX2_forget_66 : decode cX2_forget 66 = .ok (.iload_n 3, 1) := by decide +kernel
theorem dX2_forget_67 : decode cX2_forget 67 = .ok (.iaload, 1) := by decide +kernel
theorem dX2_forget_68 : decode cX2_forget 68 = .ok (.aload_n 0, 1) := by decide +kernel
theorem dX2_forget_69 : decode cX2_forget 69 = .ok (.getfield 16, 3) := by decide +kernel
theorem dX2_forget_72 : decode cX2_forget 72 = .ok (.iload_n 3, 1) := by decide +kernel
theorem dX2_forget_73 : decode cX2_forget 73 = .ok (.iaload, 1) := by decide +kernel
theorem dX2_forget_74 : decode cX2_forget 74 = .ok (.aload_n 0, 1) := by decide +kernel
theorem dX2_forget_75 : decode cX2_forget 75 = .ok (.getfield 62, 3) := by decide +kernel
theorem dX2_forget_78 : decode cX2_forget 78 = .ok (.aload_n 0, 1) := by decide +kernel
theorem dX2_forget_79 : decode cX2_forget 79 = .ok (.getfield 22, 3) := by decide +kernel
theorem dX2_forget_82 : decode cX2_forget 82 = .ok (.iload_n 3, 1) := by decide +kernel
theorem dX2_forget_83 : decode cX2_forget 83 = .ok (.iaload, 1) := by decide +kernel
theorem dX2_forget_84 : decode cX2_forget 84 = .ok (.isub, 1) := by decide +kernel
theorem dX2_forget_85 : decode cX2_forget 85 = .ok (.invokevirtual 72, 3) := by decide +kernel
theorem dX2_forget_88 : decode cX2_forget 88 = .ok (.istore 4, 2) := by decide +kernel
theorem dX2_forget_90 : decode cX2_forget 90 = .ok (.aload_n 0, 1) := by decide +kernel
theorem dX2_forget_91 : decode cX2_forget 91 = .ok (.dup, 1) := by decide +kernel
theorem dX2_forget_92 : decode cX2_forget 92 = .ok (.getfield 62, 3) := by decide +kernel
theorem dX2_forget_95 : decode cX2_forget 95 = .ok (.aload_n 0, 1) := by decide +kernel
theorem dX2_forget_96 : decode cX2_forget 96 = .ok (.getfield 22, 3) := by decide +kernel
theorem dX2_forget_99 : decode cX2_forget 99 = .ok (.iload_n 3, 1) := by decide +kernel
theorem dX2_forget_100 : decode cX2_forget 100 = .ok (.iaload, 1) := by decide +kernel
theorem dX2_forget_101 : decode cX2_forget 101 = .ok (.isub, 1) := by decide +kernel
theorem dX2_forget_102 : decode cX2_forget 102 = .ok (.putfield 62, 3) := by decide +kernel
theorem dX2_forget_105 : decode cX2_forget 105 = .ok (.aload_n 0, 1) := by decide +kernel
theorem dX2_forget_106 : decode cX2_forget 106 = .ok (.getfield 39, 3) := by decide +kernel
theorem dX2_forget_109 : decode cX2_forget 109 = .ok (.iload 4, 2) := by decide +kernel
theorem dX2_forget_111 : decode cX2_forget 111 = .ok (.aload_n 0, 1) := by decide +kernel
theorem dX2_forget_112 : decode cX2_forget 112 = .ok (.getfield 31, 3) := by decide +kernel
theorem dX2_forget_115 : decode cX2_forget 115 = .ok (.iload_n 3, 1) := by decide +kernel
theorem dX2_forget_116 : decode cX2_forget 116 = .ok (.iaload, 1) := by decide +kernel
theorem dX2_forget_117 : decode cX2_forget 117 = .ok (.iastore, 1) := by decide +kernel
theorem dX2_forget_118 : decode cX2_forget 118 = .ok (.goto (-118), 3) := by decide +kernel
theorem dX2_forget_121 : decode cX2_forget 121 = .ok (.aload_n 0, 1) := by decide +kernel
theorem dX2_forget_122 : decode cX2_forget 122 = .ok (.iload_n 2, 1) := by decide +kernel
theorem dX2_forget_123 : decode cX2_forget 123 = .ok (.putfield 75, 3) := by decide +kernel
theorem dX2_forget_126 : decode cX2_forget 126 = .ok (.return_, 1) := by decide +kernel
abbrev cX2_mode : ByteArray := prog_2_method_16_code
def yX2_mode : MethodName := ⟨RX2, "mode", "(III)I"⟩
theorem dX2_mode_0 : decode cX2_mode 0 = .ok (.iload_n 1, 1) := by decide +kernel
theorem dX2_mode_1 : decode cX2_mode 1 = .ok (.ifCond .ne 10, 3) := by decide +kernel
theorem dX2_mode_4 : decode cX2_mode 4 = .ok (.aload_n 0, 1) := by decide +kernel
theorem dX2_mode_5 : decode cX2_mode 5 = .ok (.getfield 53, 3) := by decide +kernel
theorem dX2_mode_8 : decode cX2_mode 8 = .ok (.goto 12, 3) := by decide +kernel
theorem dX2_mode_11 : decode cX2_mode 11 = .ok (.aload_n 0, 1) := by decide +kernel
theorem dX2_mode_12 : decode cX2_mode 12 = .ok (.bipush 14, 2) := by decide +kernel
theorem dX2_mode_14 : decode cX2_mode 14 = .ok (.iload_n 1, 1) := by decide +kernel
theorem dX2_mode_15 : decode cX2_mode 15 = .ok (.iload_n 2, 1) := by decide +kernel
theorem dX2_mode_16 : decode cX2_mode 16 = .ok (.iload_n 3, 1) := by decide +kernel
theorem dX2_mode_17 : decode cX2_mode 17 = .ok (.invokevirtual 109, 3) := by decide +kernel
theorem dX2_mode_20 : decode cX2_mode 20 = .ok (.ireturn, 1) := by decide +kernel
abbrev cX2_pair : ByteArray := prog_2_method_7_code
def yX2_pair : MethodName := ⟨RX2, "pair", "(IIII)I"⟩
theorem dX2_pair_0 : decode cX2_pair 0 = .ok (.aload_n 0, 1) := by decide +kernel
theorem dX2_pair_1 : decode cX2_pair 1 = .ok (.getfield 62, 3) := by decide +kernel
theorem dX2_pair_4 : decode cX2_pair 4 = .ok (.istore 5, 2) := by decide +kernel
theorem dX2_pair_6 : decode cX2_pair 6 = .ok (.aload_n 0, 1) := by decide +kernel
theorem dX2_pair_7 : decode cX2_pair 7 = .ok (.iload_n 3, 1) := by decide +kernel
theorem dX2_pair_8 : decode cX2_pair 8 = .ok (.invokevirtual 90, 3) := by decide +kernel
theorem dX2_pair_11 : decode cX2_pair 11 = .ok (.aload_n 0, 1) := by decide +kernel
theorem dX2_pair_12 : decode cX2_pair 12 = .ok (.iload 4, 2) := by decide +kernel
theorem dX2_pair_14 : decode cX2_pair 14 = .ok (.invokevirtual 90, 3) := by decide +kernel
theorem dX2_pair_17 : decode cX2_pair 17 = .ok (.aload_n 0, 1) := by decide +kernel
theorem dX2_pair_18 : decode cX2_pair 18 = .ok (.iload_n 1, 1) := by decide +kernel
theorem dX2_pair_19 : decode cX2_pair 19 = .ok (.iload_n 2, 1) := by decide +kernel
theorem dX2_pair_20 : decode cX2_pair 20 = .ok (.iload 5, 2) := by decide +kernel
theorem dX2_pair_22 : decode cX2_pair 22 = .ok (.invokevirtual 49, 3) := by decide +kernel
theorem dX2_pair_25 : decode cX2_pair 25 = .ok (.ireturn, 1) := by decide +kernel
abbrev cX2_not : ByteArray := prog_2_method_10_code
def yX2_not : MethodName := ⟨RX2, "not", "(I)I"⟩
theorem dX2_not_0 : decode cX2_not 0 = .ok (.aload_n 0, 1) := by decide +kernel
theorem dX2_not_1 : decode cX2_not 1 = .ok (.getfield 10, 3) := by decide +kernel
theorem dX2_not_4 : decode cX2_not 4 = .ok (.iload_n 1, 1) := by decide +kernel
theorem dX2_not_5 : decode cX2_not 5 = .ok (.iaload, 1) := by decide +kernel
theorem dX2_not_6 : decode cX2_not 6 = .ok (.bipush 16, 2) := by decide +kernel
theorem dX2_not_8 : decode cX2_not 8 = .ok (.if_icmp .ne 12, 3) := by decide +kernel
theorem dX2_not_11 : decode cX2_not 11 = .ok (.aload_n 0, 1) := by decide +kernel
theorem dX2_not_12 : decode cX2_not 12 = .ok (.iload_n 1, 1) := by decide +kernel
theorem dX2_not_13 : decode cX2_not 13 = .ok (.iconst 0, 1) := by decide +kernel
theorem dX2_not_14 : decode cX2_not 14 = .ok (.invokevirtual 94, 3) := by decide +kernel
theorem dX2_not_17 : decode cX2_not 17 = .ok (.goto 12, 3) := by decide +kernel
theorem dX2_not_20 : decode cX2_not 20 = .ok (.aload_n 0, 1) := by decide +kernel
theorem dX2_not_21 : decode cX2_not 21 = .ok (.bipush 16, 2) := by decide +kernel
theorem dX2_not_23 : decode cX2_not 23 = .ok (.iconst 0, 1) := by decide +kernel
theorem dX2_not_24 : decode cX2_not 24 = .ok (.iconst 1, 1) := by decide +kernel
theorem dX2_not_25 : decode cX2_not 25 = .ok (.iload_n 1, 1) := by decide +kernel
theorem dX2_not_26 : decode cX2_not 26 = .ok (.invokevirtual 56, 3) := by decide +kernel
theorem dX2_not_29 : decode cX2_not 29 = .ok (.ireturn, 1) := by decide +kernel
abbrev cX2_and : ByteArray := prog_2_method_12_code
def yX2_and : MethodName := ⟨RX2, "and", "(II)I"⟩
theorem dX2_and_0 : decode cX2_and 0 = .ok (.aload_n 0, 1) := by decide +kernel
theorem dX2_and_1 : decode cX2_and 1 = .ok (.getfield 62, 3) := by decide +kernel
theorem dX2_and_4 : decode cX2_and 4 = .ok (.istore_n 3, 1) := by decide +kernel
theorem dX2_and_5 : decode cX2_and 5 = .ok (.aload_n 0, 1) := by decide +kernel
theorem dX2_and_6 : decode cX2_and 6 = .ok (.iload_n 1, 1) := by decide +kernel
theorem dX2_and_7 : decode cX2_and 7 = .ok (.invokevirtual 90, 3) := by decide +kernel
theorem dX2_and_10 : decode cX2_and 10 = .ok (.aload_n 0, 1) := by decide +kernel
theorem dX2_and_11 : decode cX2_and 11 = .ok (.iload_n 2, 1) := by decide +kernel
theorem dX2_and_12 : decode cX2_and 12 = .ok (.invokevirtual 90, 3) := by decide +kernel
theorem dX2_and_15 : decode cX2_and 15 = .ok (.aload_n 0, 1) := by decide +kernel
theorem dX2_and_16 : decode cX2_and 16 = .ok (.iload_n 3, 1) := by decide +kernel
theorem dX2_and_17 : decode cX2_and 17 = .ok (.invokevirtual 97, 3) := by decide +kernel
theorem dX2_and_20 : decode cX2_and 20 = .ok (.ireturn, 1) := by decide +kernel
abbrev cX2_and_2 : ByteArray := prog_2_method_11_code
def yX2_and_2 : MethodName := ⟨RX2, "and", "(I)I"⟩
theorem dX2_and_2_0 : decode cX2_and_2 0 = .ok (.aload_n 0, 1) := by decide +kernel
theorem dX2_and_2_1 : decode cX2_and_2 1 = .ok (.getfield 62, 3) := by decide +kernel
theorem dX2_and_2_4 : decode cX2_and_2 4 = .ok (.istore_n 2, 1) := by decide +kernel
theorem dX2_and_2_5 : decode cX2_and_2 5 = .ok (.iconst 0, 1) := by decide +kernel
theorem dX2_and_2_6 : decode cX2_and_2 6 = .ok (.istore_n 3, 1) := by decide +kernel
theorem dX2_and_2_7 : decode cX2_and_2 7 = .ok (.iload_n 1, 1) := by decide +kernel
theorem dX2_and_2_8 : decode cX2_and_2 8 = .ok (.istore 4, 2) := by decide +kernel
theorem dX2_and_2_10 : decode cX2_and_2 10 = .ok (.iload 4, 2) := by decide +kernel
theorem dX2_and_2_12 : decode cX2_and_2 12 = .ok (.iload_n 2, 1) := by decide +kernel
theorem dX2_and_2_13 : decode cX2_and_2 13 = .ok (.if_icmp .ge 95, 3) := by decide +kernel
theorem dX2_and_2_16 : decode cX2_and_2 16 = .ok (.aload_n 0, 1) := by decide +kernel
theorem dX2_and_2_17 : decode cX2_and_2 17 = .ok (.getfield 46, 3) := by decide +kernel
theorem dX2_and_2_20 : decode cX2_and_2 20 = .ok (.iload 4, 2) := by decide +kernel
theorem dX2_and_2_22 : decode cX2_and_2 22 = .ok (.iaload, 1) := by decide +kernel
theorem dX2_and_2_23 : decode cX2_and_2 23 = .ok (.istore 5, 2) := by decide +kernel
theorem dX2_and_2_25 : decode cX2_and_2 25 = .ok (.iload 5, 2) := by decide +kernel
theorem dX2_and_2_27 : decode cX2_and_2 27 = .ok (.aload_n 0, 1) := by decide +kernel
theorem dX2_and_2_28 : decode cX2_and_2 28 = .ok (.getfield 59, 3) := by decide +kernel
theorem dX2_and_2_31 : decode cX2_and_2 31 = .ok (.if_icmp .ne 8, 3) := by decide +kernel
theorem dX2_and_2_34 : decode cX2_and_2 34 = .ok (.iconst 1, 1) := by decide +kernel
theorem dX2_and_2_35 : decode cX2_and_2 35 = .ok (.istore_n 3, 1) := by decide +kernel
theorem dX2_and_2_36 : decode cX2_and_2 36 = .ok (.goto 66, 3) := by decide +kernel
theorem dX2_and_2_39 : decode cX2_and_2 39 = .ok (.aload_n 0, 1) := by decide +kernel
theorem dX2_and_2_40 : decode cX2_and_2 40 = .ok (.getfield 10, 3) := by decide +kernel
theorem dX2_and_2_43 : decode cX2_and_2 43 = .ok (.iload 5, 2) := by decide +kernel
theorem dX2_and_2_45 : decode cX2_and_2 45 = .ok (.iaload, 1) := by decide +kernel
theorem dX2_and_2_46 : decode cX2_and_2 46 = .ok (.bipush 17, 2) := by decide +kernel
theorem dX2_and_2_48 : decode cX2_and_2 48 = .ok (.if_icmp .ne 39, 3) := by decide +kernel
theorem dX2_and_2_51 : decode cX2_and_2 51 = .ok (.iconst 0, 1) := by decide +kernel
theorem dX2_and_2_52 : decode cX2_and_2 52 = .ok (.istore 6, 2) := by decide +kernel
theorem dX2_and_2_54 : decode cX2_and_2 54 = .ok (.iload 6, 2) := by decide +kernel
theorem dX2_and_2_56 : decode cX2_and_2 56 = .ok (.aload_n 0, 1) := by decide +kernel
theorem dX2_and_2_57 : decode cX2_and_2 57 = .ok (.getfield 22, 3) := by decide +kernel
theorem dX2_and_2_60 : decode cX2_and_2 60 = .ok (.iload 5, 2) := by decide +kernel
theorem dX2_and_2_62 : decode cX2_and_2 62 = .ok (.iaload, 1) := by decide +kernel
theorem dX2_and_2_63 : decode cX2_and_2 63 = .ok (.if_icmp .ge 21, 3) := by decide +kernel
theorem dX2_and_2_66 : decode cX2_and_2 66 = .ok (.aload_n 0, 1) := by decide +kernel
theorem dX2_and_2_67 : decode cX2_and_2 67 = .ok (.aload_n 0, 1) := by decide +kernel
theorem dX2_and_2_68 : decode cX2_and_2 68 = .ok (.iload 5, 2) := by decide +kernel
theorem dX2_and_2_70 : decode cX2_and_2 70 = .ok (.iload 6, 2) := by decide +kernel
theorem dX2_and_2_72 : decode cX2_and_2 72 = .ok (.invokevirtual 94, 3) := by decide +kernel
theorem dX2_and_2_75 : decode cX2_and_2 75 = .ok (.invokevirtual 90, 3) := by decide +kernel
theorem dX2_and_2_78 : decode cX2_and_2 78 = .ok (.iinc 6 1, 3) := by decide +kernel
theorem dX2_and_2_81 : decode cX2_and_2 81 = .ok (.goto (-27), 3) := by decide +kernel
theorem dX2_and_2_84 : decode cX2_and_2 84 = .ok (.goto 18, 3) := by decide +kernel
theorem dX2_and_2_87 : decode cX2_and_2 87 = .ok (.iload 5, 2) := by decide +kernel
theorem dX2_and_2_89 : decode cX2_and_2 89 = .ok (.aload_n 0, 1) := by decide +kernel
theorem dX2_and_2_90 : decode cX2_and_2 90 = .ok (.getfield 53, 3) := by decide +kernel
theorem dX2_and_2_93 : decode cX2_and_2 93 = .ok (.if_icmp .eq 9, 3) := by decide +kernel
theorem dX2_and_2_96 : decode cX2_and_2 96 = .ok (.aload_n 0, 1) := by decide +kernel
theorem dX2_and_2_97 : decode cX2_and_2 97 = .ok (.iload 5, 2) := by decide +kernel
theorem dX2_and_2_99 : decode cX2_and_2 99 = .ok (.invokevirtual 90, 3) := by decide +kernel
theorem dX2_and_2_102 : decode cX2_and_2 102 = .ok (.iinc 4 1, 3) := by decide +kernel
theorem dX2_and_2_105 : decode cX2_and_2 105 = .ok (.goto (-95), 3) := by decide +kernel
theorem dX2_and_2_108 : decode cX2_and_2 108 = .ok (.aload_n 0, 1) := by decide +kernel
theorem dX2_and_2_109 : decode cX2_and_2 109 = .ok (.getfield 62, 3) := by decide +kernel
theorem dX2_and_2_112 : decode cX2_and_2 112 = .ok (.iload_n 2, 1) := by decide +kernel
theorem dX2_and_2_113 : decode cX2_and_2 113 = .ok (.isub, 1) := by decide +kernel
theorem dX2_and_2_114 : decode cX2_and_2 114 = .ok (.istore 4, 2) := by decide +kernel
theorem dX2_and_2_116 : decode cX2_and_2 116 = .ok (.iconst 0, 1) := by decide +kernel
theorem dX2_and_2_117 : decode cX2_and_2 117 = .ok (.istore 5, 2) := by decide +kernel
theorem dX2_and_2_119 : decode cX2_and_2 119 = .ok (.iload 5, 2) := by decide +kernel
theorem dX2_and_2_121 : decode cX2_and_2 121 = .ok (.iload 4, 2) := by decide +kernel
theorem dX2_and_2_123 : decode cX2_and_2 123 = .ok (.if_icmp .ge 27, 3) := by decide +kernel
theorem dX2_and_2_126 : decode cX2_and_2 126 = .ok (.aload_n 0, 1) := by decide +kernel
theorem dX2_and_2_127 : decode cX2_and_2 127 = .ok (.getfield 46, 3) := by decide +kernel
theorem dX2_and_2_130 : decode cX2_and_2 130 = .ok (.iload_n 1, 1) := by decide +kernel
theorem dX2_and_2_131 : decode cX2_and_2 131 = .ok (.iload 5, 2) := by decide +kernel
theorem dX2_and_2_133 : decode cX2_and_2 133 = .ok (.iadd, 1) := by decide +kernel
theorem dX2_and_2_134 : decode cX2_and_2 134 = .ok (.aload_n 0, 1) := by decide +kernel
theorem dX2_and_2_135 : decode cX2_and_2 135 = .ok (.getfield 46, 3) := by decide +kernel
theorem dX2_and_2_138 : decode cX2_and_2 138 = .ok (.iload_n 2, 1) := by decide +kernel
theorem dX2_and_2_139 : decode cX2_and_2 139 = .ok (.iload 5, 2) := by decide +kernel
theorem dX2_and_2_141 : decode cX2_and_2 141 = .ok (.iadd, 1) := by decide +kernel
theorem dX2_and_2_142 : decode cX2_and_2 142 = .ok (.iaload, 1) := by decide +kernel
theorem dX2_and_2_143 : decode cX2_and_2 143 = .ok (.iastore, 1) := by decide +kernel
theorem dX2_and_2_144 : decode cX2_and_2 144 = .ok (.iinc 5 1, 3) := by decide +kernel
theorem dX2_and_2_147 : decode cX2_and_2 147 = .ok (.goto (-28), 3) := by decide +kernel
theorem dX2_and_2_150 : decode cX2_and_2 150 = .ok (.aload_n 0, 1) := by decide +kernel
theorem dX2_and_2_151 : decode cX2_and_2 151 = .ok (.iload_n 1, 1) := by decide +kernel
theorem dX2_and_2_152 : decode cX2_and_2 152 = .ok (.iload 4, 2) := by decide +kernel
theorem dX2_and_2_154 : decode cX2_and_2 154 = .ok (.iadd, 1) := by decide +kernel
theorem dX2_and_2_155 : decode cX2_and_2 155 = .ok (.putfield 62, 3) := by decide +kernel
theorem dX2_and_2_158 : decode cX2_and_2 158 = .ok (.iload_n 3, 1) := by decide +kernel
theorem dX2_and_2_159 : decode cX2_and_2 159 = .ok (.ifCond .ne 9, 3) := by decide +kernel
theorem dX2_and_2_162 : decode cX2_and_2 162 = .ok (.iload 4, 2) := by decide +kernel
theorem dX2_and_2_164 : decode cX2_and_2 164 = .ok (.iconst 2, 1) := by decide +kernel
theorem dX2_and_2_165 : decode cX2_and_2 165 = .ok (.if_icmp .ge 42, 3) := by decide +kernel
theorem dX2_and_2_168 : decode cX2_and_2 168 = .ok (.iload_n 3, 1) := by decide +kernel
theorem dX2_and_2_169 : decode cX2_and_2 169 = .ok (.ifCond .eq 10, 3) := by decide +kernel
theorem dX2_and_2_172 : decode cX2_and_2 172 = .ok (.aload_n 0, 1) := by decide +kernel
theorem dX2_and_2_173 : decode cX2_and_2 173 = .ok (.getfield 59, 3) := by decide +kernel
theorem dX2_and_2_176 : decode cX2_and_2 176 = .ok (.goto 21, 3) := by decide +kernel
theorem dX2_and_2_179 : decode cX2_and_2 179 = .ok (.iload 4, 2) := by decide +kernel
theorem dX2_and_2_181 : decode cX2_and_2 181 = .ok (.ifCond .ne 10, 3) := by decide +kernel
theorem dX2_and_2_184 : decode cX2_and_2 184 = .ok (.aload_n 0, 1) := by decide +kernel
theorem dX2_and_2_185 : decode cX2_and_2 185 = .ok (.getfield 53, 3) := by decide +kernel
theorem dX2_and_2_188 : decode cX2_and_2 188 = .ok (.goto 9, 3) := by decide +kernel
theorem dX2_and_2_191 : decode cX2_and_2 191 = .ok (.aload_n 0, 1) := by decide +kernel
theorem dX2_and_2_192 : decode cX2_and_2 192 = .ok (.getfield 46, 3) := by decide +kernel
theorem dX2_and_2_195 : decode cX2_and_2 195 = .ok (.iload_n 1, 1) := by decide +kernel
theorem dX2_and_2_196 : decode cX2_and_2 196 = .ok (.iaload, 1) := by decide +kernel
theorem dX2_and_2_197 : decode cX2_and_2 197 = .ok (.istore 5, 2) := by decide +kernel
theorem dX2_and_2_199 : decode cX2_and_2 199 = .ok (.aload_n 0, 1) := by decide +kernel
theorem dX2_and_2_200 : decode cX2_and_2 200 = .ok (.iload_n 1, 1) := by decide +kernel
theorem dX2_and_2_201 : decode cX2_and_2 201 = .ok (.putfield 62, 3) := by decide +kernel
theorem dX2_and_2_204 : decode cX2_and_2 204 = .ok (.iload 5, 2) := by decide +kernel
theorem dX2_and_2_206 : decode cX2_and_2 206 = .ok (.ireturn, 1) := by decide +kernel
theorem dX2_and_2_207 : decode cX2_and_2 207 = .ok (.aload_n 0, 1) := by decide +kernel
theorem dX2_and_2_208 : decode cX2_and_2 208 = .ok (.bipush 17, 2) := by decide +kernel
theorem dX2_and_2_210 : decode cX2_and_2 210 = .ok (.iconst 0, 1) := by decide +kernel
theorem dX2_and_2_211 : decode cX2_and_2 211 = .ok (.iload_n 1, 1) := by decide +kernel
theorem dX2_and_2_212 : decode cX2_and_2 212 = .ok (.invokevirtual 49, 3) := by decide +kernel
theorem dX2_and_2_215 : decode cX2_and_2 215 = .ok (.ireturn, 1) := by decide +kernel
abbrev cX2_implies : ByteArray := prog_2_method_13_code
def yX2_implies : MethodName := ⟨RX2, "implies", "(II)I"⟩
theorem dX2_implies_0 : decode cX2_implies 0 = .ok (.aload_n 0, 1) := by decide +kernel
theorem dX2_implies_1 : decode cX2_implies 1 = .ok (.aload_n 0, 1) := by decide +kernel
theorem dX2_implies_2 : decode cX2_implies 2 = .ok (.iload_n 1, 1) := by decide +kernel
theorem dX2_implies_3 : decode cX2_implies 3 = .ok (.aload_n 0, 1) := by decide +kernel
theorem dX2_implies_4 : decode cX2_implies 4 = .ok (.iload_n 2, 1) := by decide +kernel
theorem dX2_implies_5 : decode cX2_implies 5 = .ok (.invokevirtual 101, 3) := by decide +kernel
theorem dX2_implies_8 : decode cX2_implies 8 = .ok (.invokevirtual 104, 3) := by decide +kernel
theorem dX2_implies_11 : decode cX2_implies 11 = .ok (.invokevirtual 101, 3) := by decide +kernel
theorem dX2_implies_14 : decode cX2_implies 14 = .ok (.ireturn, 1) := by decide +kernel
abbrev cX2_iff : ByteArray := prog_2_method_14_code
def yX2_iff : MethodName := ⟨RX2, "iff", "(II)I"⟩
theorem dX2_iff_0 : decode cX2_iff 0 = .ok (.aload_n 0, 1) := by decide +kernel
theorem dX2_iff_1 : decode cX2_iff 1 = .ok (.aload_n 0, 1) := by decide +kernel
theorem dX2_iff_2 : decode cX2_iff 2 = .ok (.iload_n 1, 1) := by decide +kernel
theorem dX2_iff_3 : decode cX2_iff 3 = .ok (.iload_n 2, 1) := by decide +kernel
theorem dX2_iff_4 : decode cX2_iff 4 = .ok (.invokevirtual 106, 3) := by decide +kernel
theorem dX2_iff_7 : decode cX2_iff 7 = .ok (.aload_n 0, 1) := by decide +kernel
theorem dX2_iff_8 : decode cX2_iff 8 = .ok (.iload_n 2, 1) := by decide +kernel
theorem dX2_iff_9 : decode cX2_iff 9 = .ok (.iload_n 1, 1) := by decide +kernel
theorem dX2_iff_10 : decode cX2_iff 10 = .ok (.invokevirtual 106, 3) := by decide +kernel
theorem dX2_iff_13 : decode cX2_iff 13 = .ok (.invokevirtual 104, 3) := by decide +kernel
theorem dX2_iff_16 : decode cX2_iff 16 = .ok (.ireturn, 1) := by decide +kernel
abbrev cX2_bind : ByteArray := prog_2_method_20_code
def yX2_bind : MethodName := ⟨RX2, "bind", "(II)I"⟩
theorem dX2_bind_0 : decode cX2_bind 0 = .ok (.aload_n 0, 1) := by decide +kernel
theorem dX2_bind_1 : decode cX2_bind 1 = .ok (.iconst 1, 1) := by decide +kernel
theorem dX2_bind_2 : decode cX2_bind 2 = .ok (.putfield 112, 3) := by decide +kernel
theorem dX2_bind_5 : decode cX2_bind 5 = .ok (.aload_n 0, 1) := by decide +kernel
theorem dX2_bind_6 : decode cX2_bind 6 = .ok (.iload_n 2, 1) := by decide +kernel
theorem dX2_bind_7 : decode cX2_bind 7 = .ok (.putfield 121, 3) := by decide +kernel
theorem dX2_bind_10 : decode cX2_bind 10 = .ok (.aload_n 0, 1) := by decide +kernel
theorem dX2_bind_11 : decode cX2_bind 11 = .ok (.iload_n 1, 1) := by decide +kernel
theorem dX2_bind_12 : decode cX2_bind 12 = .ok (.iconst 0, 1) := by decide +kernel
theorem dX2_bind_13 : decode cX2_bind 13 = .ok (.invokevirtual 118, 3) := by decide +kernel
theorem dX2_bind_16 : decode cX2_bind 16 = .ok (.ireturn, 1) := by decide +kernel
abbrev cX2_change : ByteArray := prog_2_method_23_code
def yX2_change : MethodName := ⟨RX2, "change", "(II)I"⟩
theorem dX2_change_0 : decode cX2_change 0 = .ok (.aload_n 0, 1) := by decide +kernel
theorem dX2_change_1 : decode cX2_change 1 = .ok (.getfield 10, 3) := by decide +kernel
theorem dX2_change_4 : decode cX2_change 4 = .ok (.iload_n 1, 1) := by decide +kernel
theorem dX2_change_5 : decode cX2_change 5 = .ok (.iaload, 1) := by decide +kernel
theorem dX2_change_6 : decode cX2_change 6 = .ok (.istore_n 3, 1) := by decide +kernel
theorem dX2_change_7 : decode cX2_change 7 = .ok (.aload_n 0, 1) := by decide +kernel
theorem dX2_change_8 : decode cX2_change 8 = .ok (.getfield 112, 3) := by decide +kernel
theorem dX2_change_11 : decode cX2_change 11 = .ok (.ifCond .ne 15, 3) := by decide +kernel
theorem dX2_change_14 : decode cX2_change 14 = .ok (.aload_n 0, 1) := by decide +kernel
theorem dX2_change_15 : decode cX2_change 15 = .ok (.getfield 28, 3) := by decide +kernel
theorem dX2_change_18 : decode cX2_change 18 = .ok (.iload_n 1, 1) := by decide +kernel
theorem dX2_change_19 : decode cX2_change 19 = .ok (.iaload, 1) := by decide +kernel
theorem dX2_change_20 : decode cX2_change 20 = .ok (.iload_n 2, 1) := by decide +kernel
theorem dX2_change_21 : decode cX2_change 21 = .ok (.if_icmp .gt 5, 3) := by decide +kernel
theorem dX2_change_24 : decode cX2_change 24 = .ok (.iload_n 1, 1) := by decide +kernel
theorem dX2_change_25 : decode cX2_change 25 = .ok (.ireturn, 1) := by decide +kernel
theorem dX2_change_26 : decode cX2_change 26 = .ok (.iload_n 3, 1) := by decide +kernel
theorem dX2_change_27 : decode cX2_change 27 = .ok (.iconst 2, 1) := by decide +kernel
theorem dX2_change_28 : decode cX2_change 28 = .ok (.if_icmp .ne 29, 3) := by decide +kernel
theorem dX2_change_31 : decode cX2_change 31 = .ok (.aload_n 0, 1) := by decide +kernel
theorem dX2_change_32 : decode cX2_change 32 = .ok (.getfield 112, 3) := by decide +kernel
theorem dX2_change_35 : decode cX2_change 35 = .ok (.ifCond .ne 20, 3) := by decide +kernel
theorem dX2_change_38 : decode cX2_change 38 = .ok (.aload_n 0, 1) := by decide +kernel
theorem dX2_change_39 : decode cX2_change 39 = .ok (.getfield 16, 3) := by decide +kernel
theorem dX2_change_42 : decode cX2_change 42 = .ok (.iload_n 1, 1) := by decide +kernel
theorem dX2_change_43 : decode cX2_change 43 = .ok (.iaload, 1) := by decide +kernel
theorem dX2_change_44 : decode cX2_change 44 = .ok (.iload_n 2, 1) := by decide +kernel
theorem dX2_change_45 : decode cX2_change 45 = .ok (.if_icmp .ne 10, 3) := by decide +kernel
theorem dX2_change_48 : decode cX2_change 48 = .ok (.aload_n 0, 1) := by decide +kernel
theorem dX2_change_49 : decode cX2_change 49 = .ok (.getfield 115, 3) := by decide +kernel
theorem dX2_change_52 : decode cX2_change 52 = .ok (.goto 4, 3) := by decide +kernel
theorem dX2_change_55 : decode cX2_change 55 = .ok (.iload_n 1, 1) := by decide +kernel
theorem dX2_change_56 : decode cX2_change 56 = .ok (.ireturn, 1) := by decide +kernel
theorem dX2_change_57 : decode cX2_change 57 = .ok (.iload_n 3, 1) := by decide +kernel
theorem dX2_change_58 : decode cX2_change 58 = .ok (.iconst 1, 1) := by decide +kernel
theorem dX2_change_59 : decode cX2_change 59 = .ok (.if_icmp .ne 53, 3) := by decide +kernel
theorem dX2_change_62 : decode cX2_change 62 = .ok (.iload_n 1, 1) := by decide +kernel
theorem dX2_change_63 : decode cX2_change 63 = .ok (.aload_n 0, 1) := by decide +kernel
theorem dX2_change_64 : decode cX2_change 64 = .ok (.getfield 121, 3) := by decide +kernel
theorem dX2_change_67 : decode cX2_change 67 = .ok (.if_icmp .eq 7, 3) := by decide +kernel
theorem dX2_change_70 : decode cX2_change 70 = .ok (.iload_n 1, 1) := by decide +kernel
theorem dX2_change_71 : decode cX2_change 71 = .ok (.goto 40, 3) := by decide +kernel
theorem dX2_change_74 : decode cX2_change 74 = .ok (.aload_n 0, 1) := by decide +kernel
theorem dX2_change_75 : decode cX2_change 75 = .ok (.getfield 112, 3) := by decide +kernel
theorem dX2_change_78 : decode cX2_change 78 = .ok (.iconst 1, 1) := by decide +kernel
theorem dX2_change_79 : decode cX2_change 79 = .ok (.if_icmp .ne 16, 3) := by decide +kernel
theorem dX2_change_82 : decode cX2_change 82 = .ok (.aload_n 0, 1) := by decide +kernel
theorem dX2_change_83 : decode cX2_change 83 = .ok (.iconst 2, 1) := by decide +kernel
theorem dX2_change_84 : decode cX2_change 84 = .ok (.iload_n 2, 1) := by decide +kernel
theorem dX2_change_85 : decode cX2_change 85 = .ok (.aload_n 0, 1) := by decide +kernel
theorem dX2_change_86 : decode cX2_change 86 = .ok (.getfield 62, 3) := by decide +kernel
theorem dX2_change_89 : decode cX2_change 89 = .ok (.invokevirtual 49, 3) := by decide +kernel
theorem dX2_change_92 : decode cX2_change 92 = .ok (.goto 19, 3) := by decide +kernel
theorem dX2_change_95 : decode cX2_change 95 = .ok (.aload_n 0, 1) := by decide +kernel
theorem dX2_change_96 : decode cX2_change 96 = .ok (.getfield 112, 3) := by decide +kernel
theorem dX2_change_99 : decode cX2_change 99 = .ok (.iconst 3, 1) := by decide +kernel
theorem dX2_change_100 : decode cX2_change 100 = .ok (.if_icmp .ne 10, 3) := by decide +kernel
theorem dX2_change_103 : decode cX2_change 103 = .ok (.aload_n 0, 1) := by decide +kernel
theorem dX2_change_104 : decode cX2_change 104 = .ok (.getfield 115, 3) := by decide +kernel
theorem dX2_change_107 : decode cX2_change 107 = .ok (.goto 4, 3) := by decide +kernel
theorem dX2_change_110 : decode cX2_change 110 = .ok (.iload_n 1, 1) := by decide +kernel
theorem dX2_change_111 : decode cX2_change 111 = .ok (.ireturn, 1) := by decide +kernel
theorem dX2_change_112 : decode cX2_change 112 = .ok (.iload_n 3, 1) := by decide +kernel
theorem dX2_change_113 : decode cX2_change 113 = .ok (.iconst 3, 1) := by decide +kernel
theorem dX2_change_114 : decode cX2_change 114 = .ok (.if_icmp .ne 53, 3) := by decide +kernel
theorem dX2_change_117 : decode cX2_change 117 = .ok (.aload_n 0, 1) := by decide +kernel
theorem dX2_change_118 : decode cX2_change 118 = .ok (.getfield 112, 3) := by decide +kernel
theorem dX2_change_121 : decode cX2_change 121 = .ok (.iconst 2, 1) := by decide +kernel
theorem dX2_change_122 : decode cX2_change 122 = .ok (.if_icmp .eq 7, 3) := by decide +kernel
theorem dX2_change_125 : decode cX2_change 125 = .ok (.iload_n 1, 1) := by decide +kernel
theorem dX2_change_126 : decode cX2_change 126 = .ok (.goto 40, 3) := by decide +kernel
theorem dX2_change_129 : decode cX2_change 129 = .ok (.aload_n 0, 1) := by decide +kernel
theorem dX2_change_130 : decode cX2_change 130 = .ok (.getfield 16, 3) := by decide +kernel
theorem dX2_change_133 : decode cX2_change 133 = .ok (.iload_n 1, 1) := by decide +kernel
theorem dX2_change_134 : decode cX2_change 134 = .ok (.iaload, 1) := by decide +kernel
theorem dX2_change_135 : decode cX2_change 135 = .ok (.ifCond .ne 10, 3) := by decide +kernel
theorem dX2_change_138 : decode cX2_change 138 = .ok (.aload_n 0, 1) := by decide +kernel
theorem dX2_change_139 : decode cX2_change 139 = .ok (.getfield 124, 3) := by decide +kernel
theorem dX2_change_142 : decode cX2_change 142 = .ok (.goto 24, 3) := by decide +kernel
theorem dX2_change_145 : decode cX2_change 145 = .ok (.aload_n 0, 1) := by decide +kernel
theorem dX2_change_146 : decode cX2_change 146 = .ok (.getfield 16, 3) := by decide +kernel
theorem dX2_change_149 : decode cX2_change 149 = .ok (.iload_n 1, 1) := by decide +kernel
theorem dX2_change_150 : decode cX2_change 150 = .ok (.iaload, 1) := by decide +kernel
theorem dX2_change_151 : decode cX2_change 151 = .ok (.iconst 1, 1) := by decide +kernel
theorem dX2_change_152 : decode cX2_change 152 = .ok (.if_icmp .ne 10, 3) := by decide +kernel
theorem dX2_change_155 : decode cX2_change 155 = .ok (.aload_n 0, 1) := by decide +kernel
theorem dX2_change_156 : decode cX2_change 156 = .ok (.getfield 127, 3) := by decide +kernel
theorem dX2_change_159 : decode cX2_change 159 = .ok (.goto 7, 3) := by decide +kernel
theorem dX2_change_162 : decode cX2_change 162 = .ok (.aload_n 0, 1) := by decide +kernel
theorem dX2_change_163 : decode cX2_change 163 = .ok (.getfield 130, 3) := by decide +kernel
theorem dX2_change_166 : decode cX2_change 166 = .ok (.ireturn, 1) := by decide +kernel
theorem dX2_change_167 : decode cX2_change 167 = .ok (.aload_n 0, 1) := by decide +kernel
theorem dX2_change_168 : decode cX2_change 168 = .ok (.getfield 22, 3) := by decide +kernel
theorem dX2_change_171 : decode cX2_change 171 = .ok (.iload_n 1, 1) := by decide +kernel
theorem dX2_change_172 : decode cX2_change 172 = .ok (.iaload, 1) := by decide +kernel
theorem dX2_change_173 : decode cX2_change 173 = .ok (.istore 4, 2) := by decide +kernel
theorem dX2_change_175 : decode cX2_change 175 = .ok (.iload 4, 2) := by decide +kernel
theorem dX2_change_177 : decode cX2_change 177 = .ok (.ifCond .ne 5, 3) := by decide +kernel
theorem dX2_change_180 : decode cX2_change 180 = .ok (.iload_n 1, 1) := by decide +kernel
theorem dX2_change_181 : decode cX2_change 181 = .ok (.ireturn, 1) := by decide +kernel
theorem dX2_change_182 : decode cX2_change 182 = .ok (.iload_n 3, 1) := by decide +kernel
theorem dX2_change_183 : decode cX2_change 183 = .ok (.bipush 8, 2) := by decide +kernel
theorem dX2_change_185 : decode cX2_change 185 = .ok (.if_icmp .ne 7, 3) := by decide +kernel
theorem dX2_change_188 : decode cX2_change 188 = .ok (.iconst 1, 1) := by decide +kernel
theorem dX2_change_189 : decode cX2_change 189 = .ok (.goto 5, 3) := by decide +kernel
theorem dX2_change_192 : decode cX2_change 192 = .ok (.iload 4, 2) := by decide +kernel
theorem dX2_change_194 : decode cX2_change 194 = .ok (.istore 5, 2) := by decide +kernel
theorem dX2_change_196 : decode cX2_change 196 = .ok (.aload_n 0, 1) := by decide +kernel
theorem dX2_change_197 : decode cX2_change 197 = .ok (.getfield 62, 3) := by decide +kernel
theorem dX2_change_200 : decode cX2_change 200 = .ok (.istore 6, 2) := by decide +kernel
theorem dX2_change_202 : decode cX2_change 202 = .ok (.iconst 0, 1) := by decide +kernel
theorem dX2_change_203 : decode cX2_change 203 = .ok (.istore 7, 2) := by decide +kernel
theorem dX2_change_205 : decode cX2_change 205 = .ok (.iload 7, 2) := by decide +kernel
theorem dX2_change_207 : decode cX2_change 207 = .ok (.iload 4, 2) := by decide +kernel
theorem dX2_change_209 : decode cX2_change 209 = .ok (.if_icmp .ge 68, 3) := by decide +kernel
theorem dX2_change_212 : decode cX2_change 212 = .ok (.aload_n 0, 1) := by decide +kernel
theorem dX2_change_213 : decode cX2_change 213 = .ok (.iload_n 1, 1) := by decide +kernel
theorem dX2_change_214 : decode cX2_change 214 = .ok (.iload 7, 2) := by decide +kernel
theorem dX2_change_216 : decode cX2_change 216 = .ok (.invokevirtual 94, 3) := by decide +kernel
theorem dX2_change_219 : decode cX2_change 219 = .ok (.istore 8, 2) := by decide +kernel
theorem dX2_change_221 : decode cX2_change 221 = .ok (.iload 7, 2) := by decide +kernel
theorem dX2_change_223 : decode cX2_change 223 = .ok (.iload 5, 2) := by decide +kernel
theorem dX2_change_225 : decode cX2_change 225 = .ok (.if_icmp .ge 8, 3) := by decide +kernel
theorem dX2_change_228 : decode cX2_change 228 = .ok (.iload 8, 2) := by decide +kernel
theorem dX2_change_230 : decode cX2_change 230 = .ok (.ifCond .ne 8, 3) := by decide +kernel
theorem dX2_change_233 : decode cX2_change 233 = .ok (.iload 8, 2) := by decide +kernel
theorem dX2_change_235 : decode cX2_change 235 = .ok (.goto 28, 3) := by decide +kernel
theorem dX2_change_238 : decode cX2_change 238 = .ok (.aload_n 0, 1) := by decide +kernel
theorem dX2_change_239 : decode cX2_change 239 = .ok (.iload 8, 2) := by decide +kernel
theorem dX2_change_241 : decode cX2_change 241 = .ok (.iload_n 3, 1) := by decide +kernel
theorem dX2_change_242 : decode cX2_change 242 = .ok (.bipush 18, 2) := by decide +kernel
theorem dX2_change_244 : decode cX2_change 244 = .ok (.if_icmp .ne 15, 3) := by decide +kernel
theorem dX2_change_247 : decode cX2_change 247 = .ok (.iload 7, 2) := by decide +kernel
theorem dX2_change_249 : decode cX2_change 249 = .ok (.iconst 1, 1) := by decide +kernel
theorem dX2_change_250 : decode cX2_change 250 = .ok (.if_icmp .ne 9, 3) := by decide +kernel
theorem dX2_change_253 : decode cX2_change 253 = .ok (.iload_n 2, 1) := by decide +kernel
theorem dX2_change_254 : decode cX2_change 254 = .ok (.iconst 1, 1) := by decide +kernel
theorem dX2_change_255 : decode cX2_change 255 = .ok (.iadd, 1) := by decide +kernel
theorem dX2_change_256 : decode cX2_change 256 = .ok (.goto 4, 3) := by decide +kernel
theorem dX2_change_259 : decode cX2_change 259 = .ok (.iload_n 2, 1) := by decide +kernel
theorem dX2_change_260 : decode cX2_change 260 = .ok (.invokevirtual 118, 3) := by decide +kernel
theorem dX2_change_263 : decode cX2_change 263 = .ok (.istore 9, 2) := by decide +kernel
theorem dX2_change_265 : decode cX2_change 265 = .ok (.aload_n 0, 1) := by decide +kernel
theorem dX2_change_266 : decode cX2_change 266 = .ok (.iload 9, 2) := by decide +kernel
theorem dX2_change_268 : decode cX2_change 268 = .ok (.invokevirtual 90, 3) := by decide +kernel
theorem dX2_change_271 : decode cX2_change 271 = .ok (.iinc 7 1, 3) := by decide +kernel
theorem dX2_change_274 : decode cX2_change 274 = .ok (.goto (-69), 3) := by decide +kernel
theorem dX2_change_277 : decode cX2_change 277 = .ok (.iload_n 3, 1) := by decide +kernel
theorem dX2_change_278 : decode cX2_change 278 = .ok (.bipush 16, 2) := by decide +kernel
theorem dX2_change_280 : decode cX2_change 280 = .ok (.if_icmp .ne 25, 3) := by decide +kernel
theorem dX2_change_283 : decode cX2_change 283 = .ok (.aload_n 0, 1) := by decide +kernel
theorem dX2_change_284 : decode cX2_change 284 = .ok (.getfield 46, 3) := by decide +kernel
theorem dX2_change_287 : decode cX2_change 287 = .ok (.iload 6, 2) := by decide +kernel
theorem dX2_change_289 : decode cX2_change 289 = .ok (.iaload, 1) := by decide +kernel
theorem dX2_change_290 : decode cX2_change 290 = .ok (.istore 7, 2) := by decide +kernel
theorem dX2_change_292 : decode cX2_change 292 = .ok (.aload_n 0, 1) := by decide +kernel
theorem dX2_change_293 : decode cX2_change 293 = .ok (.iload 6, 2) := by decide +kernel
theorem dX2_change_295 : decode cX2_change 295 = .ok (.putfield 62, 3) := by decide +kernel
theorem dX2_change_298 : decode cX2_change 298 = .ok (.aload_n 0, 1) := by decide +kernel
theorem dX2_change_299 : decode cX2_change 299 = .ok (.iload 7, 2) := by decide +kernel
theorem dX2_change_301 : decode cX2_change 301 = .ok (.invokevirtual 101, 3) := by decide +kernel
theorem dX2_change_304 : decode cX2_change 304 = .ok (.ireturn, 1) := by decide +kernel
theorem dX2_change_305 : decode cX2_change 305 = .ok (.iload_n 3, 1) := by decide +kernel
theorem dX2_change_306 : decode cX2_change 306 = .ok (.bipush 17, 2) := by decide +kernel
theorem dX2_change_308 : decode cX2_change 308 = .ok (.if_icmp .ne 10, 3) := by decide +kernel
theorem dX2_change_311 : decode cX2_change 311 = .ok (.aload_n 0, 1) := by decide +kernel
theorem dX2_change_312 : decode cX2_change 312 = .ok (.iload 6, 2) := by decide +kernel
theorem dX2_change_314 : decode cX2_change 314 = .ok (.invokevirtual 97, 3) := by decide +kernel
theorem dX2_change_317 : decode cX2_change 317 = .ok (.ireturn, 1) := by decide +kernel
theorem dX2_change_318 : decode cX2_change 318 = .ok (.aload_n 0, 1) := by decide +kernel
theorem dX2_change_319 : decode cX2_change 319 = .ok (.iload_n 3, 1) := by decide +kernel
theorem dX2_change_320 : decode cX2_change 320 = .ok (.aload_n 0, 1) := by decide +kernel
theorem dX2_change_321 : decode cX2_change 321 = .ok (.getfield 16, 3) := by decide +kernel
theorem dX2_change_324 : decode cX2_change 324 = .ok (.iload_n 1, 1) := by decide +kernel
theorem dX2_change_325 : decode cX2_change 325 = .ok (.iaload, 1) := by decide +kernel
theorem dX2_change_326 : decode cX2_change 326 = .ok (.iload 6, 2) := by decide +kernel
theorem dX2_change_328 : decode cX2_change 328 = .ok (.invokevirtual 49, 3) := by decide +kernel
theorem dX2_change_331 : decode cX2_change 331 = .ok (.ireturn, 1) := by decide +kernel
abbrev cX2_all : ByteArray := prog_2_method_15_code
def yX2_all : MethodName := ⟨RX2, "all", "(II)I"⟩
theorem dX2_all_0 : decode cX2_all 0 = .ok (.iload_n 2, 1) := by decide +kernel
theorem dX2_all_1 : decode cX2_all 1 = .ok (.aload_n 0, 1) := by decide +kernel
theorem dX2_all_2 : decode cX2_all 2 = .ok (.getfield 53, 3) := by decide +kernel
theorem dX2_all_5 : decode cX2_all 5 = .ok (.if_icmp .ne 10, 3) := by decide +kernel
theorem dX2_all_8 : decode cX2_all 8 = .ok (.aload_n 0, 1) := by decide +kernel
theorem dX2_all_9 : decode cX2_all 9 = .ok (.getfield 53, 3) := by decide +kernel
theorem dX2_all_12 : decode cX2_all 12 = .ok (.goto 12, 3) := by decide +kernel
theorem dX2_all_15 : decode cX2_all 15 = .ok (.aload_n 0, 1) := by decide +kernel
theorem dX2_all_16 : decode cX2_all 16 = .ok (.bipush 18, 2) := by decide +kernel
theorem dX2_all_18 : decode cX2_all 18 = .ok (.iconst 0, 1) := by decide +kernel
theorem dX2_all_19 : decode cX2_all 19 = .ok (.iload_n 1, 1) := by decide +kernel
theorem dX2_all_20 : decode cX2_all 20 = .ok (.iload_n 2, 1) := by decide +kernel
theorem dX2_all_21 : decode cX2_all 21 = .ok (.invokevirtual 109, 3) := by decide +kernel
theorem dX2_all_24 : decode cX2_all 24 = .ok (.ireturn, 1) := by decide +kernel
abbrev cX2_put : ByteArray := prog_2_method_19_code
def yX2_put : MethodName := ⟨RX2, "put", "(II)I"⟩
theorem dX2_put_0 : decode cX2_put 0 = .ok (.aload_n 0, 1) := by decide +kernel
theorem dX2_put_1 : decode cX2_put 1 = .ok (.iconst 0, 1) := by decide +kernel
theorem dX2_put_2 : decode cX2_put 2 = .ok (.putfield 112, 3) := by decide +kernel
theorem dX2_put_5 : decode cX2_put 5 = .ok (.aload_n 0, 1) := by decide +kernel
theorem dX2_put_6 : decode cX2_put 6 = .ok (.iload_n 2, 1) := by decide +kernel
theorem dX2_put_7 : decode cX2_put 7 = .ok (.putfield 115, 3) := by decide +kernel
theorem dX2_put_10 : decode cX2_put 10 = .ok (.aload_n 0, 1) := by decide +kernel
theorem dX2_put_11 : decode cX2_put 11 = .ok (.iload_n 1, 1) := by decide +kernel
theorem dX2_put_12 : decode cX2_put 12 = .ok (.iconst 0, 1) := by decide +kernel
theorem dX2_put_13 : decode cX2_put 13 = .ok (.invokevirtual 118, 3) := by decide +kernel
theorem dX2_put_16 : decode cX2_put 16 = .ok (.ireturn, 1) := by decide +kernel
abbrev cX2_loci : ByteArray := prog_2_method_22_code
def yX2_loci : MethodName := ⟨RX2, "loci", "(IIII)I"⟩
theorem dX2_loci_0 : decode cX2_loci 0 = .ok (.aload_n 0, 1) := by decide +kernel
theorem dX2_loci_1 : decode cX2_loci 1 = .ok (.iconst 2, 1) := by decide +kernel
theorem dX2_loci_2 : decode cX2_loci 2 = .ok (.putfield 112, 3) := by decide +kernel
theorem dX2_loci_5 : decode cX2_loci 5 = .ok (.aload_n 0, 1) := by decide +kernel
theorem dX2_loci_6 : decode cX2_loci 6 = .ok (.iload_n 2, 1) := by decide +kernel
theorem dX2_loci_7 : decode cX2_loci 7 = .ok (.putfield 124, 3) := by decide +kernel
theorem dX2_loci_10 : decode cX2_loci 10 = .ok (.aload_n 0, 1) := by decide +kernel
theorem dX2_loci_11 : decode cX2_loci 11 = .ok (.iload_n 3, 1) := by decide +kernel
theorem dX2_loci_12 : decode cX2_loci 12 = .ok (.putfield 127, 3) := by decide +kernel
theorem dX2_loci_15 : decode cX2_loci 15 = .ok (.aload_n 0, 1) := by decide +kernel
theorem dX2_loci_16 : decode cX2_loci 16 = .ok (.iload 4, 2) := by decide +kernel
theorem dX2_loci_18 : decode cX2_loci 18 = .ok (.putfield 130, 3) := by decide +kernel
theorem dX2_loci_21 : decode cX2_loci 21 = .ok (.iload_n 1, 1) := by decide +kernel
theorem dX2_loci_22 : decode cX2_loci 22 = .ok (.ifCond .ne 7, 3) := by decide +kernel
theorem dX2_loci_25 : decode cX2_loci 25 = .ok (.iconst 0, 1) := by decide +kernel
theorem dX2_loci_26 : decode cX2_loci 26 = .ok (.goto 9, 3) := by decide +kernel
theorem dX2_loci_29 : decode cX2_loci 29 = .ok (.aload_n 0, 1) := by decide +kernel
theorem dX2_loci_30 : decode cX2_loci 30 = .ok (.iload_n 1, 1) := by decide +kernel
theorem dX2_loci_31 : decode cX2_loci 31 = .ok (.iconst 0, 1) := by decide +kernel
theorem dX2_loci_32 : decode cX2_loci 32 = .ok (.invokevirtual 118, 3) := by decide +kernel
theorem dX2_loci_35 : decode cX2_loci 35 = .ok (.ireturn, 1) := by decide +kernel
abbrev cX2_has : ByteArray := prog_2_method_24_code
def yX2_has : MethodName := ⟨RX2, "has", "(II)Z"⟩
theorem dX2_has_0 : decode cX2_has 0 = .ok (.iload_n 1, 1) := by decide +kernel
theorem dX2_has_1 : decode cX2_has 1 = .ok (.iload_n 2, 1) := by decide +kernel
theorem dX2_has_2 : decode cX2_has 2 = .ok (.if_icmp .ne 5, 3) := by decide +kernel
theorem dX2_has_5 : decode cX2_has 5 = .ok (.iconst 1, 1) := by decide +kernel
theorem dX2_has_6 : decode cX2_has 6 = .ok (.ireturn, 1) := by decide +kernel
theorem dX2_has_7 : decode cX2_has 7 = .ok (.aload_n 0, 1) := by decide +kernel
theorem dX2_has_8 : decode cX2_has 8 = .ok (.getfield 10, 3) := by decide +kernel
theorem dX2_has_11 : decode cX2_has 11 = .ok (.iload_n 1, 1) := by decide +kernel
theorem dX2_has_12 : decode cX2_has 12 = .ok (.iaload, 1) := by decide +kernel
theorem dX2_has_13 : decode cX2_has 13 = .ok (.bipush 8, 2) := by decide +kernel
theorem dX2_has_15 : decode cX2_has 15 = .ok (.if_icmp .ne 7, 3) := by decide +kernel
theorem dX2_has_18 : decode cX2_has 18 = .ok (.iconst 1, 1) := by decide +kernel
theorem dX2_has_19 : decode cX2_has 19 = .ok (.goto 9, 3) := by decide +kernel
theorem dX2_has_22 : decode cX2_has 22 = .ok (.aload_n 0, 1) := by decide +kernel
theorem dX2_has_23 : decode cX2_has 23 = .ok (.getfield 22, 3) := by decide +kernel
theorem dX2_has_26 : decode cX2_has 26 = .ok (.iload_n 1, 1) := by decide +kernel
theorem dX2_has_27 : decode cX2_has 27 = .ok (.iaload, 1) := by decide +kernel
theorem dX2_has_28 : decode cX2_has 28 = .ok (.istore_n 3, 1) := by decide +kernel
theorem dX2_has_29 : decode cX2_has 29 = .ok (.iconst 0, 1) := by decide +kernel
theorem dX2_has_30 : decode cX2_has 30 = .ok (.istore 4, 2) := by decide +kernel
theorem dX2_has_32 : decode cX2_has 32 = .ok (.iload 4, 2) := by decide +kernel
theorem dX2_has_34 : decode cX2_has 34 = .ok (.iload_n 3, 1) := by decide +kernel
theorem dX2_has_35 : decode cX2_has 35 = .ok (.if_icmp .ge 36, 3) := by decide +kernel
theorem dX2_has_38 : decode cX2_has 38 = .ok (.aload_n 0, 1) := by decide +kernel
theorem dX2_has_39 : decode cX2_has 39 = .ok (.iload_n 1, 1) := by decide +kernel
theorem dX2_has_40 : decode cX2_has 40 = .ok (.iload 4, 2) := by decide +kernel
theorem dX2_has_42 : decode cX2_has 42 = .ok (.invokevirtual 94, 3) := by decide +kernel
theorem dX2_has_45 : decode cX2_has 45 = .ok (.ifCond .eq 20, 3) := by decide +kernel
theorem dX2_has_48 : decode cX2_has 48 = .ok (.aload_n 0, 1) := by decide +kernel
theorem dX2_has_49 : decode cX2_has 49 = .ok (.aload_n 0, 1) := by decide +kernel
theorem dX2_has_50 : decode cX2_has 50 = .ok (.iload_n 1, 1) := by decide +kernel
theorem dX2_has_51 : decode cX2_has 51 = .ok (.iload 4, 2) := by decide +kernel
theorem dX2_has_53 : decode cX2_has 53 = .ok (.invokevirtual 94, 3) := by decide +kernel
theorem dX2_has_56 : decode cX2_has 56 = .ok (.iload_n 2, 1) := by decide +kernel
theorem dX2_has_57 : decode cX2_has 57 = .ok (.invokevirtual 133, 3) := by decide +kernel
theorem dX2_has_60 : decode cX2_has 60 = .ok (.ifCond .eq 5, 3) := by decide +kernel
theorem dX2_has_63 : decode cX2_has 63 = .ok (.iconst 1, 1) := by decide +kernel
theorem dX2_has_64 : decode cX2_has 64 = .ok (.ireturn, 1) := by decide +kernel
theorem dX2_has_65 : decode cX2_has 65 = .ok (.iinc 4 1, 3) := by decide +kernel
theorem dX2_has_68 : decode cX2_has 68 = .ok (.goto (-36), 3) := by decide +kernel
theorem dX2_has_71 : decode cX2_has 71 = .ok (.iconst 0, 1) := by decide +kernel
theorem dX2_has_72 : decode cX2_has 72 = .ok (.ireturn, 1) := by decide +kernel
abbrev cX2_seek : ByteArray := prog_2_method_5_code
def yX2_seek : MethodName := ⟨RX2, "seek", "(III)I"⟩
theorem dX2_seek_0 : decode cX2_seek 0 = .ok (.aload_n 0, 1) := by decide +kernel
theorem dX2_seek_1 : decode cX2_seek 1 = .ok (.getfield 62, 3) := by decide +kernel
theorem dX2_seek_4 : decode cX2_seek 4 = .ok (.iload_n 3, 1) := by decide +kernel
theorem dX2_seek_5 : decode cX2_seek 5 = .ok (.isub, 1) := by decide +kernel
theorem dX2_seek_6 : decode cX2_seek 6 = .ok (.istore 4, 2) := by decide +kernel
theorem dX2_seek_8 : decode cX2_seek 8 = .ok (.aload_n 0, 1) := by decide +kernel
theorem dX2_seek_9 : decode cX2_seek 9 = .ok (.getfield 39, 3) := by decide +kernel
theorem dX2_seek_12 : decode cX2_seek 12 = .ok (.aload_n 0, 1) := by decide +kernel
theorem dX2_seek_13 : decode cX2_seek 13 = .ok (.iload_n 1, 1) := by decide +kernel
theorem dX2_seek_14 : decode cX2_seek 14 = .ok (.iload_n 2, 1) := by decide +kernel
theorem dX2_seek_15 : decode cX2_seek 15 = .ok (.iload_n 3, 1) := by decide +kernel
theorem dX2_seek_16 : decode cX2_seek 16 = .ok (.invokevirtual 72, 3) := by decide +kernel
theorem dX2_seek_19 : decode cX2_seek 19 = .ok (.iaload, 1) := by decide +kernel
theorem dX2_seek_20 : decode cX2_seek 20 = .ok (.istore 5, 2) := by decide +kernel
theorem dX2_seek_22 : decode cX2_seek 22 = .ok (.aload_n 0, 1) := by decide +kernel
theorem dX2_seek_23 : decode cX2_seek 23 = .ok (.iload_n 3, 1) := by decide +kernel
theorem dX2_seek_24 : decode cX2_seek 24 = .ok (.putfield 62, 3) := by decide +kernel
theorem dX2_seek_27 : decode cX2_seek 27 = .ok (.iload 5, 2) := by decide +kernel
theorem dX2_seek_29 : decode cX2_seek 29 = .ok (.ifCond .eq 118, 3) := by decide +kernel
theorem dX2_seek_32 : decode cX2_seek 32 = .ok (.aload_n 0, 1) := by decide +kernel
theorem dX2_seek_33 : decode cX2_seek 33 = .ok (.getfield 10, 3) := by decide +kernel
theorem dX2_seek_36 : decode cX2_seek 36 = .ok (.iload 5, 2) := by decide +kernel
theorem dX2_seek_38 : decode cX2_seek 38 = .ok (.iaload, 1) := by decide +kernel
theorem dX2_seek_39 : decode cX2_seek 39 = .ok (.iload_n 1, 1) := by decide +kernel
theorem dX2_seek_40 : decode cX2_seek 40 = .ok (.if_icmp .ne 95, 3) := by decide +kernel
theorem dX2_seek_43 : decode cX2_seek 43 = .ok (.aload_n 0, 1) := by decide +kernel
theorem dX2_seek_44 : decode cX2_seek 44 = .ok (.getfield 16, 3) := by decide +kernel
theorem dX2_seek_47 : decode cX2_seek 47 = .ok (.iload 5, 2) := by decide +kernel
theorem dX2_seek_49 : decode cX2_seek 49 = .ok (.iaload, 1) := by decide +kernel
theorem dX2_seek_50 : decode cX2_seek 50 = .ok (.iload_n 2, 1) := by decide +kernel
theorem dX2_seek_51 : decode cX2_seek 51 = .ok (.if_icmp .ne 84, 3) := by decide +kernel
theorem dX2_seek_54 : decode cX2_seek 54 = .ok (.aload_n 0, 1) := by decide +kernel
theorem dX2_seek_55 : decode cX2_seek 55 = .ok (.getfield 22, 3) := by decide +kernel
theorem dX2_seek_58 : decode cX2_seek 58 = .ok (.iload 5, 2) := by decide +kernel
theorem dX2_seek_60 : decode cX2_seek 60 = .ok (.iaload, 1) := by decide +kernel
theorem dX2_seek_61 : decode cX2_seek 61 = .ok (.iload 4, 2) := by decide +kernel
theorem dX2_seek_63 : decode cX2_seek 63 = .ok (.if_icmp .eq 6, 3) := by decide +kernel
theorem dX2_seek_66 : decode cX2_seek 66 = .ok (.goto 69, 3) := by decide +kernel
theorem dX2_seek_69 : decode cX2_seek 69 = .ok (.iconst 1, 1) := by decide +kernel
theorem dX2_seek_70 : decode cX2_seek 70 = .ok (.istore 6, 2) := by decide +kernel
theorem dX2_seek_72 : decode cX2_seek 72 = .ok (.iconst 0, 1) := by decide +kernel
theorem dX2_seek_73 : decode cX2_seek 73 = .ok (.istore 7, 2) := by decide +kernel
theorem dX2_seek_75 : decode cX2_seek 75 = .ok (.iload 7, 2) := by decide +kernel
theorem dX2_seek_77 : decode cX2_seek 77 = .ok (.iload 4, 2) := by decide +kernel
theorem dX2_seek_79 : decode cX2_seek 79 = .ok (.if_icmp .ge 48, 3) := by decide +kernel
theorem dX2_seek_82 : decode cX2_seek 82 = .ok (.iload 6, 2) := by decide +kernel
theorem dX2_seek_84 : decode cX2_seek 84 = .ok (.ifCond .eq 43, 3) := by decide +kernel
theorem dX2_seek_87 : decode cX2_seek 87 = .ok (.aload_n 0, 1) := by decide +kernel
theorem dX2_seek_88 : decode cX2_seek 88 = .ok (.getfield 35, 3) := by decide +kernel
theorem dX2_seek_91 : decode cX2_seek 91 = .ok (.aload_n 0, 1) := by decide +kernel
theorem dX2_seek_92 : decode cX2_seek 92 = .ok (.getfield 19, 3) := by decide +kernel
theorem dX2_seek_95 : decode cX2_seek 95 = .ok (.iload 5, 2) := by decide +kernel
theorem dX2_seek_97 : decode cX2_seek 97 = .ok (.iaload, 1) := by decide +kernel
theorem dX2_seek_98 : decode cX2_seek 98 = .ok (.iload 7, 2) := by decide +kernel
theorem dX2_seek_100 : decode cX2_seek 100 = .ok (.iadd, 1) := by decide +kernel
theorem dX2_seek_101 : decode cX2_seek 101 = .ok (.iaload, 1) := by decide +kernel
theorem dX2_seek_102 : decode cX2_seek 102 = .ok (.aload_n 0, 1) := by decide +kernel
theorem dX2_seek_103 : decode cX2_seek 103 = .ok (.getfield 46, 3) := by decide +kernel
theorem dX2_seek_106 : decode cX2_seek 106 = .ok (.iload_n 3, 1) := by decide +kernel
theorem dX2_seek_107 : decode cX2_seek 107 = .ok (.iload 7, 2) := by decide +kernel
theorem dX2_seek_109 : decode cX2_seek 109 = .ok (.iadd, 1) := by decide +kernel
theorem dX2_seek_110 : decode cX2_seek 110 = .ok (.iaload, 1) := by decide +kernel
theorem dX2_seek_111 : decode cX2_seek 111 = .ok (.if_icmp .ne 7, 3) := by decide +kernel
theorem dX2_seek_114 : decode cX2_seek 114 = .ok (.iconst 1, 1) := by decide +kernel
theorem dX2_seek_115 : decode cX2_seek 115 = .ok (.goto 4, 3) := by decide +kernel
theorem dX2_seek_118 : decode cX2_seek 118 = .ok (.iconst 0, 1) := by decide +kernel
theorem dX2_seek_119 : decode cX2_seek 119 = .ok (.istore 6, 2) := by decide +kernel
theorem dX2_seek_121 : decode cX2_seek 121 = .ok (.iinc 7 1, 3) := by decide +kernel
theorem dX2_seek_124 : decode cX2_seek 124 = .ok (.goto (-49), 3) := by decide +kernel
theorem dX2_seek_127 : decode cX2_seek 127 = .ok (.iload 6, 2) := by decide +kernel
theorem dX2_seek_129 : decode cX2_seek 129 = .ok (.ifCond .eq 6, 3) := by decide +kernel
theorem dX2_seek_132 : decode cX2_seek 132 = .ok (.iload 5, 2) := by decide +kernel
theorem dX2_seek_134 : decode cX2_seek 134 = .ok (.ireturn, 1) := by decide +kernel
theorem dX2_seek_135 : decode cX2_seek 135 = .ok (.aload_n 0, 1) := by decide +kernel
theorem dX2_seek_136 : decode cX2_seek 136 = .ok (.getfield 31, 3) := by decide +kernel
theorem dX2_seek_139 : decode cX2_seek 139 = .ok (.iload 5, 2) := by decide +kernel
theorem dX2_seek_141 : decode cX2_seek 141 = .ok (.iaload, 1) := by decide +kernel
theorem dX2_seek_142 : decode cX2_seek 142 = .ok (.istore 5, 2) := by decide +kernel
theorem dX2_seek_144 : decode cX2_seek 144 = .ok (.goto (-117), 3) := by decide +kernel
theorem dX2_seek_147 : decode cX2_seek 147 = .ok (.iconst 0, 1) := by decide +kernel
theorem dX2_seek_148 : decode cX2_seek 148 = .ok (.ireturn, 1) := by decide +kernel
abbrev cX2_partsOf : ByteArray := prog_2_method_17_code
def yX2_partsOf : MethodName := ⟨RX2, "partsOf", "(I)I"⟩
theorem dX2_partsOf_0 : decode cX2_partsOf 0 = .ok (.iload_n 1, 1) := by decide +kernel
theorem dX2_partsOf_1 : decode cX2_partsOf 1 = .ok (.aload_n 0, 1) := by decide +kernel
theorem dX2_partsOf_2 : decode cX2_partsOf 2 = .ok (.getfield 53, 3) := by decide +kernel
theorem dX2_partsOf_5 : decode cX2_partsOf 5 = .ok (.if_icmp .ne 7, 3) := by decide +kernel
theorem dX2_partsOf_8 : decode cX2_partsOf 8 = .ok (.iconst 0, 1) := by decide +kernel
theorem dX2_partsOf_9 : decode cX2_partsOf 9 = .ok (.goto 24, 3) := by decide +kernel
theorem dX2_partsOf_12 : decode cX2_partsOf 12 = .ok (.aload_n 0, 1) := by decide +kernel
theorem dX2_partsOf_13 : decode cX2_partsOf 13 = .ok (.getfield 10, 3) := by decide +kernel
theorem dX2_partsOf_16 : decode cX2_partsOf 16 = .ok (.iload_n 1, 1) := by decide +kernel
theorem dX2_partsOf_17 : decode cX2_partsOf 17 = .ok (.iaload, 1) := by decide +kernel
theorem dX2_partsOf_18 : decode cX2_partsOf 18 = .ok (.bipush 17, 2) := by decide +kernel
theorem dX2_partsOf_20 : decode cX2_partsOf 20 = .ok (.if_icmp .ne 12, 3) := by decide +kernel
theorem dX2_partsOf_23 : decode cX2_partsOf 23 = .ok (.aload_n 0, 1) := by decide +kernel
theorem dX2_partsOf_24 : decode cX2_partsOf 24 = .ok (.getfield 22, 3) := by decide +kernel
theorem dX2_partsOf_27 : decode cX2_partsOf 27 = .ok (.iload_n 1, 1) := by decide +kernel
theorem dX2_partsOf_28 : decode cX2_partsOf 28 = .ok (.iaload, 1) := by decide +kernel
theorem dX2_partsOf_29 : decode cX2_partsOf 29 = .ok (.goto 4, 3) := by decide +kernel
theorem dX2_partsOf_32 : decode cX2_partsOf 32 = .ok (.iconst 1, 1) := by decide +kernel
theorem dX2_partsOf_33 : decode cX2_partsOf 33 = .ok (.ireturn, 1) := by decide +kernel
theorem q164 : (Jvm.Cond.initialized "RoundCheck$Store") ∈ lw_all := lw_g (lw_at lw_m1 2 rfl) rfl
theorem q183 : (Jvm.Cond.instantiable "RoundCheck$Store" (21 : Nat)) ∈ lw_all := lw_g (lw_at lw_m1 21 rfl) rfl
theorem q185 : (Jvm.Cond.instanceMethod ({ cls := "RoundCheck$Store", name := "<init>", desc := "()V" } : Jvm.MethodName)) ∈ lw_all := lw_g (lw_at lw_m1 23 rfl) rfl
theorem q186 : (Jvm.Cond.code ({ cls := "RoundCheck$Store", name := "<init>", desc := "()V" } : Jvm.MethodName) prog_2_method_1_code (1 : Nat) (Option.none : Option Jvm.ClassFile.FieldType)) ∈ lw_all := lw_g (lw_at lw_m1 24 rfl) rfl
theorem q187 : (Jvm.Cond.methodLink "RoundCheck$Store" (3 : Nat) ({ cls := "java/lang/Object", name := "<init>", desc := "()V" } : Jvm.MethodName)) ∈ lw_all := lw_g (lw_at lw_m1 25 rfl) rfl
theorem q188 : (Jvm.Cond.constant "RoundCheck$Store" (9 : Nat) (60000 : Int32)) ∈ lw_all := lw_g (lw_at lw_m1 26 rfl) rfl
theorem q189 : (Jvm.Cond.constant "RoundCheck$Store" (34 : Nat) (180000 : Int32)) ∈ lw_all := lw_g (lw_at lw_m1 27 rfl) rfl
theorem q190 : (Jvm.Cond.constant "RoundCheck$Store" (38 : Nat) (32768 : Int32)) ∈ lw_all := lw_g (lw_at lw_m1 28 rfl) rfl
theorem q191 : (Jvm.Cond.methodLink "RoundCheck$Store" (49 : Nat) ({ cls := "RoundCheck$Store", name := "make", desc := "(III)I" } : Jvm.MethodName)) ∈ lw_all := lw_g (lw_at lw_m1 29 rfl) rfl
theorem q192 : (Jvm.Cond.instanceMethod ({ cls := "RoundCheck$Store", name := "make", desc := "(III)I" } : Jvm.MethodName)) ∈ lw_all := lw_g (lw_at lw_m1 30 rfl) rfl
theorem q193 : (Jvm.Cond.selects "RoundCheck$Store" ({ cls := "RoundCheck$Store", name := "make", desc := "(III)I" } : Jvm.MethodName) ({ cls := "RoundCheck$Store", name := "make", desc := "(III)I" } : Jvm.MethodName)) ∈ lw_all := lw_g (lw_at lw_m1 31 rfl) rfl
theorem q194 : (Jvm.Cond.code ({ cls := "RoundCheck$Store", name := "make", desc := "(III)I" } : Jvm.MethodName) prog_2_method_4_code (13 : Nat) (Option.some Jvm.ClassFile.FieldType.int)) ∈ lw_all := lw_g (lw_at lw_m1 32 rfl) rfl
theorem q195 : (Jvm.Cond.methodLink "RoundCheck$Store" (72 : Nat) ({ cls := "RoundCheck$Store", name := "hash", desc := "(III)I" } : Jvm.MethodName)) ∈ lw_all := lw_g (lw_at lw_m1 33 rfl) rfl
theorem q196 : (Jvm.Cond.privateMethod ({ cls := "RoundCheck$Store", name := "hash", desc := "(III)I" } : Jvm.MethodName)) ∈ lw_tbl := lw_at lw_m1 34 rfl
theorem q197 : (Jvm.Cond.instanceMethod ({ cls := "RoundCheck$Store", name := "hash", desc := "(III)I" } : Jvm.MethodName)) ∈ lw_all := lw_g (lw_at lw_m1 35 rfl) rfl
theorem q198 : (Jvm.Cond.code ({ cls := "RoundCheck$Store", name := "hash", desc := "(III)I" } : Jvm.MethodName) prog_2_method_3_code (6 : Nat) (Option.some Jvm.ClassFile.FieldType.int)) ∈ lw_all := lw_g (lw_at lw_m1 36 rfl) rfl
theorem q199 : (Jvm.Cond.constant "RoundCheck$Store" (71 : Nat) (-1640531535 : Int32)) ∈ lw_all := lw_g (lw_at lw_m1 37 rfl) rfl
theorem q200 : (Jvm.Cond.methodLink "RoundCheck$Store" (65 : Nat) ({ cls := "java/util/Arrays", name := "copyOf", desc := "([II)[I" } : Jvm.MethodName)) ∈ lw_all := lw_g (lw_at lw_m1 38 rfl) rfl
theorem q216 : (Jvm.Cond.methodLink "RoundCheck$Store" (78 : Nat) ({ cls := "java/lang/Math", name := "max", desc := "(II)I" } : Jvm.MethodName)) ∈ lw_all := lw_g (lw_at lw_m1 54 rfl) rfl
theorem q219 : (Jvm.Cond.constantLong "RoundCheck$Store" (84 : Nat) (1000000000 : Int64)) ∈ lw_all := lw_g (lw_at lw_m1 57 rfl) rfl
theorem q220 : (Jvm.Cond.methodLink "RoundCheck$Store" (86 : Nat) ({ cls := "java/lang/Math", name := "min", desc := "(JJ)J" } : Jvm.MethodName)) ∈ lw_all := lw_g (lw_at lw_m1 58 rfl) rfl
theorem q223 : (Jvm.Cond.methodLink "RoundCheck$Store" (56 : Nat) ({ cls := "RoundCheck$Store", name := "make", desc := "(IIII)I" } : Jvm.MethodName)) ∈ lw_all := lw_g (lw_at lw_m1 61 rfl) rfl
theorem q224 : (Jvm.Cond.instanceMethod ({ cls := "RoundCheck$Store", name := "make", desc := "(IIII)I" } : Jvm.MethodName)) ∈ lw_all := lw_g (lw_at lw_m1 62 rfl) rfl
theorem q225 : (Jvm.Cond.selects "RoundCheck$Store" ({ cls := "RoundCheck$Store", name := "make", desc := "(IIII)I" } : Jvm.MethodName) ({ cls := "RoundCheck$Store", name := "make", desc := "(IIII)I" } : Jvm.MethodName)) ∈ lw_all := lw_g (lw_at lw_m1 63 rfl) rfl
theorem q226 : (Jvm.Cond.code ({ cls := "RoundCheck$Store", name := "make", desc := "(IIII)I" } : Jvm.MethodName) prog_2_method_6_code (6 : Nat) (Option.some Jvm.ClassFile.FieldType.int)) ∈ lw_all := lw_g (lw_at lw_m1 64 rfl) rfl
theorem q227 : (Jvm.Cond.methodLink "RoundCheck$Store" (90 : Nat) ({ cls := "RoundCheck$Store", name := "push", desc := "(I)V" } : Jvm.MethodName)) ∈ lw_all := lw_g (lw_at lw_m1 65 rfl) rfl
theorem q228 : (Jvm.Cond.instanceMethod ({ cls := "RoundCheck$Store", name := "push", desc := "(I)V" } : Jvm.MethodName)) ∈ lw_all := lw_g (lw_at lw_m1 66 rfl) rfl
theorem q229 : (Jvm.Cond.selects "RoundCheck$Store" ({ cls := "RoundCheck$Store", name := "push", desc := "(I)V" } : Jvm.MethodName) ({ cls := "RoundCheck$Store", name := "push", desc := "(I)V" } : Jvm.MethodName)) ∈ lw_all := lw_g (lw_at lw_m1 67 rfl) rfl
theorem q230 : (Jvm.Cond.code ({ cls := "RoundCheck$Store", name := "push", desc := "(I)V" } : Jvm.MethodName) prog_2_method_2_code (2 : Nat) (Option.none : Option Jvm.ClassFile.FieldType)) ∈ lw_all := lw_g (lw_at lw_m1 68 rfl) rfl
theorem q231 : (Jvm.Cond.fieldLink "RoundCheck$Store" (10 : Nat) "RoundCheck$Store" "kind" "[I") ∈ lw_all := lw_g (lw_at lw_m1 69 rfl) rfl
theorem q233 : (Jvm.Cond.fieldLink "RoundCheck$Store" (16 : Nat) "RoundCheck$Store" "what" "[I") ∈ lw_all := lw_g (lw_at lw_m1 71 rfl) rfl
theorem q235 : (Jvm.Cond.fieldLink "RoundCheck$Store" (19 : Nat) "RoundCheck$Store" "from" "[I") ∈ lw_all := lw_g (lw_at lw_m1 73 rfl) rfl
theorem q236 : (Jvm.Cond.fieldLink "RoundCheck$Store" (22 : Nat) "RoundCheck$Store" "count" "[I") ∈ lw_all := lw_g (lw_at lw_m1 74 rfl) rfl
theorem q238 : (Jvm.Cond.fieldLink "RoundCheck$Store" (25 : Nat) "RoundCheck$Store" "size" "[I") ∈ lw_all := lw_g (lw_at lw_m1 76 rfl) rfl
theorem q240 : (Jvm.Cond.fieldLink "RoundCheck$Store" (28 : Nat) "RoundCheck$Store" "loose" "[I") ∈ lw_all := lw_g (lw_at lw_m1 78 rfl) rfl
theorem q242 : (Jvm.Cond.fieldLink "RoundCheck$Store" (31 : Nat) "RoundCheck$Store" "chain" "[I") ∈ lw_all := lw_g (lw_at lw_m1 80 rfl) rfl
theorem q243 : (Jvm.Cond.fieldLink "RoundCheck$Store" (35 : Nat) "RoundCheck$Store" "part" "[I") ∈ lw_all := lw_g (lw_at lw_m1 81 rfl) rfl
theorem q244 : (Jvm.Cond.fieldLink "RoundCheck$Store" (39 : Nat) "RoundCheck$Store" "head" "[I") ∈ lw_all := lw_g (lw_at lw_m1 82 rfl) rfl
theorem q245 : (Jvm.Cond.fieldLink "RoundCheck$Store" (42 : Nat) "RoundCheck$Store" "nodes" "I") ∈ lw_all := lw_g (lw_at lw_m1 83 rfl) rfl
theorem q247 : (Jvm.Cond.fieldLink "RoundCheck$Store" (75 : Nat) "RoundCheck$Store" "parts" "I") ∈ lw_all := lw_g (lw_at lw_m1 85 rfl) rfl
theorem q250 : (Jvm.Cond.fieldLink "RoundCheck$Store" (46 : Nat) "RoundCheck$Store" "row" "[I") ∈ lw_all := lw_g (lw_at lw_m1 88 rfl) rfl
theorem q252 : (Jvm.Cond.fieldLink "RoundCheck$Store" (62 : Nat) "RoundCheck$Store" "rows" "I") ∈ lw_all := lw_g (lw_at lw_m1 90 rfl) rfl
theorem q253 : (Jvm.Cond.fieldLink "RoundCheck$Store" (53 : Nat) "RoundCheck$Store" "yes" "I") ∈ lw_all := lw_g (lw_at lw_m1 91 rfl) rfl
theorem q255 : (Jvm.Cond.fieldLink "RoundCheck$Store" (59 : Nat) "RoundCheck$Store" "no" "I") ∈ lw_all := lw_g (lw_at lw_m1 93 rfl) rfl
theorem q257 : (Jvm.Cond.fieldLink "RoundCheck$Store" (112 : Nat) "RoundCheck$Store" "how" "I") ∈ lw_all := lw_g (lw_at lw_m1 95 rfl) rfl
theorem q258 : (Jvm.Cond.fieldLink "RoundCheck$Store" (121 : Nat) "RoundCheck$Store" "subject" "I") ∈ lw_all := lw_g (lw_at lw_m1 96 rfl) rfl
theorem q259 : (Jvm.Cond.fieldLink "RoundCheck$Store" (115 : Nat) "RoundCheck$Store" "with" "I") ∈ lw_all := lw_g (lw_at lw_m1 97 rfl) rfl
theorem q260 : (Jvm.Cond.fieldLink "RoundCheck$Store" (124 : Nat) "RoundCheck$Store" "l0" "I") ∈ lw_all := lw_g (lw_at lw_m1 98 rfl) rfl
theorem q261 : (Jvm.Cond.fieldLink "RoundCheck$Store" (127 : Nat) "RoundCheck$Store" "l1" "I") ∈ lw_all := lw_g (lw_at lw_m1 99 rfl) rfl
theorem q262 : (Jvm.Cond.fieldLink "RoundCheck$Store" (130 : Nat) "RoundCheck$Store" "l2" "I") ∈ lw_all := lw_g (lw_at lw_m1 100 rfl) rfl
theorem q263 : (Jvm.Cond.lays "RoundCheck$Store" "RoundCheck$Store" "kind" "[I") ∈ lw_all := lw_g (lw_at lw_m1 101 rfl) rfl
theorem q264 : (Jvm.Cond.soleField "RoundCheck$Store" "kind") ∈ lw_all := lw_g (lw_at lw_m1 102 rfl) rfl
theorem q265 : (Jvm.Cond.lays "RoundCheck$Store" "RoundCheck$Store" "what" "[I") ∈ lw_all := lw_g (lw_at lw_m1 103 rfl) rfl
theorem q266 : (Jvm.Cond.soleField "RoundCheck$Store" "what") ∈ lw_all := lw_g (lw_at lw_m1 104 rfl) rfl
theorem q267 : (Jvm.Cond.lays "RoundCheck$Store" "RoundCheck$Store" "from" "[I") ∈ lw_all := lw_g (lw_at lw_m1 105 rfl) rfl
theorem q268 : (Jvm.Cond.soleField "RoundCheck$Store" "from") ∈ lw_all := lw_g (lw_at lw_m1 106 rfl) rfl
theorem q269 : (Jvm.Cond.lays "RoundCheck$Store" "RoundCheck$Store" "count" "[I") ∈ lw_all := lw_g (lw_at lw_m1 107 rfl) rfl
theorem q270 : (Jvm.Cond.soleField "RoundCheck$Store" "count") ∈ lw_all := lw_g (lw_at lw_m1 108 rfl) rfl
theorem q271 : (Jvm.Cond.lays "RoundCheck$Store" "RoundCheck$Store" "size" "[I") ∈ lw_all := lw_g (lw_at lw_m1 109 rfl) rfl
theorem q272 : (Jvm.Cond.soleField "RoundCheck$Store" "size") ∈ lw_all := lw_g (lw_at lw_m1 110 rfl) rfl
theorem q273 : (Jvm.Cond.lays "RoundCheck$Store" "RoundCheck$Store" "loose" "[I") ∈ lw_all := lw_g (lw_at lw_m1 111 rfl) rfl
theorem q274 : (Jvm.Cond.soleField "RoundCheck$Store" "loose") ∈ lw_all := lw_g (lw_at lw_m1 112 rfl) rfl
theorem q275 : (Jvm.Cond.lays "RoundCheck$Store" "RoundCheck$Store" "chain" "[I") ∈ lw_all := lw_g (lw_at lw_m1 113 rfl) rfl
theorem q276 : (Jvm.Cond.soleField "RoundCheck$Store" "chain") ∈ lw_all := lw_g (lw_at lw_m1 114 rfl) rfl
theorem q277 : (Jvm.Cond.lays "RoundCheck$Store" "RoundCheck$Store" "part" "[I") ∈ lw_all := lw_g (lw_at lw_m1 115 rfl) rfl
theorem q278 : (Jvm.Cond.soleField "RoundCheck$Store" "part") ∈ lw_all := lw_g (lw_at lw_m1 116 rfl) rfl
theorem q279 : (Jvm.Cond.laysFinal "RoundCheck$Store" "RoundCheck$Store" "head" "[I") ∈ lw_all := lw_g (lw_at lw_m1 117 rfl) rfl
theorem q280 : (Jvm.Cond.soleField "RoundCheck$Store" "head") ∈ lw_all := lw_g (lw_at lw_m1 118 rfl) rfl
theorem q281 : (Jvm.Cond.lays "RoundCheck$Store" "RoundCheck$Store" "nodes" "I") ∈ lw_all := lw_g (lw_at lw_m1 119 rfl) rfl
theorem q282 : (Jvm.Cond.soleField "RoundCheck$Store" "nodes") ∈ lw_all := lw_g (lw_at lw_m1 120 rfl) rfl
theorem q283 : (Jvm.Cond.lays "RoundCheck$Store" "RoundCheck$Store" "parts" "I") ∈ lw_all := lw_g (lw_at lw_m1 121 rfl) rfl
theorem q284 : (Jvm.Cond.soleField "RoundCheck$Store" "parts") ∈ lw_all := lw_g (lw_at lw_m1 122 rfl) rfl
theorem q285 : (Jvm.Cond.lays "RoundCheck$Store" "RoundCheck$Store" "row" "[I") ∈ lw_all := lw_g (lw_at lw_m1 123 rfl) rfl
theorem q286 : (Jvm.Cond.soleField "RoundCheck$Store" "row") ∈ lw_all := lw_g (lw_at lw_m1 124 rfl) rfl
theorem q287 : (Jvm.Cond.lays "RoundCheck$Store" "RoundCheck$Store" "rows" "I") ∈ lw_all := lw_g (lw_at lw_m1 125 rfl) rfl
theorem q288 : (Jvm.Cond.soleField "RoundCheck$Store" "rows") ∈ lw_all := lw_g (lw_at lw_m1 126 rfl) rfl
theorem q289 : (Jvm.Cond.laysFinal "RoundCheck$Store" "RoundCheck$Store" "yes" "I") ∈ lw_all := lw_g (lw_at lw_m1 127 rfl) rfl
theorem q290 : (Jvm.Cond.soleField "RoundCheck$Store" "yes") ∈ lw_all := lw_g (lw_at lw_m1 128 rfl) rfl
theorem q291 : (Jvm.Cond.laysFinal "RoundCheck$Store" "RoundCheck$Store" "no" "I") ∈ lw_all := lw_g (lw_at lw_m1 129 rfl) rfl
theorem q292 : (Jvm.Cond.soleField "RoundCheck$Store" "no") ∈ lw_all := lw_g (lw_at lw_m1 130 rfl) rfl
theorem q293 : (Jvm.Cond.lays "RoundCheck$Store" "RoundCheck$Store" "how" "I") ∈ lw_all := lw_g (lw_at lw_m1 131 rfl) rfl
theorem q294 : (Jvm.Cond.soleField "RoundCheck$Store" "how") ∈ lw_all := lw_g (lw_at lw_m1 132 rfl) rfl
theorem q295 : (Jvm.Cond.lays "RoundCheck$Store" "RoundCheck$Store" "subject" "I") ∈ lw_all := lw_g (lw_at lw_m1 133 rfl) rfl
theorem q296 : (Jvm.Cond.soleField "RoundCheck$Store" "subject") ∈ lw_all := lw_g (lw_at lw_m1 134 rfl) rfl
theorem q297 : (Jvm.Cond.lays "RoundCheck$Store" "RoundCheck$Store" "with" "I") ∈ lw_all := lw_g (lw_at lw_m1 135 rfl) rfl
theorem q298 : (Jvm.Cond.soleField "RoundCheck$Store" "with") ∈ lw_all := lw_g (lw_at lw_m1 136 rfl) rfl
theorem q299 : (Jvm.Cond.lays "RoundCheck$Store" "RoundCheck$Store" "l0" "I") ∈ lw_all := lw_g (lw_at lw_m1 137 rfl) rfl
theorem q300 : (Jvm.Cond.soleField "RoundCheck$Store" "l0") ∈ lw_all := lw_g (lw_at lw_m1 138 rfl) rfl
theorem q301 : (Jvm.Cond.lays "RoundCheck$Store" "RoundCheck$Store" "l1" "I") ∈ lw_all := lw_g (lw_at lw_m1 139 rfl) rfl
theorem q302 : (Jvm.Cond.soleField "RoundCheck$Store" "l1") ∈ lw_all := lw_g (lw_at lw_m1 140 rfl) rfl
theorem q303 : (Jvm.Cond.lays "RoundCheck$Store" "RoundCheck$Store" "l2" "I") ∈ lw_all := lw_g (lw_at lw_m1 141 rfl) rfl
theorem q304 : (Jvm.Cond.soleField "RoundCheck$Store" "l2") ∈ lw_all := lw_g (lw_at lw_m1 142 rfl) rfl
theorem q305 : (Jvm.Cond.superclass "RoundCheck$Store" "java/lang/Object") ∈ lw_all := lw_g (lw_at lw_m1 143 rfl) rfl
theorem q572 : (Jvm.Cond.instanceMethod ({ cls := "RoundCheck$Store", name := "at", desc := "(II)I" } : Jvm.MethodName)) ∈ lw_all := lw_g (lw_at lw_m2 170 rfl) rfl
theorem q573 : (Jvm.Cond.selects "RoundCheck$Store" ({ cls := "RoundCheck$Store", name := "at", desc := "(II)I" } : Jvm.MethodName) ({ cls := "RoundCheck$Store", name := "at", desc := "(II)I" } : Jvm.MethodName)) ∈ lw_all := lw_g (lw_at lw_m2 171 rfl) rfl
theorem q574 : (Jvm.Cond.code ({ cls := "RoundCheck$Store", name := "at", desc := "(II)I" } : Jvm.MethodName) prog_2_method_9_code (3 : Nat) (Option.some Jvm.ClassFile.FieldType.int)) ∈ lw_all := lw_g (lw_at lw_m2 172 rfl) rfl
theorem q648 : (Jvm.Cond.instanceMethod ({ cls := "RoundCheck$Store", name := "forget", desc := "(II)V" } : Jvm.MethodName)) ∈ lw_all := lw_g (lw_at lw_m3 6 rfl) rfl
theorem q649 : (Jvm.Cond.selects "RoundCheck$Store" ({ cls := "RoundCheck$Store", name := "forget", desc := "(II)V" } : Jvm.MethodName) ({ cls := "RoundCheck$Store", name := "forget", desc := "(II)V" } : Jvm.MethodName)) ∈ lw_all := lw_g (lw_at lw_m3 7 rfl) rfl
theorem q650 : (Jvm.Cond.code ({ cls := "RoundCheck$Store", name := "forget", desc := "(II)V" } : Jvm.MethodName) prog_2_method_8_code (5 : Nat) (Option.none : Option Jvm.ClassFile.FieldType)) ∈ lw_all := lw_g (lw_at lw_m3 8 rfl) rfl
theorem q701 : (Jvm.Cond.instanceMethod ({ cls := "RoundCheck$Store", name := "mode", desc := "(III)I" } : Jvm.MethodName)) ∈ lw_all := lw_g (lw_at lw_m3 59 rfl) rfl
theorem q702 : (Jvm.Cond.selects "RoundCheck$Store" ({ cls := "RoundCheck$Store", name := "mode", desc := "(III)I" } : Jvm.MethodName) ({ cls := "RoundCheck$Store", name := "mode", desc := "(III)I" } : Jvm.MethodName)) ∈ lw_all := lw_g (lw_at lw_m3 60 rfl) rfl
theorem q703 : (Jvm.Cond.code ({ cls := "RoundCheck$Store", name := "mode", desc := "(III)I" } : Jvm.MethodName) prog_2_method_16_code (4 : Nat) (Option.some Jvm.ClassFile.FieldType.int)) ∈ lw_all := lw_g (lw_at lw_m3 61 rfl) rfl
theorem q704 : (Jvm.Cond.methodLink "RoundCheck$Store" (109 : Nat) ({ cls := "RoundCheck$Store", name := "pair", desc := "(IIII)I" } : Jvm.MethodName)) ∈ lw_all := lw_g (lw_at lw_m3 62 rfl) rfl
theorem q705 : (Jvm.Cond.instanceMethod ({ cls := "RoundCheck$Store", name := "pair", desc := "(IIII)I" } : Jvm.MethodName)) ∈ lw_all := lw_g (lw_at lw_m3 63 rfl) rfl
theorem q706 : (Jvm.Cond.selects "RoundCheck$Store" ({ cls := "RoundCheck$Store", name := "pair", desc := "(IIII)I" } : Jvm.MethodName) ({ cls := "RoundCheck$Store", name := "pair", desc := "(IIII)I" } : Jvm.MethodName)) ∈ lw_all := lw_g (lw_at lw_m3 64 rfl) rfl
theorem q707 : (Jvm.Cond.code ({ cls := "RoundCheck$Store", name := "pair", desc := "(IIII)I" } : Jvm.MethodName) prog_2_method_7_code (6 : Nat) (Option.some Jvm.ClassFile.FieldType.int)) ∈ lw_all := lw_g (lw_at lw_m3 65 rfl) rfl
theorem q720 : (Jvm.Cond.instanceMethod ({ cls := "RoundCheck$Store", name := "not", desc := "(I)I" } : Jvm.MethodName)) ∈ lw_all := lw_g (lw_at lw_m3 78 rfl) rfl
theorem q721 : (Jvm.Cond.selects "RoundCheck$Store" ({ cls := "RoundCheck$Store", name := "not", desc := "(I)I" } : Jvm.MethodName) ({ cls := "RoundCheck$Store", name := "not", desc := "(I)I" } : Jvm.MethodName)) ∈ lw_all := lw_g (lw_at lw_m3 79 rfl) rfl
theorem q722 : (Jvm.Cond.code ({ cls := "RoundCheck$Store", name := "not", desc := "(I)I" } : Jvm.MethodName) prog_2_method_10_code (2 : Nat) (Option.some Jvm.ClassFile.FieldType.int)) ∈ lw_all := lw_g (lw_at lw_m3 80 rfl) rfl
theorem q723 : (Jvm.Cond.methodLink "RoundCheck$Store" (94 : Nat) ({ cls := "RoundCheck$Store", name := "at", desc := "(II)I" } : Jvm.MethodName)) ∈ lw_all := lw_g (lw_at lw_m3 81 rfl) rfl
theorem q725 : (Jvm.Cond.instanceMethod ({ cls := "RoundCheck$Store", name := "and", desc := "(II)I" } : Jvm.MethodName)) ∈ lw_all := lw_g (lw_at lw_m3 83 rfl) rfl
theorem q726 : (Jvm.Cond.selects "RoundCheck$Store" ({ cls := "RoundCheck$Store", name := "and", desc := "(II)I" } : Jvm.MethodName) ({ cls := "RoundCheck$Store", name := "and", desc := "(II)I" } : Jvm.MethodName)) ∈ lw_all := lw_g (lw_at lw_m3 84 rfl) rfl
theorem q727 : (Jvm.Cond.code ({ cls := "RoundCheck$Store", name := "and", desc := "(II)I" } : Jvm.MethodName) prog_2_method_12_code (4 : Nat) (Option.some Jvm.ClassFile.FieldType.int)) ∈ lw_all := lw_g (lw_at lw_m3 85 rfl) rfl
theorem q728 : (Jvm.Cond.methodLink "RoundCheck$Store" (97 : Nat) ({ cls := "RoundCheck$Store", name := "and", desc := "(I)I" } : Jvm.MethodName)) ∈ lw_all := lw_g (lw_at lw_m3 86 rfl) rfl
theorem q729 : (Jvm.Cond.instanceMethod ({ cls := "RoundCheck$Store", name := "and", desc := "(I)I" } : Jvm.MethodName)) ∈ lw_all := lw_g (lw_at lw_m3 87 rfl) rfl
theorem q730 : (Jvm.Cond.selects "RoundCheck$Store" ({ cls := "RoundCheck$Store", name := "and", desc := "(I)I" } : Jvm.MethodName) ({ cls := "RoundCheck$Store", name := "and", desc := "(I)I" } : Jvm.MethodName)) ∈ lw_all := lw_g (lw_at lw_m3 88 rfl) rfl
theorem q731 : (Jvm.Cond.code ({ cls := "RoundCheck$Store", name := "and", desc := "(I)I" } : Jvm.MethodName) prog_2_method_11_code (7 : Nat) (Option.some Jvm.ClassFile.FieldType.int)) ∈ lw_all := lw_g (lw_at lw_m3 89 rfl) rfl
theorem q737 : (Jvm.Cond.instanceMethod ({ cls := "RoundCheck$Store", name := "implies", desc := "(II)I" } : Jvm.MethodName)) ∈ lw_all := lw_g (lw_at lw_m3 95 rfl) rfl
theorem q738 : (Jvm.Cond.selects "RoundCheck$Store" ({ cls := "RoundCheck$Store", name := "implies", desc := "(II)I" } : Jvm.MethodName) ({ cls := "RoundCheck$Store", name := "implies", desc := "(II)I" } : Jvm.MethodName)) ∈ lw_all := lw_g (lw_at lw_m3 96 rfl) rfl
theorem q739 : (Jvm.Cond.code ({ cls := "RoundCheck$Store", name := "implies", desc := "(II)I" } : Jvm.MethodName) prog_2_method_13_code (3 : Nat) (Option.some Jvm.ClassFile.FieldType.int)) ∈ lw_all := lw_g (lw_at lw_m3 97 rfl) rfl
theorem q740 : (Jvm.Cond.methodLink "RoundCheck$Store" (101 : Nat) ({ cls := "RoundCheck$Store", name := "not", desc := "(I)I" } : Jvm.MethodName)) ∈ lw_all := lw_g (lw_at lw_m3 98 rfl) rfl
theorem q741 : (Jvm.Cond.methodLink "RoundCheck$Store" (104 : Nat) ({ cls := "RoundCheck$Store", name := "and", desc := "(II)I" } : Jvm.MethodName)) ∈ lw_all := lw_g (lw_at lw_m3 99 rfl) rfl
theorem q743 : (Jvm.Cond.instanceMethod ({ cls := "RoundCheck$Store", name := "iff", desc := "(II)I" } : Jvm.MethodName)) ∈ lw_all := lw_g (lw_at lw_m3 101 rfl) rfl
theorem q744 : (Jvm.Cond.selects "RoundCheck$Store" ({ cls := "RoundCheck$Store", name := "iff", desc := "(II)I" } : Jvm.MethodName) ({ cls := "RoundCheck$Store", name := "iff", desc := "(II)I" } : Jvm.MethodName)) ∈ lw_all := lw_g (lw_at lw_m3 102 rfl) rfl
theorem q745 : (Jvm.Cond.code ({ cls := "RoundCheck$Store", name := "iff", desc := "(II)I" } : Jvm.MethodName) prog_2_method_14_code (3 : Nat) (Option.some Jvm.ClassFile.FieldType.int)) ∈ lw_all := lw_g (lw_at lw_m3 103 rfl) rfl
theorem q746 : (Jvm.Cond.methodLink "RoundCheck$Store" (106 : Nat) ({ cls := "RoundCheck$Store", name := "implies", desc := "(II)I" } : Jvm.MethodName)) ∈ lw_all := lw_g (lw_at lw_m3 104 rfl) rfl
theorem q755 : (Jvm.Cond.instanceMethod ({ cls := "RoundCheck$Store", name := "bind", desc := "(II)I" } : Jvm.MethodName)) ∈ lw_all := lw_g (lw_at lw_m3 113 rfl) rfl
theorem q756 : (Jvm.Cond.selects "RoundCheck$Store" ({ cls := "RoundCheck$Store", name := "bind", desc := "(II)I" } : Jvm.MethodName) ({ cls := "RoundCheck$Store", name := "bind", desc := "(II)I" } : Jvm.MethodName)) ∈ lw_all := lw_g (lw_at lw_m3 114 rfl) rfl
theorem q757 : (Jvm.Cond.code ({ cls := "RoundCheck$Store", name := "bind", desc := "(II)I" } : Jvm.MethodName) prog_2_method_20_code (3 : Nat) (Option.some Jvm.ClassFile.FieldType.int)) ∈ lw_all := lw_g (lw_at lw_m3 115 rfl) rfl
theorem q758 : (Jvm.Cond.methodLink "RoundCheck$Store" (118 : Nat) ({ cls := "RoundCheck$Store", name := "change", desc := "(II)I" } : Jvm.MethodName)) ∈ lw_all := lw_g (lw_at lw_m3 116 rfl) rfl
theorem q759 : (Jvm.Cond.privateMethod ({ cls := "RoundCheck$Store", name := "change", desc := "(II)I" } : Jvm.MethodName)) ∈ lw_tbl := lw_at lw_m3 117 rfl
theorem q760 : (Jvm.Cond.instanceMethod ({ cls := "RoundCheck$Store", name := "change", desc := "(II)I" } : Jvm.MethodName)) ∈ lw_all := lw_g (lw_at lw_m3 118 rfl) rfl
theorem q761 : (Jvm.Cond.code ({ cls := "RoundCheck$Store", name := "change", desc := "(II)I" } : Jvm.MethodName) prog_2_method_23_code (10 : Nat) (Option.some Jvm.ClassFile.FieldType.int)) ∈ lw_all := lw_g (lw_at lw_m3 119 rfl) rfl
theorem q763 : (Jvm.Cond.instanceMethod ({ cls := "RoundCheck$Store", name := "all", desc := "(II)I" } : Jvm.MethodName)) ∈ lw_all := lw_g (lw_at lw_m3 121 rfl) rfl
theorem q764 : (Jvm.Cond.selects "RoundCheck$Store" ({ cls := "RoundCheck$Store", name := "all", desc := "(II)I" } : Jvm.MethodName) ({ cls := "RoundCheck$Store", name := "all", desc := "(II)I" } : Jvm.MethodName)) ∈ lw_all := lw_g (lw_at lw_m3 122 rfl) rfl
theorem q765 : (Jvm.Cond.code ({ cls := "RoundCheck$Store", name := "all", desc := "(II)I" } : Jvm.MethodName) prog_2_method_15_code (3 : Nat) (Option.some Jvm.ClassFile.FieldType.int)) ∈ lw_all := lw_g (lw_at lw_m3 123 rfl) rfl
theorem q825 : (Jvm.Cond.instanceMethod ({ cls := "RoundCheck$Store", name := "put", desc := "(II)I" } : Jvm.MethodName)) ∈ lw_all := lw_g (lw_at lw_m3 183 rfl) rfl
theorem q826 : (Jvm.Cond.selects "RoundCheck$Store" ({ cls := "RoundCheck$Store", name := "put", desc := "(II)I" } : Jvm.MethodName) ({ cls := "RoundCheck$Store", name := "put", desc := "(II)I" } : Jvm.MethodName)) ∈ lw_all := lw_g (lw_at lw_m3 184 rfl) rfl
theorem q827 : (Jvm.Cond.code ({ cls := "RoundCheck$Store", name := "put", desc := "(II)I" } : Jvm.MethodName) prog_2_method_19_code (3 : Nat) (Option.some Jvm.ClassFile.FieldType.int)) ∈ lw_all := lw_g (lw_at lw_m3 185 rfl) rfl
theorem q865 : (Jvm.Cond.instanceMethod ({ cls := "RoundCheck$Store", name := "loci", desc := "(IIII)I" } : Jvm.MethodName)) ∈ lw_all := lw_g (lw_at lw_m3 223 rfl) rfl
theorem q866 : (Jvm.Cond.selects "RoundCheck$Store" ({ cls := "RoundCheck$Store", name := "loci", desc := "(IIII)I" } : Jvm.MethodName) ({ cls := "RoundCheck$Store", name := "loci", desc := "(IIII)I" } : Jvm.MethodName)) ∈ lw_all := lw_g (lw_at lw_m3 224 rfl) rfl
theorem q867 : (Jvm.Cond.code ({ cls := "RoundCheck$Store", name := "loci", desc := "(IIII)I" } : Jvm.MethodName) prog_2_method_22_code (5 : Nat) (Option.some Jvm.ClassFile.FieldType.int)) ∈ lw_all := lw_g (lw_at lw_m3 225 rfl) rfl
theorem q893 : (Jvm.Cond.instanceMethod ({ cls := "RoundCheck$Store", name := "has", desc := "(II)Z" } : Jvm.MethodName)) ∈ lw_all := lw_g (lw_at lw_m4 11 rfl) rfl
theorem q894 : (Jvm.Cond.selects "RoundCheck$Store" ({ cls := "RoundCheck$Store", name := "has", desc := "(II)Z" } : Jvm.MethodName) ({ cls := "RoundCheck$Store", name := "has", desc := "(II)Z" } : Jvm.MethodName)) ∈ lw_all := lw_g (lw_at lw_m4 12 rfl) rfl
theorem q895 : (Jvm.Cond.code ({ cls := "RoundCheck$Store", name := "has", desc := "(II)Z" } : Jvm.MethodName) prog_2_method_24_code (5 : Nat) (Option.some Jvm.ClassFile.FieldType.boolean)) ∈ lw_all := lw_g (lw_at lw_m4 13 rfl) rfl
theorem q896 : (Jvm.Cond.methodLink "RoundCheck$Store" (133 : Nat) ({ cls := "RoundCheck$Store", name := "has", desc := "(II)Z" } : Jvm.MethodName)) ∈ lw_all := lw_g (lw_at lw_m4 14 rfl) rfl
theorem q987 : (Jvm.Cond.instanceMethod ({ cls := "RoundCheck$Store", name := "seek", desc := "(III)I" } : Jvm.MethodName)) ∈ lw_all := lw_g (lw_at lw_m4 105 rfl) rfl
theorem q988 : (Jvm.Cond.selects "RoundCheck$Store" ({ cls := "RoundCheck$Store", name := "seek", desc := "(III)I" } : Jvm.MethodName) ({ cls := "RoundCheck$Store", name := "seek", desc := "(III)I" } : Jvm.MethodName)) ∈ lw_all := lw_g (lw_at lw_m4 106 rfl) rfl
theorem q989 : (Jvm.Cond.code ({ cls := "RoundCheck$Store", name := "seek", desc := "(III)I" } : Jvm.MethodName) prog_2_method_5_code (8 : Nat) (Option.some Jvm.ClassFile.FieldType.int)) ∈ lw_all := lw_g (lw_at lw_m4 107 rfl) rfl
theorem q1071 : (Jvm.Cond.instanceMethod ({ cls := "RoundCheck$Store", name := "partsOf", desc := "(I)I" } : Jvm.MethodName)) ∈ lw_all := lw_g (lw_at lw_m4 189 rfl) rfl
theorem q1072 : (Jvm.Cond.selects "RoundCheck$Store" ({ cls := "RoundCheck$Store", name := "partsOf", desc := "(I)I" } : Jvm.MethodName) ({ cls := "RoundCheck$Store", name := "partsOf", desc := "(I)I" } : Jvm.MethodName)) ∈ lw_all := lw_g (lw_at lw_m4 190 rfl) rfl
theorem q1073 : (Jvm.Cond.code ({ cls := "RoundCheck$Store", name := "partsOf", desc := "(I)I" } : Jvm.MethodName) prog_2_method_17_code (2 : Nat) (Option.some Jvm.ClassFile.FieldType.int)) ∈ lw_all := lw_g (lw_at lw_m4 191 rfl) rfl
theorem in_X2 : ∀ w ∈ wsX20, w ∈ lw_all := lw_in wsX20 [263, 265, 267, 269, 271, 273, 275, 277, 279, 281, 283, 285, 287, 289, 291, 293, 295, 297, 299, 301, 303] (by decide +kernel) (by decide +kernel)
