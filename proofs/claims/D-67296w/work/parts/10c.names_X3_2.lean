set_option maxRecDepth 100000
theorem dX3_apply_10 : decode cX3_apply 10 = .ok (.aload_n 0, 1) := by decide +kernel
theorem dX3_apply_11 : decode cX3_apply 11 = .ok (.getfield 542, 3) := by decide +kernel
theorem dX3_apply_14 : decode cX3_apply 14 = .ok (.if_icmp .lt 9, 3) := by decide +kernel
theorem dX3_apply_17 : decode cX3_apply 17 = .ok (.aload_n 0, 1) := by decide +kernel
theorem dX3_apply_18 : decode cX3_apply 18 = .ok (.iconst 1, 1) := by decide +kernel
theorem dX3_apply_19 : decode cX3_apply 19 = .ok (.invokevirtual 533, 3) := by decide +kernel
theorem dX3_apply_22 : decode cX3_apply 22 = .ok (.ireturn, 1) := by decide +kernel
theorem dX3_apply_23 : decode cX3_apply 23 = .ok (.aload_n 0, 1) := by decide +kernel
theorem dX3_apply_24 : decode cX3_apply 24 = .ok (.iload_n 2, 1) := by decide +kernel
theorem dX3_apply_25 : decode cX3_apply 25 = .ok (.iconst 0, 1) := by decide +kernel
theorem dX3_apply_26 : decode cX3_apply 26 = .ok (.invokevirtual 527, 3) := by decide +kernel
theorem dX3_apply_29 : decode cX3_apply 29 = .ok (.istore 4, 2) := by decide +kernel
theorem dX3_apply_31 : decode cX3_apply 31 = .ok (.aload_n 0, 1) := by decide +kernel
theorem dX3_apply_32 : decode cX3_apply 32 = .ok (.iload_n 3, 1) := by decide +kernel
theorem dX3_apply_33 : decode cX3_apply 33 = .ok (.iconst 0, 1) := by decide +kernel
theorem dX3_apply_34 : decode cX3_apply 34 = .ok (.invokevirtual 527, 3) := by decide +kernel
theorem dX3_apply_37 : decode cX3_apply 37 = .ok (.istore 5, 2) := by decide +kernel
theorem dX3_apply_39 : decode cX3_apply 39 = .ok (.aload_n 0, 1) := by decide +kernel
theorem dX3_apply_40 : decode cX3_apply 40 = .ok (.getfield 505, 3) := by decide +kernel
theorem dX3_apply_43 : decode cX3_apply 43 = .ok (.iload_n 1, 1) := by decide +kernel
theorem dX3_apply_44 : decode cX3_apply 44 = .ok (.iaload, 1) := by decide +kernel
theorem dX3_apply_45 : decode cX3_apply 45 = .ok (.istore 6, 2) := by decide +kernel
theorem dX3_apply_47 : decode cX3_apply 47 = .ok (.iload 6, 2) := by decide +kernel
theorem dX3_apply_49 : decode cX3_apply 49 = .ok (.ifCond .le 11, 3) := by decide +kernel
theorem dX3_apply_52 : decode cX3_apply 52 = .ok (.iload 4, 2) := by decide +kernel
theorem dX3_apply_54 : decode cX3_apply 54 = .ok (.ifCond .ne 17, 3) := by decide +kernel
theorem dX3_apply_57 : decode cX3_apply 57 = .ok (.goto 8, 3) := by decide +kernel
theorem dX3_apply_60 : decode cX3_apply 60 = .ok (.iload_n 2, 1) := by decide +kernel
theorem dX3_apply_61 : decode cX3_apply 61 = .ok (.iconst (-1), 1) := by decide +kernel
theorem dX3_apply_62 : decode cX3_apply 62 = .ok (.if_icmp .eq 9, 3) := by decide +kernel
theorem dX3_apply_65 : decode cX3_apply 65 = .ok (.aload_n 0, 1) := by decide +kernel
theorem dX3_apply_66 : decode cX3_apply 66 = .ok (.iconst 1, 1) := by decide +kernel
theorem dX3_apply_67 : decode cX3_apply 67 = .ok (.invokevirtual 533, 3) := by decide +kernel
theorem dX3_apply_70 : decode cX3_apply 70 = .ok (.ireturn, 1) := by decide +kernel
theorem dX3_apply_71 : decode cX3_apply 71 = .ok (.iload 6, 2) := by decide +kernel
theorem dX3_apply_73 : decode cX3_apply 73 = .ok (.iconst 1, 1) := by decide +kernel
theorem dX3_apply_74 : decode cX3_apply 74 = .ok (.if_icmp .le 11, 3) := by decide +kernel
theorem dX3_apply_77 : decode cX3_apply 77 = .ok (.iload 5, 2) := by decide +kernel
theorem dX3_apply_79 : decode cX3_apply 79 = .ok (.ifCond .ne 17, 3) := by decide +kernel
theorem dX3_apply_82 : decode cX3_apply 82 = .ok (.goto 8, 3) := by decide +kernel
theorem dX3_apply_85 : decode cX3_apply 85 = .ok (.iload_n 3, 1) := by decide +kernel
theorem dX3_apply_86 : decode cX3_apply 86 = .ok (.iconst (-1), 1) := by decide +kernel
theorem dX3_apply_87 : decode cX3_apply 87 = .ok (.if_icmp .eq 9, 3) := by decide +kernel
theorem dX3_apply_90 : decode cX3_apply 90 = .ok (.aload_n 0, 1) := by decide +kernel
theorem dX3_apply_91 : decode cX3_apply 91 = .ok (.iconst 1, 1) := by decide +kernel
theorem dX3_apply_92 : decode cX3_apply 92 = .ok (.invokevirtual 533, 3) := by decide +kernel
theorem dX3_apply_95 : decode cX3_apply 95 = .ok (.ireturn, 1) := by decide +kernel
theorem dX3_apply_96 : decode cX3_apply 96 = .ok (.aload_n 0, 1) := by decide +kernel
theorem dX3_apply_97 : decode cX3_apply 97 = .ok (.getfield 17, 3) := by decide +kernel
theorem dX3_apply_100 : decode cX3_apply 100 = .ok (.istore 7, 2) := by decide +kernel
theorem dX3_apply_102 : decode cX3_apply 102 = .ok (.aload_n 0, 1) := by decide +kernel
theorem dX3_apply_103 : decode cX3_apply 103 = .ok (.iload_n 1, 1) := by decide +kernel
theorem dX3_apply_104 : decode cX3_apply 104 = .ok (.invokevirtual 72, 3) := by decide +kernel
theorem dX3_apply_107 : decode cX3_apply 107 = .ok (.iload 6, 2) := by decide +kernel
theorem dX3_apply_109 : decode cX3_apply 109 = .ok (.ifCond .le 9, 3) := by decide +kernel
theorem dX3_apply_112 : decode cX3_apply 112 = .ok (.aload_n 0, 1) := by decide +kernel
theorem dX3_apply_113 : decode cX3_apply 113 = .ok (.iload 4, 2) := by decide +kernel
theorem dX3_apply_115 : decode cX3_apply 115 = .ok (.invokevirtual 72, 3) := by decide +kernel
theorem dX3_apply_118 : decode cX3_apply 118 = .ok (.iload 6, 2) := by decide +kernel
theorem dX3_apply_120 : decode cX3_apply 120 = .ok (.iconst 1, 1) := by decide +kernel
theorem dX3_apply_121 : decode cX3_apply 121 = .ok (.if_icmp .le 9, 3) := by decide +kernel
theorem dX3_apply_124 : decode cX3_apply 124 = .ok (.aload_n 0, 1) := by decide +kernel
theorem dX3_apply_125 : decode cX3_apply 125 = .ok (.iload 5, 2) := by decide +kernel
theorem dX3_apply_127 : decode cX3_apply 127 = .ok (.invokevirtual 72, 3) := by decide +kernel
theorem dX3_apply_130 : decode cX3_apply 130 = .ok (.aload_n 0, 1) := by decide +kernel
theorem dX3_apply_131 : decode cX3_apply 131 = .ok (.aload_n 0, 1) := by decide +kernel
theorem dX3_apply_132 : decode cX3_apply 132 = .ok (.iconst 4, 1) := by decide +kernel
theorem dX3_apply_133 : decode cX3_apply 133 = .ok (.iload 7, 2) := by decide +kernel
theorem dX3_apply_135 : decode cX3_apply 135 = .ok (.invokevirtual 75, 3) := by decide +kernel
theorem dX3_apply_138 : decode cX3_apply 138 = .ok (.invokevirtual 551, 3) := by decide +kernel
theorem dX3_apply_141 : decode cX3_apply 141 = .ok (.ireturn, 1) := by decide +kernel
abbrev cX3_the : ByteArray := prog_4_method_103_code
def yX3_the : MethodName := ⟨RX3, "the", "(I)I"⟩
theorem dX3_the_0 : decode cX3_the 0 = .ok (.aload_n 0, 1) := by decide +kernel
theorem dX3_the_1 : decode cX3_the 1 = .ok (.iconst 0, 1) := by decide +kernel
theorem dX3_the_2 : decode cX3_the 2 = .ok (.putfield 1, 3) := by decide +kernel
theorem dX3_the_5 : decode cX3_the 5 = .ok (.aload_n 0, 1) := by decide +kernel
theorem dX3_the_6 : decode cX3_the 6 = .ok (.iload_n 1, 1) := by decide +kernel
theorem dX3_the_7 : decode cX3_the 7 = .ok (.iconst 1, 1) := by decide +kernel
theorem dX3_the_8 : decode cX3_the 8 = .ok (.invokevirtual 527, 3) := by decide +kernel
theorem dX3_the_11 : decode cX3_the 11 = .ok (.istore_n 2, 1) := by decide +kernel
theorem dX3_the_12 : decode cX3_the 12 = .ok (.iload_n 2, 1) := by decide +kernel
theorem dX3_the_13 : decode cX3_the 13 = .ok (.ifCond .ne 11, 3) := by decide +kernel
theorem dX3_the_16 : decode cX3_the 16 = .ok (.aload_n 0, 1) := by decide +kernel
theorem dX3_the_17 : decode cX3_the 17 = .ok (.iconst 1, 1) := by decide +kernel
theorem dX3_the_18 : decode cX3_the 18 = .ok (.invokevirtual 533, 3) := by decide +kernel
theorem dX3_the_21 : decode cX3_the 21 = .ok (.goto 13, 3) := by decide +kernel
theorem dX3_the_24 : decode cX3_the 24 = .ok (.aload_n 0, 1) := by decide +kernel
theorem dX3_the_25 : decode cX3_the 25 = .ok (.aload_n 0, 1) := by decide +kernel
theorem dX3_the_26 : decode cX3_the 26 = .ok (.iconst 5, 1) := by decide +kernel
theorem dX3_the_27 : decode cX3_the 27 = .ok (.iload_n 2, 1) := by decide +kernel
theorem dX3_the_28 : decode cX3_the 28 = .ok (.invokevirtual 78, 3) := by decide +kernel
theorem dX3_the_31 : decode cX3_the 31 = .ok (.invokevirtual 551, 3) := by decide +kernel
theorem dX3_the_34 : decode cX3_the 34 = .ok (.ireturn, 1) := by decide +kernel
abbrev cX3_atom : ByteArray := prog_4_method_104_code
def yX3_atom : MethodName := ⟨RX3, "atom", "(IIII)I"⟩
theorem dX3_atom_0 : decode cX3_atom 0 = .ok (.aload_n 0, 1) := by decide +kernel
theorem dX3_atom_1 : decode cX3_atom 1 = .ok (.iconst 0, 1) := by decide +kernel
theorem dX3_atom_2 : decode cX3_atom 2 = .ok (.putfield 1, 3) := by decide +kernel
theorem dX3_atom_5 : decode cX3_atom 5 = .ok (.aload_n 0, 1) := by decide +kernel
theorem dX3_atom_6 : decode cX3_atom 6 = .ok (.iload_n 3, 1) := by decide +kernel
theorem dX3_atom_7 : decode cX3_atom 7 = .ok (.iconst 0, 1) := by decide +kernel
theorem dX3_atom_8 : decode cX3_atom 8 = .ok (.invokevirtual 554, 3) := by decide +kernel
theorem dX3_atom_11 : decode cX3_atom 11 = .ok (.istore 5, 2) := by decide +kernel
theorem dX3_atom_13 : decode cX3_atom 13 = .ok (.aload_n 0, 1) := by decide +kernel
theorem dX3_atom_14 : decode cX3_atom 14 = .ok (.iload 4, 2) := by decide +kernel
theorem dX3_atom_16 : decode cX3_atom 16 = .ok (.iconst 0, 1) := by decide +kernel
theorem dX3_atom_17 : decode cX3_atom 17 = .ok (.invokevirtual 554, 3) := by decide +kernel
theorem dX3_atom_20 : decode cX3_atom 20 = .ok (.istore 6, 2) := by decide +kernel
theorem dX3_atom_22 : decode cX3_atom 22 = .ok (.iload_n 1, 1) := by decide +kernel
theorem dX3_atom_23 : decode cX3_atom 23 = .ok (.tableswitch 316 0 4 #[33, 33, 75, 198, 243], 33) := by decide +kernel
theorem dX3_atom_56 : decode cX3_atom 56 = .ok (.iload 5, 2) := by decide +kernel
theorem dX3_atom_58 : decode cX3_atom 58 = .ok (.ifCond .eq 8, 3) := by decide +kernel
theorem dX3_atom_61 : decode cX3_atom 61 = .ok (.iload 6, 2) := by decide +kernel
theorem dX3_atom_63 : decode cX3_atom 63 = .ok (.ifCond .ne 11, 3) := by decide +kernel
theorem dX3_atom_66 : decode cX3_atom 66 = .ok (.aload_n 0, 1) := by decide +kernel
theorem dX3_atom_67 : decode cX3_atom 67 = .ok (.iconst 1, 1) := by decide +kernel
theorem dX3_atom_68 : decode cX3_atom 68 = .ok (.invokevirtual 533, 3) := by decide +kernel
theorem dX3_atom_71 : decode cX3_atom 71 = .ok (.goto 26, 3) := by decide +kernel
theorem dX3_atom_74 : decode cX3_atom 74 = .ok (.aload_n 0, 1) := by decide +kernel
theorem dX3_atom_75 : decode cX3_atom 75 = .ok (.aload_n 0, 1) := by decide +kernel
theorem dX3_atom_76 : decode cX3_atom 76 = .ok (.iload_n 1, 1) := by decide +kernel
theorem dX3_atom_77 : decode cX3_atom 77 = .ok (.ifCond .ne 8, 3) := by decide +kernel
theorem dX3_atom_80 : decode cX3_atom 80 = .ok (.bipush 9, 2) := by decide +kernel
theorem dX3_atom_82 : decode cX3_atom 82 = .ok (.goto 5, 3) := by decide +kernel
theorem dX3_atom_85 : decode cX3_atom 85 = .ok (.bipush 10, 2) := by decide +kernel
theorem dX3_atom_87 : decode cX3_atom 87 = .ok (.iload 5, 2) := by decide +kernel
theorem dX3_atom_89 : decode cX3_atom 89 = .ok (.iload 6, 2) := by decide +kernel
theorem dX3_atom_91 : decode cX3_atom 91 = .ok (.invokevirtual 93, 3) := by decide +kernel
theorem dX3_atom_94 : decode cX3_atom 94 = .ok (.invokevirtual 551, 3) := by decide +kernel
theorem dX3_atom_97 : decode cX3_atom 97 = .ok (.ireturn, 1) := by decide +kernel
theorem dX3_atom_98 : decode cX3_atom 98 = .ok (.iload_n 2, 1) := by decide +kernel
theorem dX3_atom_99 : decode cX3_atom 99 = .ok (.ifCond .lt 11, 3) := by decide +kernel
theorem dX3_atom_102 : decode cX3_atom 102 = .ok (.iload_n 2, 1) := by decide +kernel
theorem dX3_atom_103 : decode cX3_atom 103 = .ok (.aload_n 0, 1) := by decide +kernel
theorem dX3_atom_104 : decode cX3_atom 104 = .ok (.getfield 545, 3) := by decide +kernel
theorem dX3_atom_107 : decode cX3_atom 107 = .ok (.if_icmp .lt 9, 3) := by decide +kernel
theorem dX3_atom_110 : decode cX3_atom 110 = .ok (.aload_n 0, 1) := by decide +kernel
theorem dX3_atom_111 : decode cX3_atom 111 = .ok (.iconst 1, 1) := by decide +kernel
theorem dX3_atom_112 : decode cX3_atom 112 = .ok (.invokevirtual 533, 3) := by decide +kernel
theorem dX3_atom_115 : decode cX3_atom 115 = .ok (.ireturn, 1) := by decide +kernel
theorem dX3_atom_116 : decode cX3_atom 116 = .ok (.aload_n 0, 1) := by decide +kernel
theorem dX3_atom_117 : decode cX3_atom 117 = .ok (.getfield 508, 3) := by decide +kernel
theorem dX3_atom_120 : decode cX3_atom 120 = .ok (.iload_n 2, 1) := by decide +kernel
theorem dX3_atom_121 : decode cX3_atom 121 = .ok (.iaload, 1) := by decide +kernel
theorem dX3_atom_122 : decode cX3_atom 122 = .ok (.istore 7, 2) := by decide +kernel
theorem dX3_atom_124 : decode cX3_atom 124 = .ok (.iload 7, 2) := by decide +kernel
theorem dX3_atom_126 : decode cX3_atom 126 = .ok (.ifCond .le 11, 3) := by decide +kernel
theorem dX3_atom_129 : decode cX3_atom 129 = .ok (.iload 5, 2) := by decide +kernel
theorem dX3_atom_131 : decode cX3_atom 131 = .ok (.ifCond .ne 17, 3) := by decide +kernel
theorem dX3_atom_134 : decode cX3_atom 134 = .ok (.goto 8, 3) := by decide +kernel
theorem dX3_atom_137 : decode cX3_atom 137 = .ok (.iload_n 3, 1) := by decide +kernel
theorem dX3_atom_138 : decode cX3_atom 138 = .ok (.iconst (-1), 1) := by decide +kernel
theorem dX3_atom_139 : decode cX3_atom 139 = .ok (.if_icmp .eq 9, 3) := by decide +kernel
theorem dX3_atom_142 : decode cX3_atom 142 = .ok (.aload_n 0, 1) := by decide +kernel
theorem dX3_atom_143 : decode cX3_atom 143 = .ok (.iconst 1, 1) := by decide +kernel
theorem dX3_atom_144 : decode cX3_atom 144 = .ok (.invokevirtual 533, 3) := by decide +kernel
theorem dX3_atom_147 : decode cX3_atom 147 = .ok (.ireturn, 1) := by decide +kernel
theorem dX3_atom_148 : decode cX3_atom 148 = .ok (.iload 7, 2) := by decide +kernel
theorem dX3_atom_150 : decode cX3_atom 150 = .ok (.iconst 1, 1) := by decide +kernel
theorem dX3_atom_151 : decode cX3_atom 151 = .ok (.if_icmp .le 11, 3) := by decide +kernel
theorem dX3_atom_154 : decode cX3_atom 154 = .ok (.iload 6, 2) := by decide +kernel
theorem dX3_atom_156 : decode cX3_atom 156 = .ok (.ifCond .ne 18, 3) := by decide +kernel
theorem dX3_atom_159 : decode cX3_atom 159 = .ok (.goto 9, 3) := by decide +kernel
theorem dX3_atom_162 : decode cX3_atom 162 = .ok (.iload 4, 2) := by decide +kernel
theorem dX3_atom_164 : decode cX3_atom 164 = .ok (.iconst (-1), 1) := by decide +kernel
theorem dX3_atom_165 : decode cX3_atom 165 = .ok (.if_icmp .eq 9, 3) := by decide +kernel
theorem dX3_atom_168 : decode cX3_atom 168 = .ok (.aload_n 0, 1) := by decide +kernel
theorem dX3_atom_169 : decode cX3_atom 169 = .ok (.iconst 1, 1) := by decide +kernel
theorem dX3_atom_170 : decode cX3_atom 170 = .ok (.invokevirtual 533, 3) := by decide +kernel
theorem dX3_atom_173 : decode cX3_atom 173 = .ok (.ireturn, 1) := by decide +kernel
theorem dX3_atom_174 : decode cX3_atom 174 = .ok (.aload_n 0, 1) := by decide +kernel
theorem dX3_atom_175 : decode cX3_atom 175 = .ok (.getfield 17, 3) := by decide +kernel
theorem dX3_atom_178 : decode cX3_atom 178 = .ok (.istore 8, 2) := by decide +kernel
theorem dX3_atom_180 : decode cX3_atom 180 = .ok (.aload_n 0, 1) := by decide +kernel
theorem dX3_atom_181 : decode cX3_atom 181 = .ok (.iload_n 2, 1) := by decide +kernel
theorem dX3_atom_182 : decode cX3_atom 182 = .ok (.invokevirtual 72, 3) := by decide +kernel
theorem dX3_atom_185 : decode cX3_atom 185 = .ok (.iload 7, 2) := by decide +kernel
theorem dX3_atom_187 : decode cX3_atom 187 = .ok (.ifCond .le 9, 3) := by decide +kernel
theorem dX3_atom_190 : decode cX3_atom 190 = .ok (.aload_n 0, 1) := by decide +kernel
theorem dX3_atom_191 : decode cX3_atom 191 = .ok (.iload 5, 2) := by decide +kernel
theorem dX3_atom_193 : decode cX3_atom 193 = .ok (.invokevirtual 72, 3) := by decide +kernel
theorem dX3_atom_196 : decode cX3_atom 196 = .ok (.iload 7, 2) := by decide +kernel
theorem dX3_atom_198 : decode cX3_atom 198 = .ok (.iconst 1, 1) := by decide +kernel
theorem dX3_atom_199 : decode cX3_atom 199 = .ok (.if_icmp .le 9, 3) := by decide +kernel
theorem dX3_atom_202 : decode cX3_atom 202 = .ok (.aload_n 0, 1) := by decide +kernel
theorem dX3_atom_203 : decode cX3_atom 203 = .ok (.iload 6, 2) := by decide +kernel
theorem dX3_atom_205 : decode cX3_atom 205 = .ok (.invokevirtual 72, 3) := by decide +kernel
theorem dX3_atom_208 : decode cX3_atom 208 = .ok (.aload_n 0, 1) := by decide +kernel
theorem dX3_atom_209 : decode cX3_atom 209 = .ok (.aload_n 0, 1) := by decide +kernel
theorem dX3_atom_210 : decode cX3_atom 210 = .ok (.bipush 11, 2) := by decide +kernel
theorem dX3_atom_212 : decode cX3_atom 212 = .ok (.iload 8, 2) := by decide +kernel
theorem dX3_atom_214 : decode cX3_atom 214 = .ok (.invokevirtual 75, 3) := by decide +kernel
theorem dX3_atom_217 : decode cX3_atom 217 = .ok (.invokevirtual 551, 3) := by decide +kernel
theorem dX3_atom_220 : decode cX3_atom 220 = .ok (.ireturn, 1) := by decide +kernel
theorem dX3_atom_221 : decode cX3_atom 221 = .ok (.iload_n 2, 1) := by decide +kernel
theorem dX3_atom_222 : decode cX3_atom 222 = .ok (.ifCond .lt 22, 3) := by decide +kernel
theorem dX3_atom_225 : decode cX3_atom 225 = .ok (.iload_n 2, 1) := by decide +kernel
theorem dX3_atom_226 : decode cX3_atom 226 = .ok (.aload_n 0, 1) := by decide +kernel
theorem dX3_atom_227 : decode cX3_atom 227 = .ok (.getfield 536, 3) := by decide +kernel
theorem dX3_atom_230 : decode cX3_atom 230 = .ok (.if_icmp .ge 14, 3) := by decide +kernel
theorem dX3_atom_233 : decode cX3_atom 233 = .ok (.iload 5, 2) := by decide +kernel
theorem dX3_atom_235 : decode cX3_atom 235 = .ok (.ifCond .eq 9, 3) := by decide +kernel
theorem dX3_atom_238 : decode cX3_atom 238 = .ok (.iload 4, 2) := by decide +kernel
theorem dX3_atom_240 : decode cX3_atom 240 = .ok (.iconst (-1), 1) := by decide +kernel
theorem dX3_atom_241 : decode cX3_atom 241 = .ok (.if_icmp .eq 11, 3) := by decide +kernel
theorem dX3_atom_244 : decode cX3_atom 244 = .ok (.aload_n 0, 1) := by decide +kernel
theorem dX3_atom_245 : decode cX3_atom 245 = .ok (.iconst 1, 1) := by decide +kernel
theorem dX3_atom_246 : decode cX3_atom 246 = .ok (.invokevirtual 533, 3) := by decide +kernel
theorem dX3_atom_249 : decode cX3_atom 249 = .ok (.goto 16, 3) := by decide +kernel
theorem dX3_atom_252 : decode cX3_atom 252 = .ok (.aload_n 0, 1) := by decide +kernel
theorem dX3_atom_253 : decode cX3_atom 253 = .ok (.aload_n 0, 1) := by decide +kernel
theorem dX3_atom_254 : decode cX3_atom 254 = .ok (.bipush 12, 2) := by decide +kernel
theorem dX3_atom_256 : decode cX3_atom 256 = .ok (.iload_n 2, 1) := by decide +kernel
theorem dX3_atom_257 : decode cX3_atom 257 = .ok (.iload 5, 2) := by decide +kernel
theorem dX3_atom_259 : decode cX3_atom 259 = .ok (.invokevirtual 93, 3) := by decide +kernel
theorem dX3_atom_262 : decode cX3_atom 262 = .ok (.invokevirtual 551, 3) := by decide +kernel
theorem dX3_atom_265 : decode cX3_atom 265 = .ok (.ireturn, 1) := by decide +kernel
theorem dX3_atom_266 : decode cX3_atom 266 = .ok (.iload_n 2, 1) := by decide +kernel
theorem dX3_atom_267 : decode cX3_atom 267 = .ok (.ifCond .lt 39, 3) := by decide +kernel
theorem dX3_atom_270 : decode cX3_atom 270 = .ok (.iload_n 2, 1) := by decide +kernel
theorem dX3_atom_271 : decode cX3_atom 271 = .ok (.aload_n 0, 1) := by decide +kernel
theorem dX3_atom_272 : decode cX3_atom 272 = .ok (.getfield 515, 3) := by decide +kernel
theorem dX3_atom_275 : decode cX3_atom 275 = .ok (.if_icmp .ge 31, 3) := by decide +kernel
theorem dX3_atom_278 : decode cX3_atom 278 = .ok (.iload 5, 2) := by decide +kernel
theorem dX3_atom_280 : decode cX3_atom 280 = .ok (.ifCond .eq 26, 3) := by decide +kernel
theorem dX3_atom_283 : decode cX3_atom 283 = .ok (.aload_n 0, 1) := by decide +kernel
theorem dX3_atom_284 : decode cX3_atom 284 = .ok (.getfield 511, 3) := by decide +kernel
theorem dX3_atom_287 : decode cX3_atom 287 = .ok (.iload_n 2, 1) := by decide +kernel
theorem dX3_atom_288 : decode cX3_atom 288 = .ok (.baload, 1) := by decide +kernel
theorem dX3_atom_289 : decode cX3_atom 289 = .ok (.ifCond .eq 11, 3) := by decide +kernel
theorem dX3_atom_292 : decode cX3_atom 292 = .ok (.iload 6, 2) := by decide +kernel
theorem dX3_atom_294 : decode cX3_atom 294 = .ok (.ifCond .ne 18, 3) := by decide +kernel
theorem dX3_atom_297 : decode cX3_atom 297 = .ok (.goto 9, 3) := by decide +kernel
theorem dX3_atom_300 : decode cX3_atom 300 = .ok (.iload 4, 2) := by decide +kernel
theorem dX3_atom_302 : decode cX3_atom 302 = .ok (.iconst (-1), 1) := by decide +kernel
theorem dX3_atom_303 : decode cX3_atom 303 = .ok (.if_icmp .eq 9, 3) := by decide +kernel
theorem dX3_atom_306 : decode cX3_atom 306 = .ok (.aload_n 0, 1) := by decide +kernel
theorem dX3_atom_307 : decode cX3_atom 307 = .ok (.iconst 1, 1) := by decide +kernel
theorem dX3_atom_308 : decode cX3_atom 308 = .ok (.invokevirtual 533, 3) := by decide +kernel
theorem dX3_atom_311 : decode cX3_atom 311 = .ok (.ireturn, 1) := by decide +kernel
theorem dX3_atom_312 : decode cX3_atom 312 = .ok (.aload_n 0, 1) := by decide +kernel
theorem dX3_atom_313 : decode cX3_atom 313 = .ok (.aload_n 0, 1) := by decide +kernel
theorem dX3_atom_314 : decode cX3_atom 314 = .ok (.iload_n 2, 1) := by decide +kernel
theorem dX3_atom_315 : decode cX3_atom 315 = .ok (.aload_n 0, 1) := by decide +kernel
theorem dX3_atom_316 : decode cX3_atom 316 = .ok (.getfield 511, 3) := by decide +kernel
theorem dX3_atom_319 : decode cX3_atom 319 = .ok (.iload_n 2, 1) := by decide +kernel
theorem dX3_atom_320 : decode cX3_atom 320 = .ok (.baload, 1) := by decide +kernel
theorem dX3_atom_321 : decode cX3_atom 321 = .ok (.ifCond .eq 8, 3) := by decide +kernel
theorem dX3_atom_324 : decode cX3_atom 324 = .ok (.iload 6, 2) := by decide +kernel
theorem dX3_atom_326 : decode cX3_atom 326 = .ok (.goto 4, 3) := by decide +kernel
theorem dX3_atom_329 : decode cX3_atom 329 = .ok (.iconst 0, 1) := by decide +kernel
theorem dX3_atom_330 : decode cX3_atom 330 = .ok (.iload 5, 2) := by decide +kernel
theorem dX3_atom_332 : decode cX3_atom 332 = .ok (.invokevirtual 557, 3) := by decide +kernel
theorem dX3_atom_335 : decode cX3_atom 335 = .ok (.invokevirtual 551, 3) := by decide +kernel
theorem dX3_atom_338 : decode cX3_atom 338 = .ok (.ireturn, 1) := by decide +kernel
theorem dX3_atom_339 : decode cX3_atom 339 = .ok (.aload_n 0, 1) := by decide +kernel
theorem dX3_atom_340 : decode cX3_atom 340 = .ok (.iconst 1, 1) := by decide +kernel
theorem dX3_atom_341 : decode cX3_atom 341 = .ok (.invokevirtual 533, 3) := by decide +kernel
theorem dX3_atom_344 : decode cX3_atom 344 = .ok (.ireturn, 1) := by decide +kernel
abbrev cX3_two : ByteArray := prog_4_method_11_code
def yX3_two : MethodName := ⟨RX3, "two", "(III)I"⟩
theorem dX3_two_0 : decode cX3_two 0 = .ok (.aload_n 0, 1) := by decide +kernel
theorem dX3_two_1 : decode cX3_two 1 = .ok (.getfield 17, 3) := by decide +kernel
theorem dX3_two_4 : decode cX3_two 4 = .ok (.istore 4, 2) := by decide +kernel
theorem dX3_two_6 : decode cX3_two 6 = .ok (.aload_n 0, 1) := by decide +kernel
theorem dX3_two_7 : decode cX3_two 7 = .ok (.iload_n 2, 1) := by decide +kernel
theorem dX3_two_8 : decode cX3_two 8 = .ok (.invokevirtual 72, 3) := by decide +kernel
theorem dX3_two_11 : decode cX3_two 11 = .ok (.aload_n 0, 1) := by decide +kernel
theorem dX3_two_12 : decode cX3_two 12 = .ok (.iload_n 3, 1) := by decide +kernel
theorem dX3_two_13 : decode cX3_two 13 = .ok (.invokevirtual 72, 3) := by decide +kernel
theorem dX3_two_16 : decode cX3_two 16 = .ok (.aload_n 0, 1) := by decide +kernel
theorem dX3_two_17 : decode cX3_two 17 = .ok (.iload_n 1, 1) := by decide +kernel
theorem dX3_two_18 : decode cX3_two 18 = .ok (.iload 4, 2) := by decide +kernel
theorem dX3_two_20 : decode cX3_two 20 = .ok (.invokevirtual 75, 3) := by decide +kernel
theorem dX3_two_23 : decode cX3_two 23 = .ok (.ireturn, 1) := by decide +kernel
abbrev cX3_modeOf : ByteArray := prog_4_method_18_code
def yX3_modeOf : MethodName := ⟨RX3, "modeOf", "(III)I"⟩
theorem dX3_modeOf_0 : decode cX3_modeOf 0 = .ok (.iload_n 1, 1) := by decide +kernel
theorem dX3_modeOf_1 : decode cX3_modeOf 1 = .ok (.ifCond .ne 8, 3) := by decide +kernel
theorem dX3_modeOf_4 : decode cX3_modeOf 4 = .ok (.aload_n 0, 1) := by decide +kernel
theorem dX3_modeOf_5 : decode cX3_modeOf 5 = .ok (.invokevirtual 81, 3) := by decide +kernel
theorem dX3_modeOf_8 : decode cX3_modeOf 8 = .ok (.ireturn, 1) := by decide +kernel
theorem dX3_modeOf_9 : decode cX3_modeOf 9 = .ok (.aload_n 0, 1) := by decide +kernel
theorem dX3_modeOf_10 : decode cX3_modeOf 10 = .ok (.getfield 17, 3) := by decide +kernel
theorem dX3_modeOf_13 : decode cX3_modeOf 13 = .ok (.istore 4, 2) := by decide +kernel
theorem dX3_modeOf_15 : decode cX3_modeOf 15 = .ok (.aload_n 0, 1) := by decide +kernel
theorem dX3_modeOf_16 : decode cX3_modeOf 16 = .ok (.iload_n 1, 1) := by decide +kernel
theorem dX3_modeOf_17 : decode cX3_modeOf 17 = .ok (.invokevirtual 72, 3) := by decide +kernel
theorem dX3_modeOf_20 : decode cX3_modeOf 20 = .ok (.aload_n 0, 1) := by decide +kernel
theorem dX3_modeOf_21 : decode cX3_modeOf 21 = .ok (.iload_n 2, 1) := by decide +kernel
theorem dX3_modeOf_22 : decode cX3_modeOf 22 = .ok (.invokevirtual 72, 3) := by decide +kernel
theorem dX3_modeOf_25 : decode cX3_modeOf 25 = .ok (.aload_n 0, 1) := by decide +kernel
theorem dX3_modeOf_26 : decode cX3_modeOf 26 = .ok (.iload_n 3, 1) := by decide +kernel
theorem dX3_modeOf_27 : decode cX3_modeOf 27 = .ok (.invokevirtual 72, 3) := by decide +kernel
theorem dX3_modeOf_30 : decode cX3_modeOf 30 = .ok (.aload_n 0, 1) := by decide +kernel
theorem dX3_modeOf_31 : decode cX3_modeOf 31 = .ok (.bipush 13, 2) := by decide +kernel
theorem dX3_modeOf_33 : decode cX3_modeOf 33 = .ok (.iload 4, 2) := by decide +kernel
theorem dX3_modeOf_35 : decode cX3_modeOf 35 = .ok (.invokevirtual 75, 3) := by decide +kernel
theorem dX3_modeOf_38 : decode cX3_modeOf 38 = .ok (.ireturn, 1) := by decide +kernel
abbrev cX3_truth : ByteArray := prog_4_method_12_code
def yX3_truth : MethodName := ⟨RX3, "truth", "()I"⟩
theorem dX3_truth_0 : decode cX3_truth 0 = .ok (.aload_n 0, 1) := by decide +kernel
theorem dX3_truth_1 : decode cX3_truth 1 = .ok (.bipush 8, 2) := by decide +kernel
theorem dX3_truth_3 : decode cX3_truth 3 = .ok (.aload_n 0, 1) := by decide +kernel
theorem dX3_truth_4 : decode cX3_truth 4 = .ok (.getfield 17, 3) := by decide +kernel
theorem dX3_truth_7 : decode cX3_truth 7 = .ok (.invokevirtual 75, 3) := by decide +kernel
theorem dX3_truth_10 : decode cX3_truth 10 = .ok (.ireturn, 1) := by decide +kernel
abbrev cX3_join : ByteArray := prog_4_method_105_code
def yX3_join : MethodName := ⟨RX3, "join", "(III)I"⟩
theorem dX3_join_0 : decode cX3_join 0 = .ok (.aload_n 0, 1) := by decide +kernel
theorem dX3_join_1 : decode cX3_join 1 = .ok (.iconst 0, 1) := by decide +kernel
theorem dX3_join_2 : decode cX3_join 2 = .ok (.putfield 1, 3) := by decide +kernel
theorem dX3_join_5 : decode cX3_join 5 = .ok (.aload_n 0, 1) := by decide +kernel
theorem dX3_join_6 : decode cX3_join 6 = .ok (.iload_n 2, 1) := by decide +kernel
theorem dX3_join_7 : decode cX3_join 7 = .ok (.iconst 2, 1) := by decide +kernel
theorem dX3_join_8 : decode cX3_join 8 = .ok (.invokevirtual 527, 3) := by decide +kernel
theorem dX3_join_11 : decode cX3_join 11 = .ok (.istore 4, 2) := by decide +kernel
theorem dX3_join_13 : decode cX3_join 13 = .ok (.aload_n 0, 1) := by decide +kernel
theorem dX3_join_14 : decode cX3_join 14 = .ok (.iload_n 3, 1) := by decide +kernel
theorem dX3_join_15 : decode cX3_join 15 = .ok (.iconst 2, 1) := by decide +kernel
theorem dX3_join_16 : decode cX3_join 16 = .ok (.invokevirtual 527, 3) := by decide +kernel
theorem dX3_join_19 : decode cX3_join 19 = .ok (.istore 5, 2) := by decide +kernel
theorem dX3_join_21 : decode cX3_join 21 = .ok (.iload_n 1, 1) := by decide +kernel
theorem dX3_join_22 : decode cX3_join 22 = .ok (.ifCond .lt 30, 3) := by decide +kernel
theorem dX3_join_25 : decode cX3_join 25 = .ok (.iload_n 1, 1) := by decide +kernel
theorem dX3_join_26 : decode cX3_join 26 = .ok (.iconst 4, 1) := by decide +kernel
theorem dX3_join_27 : decode cX3_join 27 = .ok (.if_icmp .gt 25, 3) := by decide +kernel
theorem dX3_join_30 : decode cX3_join 30 = .ok (.iload 4, 2) := by decide +kernel
theorem dX3_join_32 : decode cX3_join 32 = .ok (.ifCond .eq 20, 3) := by decide +kernel
theorem dX3_join_35 : decode cX3_join 35 = .ok (.iload_n 1, 1) := by decide +kernel
theorem dX3_join_36 : decode cX3_join 36 = .ok (.ifCond .ne 11, 3) := by decide +kernel
theorem dX3_join_39 : decode cX3_join 39 = .ok (.iload_n 3, 1) := by decide +kernel
theorem dX3_join_40 : decode cX3_join 40 = .ok (.iconst (-1), 1) := by decide +kernel
theorem dX3_join_41 : decode cX3_join 41 = .ok (.if_icmp .eq 17, 3) := by decide +kernel
theorem dX3_join_44 : decode cX3_join 44 = .ok (.goto 8, 3) := by decide +kernel
theorem dX3_join_47 : decode cX3_join 47 = .ok (.iload 5, 2) := by decide +kernel
theorem dX3_join_49 : decode cX3_join 49 = .ok (.ifCond .ne 9, 3) := by decide +kernel
theorem dX3_join_52 : decode cX3_join 52 = .ok (.aload_n 0, 1) := by decide +kernel
theorem dX3_join_53 : decode cX3_join 53 = .ok (.iconst 1, 1) := by decide +kernel
theorem dX3_join_54 : decode cX3_join 54 = .ok (.invokevirtual 533, 3) := by decide +kernel
theorem dX3_join_57 : decode cX3_join 57 = .ok (.ireturn, 1) := by decide +kernel
theorem dX3_join_58 : decode cX3_join 58 = .ok (.iload_n 1, 1) := by decide +kernel
theorem dX3_join_59 : decode cX3_join 59 = .ok (.tableswitch 91 0 3 #[29, 40, 53, 78], 29) := by decide +kernel
theorem dX3_join_88 : decode cX3_join 88 = .ok (.aload_n 0, 1) := by decide +kernel
theorem dX3_join_89 : decode cX3_join 89 = .ok (.aload_n 0, 1) := by decide +kernel
theorem dX3_join_90 : decode cX3_join 90 = .ok (.iload 4, 2) := by decide +kernel
theorem dX3_join_92 : decode cX3_join 92 = .ok (.invokevirtual 88, 3) := by decide +kernel
theorem dX3_join_95 : decode cX3_join 95 = .ok (.invokevirtual 551, 3) := by decide +kernel
theorem dX3_join_98 : decode cX3_join 98 = .ok (.ireturn, 1) := by decide +kernel
theorem dX3_join_99 : decode cX3_join 99 = .ok (.aload_n 0, 1) := by decide +kernel
theorem dX3_join_100 : decode cX3_join 100 = .ok (.aload_n 0, 1) := by decide +kernel
theorem dX3_join_101 : decode cX3_join 101 = .ok (.iload 4, 2) := by decide +kernel
theorem dX3_join_103 : decode cX3_join 103 = .ok (.iload 5, 2) := by decide +kernel
theorem dX3_join_105 : decode cX3_join 105 = .ok (.invokevirtual 91, 3) := by decide +kernel
theorem dX3_join_108 : decode cX3_join 108 = .ok (.invokevirtual 551, 3) := by decide +kernel
theorem dX3_join_111 : decode cX3_join 111 = .ok (.ireturn, 1) := by decide +kernel
theorem dX3_join_112 : decode cX3_join 112 = .ok (.aload_n 0, 1) := by decide +kernel
theorem dX3_join_113 : decode cX3_join 113 = .ok (.aload_n 0, 1) := by decide +kernel
theorem dX3_join_114 : decode cX3_join 114 = .ok (.aload_n 0, 1) := by decide +kernel
theorem dX3_join_115 : decode cX3_join 115 = .ok (.aload_n 0, 1) := by decide +kernel
theorem dX3_join_116 : decode cX3_join 116 = .ok (.iload 4, 2) := by decide +kernel
theorem dX3_join_118 : decode cX3_join 118 = .ok (.invokevirtual 88, 3) := by decide +kernel
theorem dX3_join_121 : decode cX3_join 121 = .ok (.aload_n 0, 1) := by decide +kernel
theorem dX3_join_122 : decode cX3_join 122 = .ok (.iload 5, 2) := by decide +kernel
theorem dX3_join_124 : decode cX3_join 124 = .ok (.invokevirtual 88, 3) := by decide +kernel
theorem dX3_join_127 : decode cX3_join 127 = .ok (.invokevirtual 91, 3) := by decide +kernel
theorem dX3_join_130 : decode cX3_join 130 = .ok (.invokevirtual 88, 3) := by decide +kernel
theorem dX3_join_133 : decode cX3_join 133 = .ok (.invokevirtual 551, 3) := by decide +kernel
theorem dX3_join_136 : decode cX3_join 136 = .ok (.ireturn, 1) := by decide +kernel
theorem dX3_join_137 : decode cX3_join 137 = .ok (.aload_n 0, 1) := by decide +kernel
theorem dX3_join_138 : decode cX3_join 138 = .ok (.aload_n 0, 1) := by decide +kernel
theorem dX3_join_139 : decode cX3_join 139 = .ok (.iload 4, 2) := by decide +kernel
theorem dX3_join_141 : decode cX3_join 141 = .ok (.iload 5, 2) := by decide +kernel
theorem dX3_join_143 : decode cX3_join 143 = .ok (.invokevirtual 560, 3) := by decide +kernel
theorem dX3_join_146 : decode cX3_join 146 = .ok (.invokevirtual 551, 3) := by decide +kernel
theorem dX3_join_149 : decode cX3_join 149 = .ok (.ireturn, 1) := by decide +kernel
theorem dX3_join_150 : decode cX3_join 150 = .ok (.aload_n 0, 1) := by decide +kernel
theorem dX3_join_151 : decode cX3_join 151 = .ok (.aload_n 0, 1) := by decide +kernel
theorem dX3_join_152 : decode cX3_join 152 = .ok (.aload_n 0, 1) := by decide +kernel
theorem dX3_join_153 : decode cX3_join 153 = .ok (.iload 4, 2) := by decide +kernel
theorem dX3_join_155 : decode cX3_join 155 = .ok (.iload 5, 2) := by decide +kernel
theorem dX3_join_157 : decode cX3_join 157 = .ok (.invokevirtual 560, 3) := by decide +kernel
theorem dX3_join_160 : decode cX3_join 160 = .ok (.aload_n 0, 1) := by decide +kernel
theorem dX3_join_161 : decode cX3_join 161 = .ok (.iload 5, 2) := by decide +kernel
theorem dX3_join_163 : decode cX3_join 163 = .ok (.iload 4, 2) := by decide +kernel
theorem dX3_join_165 : decode cX3_join 165 = .ok (.invokevirtual 560, 3) := by decide +kernel
theorem dX3_join_168 : decode cX3_join 168 = .ok (.invokevirtual 91, 3) := by decide +kernel
theorem dX3_join_171 : decode cX3_join 171 = .ok (.invokevirtual 551, 3) := by decide +kernel
theorem dX3_join_174 : decode cX3_join 174 = .ok (.ireturn, 1) := by decide +kernel
abbrev cX3_not : ByteArray := prog_4_method_13_code
def yX3_not : MethodName := ⟨RX3, "not", "(I)I"⟩
theorem dX3_not_0 : decode cX3_not 0 = .ok (.aload_n 0, 1) := by decide +kernel
theorem dX3_not_1 : decode cX3_not 1 = .ok (.getfield 33, 3) := by decide +kernel
theorem dX3_not_4 : decode cX3_not 4 = .ok (.iload_n 1, 1) := by decide +kernel
theorem dX3_not_5 : decode cX3_not 5 = .ok (.iaload, 1) := by decide +kernel
theorem dX3_not_6 : decode cX3_not 6 = .ok (.bipush 15, 2) := by decide +kernel
theorem dX3_not_8 : decode cX3_not 8 = .ok (.if_icmp .ne 10, 3) := by decide +kernel
theorem dX3_not_11 : decode cX3_not 11 = .ok (.aload_n 0, 1) := by decide +kernel
theorem dX3_not_12 : decode cX3_not 12 = .ok (.iload_n 1, 1) := by decide +kernel
theorem dX3_not_13 : decode cX3_not 13 = .ok (.iconst 0, 1) := by decide +kernel
theorem dX3_not_14 : decode cX3_not 14 = .ok (.invokevirtual 65, 3) := by decide +kernel
theorem dX3_not_17 : decode cX3_not 17 = .ok (.ireturn, 1) := by decide +kernel
theorem dX3_not_18 : decode cX3_not 18 = .ok (.aload_n 0, 1) := by decide +kernel
theorem dX3_not_19 : decode cX3_not 19 = .ok (.bipush 15, 2) := by decide +kernel
theorem dX3_not_21 : decode cX3_not 21 = .ok (.iload_n 1, 1) := by decide +kernel
theorem dX3_not_22 : decode cX3_not 22 = .ok (.invokevirtual 78, 3) := by decide +kernel
theorem dX3_not_25 : decode cX3_not 25 = .ok (.ireturn, 1) := by decide +kernel
abbrev cX3_and : ByteArray := prog_4_method_15_code
def yX3_and : MethodName := ⟨RX3, "and", "(II)I"⟩
theorem dX3_and_0 : decode cX3_and 0 = .ok (.aload_n 0, 1) := by decide +kernel
theorem dX3_and_1 : decode cX3_and 1 = .ok (.getfield 17, 3) := by decide +kernel
theorem dX3_and_4 : decode cX3_and 4 = .ok (.istore_n 3, 1) := by decide +kernel
theorem dX3_and_5 : decode cX3_and 5 = .ok (.aload_n 0, 1) := by decide +kernel
theorem dX3_and_6 : decode cX3_and 6 = .ok (.iload_n 1, 1) := by decide +kernel
theorem dX3_and_7 : decode cX3_and 7 = .ok (.invokevirtual 72, 3) := by decide +kernel
theorem dX3_and_10 : decode cX3_and 10 = .ok (.aload_n 0, 1) := by decide +kernel
theorem dX3_and_11 : decode cX3_and 11 = .ok (.iload_n 2, 1) := by decide +kernel
theorem dX3_and_12 : decode cX3_and 12 = .ok (.invokevirtual 72, 3) := by decide +kernel
theorem dX3_and_15 : decode cX3_and 15 = .ok (.aload_n 0, 1) := by decide +kernel
theorem dX3_and_16 : decode cX3_and 16 = .ok (.iload_n 3, 1) := by decide +kernel
theorem dX3_and_17 : decode cX3_and 17 = .ok (.invokevirtual 85, 3) := by decide +kernel
theorem dX3_and_20 : decode cX3_and 20 = .ok (.ireturn, 1) := by decide +kernel
abbrev cX3_and_2 : ByteArray := prog_4_method_14_code
def yX3_and_2 : MethodName := ⟨RX3, "and", "(I)I"⟩
theorem dX3_and_2_0 : decode cX3_and_2 0 = .ok (.aload_n 0, 1) := by decide +kernel
theorem dX3_and_2_1 : decode cX3_and_2 1 = .ok (.getfield 17, 3) := by decide +kernel
theorem dX3_and_2_4 : decode cX3_and_2 4 = .ok (.istore_n 2, 1) := by decide +kernel
theorem dX3_and_2_5 : decode cX3_and_2 5 = .ok (.aload_n 0, 1) := by decide +kernel
theorem dX3_and_2_6 : decode cX3_and_2 6 = .ok (.getfield 17, 3) := by decide +kernel
theorem dX3_and_2_9 : decode cX3_and_2 9 = .ok (.istore_n 3, 1) := by decide +kernel
theorem dX3_and_2_10 : decode cX3_and_2 10 = .ok (.iconst 0, 1) := by decide +kernel
theorem dX3_and_2_11 : decode cX3_and_2 11 = .ok (.istore 4, 2) := by decide +kernel
theorem dX3_and_2_13 : decode cX3_and_2 13 = .ok (.iload_n 1, 1) := by decide +kernel
theorem dX3_and_2_14 : decode cX3_and_2 14 = .ok (.istore 5, 2) := by decide +kernel
theorem dX3_and_2_16 : decode cX3_and_2 16 = .ok (.iload 5, 2) := by decide +kernel
theorem dX3_and_2_18 : decode cX3_and_2 18 = .ok (.iload_n 2, 1) := by decide +kernel
theorem dX3_and_2_19 : decode cX3_and_2 19 = .ok (.if_icmp .ge 120, 3) := by decide +kernel
theorem dX3_and_2_22 : decode cX3_and_2 22 = .ok (.aload_n 0, 1) := by decide +kernel
theorem dX3_and_2_23 : decode cX3_and_2 23 = .ok (.getfield 13, 3) := by decide +kernel
theorem dX3_and_2_26 : decode cX3_and_2 26 = .ok (.iload 5, 2) := by decide +kernel
theorem dX3_and_2_28 : decode cX3_and_2 28 = .ok (.iaload, 1) := by decide +kernel
theorem dX3_and_2_29 : decode cX3_and_2 29 = .ok (.istore 6, 2) := by decide +kernel
theorem dX3_and_2_31 : decode cX3_and_2 31 = .ok (.aload_n 0, 1) := by decide +kernel
theorem dX3_and_2_32 : decode cX3_and_2 32 = .ok (.getfield 33, 3) := by decide +kernel
theorem dX3_and_2_35 : decode cX3_and_2 35 = .ok (.iload 6, 2) := by decide +kernel
theorem dX3_and_2_37 : decode cX3_and_2 37 = .ok (.iaload, 1) := by decide +kernel
theorem dX3_and_2_38 : decode cX3_and_2 38 = .ok (.bipush 8, 2) := by decide +kernel
theorem dX3_and_2_40 : decode cX3_and_2 40 = .ok (.if_icmp .ne 6, 3) := by decide +kernel
theorem dX3_and_2_43 : decode cX3_and_2 43 = .ok (.goto 90, 3) := by decide +kernel
theorem dX3_and_2_46 : decode cX3_and_2 46 = .ok (.aload_n 0, 1) := by decide +kernel
theorem dX3_and_2_47 : decode cX3_and_2 47 = .ok (.getfield 33, 3) := by decide +kernel
theorem dX3_and_2_50 : decode cX3_and_2 50 = .ok (.iload 6, 2) := by decide +kernel
theorem dX3_and_2_52 : decode cX3_and_2 52 = .ok (.iaload, 1) := by decide +kernel
theorem dX3_and_2_53 : decode cX3_and_2 53 = .ok (.bipush 15, 2) := by decide +kernel
theorem dX3_and_2_55 : decode cX3_and_2 55 = .ok (.if_icmp .ne 24, 3) := by decide +kernel
theorem dX3_and_2_58 : decode cX3_and_2 58 = .ok (.aload_n 0, 1) := by decide +kernel
theorem dX3_and_2_59 : decode cX3_and_2 59 = .ok (.getfield 33, 3) := by decide +kernel
theorem dX3_and_2_62 : decode cX3_and_2 62 = .ok (.aload_n 0, 1) := by decide +kernel
theorem dX3_and_2_63 : decode cX3_and_2 63 = .ok (.iload 6, 2) := by decide +kernel
theorem dX3_and_2_65 : decode cX3_and_2 65 = .ok (.iconst 0, 1) := by decide +kernel
theorem dX3_and_2_66 : decode cX3_and_2 66 = .ok (.invokevirtual 65, 3) := by decide +kernel
theorem dX3_and_2_69 : decode cX3_and_2 69 = .ok (.iaload, 1) := by decide +kernel
theorem dX3_and_2_70 : decode cX3_and_2 70 = .ok (.bipush 8, 2) := by decide +kernel
theorem dX3_and_2_72 : decode cX3_and_2 72 = .ok (.if_icmp .ne 7, 3) := by decide +kernel
theorem dX3_and_2_75 : decode cX3_and_2 75 = .ok (.iload 6, 2) := by decide +kernel
theorem dX3_and_2_77 : decode cX3_and_2 77 = .ok (.istore 4, 2) := by decide +kernel
theorem dX3_and_2_79 : decode cX3_and_2 79 = .ok (.aload_n 0, 1) := by decide +kernel
theorem dX3_and_2_80 : decode cX3_and_2 80 = .ok (.getfield 33, 3) := by decide +kernel
theorem dX3_and_2_83 : decode cX3_and_2 83 = .ok (.iload 6, 2) := by decide +kernel
theorem dX3_and_2_85 : decode cX3_and_2 85 = .ok (.iaload, 1) := by decide +kernel
theorem dX3_and_2_86 : decode cX3_and_2 86 = .ok (.bipush 16, 2) := by decide +kernel
theorem dX3_and_2_88 : decode cX3_and_2 88 = .ok (.if_icmp .ne 39, 3) := by decide +kernel
theorem dX3_and_2_91 : decode cX3_and_2 91 = .ok (.iconst 0, 1) := by decide +kernel
theorem dX3_and_2_92 : decode cX3_and_2 92 = .ok (.istore 7, 2) := by decide +kernel
theorem dX3_and_2_94 : decode cX3_and_2 94 = .ok (.iload 7, 2) := by decide +kernel
theorem dX3_and_2_96 : decode cX3_and_2 96 = .ok (.aload_n 0, 1) := by decide +kernel
theorem dX3_and_2_97 : decode cX3_and_2 97 = .ok (.getfield 36, 3) := by decide +kernel
theorem dX3_and_2_100 : decode cX3_and_2 100 = .ok (.iload 6, 2) := by decide +kernel
theorem dX3_and_2_102 : decode cX3_and_2 102 = .ok (.iaload, 1) := by decide +kernel
theorem dX3_and_2_103 : decode cX3_and_2 103 = .ok (.if_icmp .ge 21, 3) := by decide +kernel
theorem dX3_and_2_106 : decode cX3_and_2 106 = .ok (.aload_n 0, 1) := by decide +kernel
theorem dX3_and_2_107 : decode cX3_and_2 107 = .ok (.aload_n 0, 1) := by decide +kernel
theorem dX3_and_2_108 : decode cX3_and_2 108 = .ok (.iload 6, 2) := by decide +kernel
theorem dX3_and_2_110 : decode cX3_and_2 110 = .ok (.iload 7, 2) := by decide +kernel
theorem dX3_and_2_112 : decode cX3_and_2 112 = .ok (.invokevirtual 65, 3) := by decide +kernel
theorem dX3_and_2_115 : decode cX3_and_2 115 = .ok (.invokevirtual 72, 3) := by decide +kernel
theorem dX3_and_2_118 : decode cX3_and_2 118 = .ok (.iinc 7 1, 3) := by decide +kernel
theorem dX3_and_2_121 : decode cX3_and_2 121 = .ok (.goto (-27), 3) := by decide +kernel
theorem dX3_and_2_124 : decode cX3_and_2 124 = .ok (.goto 9, 3) := by decide +kernel
theorem dX3_and_2_127 : decode cX3_and_2 127 = .ok (.aload_n 0, 1) := by decide +kernel
theorem dX3_and_2_128 : decode cX3_and_2 128 = .ok (.iload 6, 2) := by decide +kernel
theorem dX3_and_2_130 : decode cX3_and_2 130 = .ok (.invokevirtual 72, 3) := by decide +kernel
theorem dX3_and_2_133 : decode cX3_and_2 133 = .ok (.iinc 5 1, 3) := by decide +kernel
theorem dX3_and_2_136 : decode cX3_and_2 136 = .ok (.goto (-120), 3) := by decide +kernel
theorem dX3_and_2_139 : decode cX3_and_2 139 = .ok (.iload 4, 2) := by decide +kernel
theorem dX3_and_2_141 : decode cX3_and_2 141 = .ok (.ifCond .gt 13, 3) := by decide +kernel
theorem dX3_and_2_144 : decode cX3_and_2 144 = .ok (.aload_n 0, 1) := by decide +kernel
theorem dX3_and_2_145 : decode cX3_and_2 145 = .ok (.getfield 17, 3) := by decide +kernel
theorem dX3_and_2_148 : decode cX3_and_2 148 = .ok (.iload_n 3, 1) := by decide +kernel
theorem dX3_and_2_149 : decode cX3_and_2 149 = .ok (.isub, 1) := by decide +kernel
theorem dX3_and_2_150 : decode cX3_and_2 150 = .ok (.iconst 2, 1) := by decide +kernel
theorem dX3_and_2_151 : decode cX3_and_2 151 = .ok (.if_icmp .ge 46, 3) := by decide +kernel
theorem dX3_and_2_154 : decode cX3_and_2 154 = .ok (.iload 4, 2) := by decide +kernel
theorem dX3_and_2_156 : decode cX3_and_2 156 = .ok (.ifCond .le 8, 3) := by decide +kernel
theorem dX3_and_2_159 : decode cX3_and_2 159 = .ok (.iload 4, 2) := by decide +kernel
theorem dX3_and_2_161 : decode cX3_and_2 161 = .ok (.goto 26, 3) := by decide +kernel
theorem dX3_and_2_164 : decode cX3_and_2 164 = .ok (.aload_n 0, 1) := by decide +kernel
theorem dX3_and_2_165 : decode cX3_and_2 165 = .ok (.getfield 17, 3) := by decide +kernel
theorem dX3_and_2_168 : decode cX3_and_2 168 = .ok (.iload_n 3, 1) := by decide +kernel
theorem dX3_and_2_169 : decode cX3_and_2 169 = .ok (.isub, 1) := by decide +kernel
theorem dX3_and_2_170 : decode cX3_and_2 170 = .ok (.iconst 1, 1) := by decide +kernel
theorem dX3_and_2_171 : decode cX3_and_2 171 = .ok (.if_icmp .ne 12, 3) := by decide +kernel
theorem dX3_and_2_174 : decode cX3_and_2 174 = .ok (.aload_n 0, 1) := by decide +kernel
theorem dX3_and_2_175 : decode cX3_and_2 175 = .ok (.getfield 13, 3) := by decide +kernel
theorem dX3_and_2_178 : decode cX3_and_2 178 = .ok (.iload_n 3, 1) := by decide +kernel
theorem dX3_and_2_179 : decode cX3_and_2 179 = .ok (.iaload, 1) := by decide +kernel
theorem dX3_and_2_180 : decode cX3_and_2 180 = .ok (.goto 7, 3) := by decide +kernel
theorem dX3_and_2_183 : decode cX3_and_2 183 = .ok (.aload_n 0, 1) := by decide +kernel
theorem dX3_and_2_184 : decode cX3_and_2 184 = .ok (.invokevirtual 81, 3) := by decide +kernel
theorem dX3_and_2_187 : decode cX3_and_2 187 = .ok (.istore 5, 2) := by decide +kernel
theorem dX3_and_2_189 : decode cX3_and_2 189 = .ok (.aload_n 0, 1) := by decide +kernel
theorem dX3_and_2_190 : decode cX3_and_2 190 = .ok (.iload_n 1, 1) := by decide +kernel
theorem dX3_and_2_191 : decode cX3_and_2 191 = .ok (.putfield 17, 3) := by decide +kernel
theorem dX3_and_2_194 : decode cX3_and_2 194 = .ok (.iload 5, 2) := by decide +kernel
theorem dX3_and_2_196 : decode cX3_and_2 196 = .ok (.ireturn, 1) := by decide +kernel
theorem dX3_and_2_197 : decode cX3_and_2 197 = .ok (.aload_n 0, 1) := by decide +kernel
theorem dX3_and_2_198 : decode cX3_and_2 198 = .ok (.bipush 16, 2) := by decide +kernel
theorem dX3_and_2_200 : decode cX3_and_2 200 = .ok (.iload_n 3, 1) := by decide +kernel
theorem dX3_and_2_201 : decode cX3_and_2 201 = .ok (.invokevirtual 75, 3) := by decide +kernel
theorem dX3_and_2_204 : decode cX3_and_2 204 = .ok (.istore 5, 2) := by decide +kernel
theorem dX3_and_2_206 : decode cX3_and_2 206 = .ok (.aload_n 0, 1) := by decide +kernel
theorem dX3_and_2_207 : decode cX3_and_2 207 = .ok (.iload_n 1, 1) := by decide +kernel
theorem dX3_and_2_208 : decode cX3_and_2 208 = .ok (.putfield 17, 3) := by decide +kernel
theorem dX3_and_2_211 : decode cX3_and_2 211 = .ok (.iload 5, 2) := by decide +kernel
theorem dX3_and_2_213 : decode cX3_and_2 213 = .ok (.ireturn, 1) := by decide +kernel
abbrev cX3_implies : ByteArray := prog_4_method_16_code
def yX3_implies : MethodName := ⟨RX3, "implies", "(II)I"⟩
theorem dX3_implies_0 : decode cX3_implies 0 = .ok (.aload_n 0, 1) := by decide +kernel
theorem dX3_implies_1 : decode cX3_implies 1 = .ok (.aload_n 0, 1) := by decide +kernel
theorem dX3_implies_2 : decode cX3_implies 2 = .ok (.iload_n 1, 1) := by decide +kernel
theorem dX3_implies_3 : decode cX3_implies 3 = .ok (.aload_n 0, 1) := by decide +kernel
theorem dX3_implies_4 : decode cX3_implies 4 = .ok (.iload_n 2, 1) := by decide +kernel
theorem dX3_implies_5 : decode cX3_implies 5 = .ok (.invokevirtual 88, 3) := by decide +kernel
theorem dX3_implies_8 : decode cX3_implies 8 = .ok (.invokevirtual 91, 3) := by decide +kernel
theorem dX3_implies_11 : decode cX3_implies 11 = .ok (.invokevirtual 88, 3) := by decide +kernel
theorem dX3_implies_14 : decode cX3_implies 14 = .ok (.ireturn, 1) := by decide +kernel
abbrev cX3_bind : ByteArray := prog_4_method_106_code
def yX3_bind : MethodName := ⟨RX3, "bind", "(ZII)I"⟩
theorem dX3_bind_0 : decode cX3_bind 0 = .ok (.aload_n 0, 1) := by decide +kernel
theorem dX3_bind_1 : decode cX3_bind 1 = .ok (.iconst 0, 1) := by decide +kernel
theorem dX3_bind_2 : decode cX3_bind 2 = .ok (.putfield 1, 3) := by decide +kernel
theorem dX3_bind_5 : decode cX3_bind 5 = .ok (.aload_n 0, 1) := by decide +kernel
theorem dX3_bind_6 : decode cX3_bind 6 = .ok (.iload_n 2, 1) := by decide +kernel
theorem dX3_bind_7 : decode cX3_bind 7 = .ok (.iconst 0, 1) := by decide +kernel
theorem dX3_bind_8 : decode cX3_bind 8 = .ok (.invokevirtual 527, 3) := by decide +kernel
theorem dX3_bind_11 : decode cX3_bind 11 = .ok (.istore 4, 2) := by decide +kernel
theorem dX3_bind_13 : decode cX3_bind 13 = .ok (.aload_n 0, 1) := by decide +kernel
theorem dX3_bind_14 : decode cX3_bind 14 = .ok (.iload_n 3, 1) := by decide +kernel
theorem dX3_bind_15 : decode cX3_bind 15 = .ok (.iconst 2, 1) := by decide +kernel
theorem dX3_bind_16 : decode cX3_bind 16 = .ok (.invokevirtual 527, 3) := by decide +kernel
theorem dX3_bind_19 : decode cX3_bind 19 = .ok (.istore 5, 2) := by decide +kernel
theorem dX3_bind_21 : decode cX3_bind 21 = .ok (.iload 4, 2) := by decide +kernel
theorem dX3_bind_23 : decode cX3_bind 23 = .ok (.ifCond .eq 30, 3) := by decide +kernel
theorem dX3_bind_26 : decode cX3_bind 26 = .ok (.aload_n 0, 1) := by decide +kernel
theorem dX3_bind_27 : decode cX3_bind 27 = .ok (.getfield 33, 3) := by decide +kernel
theorem dX3_bind_30 : decode cX3_bind 30 = .ok (.iload 4, 2) := by decide +kernel
theorem dX3_bind_32 : decode cX3_bind 32 = .ok (.iaload, 1) := by decide +kernel
theorem dX3_bind_33 : decode cX3_bind 33 = .ok (.iconst 2, 1) := by decide +kernel
theorem dX3_bind_34 : decode cX3_bind 34 = .ok (.if_icmp .ne 19, 3) := by decide +kernel
theorem dX3_bind_37 : decode cX3_bind 37 = .ok (.aload_n 0, 1) := by decide +kernel
theorem dX3_bind_38 : decode cX3_bind 38 = .ok (.iload 4, 2) := by decide +kernel
theorem dX3_bind_40 : decode cX3_bind 40 = .ok (.iconst 0, 1) := by decide +kernel
theorem dX3_bind_41 : decode cX3_bind 41 = .ok (.invokevirtual 65, 3) := by decide +kernel
theorem dX3_bind_44 : decode cX3_bind 44 = .ok (.iconst 2, 1) := by decide +kernel
theorem dX3_bind_45 : decode cX3_bind 45 = .ok (.if_icmp .lt 8, 3) := by decide +kernel
theorem dX3_bind_48 : decode cX3_bind 48 = .ok (.iload 5, 2) := by decide +kernel
theorem dX3_bind_50 : decode cX3_bind 50 = .ok (.ifCond .ne 9, 3) := by decide +kernel
theorem dX3_bind_53 : decode cX3_bind 53 = .ok (.aload_n 0, 1) := by decide +kernel
theorem dX3_bind_54 : decode cX3_bind 54 = .ok (.iconst 1, 1) := by decide +kernel
theorem dX3_bind_55 : decode cX3_bind 55 = .ok (.invokevirtual 533, 3) := by decide +kernel
theorem dX3_bind_58 : decode cX3_bind 58 = .ok (.ireturn, 1) := by decide +kernel
theorem dX3_bind_59 : decode cX3_bind 59 = .ok (.aload_n 0, 1) := by decide +kernel
theorem dX3_bind_60 : decode cX3_bind 60 = .ok (.iload 4, 2) := by decide +kernel
theorem dX3_bind_62 : decode cX3_bind 62 = .ok (.iconst 0, 1) := by decide +kernel
theorem dX3_bind_63 : decode cX3_bind 63 = .ok (.invokevirtual 65, 3) := by decide +kernel
theorem dX3_bind_66 : decode cX3_bind 66 = .ok (.istore 6, 2) := by decide +kernel
theorem dX3_bind_68 : decode cX3_bind 68 = .ok (.aload_n 0, 1) := by decide +kernel
theorem dX3_bind_69 : decode cX3_bind 69 = .ok (.aload_n 0, 1) := by decide +kernel
theorem dX3_bind_70 : decode cX3_bind 70 = .ok (.getfield 145, 3) := by decide +kernel
theorem dX3_bind_73 : decode cX3_bind 73 = .ok (.iload 6, 2) := by decide +kernel
theorem dX3_bind_75 : decode cX3_bind 75 = .ok (.iaload, 1) := by decide +kernel
theorem dX3_bind_76 : decode cX3_bind 76 = .ok (.aload_n 0, 1) := by decide +kernel
theorem dX3_bind_77 : decode cX3_bind 77 = .ok (.iload_n 1, 1) := by decide +kernel
theorem dX3_bind_78 : decode cX3_bind 78 = .ok (.ifCond .eq 12, 3) := by decide +kernel
theorem dX3_bind_81 : decode cX3_bind 81 = .ok (.aload_n 0, 1) := by decide +kernel
theorem dX3_bind_82 : decode cX3_bind 82 = .ok (.iload 5, 2) := by decide +kernel
theorem dX3_bind_84 : decode cX3_bind 84 = .ok (.invokevirtual 88, 3) := by decide +kernel
theorem dX3_bind_87 : decode cX3_bind 87 = .ok (.goto 5, 3) := by decide +kernel
theorem dX3_bind_90 : decode cX3_bind 90 = .ok (.iload 5, 2) := by decide +kernel
theorem dX3_bind_92 : decode cX3_bind 92 = .ok (.iload 6, 2) := by decide +kernel
theorem dX3_bind_94 : decode cX3_bind 94 = .ok (.iconst 0, 1) := by decide +kernel
theorem dX3_bind_95 : decode cX3_bind 95 = .ok (.invokevirtual 121, 3) := by decide +kernel
theorem dX3_bind_98 : decode cX3_bind 98 = .ok (.invokevirtual 100, 3) := by decide +kernel
theorem dX3_bind_101 : decode cX3_bind 101 = .ok (.istore 7, 2) := by decide +kernel
theorem dX3_bind_103 : decode cX3_bind 103 = .ok (.aload_n 0, 1) := by decide +kernel
theorem dX3_bind_104 : decode cX3_bind 104 = .ok (.iload_n 1, 1) := by decide +kernel
theorem dX3_bind_105 : decode cX3_bind 105 = .ok (.ifCond .eq 12, 3) := by decide +kernel
theorem dX3_bind_108 : decode cX3_bind 108 = .ok (.aload_n 0, 1) := by decide +kernel
theorem dX3_bind_109 : decode cX3_bind 109 = .ok (.iload 7, 2) := by decide +kernel
theorem dX3_bind_111 : decode cX3_bind 111 = .ok (.invokevirtual 88, 3) := by decide +kernel
theorem dX3_bind_114 : decode cX3_bind 114 = .ok (.goto 5, 3) := by decide +kernel
theorem dX3_bind_117 : decode cX3_bind 117 = .ok (.iload 7, 2) := by decide +kernel
theorem dX3_bind_119 : decode cX3_bind 119 = .ok (.invokevirtual 551, 3) := by decide +kernel
theorem dX3_bind_122 : decode cX3_bind 122 = .ok (.ireturn, 1) := by decide +kernel
abbrev cX3_bind_2 : ByteArray := prog_4_method_26_code
def yX3_bind_2 : MethodName := ⟨RX3, "bind", "(III)I"⟩
theorem dX3_bind_2_0 : decode cX3_bind_2 0 = .ok (.aload_n 0, 1) := by decide +kernel
theorem dX3_bind_2_1 : decode cX3_bind_2 1 = .ok (.getfield 33, 3) := by decide +kernel
theorem dX3_bind_2_4 : decode cX3_bind_2 4 = .ok (.iload_n 1, 1) := by decide +kernel
theorem dX3_bind_2_5 : decode cX3_bind_2 5 = .ok (.iaload, 1) := by decide +kernel
theorem dX3_bind_2_6 : decode cX3_bind_2 6 = .ok (.istore 4, 2) := by decide +kernel
theorem dX3_bind_2_8 : decode cX3_bind_2 8 = .ok (.iload 4, 2) := by decide +kernel
theorem dX3_bind_2_10 : decode cX3_bind_2 10 = .ok (.iconst 2, 1) := by decide +kernel
theorem dX3_bind_2_11 : decode cX3_bind_2 11 = .ok (.if_icmp .ne 23, 3) := by decide +kernel
theorem dX3_bind_2_14 : decode cX3_bind_2 14 = .ok (.aload_n 0, 1) := by decide +kernel
theorem dX3_bind_2_15 : decode cX3_bind_2 15 = .ok (.iload_n 1, 1) := by decide +kernel
theorem dX3_bind_2_16 : decode cX3_bind_2 16 = .ok (.iconst 0, 1) := by decide +kernel
theorem dX3_bind_2_17 : decode cX3_bind_2 17 = .ok (.invokevirtual 65, 3) := by decide +kernel
theorem dX3_bind_2_20 : decode cX3_bind_2 20 = .ok (.iload_n 2, 1) := by decide +kernel
theorem dX3_bind_2_21 : decode cX3_bind_2 21 = .ok (.if_icmp .ne 11, 3) := by decide +kernel
theorem dX3_bind_2_24 : decode cX3_bind_2 24 = .ok (.aload_n 0, 1) := by decide +kernel
theorem dX3_bind_2_25 : decode cX3_bind_2 25 = .ok (.iload_n 3, 1) := by decide +kernel
theorem dX3_bind_2_26 : decode cX3_bind_2 26 = .ok (.invokevirtual 106, 3) := by decide +kernel
theorem dX3_bind_2_29 : decode cX3_bind_2 29 = .ok (.goto 4, 3) := by decide +kernel
theorem dX3_bind_2_32 : decode cX3_bind_2 32 = .ok (.iload_n 1, 1) := by decide +kernel
theorem dX3_bind_2_33 : decode cX3_bind_2 33 = .ok (.ireturn, 1) := by decide +kernel
theorem dX3_bind_2_34 : decode cX3_bind_2 34 = .ok (.iload 4, 2) := by decide +kernel
theorem dX3_bind_2_36 : decode cX3_bind_2 36 = .ok (.iconst 3, 1) := by decide +kernel
theorem dX3_bind_2_37 : decode cX3_bind_2 37 = .ok (.if_icmp .eq 10, 3) := by decide +kernel
theorem dX3_bind_2_40 : decode cX3_bind_2 40 = .ok (.iload 4, 2) := by decide +kernel
theorem dX3_bind_2_42 : decode cX3_bind_2 42 = .ok (.bipush 8, 2) := by decide +kernel
theorem dX3_bind_2_44 : decode cX3_bind_2 44 = .ok (.if_icmp .ne 5, 3) := by decide +kernel
theorem dX3_bind_2_47 : decode cX3_bind_2 47 = .ok (.iload_n 1, 1) := by decide +kernel
theorem dX3_bind_2_48 : decode cX3_bind_2 48 = .ok (.ireturn, 1) := by decide +kernel
theorem dX3_bind_2_49 : decode cX3_bind_2 49 = .ok (.iload 4, 2) := by decide +kernel
theorem dX3_bind_2_51 : decode cX3_bind_2 51 = .ok (.iconst 1, 1) := by decide +kernel
theorem dX3_bind_2_52 : decode cX3_bind_2 52 = .ok (.if_icmp .ne 30, 3) := by decide +kernel
theorem dX3_bind_2_55 : decode cX3_bind_2 55 = .ok (.aload_n 0, 1) := by decide +kernel
theorem dX3_bind_2_56 : decode cX3_bind_2 56 = .ok (.iload_n 1, 1) := by decide +kernel
theorem dX3_bind_2_57 : decode cX3_bind_2 57 = .ok (.iconst 0, 1) := by decide +kernel
theorem dX3_bind_2_58 : decode cX3_bind_2 58 = .ok (.invokevirtual 65, 3) := by decide +kernel
theorem dX3_bind_2_61 : decode cX3_bind_2 61 = .ok (.iload_n 3, 1) := by decide +kernel
theorem dX3_bind_2_62 : decode cX3_bind_2 62 = .ok (.if_icmp .lt 18, 3) := by decide +kernel
theorem dX3_bind_2_65 : decode cX3_bind_2 65 = .ok (.aload_n 0, 1) := by decide +kernel
theorem dX3_bind_2_66 : decode cX3_bind_2 66 = .ok (.aload_n 0, 1) := by decide +kernel
theorem dX3_bind_2_67 : decode cX3_bind_2 67 = .ok (.iload_n 1, 1) := by decide +kernel
theorem dX3_bind_2_68 : decode cX3_bind_2 68 = .ok (.iconst 0, 1) := by decide +kernel
theorem dX3_bind_2_69 : decode cX3_bind_2 69 = .ok (.invokevirtual 65, 3) := by decide +kernel
theorem dX3_bind_2_72 : decode cX3_bind_2 72 = .ok (.iconst 1, 1) := by decide +kernel
theorem dX3_bind_2_73 : decode cX3_bind_2 73 = .ok (.iadd, 1) := by decide +kernel
theorem dX3_bind_2_74 : decode cX3_bind_2 74 = .ok (.invokevirtual 106, 3) := by decide +kernel
theorem dX3_bind_2_77 : decode cX3_bind_2 77 = .ok (.goto 4, 3) := by decide +kernel
theorem dX3_bind_2_80 : decode cX3_bind_2 80 = .ok (.iload_n 1, 1) := by decide +kernel
theorem dX3_bind_2_81 : decode cX3_bind_2 81 = .ok (.ireturn, 1) := by decide +kernel
theorem dX3_bind_2_82 : decode cX3_bind_2 82 = .ok (.aload_n 0, 1) := by decide +kernel
theorem dX3_bind_2_83 : decode cX3_bind_2 83 = .ok (.getfield 17, 3) := by decide +kernel
theorem dX3_bind_2_86 : decode cX3_bind_2 86 = .ok (.istore 5, 2) := by decide +kernel
theorem dX3_bind_2_88 : decode cX3_bind_2 88 = .ok (.iconst 0, 1) := by decide +kernel
theorem dX3_bind_2_89 : decode cX3_bind_2 89 = .ok (.istore 6, 2) := by decide +kernel
theorem dX3_bind_2_91 : decode cX3_bind_2 91 = .ok (.iload 6, 2) := by decide +kernel
theorem dX3_bind_2_93 : decode cX3_bind_2 93 = .ok (.aload_n 0, 1) := by decide +kernel
theorem dX3_bind_2_94 : decode cX3_bind_2 94 = .ok (.getfield 36, 3) := by decide +kernel
theorem dX3_bind_2_97 : decode cX3_bind_2 97 = .ok (.iload_n 1, 1) := by decide +kernel
theorem dX3_bind_2_98 : decode cX3_bind_2 98 = .ok (.iaload, 1) := by decide +kernel
theorem dX3_bind_2_99 : decode cX3_bind_2 99 = .ok (.if_icmp .ge 65, 3) := by decide +kernel
theorem dX3_bind_2_102 : decode cX3_bind_2 102 = .ok (.aload_n 0, 1) := by decide +kernel
theorem dX3_bind_2_103 : decode cX3_bind_2 103 = .ok (.aload_n 0, 1) := by decide +kernel
theorem dX3_bind_2_104 : decode cX3_bind_2 104 = .ok (.iload_n 1, 1) := by decide +kernel
theorem dX3_bind_2_105 : decode cX3_bind_2 105 = .ok (.iload 6, 2) := by decide +kernel
theorem dX3_bind_2_107 : decode cX3_bind_2 107 = .ok (.invokevirtual 109, 3) := by decide +kernel
theorem dX3_bind_2_110 : decode cX3_bind_2 110 = .ok (.ifCond .eq 38, 3) := by decide +kernel
theorem dX3_bind_2_113 : decode cX3_bind_2 113 = .ok (.aload_n 0, 1) := by decide +kernel
theorem dX3_bind_2_114 : decode cX3_bind_2 114 = .ok (.aload_n 0, 1) := by decide +kernel
theorem dX3_bind_2_115 : decode cX3_bind_2 115 = .ok (.iload_n 1, 1) := by decide +kernel
theorem dX3_bind_2_116 : decode cX3_bind_2 116 = .ok (.iload 6, 2) := by decide +kernel
theorem dX3_bind_2_118 : decode cX3_bind_2 118 = .ok (.invokevirtual 65, 3) := by decide +kernel
theorem dX3_bind_2_121 : decode cX3_bind_2 121 = .ok (.iload_n 2, 1) := by decide +kernel
theorem dX3_bind_2_122 : decode cX3_bind_2 122 = .ok (.iload 4, 2) := by decide +kernel
theorem dX3_bind_2_124 : decode cX3_bind_2 124 = .ok (.bipush 17, 2) := by decide +kernel
theorem dX3_bind_2_126 : decode cX3_bind_2 126 = .ok (.if_icmp .ne 15, 3) := by decide +kernel
theorem dX3_bind_2_129 : decode cX3_bind_2 129 = .ok (.iload 6, 2) := by decide +kernel
theorem dX3_bind_2_131 : decode cX3_bind_2 131 = .ok (.iconst 1, 1) := by decide +kernel
theorem dX3_bind_2_132 : decode cX3_bind_2 132 = .ok (.if_icmp .ne 9, 3) := by decide +kernel
theorem dX3_bind_2_135 : decode cX3_bind_2 135 = .ok (.iload_n 3, 1) := by decide +kernel
theorem dX3_bind_2_136 : decode cX3_bind_2 136 = .ok (.iconst 1, 1) := by decide +kernel
theorem dX3_bind_2_137 : decode cX3_bind_2 137 = .ok (.iadd, 1) := by decide +kernel
theorem dX3_bind_2_138 : decode cX3_bind_2 138 = .ok (.goto 4, 3) := by decide +kernel
theorem dX3_bind_2_141 : decode cX3_bind_2 141 = .ok (.iload_n 3, 1) := by decide +kernel
theorem dX3_bind_2_142 : decode cX3_bind_2 142 = .ok (.invokevirtual 121, 3) := by decide +kernel
theorem dX3_bind_2_145 : decode cX3_bind_2 145 = .ok (.goto 10, 3) := by decide +kernel
theorem dX3_bind_2_148 : decode cX3_bind_2 148 = .ok (.aload_n 0, 1) := by decide +kernel
theorem dX3_bind_2_149 : decode cX3_bind_2 149 = .ok (.iload_n 1, 1) := by decide +kernel
theorem dX3_bind_2_150 : decode cX3_bind_2 150 = .ok (.iload 6, 2) := by decide +kernel
theorem dX3_bind_2_152 : decode cX3_bind_2 152 = .ok (.invokevirtual 65, 3) := by decide +kernel
theorem dX3_bind_2_155 : decode cX3_bind_2 155 = .ok (.invokevirtual 72, 3) := by decide +kernel
theorem dX3_bind_2_158 : decode cX3_bind_2 158 = .ok (.iinc 6 1, 3) := by decide +kernel
theorem dX3_bind_2_161 : decode cX3_bind_2 161 = .ok (.goto (-70), 3) := by decide +kernel
theorem dX3_bind_2_164 : decode cX3_bind_2 164 = .ok (.aload_n 0, 1) := by decide +kernel
theorem dX3_bind_2_165 : decode cX3_bind_2 165 = .ok (.iload_n 1, 1) := by decide +kernel
theorem dX3_bind_2_166 : decode cX3_bind_2 166 = .ok (.iload 5, 2) := by decide +kernel
theorem dX3_bind_2_168 : decode cX3_bind_2 168 = .ok (.invokevirtual 116, 3) := by decide +kernel
theorem dX3_bind_2_171 : decode cX3_bind_2 171 = .ok (.ireturn, 1) := by decide +kernel
abbrev cX3_bound : ByteArray := prog_4_method_10_code
def yX3_bound : MethodName := ⟨RX3, "bound", "(I)I"⟩
theorem dX3_bound_0 : decode cX3_bound 0 = .ok (.aload_n 0, 1) := by decide +kernel
theorem dX3_bound_1 : decode cX3_bound 1 = .ok (.iconst 1, 1) := by decide +kernel
theorem dX3_bound_2 : decode cX3_bound 2 = .ok (.iload_n 1, 1) := by decide +kernel
theorem dX3_bound_3 : decode cX3_bound 3 = .ok (.invokevirtual 78, 3) := by decide +kernel
theorem dX3_bound_6 : decode cX3_bound 6 = .ok (.ireturn, 1) := by decide +kernel
abbrev cX3_again : ByteArray := prog_4_method_21_code
def yX3_again : MethodName := ⟨RX3, "again", "(II)I"⟩
theorem dX3_again_0 : decode cX3_again 0 = .ok (.aload_n 0, 1) := by decide +kernel
theorem dX3_again_1 : decode cX3_again 1 = .ok (.getfield 33, 3) := by decide +kernel
theorem dX3_again_4 : decode cX3_again 4 = .ok (.iload_n 1, 1) := by decide +kernel
theorem dX3_again_5 : decode cX3_again 5 = .ok (.iaload, 1) := by decide +kernel
theorem dX3_again_6 : decode cX3_again 6 = .ok (.lookupswitch 104 #[(7, 96), (15, 42), (16, 60), (17, 66)], 42) := by decide +kernel
theorem dX3_again_48 : decode cX3_again 48 = .ok (.aload_n 0, 1) := by decide +kernel
theorem dX3_again_49 : decode cX3_again 49 = .ok (.getfield 13, 3) := by decide +kernel
theorem dX3_again_52 : decode cX3_again 52 = .ok (.iload_n 2, 1) := by decide +kernel
theorem dX3_again_53 : decode cX3_again 53 = .ok (.iaload, 1) := by decide +kernel
theorem dX3_again_54 : decode cX3_again 54 = .ok (.istore_n 3, 1) := by decide +kernel
theorem dX3_again_55 : decode cX3_again 55 = .ok (.aload_n 0, 1) := by decide +kernel
theorem dX3_again_56 : decode cX3_again 56 = .ok (.iload_n 2, 1) := by decide +kernel
theorem dX3_again_57 : decode cX3_again 57 = .ok (.putfield 17, 3) := by decide +kernel
theorem dX3_again_60 : decode cX3_again 60 = .ok (.aload_n 0, 1) := by decide +kernel
theorem dX3_again_61 : decode cX3_again 61 = .ok (.iload_n 3, 1) := by decide +kernel
theorem dX3_again_62 : decode cX3_again 62 = .ok (.invokevirtual 88, 3) := by decide +kernel
theorem dX3_again_65 : decode cX3_again 65 = .ok (.ireturn, 1) := by decide +kernel
theorem dX3_again_66 : decode cX3_again 66 = .ok (.aload_n 0, 1) := by decide +kernel
theorem dX3_again_67 : decode cX3_again 67 = .ok (.iload_n 2, 1) := by decide +kernel
theorem dX3_again_68 : decode cX3_again 68 = .ok (.invokevirtual 85, 3) := by decide +kernel
theorem dX3_again_71 : decode cX3_again 71 = .ok (.ireturn, 1) := by decide +kernel
theorem dX3_again_72 : decode cX3_again 72 = .ok (.aload_n 0, 1) := by decide +kernel
theorem dX3_again_73 : decode cX3_again 73 = .ok (.getfield 13, 3) := by decide +kernel
theorem dX3_again_76 : decode cX3_again 76 = .ok (.iload_n 2, 1) := by decide +kernel
theorem dX3_again_77 : decode cX3_again 77 = .ok (.iaload, 1) := by decide +kernel
theorem dX3_again_78 : decode cX3_again 78 = .ok (.istore_n 3, 1) := by decide +kernel
theorem dX3_again_79 : decode cX3_again 79 = .ok (.aload_n 0, 1) := by decide +kernel
theorem dX3_again_80 : decode cX3_again 80 = .ok (.getfield 13, 3) := by decide +kernel
theorem dX3_again_83 : decode cX3_again 83 = .ok (.iload_n 2, 1) := by decide +kernel
theorem dX3_again_84 : decode cX3_again 84 = .ok (.iconst 1, 1) := by decide +kernel
theorem dX3_again_85 : decode cX3_again 85 = .ok (.iadd, 1) := by decide +kernel
theorem dX3_again_86 : decode cX3_again 86 = .ok (.iaload, 1) := by decide +kernel
theorem dX3_again_87 : decode cX3_again 87 = .ok (.istore 4, 2) := by decide +kernel
theorem dX3_again_89 : decode cX3_again 89 = .ok (.aload_n 0, 1) := by decide +kernel
theorem dX3_again_90 : decode cX3_again 90 = .ok (.iload_n 2, 1) := by decide +kernel
theorem dX3_again_91 : decode cX3_again 91 = .ok (.putfield 17, 3) := by decide +kernel
theorem dX3_again_94 : decode cX3_again 94 = .ok (.aload_n 0, 1) := by decide +kernel
theorem dX3_again_95 : decode cX3_again 95 = .ok (.iload_n 3, 1) := by decide +kernel
theorem dX3_again_96 : decode cX3_again 96 = .ok (.iload 4, 2) := by decide +kernel
theorem dX3_again_98 : decode cX3_again 98 = .ok (.invokevirtual 100, 3) := by decide +kernel
theorem dX3_again_101 : decode cX3_again 101 = .ok (.ireturn, 1) := by decide +kernel
theorem dX3_again_102 : decode cX3_again 102 = .ok (.aload_n 0, 1) := by decide +kernel
theorem dX3_again_103 : decode cX3_again 103 = .ok (.bipush 7, 2) := by decide +kernel
theorem dX3_again_105 : decode cX3_again 105 = .ok (.iload_n 2, 1) := by decide +kernel
theorem dX3_again_106 : decode cX3_again 106 = .ok (.invokevirtual 75, 3) := by decide +kernel
theorem dX3_again_109 : decode cX3_again 109 = .ok (.ireturn, 1) := by decide +kernel
theorem dX3_again_110 : decode cX3_again 110 = .ok (.aload_n 0, 1) := by decide +kernel
theorem dX3_again_111 : decode cX3_again 111 = .ok (.aload_n 0, 1) := by decide +kernel
theorem dX3_again_112 : decode cX3_again 112 = .ok (.getfield 33, 3) := by decide +kernel
theorem dX3_again_115 : decode cX3_again 115 = .ok (.iload_n 1, 1) := by decide +kernel
theorem dX3_again_116 : decode cX3_again 116 = .ok (.iaload, 1) := by decide +kernel
theorem dX3_again_117 : decode cX3_again 117 = .ok (.iload_n 2, 1) := by decide +kernel
theorem dX3_again_118 : decode cX3_again 118 = .ok (.invokevirtual 75, 3) := by decide +kernel
theorem dX3_again_121 : decode cX3_again 121 = .ok (.ireturn, 1) := by decide +kernel
abbrev cX3_all : ByteArray := prog_4_method_17_code
def yX3_all : MethodName := ⟨RX3, "all", "(II)I"⟩
theorem dX3_all_0 : decode cX3_all 0 = .ok (.aload_n 0, 1) := by decide +kernel
theorem dX3_all_1 : decode cX3_all 1 = .ok (.getfield 33, 3) := by decide +kernel
theorem dX3_all_4 : decode cX3_all 4 = .ok (.iload_n 2, 1) := by decide +kernel
theorem dX3_all_5 : decode cX3_all 5 = .ok (.iaload, 1) := by decide +kernel
theorem dX3_all_6 : decode cX3_all 6 = .ok (.bipush 8, 2) := by decide +kernel
theorem dX3_all_8 : decode cX3_all 8 = .ok (.if_icmp .ne 7, 3) := by decide +kernel
theorem dX3_all_11 : decode cX3_all 11 = .ok (.iload_n 2, 1) := by decide +kernel
theorem dX3_all_12 : decode cX3_all 12 = .ok (.goto 11, 3) := by decide +kernel
theorem dX3_all_15 : decode cX3_all 15 = .ok (.aload_n 0, 1) := by decide +kernel
theorem dX3_all_16 : decode cX3_all 16 = .ok (.bipush 17, 2) := by decide +kernel
theorem dX3_all_18 : decode cX3_all 18 = .ok (.iload_n 1, 1) := by decide +kernel
theorem dX3_all_19 : decode cX3_all 19 = .ok (.iload_n 2, 1) := by decide +kernel
theorem dX3_all_20 : decode cX3_all 20 = .ok (.invokevirtual 93, 3) := by decide +kernel
theorem dX3_all_23 : decode cX3_all 23 = .ok (.ireturn, 1) := by decide +kernel
abbrev cX3_cluster : ByteArray := prog_4_method_108_code
def yX3_cluster : MethodName := ⟨RX3, "cluster", "(III)I"⟩
theorem dX3_cluster_0 : decode cX3_cluster 0 = .ok (.aload_n 0, 1) := by decide +kernel
theorem dX3_cluster_1 : decode cX3_cluster 1 = .ok (.iconst 0, 1) := by decide +kernel
theorem dX3_cluster_2 : decode cX3_cluster 2 = .ok (.putfield 1, 3) := by decide +kernel
theorem dX3_cluster_5 : decode cX3_cluster 5 = .ok (.aload_n 0, 1) := by decide +kernel
theorem dX3_cluster_6 : decode cX3_cluster 6 = .ok (.iload_n 1, 1) := by decide +kernel
theorem dX3_cluster_7 : decode cX3_cluster 7 = .ok (.iconst 1, 1) := by decide +kernel
theorem dX3_cluster_8 : decode cX3_cluster 8 = .ok (.invokevirtual 527, 3) := by decide +kernel
theorem dX3_cluster_11 : decode cX3_cluster 11 = .ok (.istore 4, 2) := by decide +kernel
theorem dX3_cluster_13 : decode cX3_cluster 13 = .ok (.aload_n 0, 1) := by decide +kernel
theorem dX3_cluster_14 : decode cX3_cluster 14 = .ok (.iload_n 2, 1) := by decide +kernel
theorem dX3_cluster_15 : decode cX3_cluster 15 = .ok (.iconst 1, 1) := by decide +kernel
theorem dX3_cluster_16 : decode cX3_cluster 16 = .ok (.invokevirtual 554, 3) := by decide +kernel
theorem dX3_cluster_19 : decode cX3_cluster 19 = .ok (.istore 5, 2) := by decide +kernel
theorem dX3_cluster_21 : decode cX3_cluster 21 = .ok (.iload 4, 2) := by decide +kernel
theorem dX3_cluster_23 : decode cX3_cluster 23 = .ok (.ifCond .eq 11, 3) := by decide +kernel
theorem dX3_cluster_26 : decode cX3_cluster 26 = .ok (.aload_n 0, 1) := by decide +kernel
theorem dX3_cluster_27 : decode cX3_cluster 27 = .ok (.iload_n 3, 1) := by decide +kernel
theorem dX3_cluster_28 : decode cX3_cluster 28 = .ok (.invokevirtual 548, 3) := by decide +kernel
theorem dX3_cluster_31 : decode cX3_cluster 31 = .ok (.ifCond .ne 9, 3) := by decide +kernel
theorem dX3_cluster_34 : decode cX3_cluster 34 = .ok (.aload_n 0, 1) := by decide +kernel
theorem dX3_cluster_35 : decode cX3_cluster 35 = .ok (.iconst 1, 1) := by decide +kernel
theorem dX3_cluster_36 : decode cX3_cluster 36 = .ok (.invokevirtual 533, 3) := by decide +kernel
theorem dX3_cluster_39 : decode cX3_cluster 39 = .ok (.ireturn, 1) := by decide +kernel
theorem dX3_cluster_40 : decode cX3_cluster 40 = .ok (.aload_n 0, 1) := by decide +kernel
theorem dX3_cluster_41 : decode cX3_cluster 41 = .ok (.iload 4, 2) := by decide +kernel
theorem dX3_cluster_43 : decode cX3_cluster 43 = .ok (.iconst 1, 1) := by decide +kernel
theorem dX3_cluster_44 : decode cX3_cluster 44 = .ok (.invokevirtual 65, 3) := by decide +kernel
theorem dX3_cluster_47 : decode cX3_cluster 47 = .ok (.istore 6, 2) := by decide +kernel
theorem dX3_cluster_49 : decode cX3_cluster 49 = .ok (.iload 6, 2) := by decide +kernel
theorem dX3_cluster_51 : decode cX3_cluster 51 = .ok (.ifCond .ne 11, 3) := by decide +kernel
theorem dX3_cluster_54 : decode cX3_cluster 54 = .ok (.iload_n 2, 1) := by decide +kernel
theorem dX3_cluster_55 : decode cX3_cluster 55 = .ok (.iconst (-1), 1) := by decide +kernel
theorem dX3_cluster_56 : decode cX3_cluster 56 = .ok (.if_icmp .eq 38, 3) := by decide +kernel
theorem dX3_cluster_59 : decode cX3_cluster 59 = .ok (.goto 29, 3) := by decide +kernel
theorem dX3_cluster_62 : decode cX3_cluster 62 = .ok (.iload 5, 2) := by decide +kernel
theorem dX3_cluster_64 : decode cX3_cluster 64 = .ok (.ifCond .eq 24, 3) := by decide +kernel
theorem dX3_cluster_67 : decode cX3_cluster 67 = .ok (.aload_n 0, 1) := by decide +kernel
theorem dX3_cluster_68 : decode cX3_cluster 68 = .ok (.getfield 33, 3) := by decide +kernel
theorem dX3_cluster_71 : decode cX3_cluster 71 = .ok (.iload 6, 2) := by decide +kernel
theorem dX3_cluster_73 : decode cX3_cluster 73 = .ok (.iaload, 1) := by decide +kernel
theorem dX3_cluster_74 : decode cX3_cluster 74 = .ok (.iconst 2, 1) := by decide +kernel
theorem dX3_cluster_75 : decode cX3_cluster 75 = .ok (.if_icmp .ne 13, 3) := by decide +kernel
theorem dX3_cluster_78 : decode cX3_cluster 78 = .ok (.aload_n 0, 1) := by decide +kernel
theorem dX3_cluster_79 : decode cX3_cluster 79 = .ok (.iload 6, 2) := by decide +kernel
theorem dX3_cluster_81 : decode cX3_cluster 81 = .ok (.iconst 0, 1) := by decide +kernel
theorem dX3_cluster_82 : decode cX3_cluster 82 = .ok (.invokevirtual 65, 3) := by decide +kernel
theorem dX3_cluster_85 : decode cX3_cluster 85 = .ok (.ifCond .eq 9, 3) := by decide +kernel
theorem dX3_cluster_88 : decode cX3_cluster 88 = .ok (.aload_n 0, 1) := by decide +kernel
theorem dX3_cluster_89 : decode cX3_cluster 89 = .ok (.iconst 1, 1) := by decide +kernel
theorem dX3_cluster_90 : decode cX3_cluster 90 = .ok (.invokevirtual 533, 3) := by decide +kernel
theorem dX3_cluster_93 : decode cX3_cluster 93 = .ok (.ireturn, 1) := by decide +kernel
theorem dX3_cluster_94 : decode cX3_cluster 94 = .ok (.aload_n 0, 1) := by decide +kernel
theorem dX3_cluster_95 : decode cX3_cluster 95 = .ok (.getfield 196, 3) := by decide +kernel
theorem dX3_cluster_98 : decode cX3_cluster 98 = .ok (.bipush 30, 2) := by decide +kernel
theorem dX3_cluster_100 : decode cX3_cluster 100 = .ok (.if_icmp .ne 9, 3) := by decide +kernel
theorem dX3_cluster_103 : decode cX3_cluster 103 = .ok (.aload_n 0, 1) := by decide +kernel
theorem dX3_cluster_104 : decode cX3_cluster 104 = .ok (.iconst 2, 1) := by decide +kernel
theorem dX3_cluster_105 : decode cX3_cluster 105 = .ok (.invokevirtual 533, 3) := by decide +kernel
theorem dX3_cluster_108 : decode cX3_cluster 108 = .ok (.ireturn, 1) := by decide +kernel
theorem dX3_cluster_109 : decode cX3_cluster 109 = .ok (.aload_n 0, 1) := by decide +kernel
theorem dX3_cluster_110 : decode cX3_cluster 110 = .ok (.getfield 199, 3) := by decide +kernel
theorem dX3_cluster_113 : decode cX3_cluster 113 = .ok (.aload_n 0, 1) := by decide +kernel
theorem dX3_cluster_114 : decode cX3_cluster 114 = .ok (.getfield 196, 3) := by decide +kernel
theorem dX3_cluster_117 : decode cX3_cluster 117 = .ok (.iconst 1, 1) := by decide +kernel
theorem dX3_cluster_118 : decode cX3_cluster 118 = .ok (.iastore, 1) := by decide +kernel
theorem dX3_cluster_119 : decode cX3_cluster 119 = .ok (.aload_n 0, 1) := by decide +kernel
theorem dX3_cluster_120 : decode cX3_cluster 120 = .ok (.getfield 211, 3) := by decide +kernel
theorem dX3_cluster_123 : decode cX3_cluster 123 = .ok (.aload_n 0, 1) := by decide +kernel
theorem dX3_cluster_124 : decode cX3_cluster 124 = .ok (.getfield 196, 3) := by decide +kernel
theorem dX3_cluster_127 : decode cX3_cluster 127 = .ok (.iload 4, 2) := by decide +kernel
theorem dX3_cluster_129 : decode cX3_cluster 129 = .ok (.iastore, 1) := by decide +kernel
theorem dX3_cluster_130 : decode cX3_cluster 130 = .ok (.aload_n 0, 1) := by decide +kernel
theorem dX3_cluster_131 : decode cX3_cluster 131 = .ok (.getfield 217, 3) := by decide +kernel
theorem dX3_cluster_134 : decode cX3_cluster 134 = .ok (.aload_n 0, 1) := by decide +kernel
theorem dX3_cluster_135 : decode cX3_cluster 135 = .ok (.getfield 196, 3) := by decide +kernel
theorem dX3_cluster_138 : decode cX3_cluster 138 = .ok (.iload 5, 2) := by decide +kernel
theorem dX3_cluster_140 : decode cX3_cluster 140 = .ok (.iastore, 1) := by decide +kernel
theorem dX3_cluster_141 : decode cX3_cluster 141 = .ok (.aload_n 0, 1) := by decide +kernel
theorem dX3_cluster_142 : decode cX3_cluster 142 = .ok (.getfield 208, 3) := by decide +kernel
theorem dX3_cluster_145 : decode cX3_cluster 145 = .ok (.aload_n 0, 1) := by decide +kernel
theorem dX3_cluster_146 : decode cX3_cluster 146 = .ok (.getfield 196, 3) := by decide +kernel
theorem dX3_cluster_149 : decode cX3_cluster 149 = .ok (.iload_n 3, 1) := by decide +kernel
theorem dX3_cluster_150 : decode cX3_cluster 150 = .ok (.iastore, 1) := by decide +kernel
theorem dX3_cluster_151 : decode cX3_cluster 151 = .ok (.aload_n 0, 1) := by decide +kernel
theorem dX3_cluster_152 : decode cX3_cluster 152 = .ok (.invokevirtual 563, 3) := by decide +kernel
theorem dX3_cluster_155 : decode cX3_cluster 155 = .ok (.ireturn, 1) := by decide +kernel
abbrev cX3_registered : ByteArray := prog_4_method_107_code
def yX3_registered : MethodName := ⟨RX3, "registered", "()I"⟩
theorem dX3_registered_0 : decode cX3_registered 0 = .ok (.aload_n 0, 1) := by decide +kernel
theorem dX3_registered_1 : decode cX3_registered 1 = .ok (.iconst 0, 1) := by decide +kernel
theorem dX3_registered_2 : decode cX3_registered 2 = .ok (.putfield 1, 3) := by decide +kernel
theorem dX3_registered_5 : decode cX3_registered 5 = .ok (.aload_n 0, 1) := by decide +kernel
theorem dX3_registered_6 : decode cX3_registered 6 = .ok (.invokevirtual 61, 3) := by decide +kernel
theorem dX3_registered_9 : decode cX3_registered 9 = .ok (.aload_n 0, 1) := by decide +kernel
theorem dX3_registered_10 : decode cX3_registered 10 = .ok (.dup, 1) := by decide +kernel
theorem dX3_registered_11 : decode cX3_registered 11 = .ok (.getfield 196, 3) := by decide +kernel
theorem dX3_registered_14 : decode cX3_registered 14 = .ok (.dup_x1, 1) := by decide +kernel
theorem dX3_registered_15 : decode cX3_registered 15 = .ok (.iconst 1, 1) := by decide +kernel
theorem dX3_registered_16 : decode cX3_registered 16 = .ok (.iadd, 1) := by decide +kernel
theorem dX3_registered_17 : decode cX3_registered 17 = .ok (.putfield 196, 3) := by decide +kernel
theorem dX3_registered_20 : decode cX3_registered 20 = .ok (.ireturn, 1) := by decide +kernel
abbrev cX3_gives_2 : ByteArray := prog_4_method_110_code
def yX3_gives_2 : MethodName := ⟨RX3, "gives", "(IIII)I"⟩
theorem dX3_gives_2_0 : decode cX3_gives_2 0 = .ok (.aload_n 0, 1) := by decide +kernel
theorem dX3_gives_2_1 : decode cX3_gives_2 1 = .ok (.iconst 0, 1) := by decide +kernel
theorem dX3_gives_2_2 : decode cX3_gives_2 2 = .ok (.putfield 1, 3) := by decide +kernel
theorem dX3_gives_2_5 : decode cX3_gives_2 5 = .ok (.aload_n 0, 1) := by decide +kernel
theorem dX3_gives_2_6 : decode cX3_gives_2 6 = .ok (.iload_n 1, 1) := by decide +kernel
theorem dX3_gives_2_7 : decode cX3_gives_2 7 = .ok (.iload_n 2, 1) := by decide +kernel
theorem dX3_gives_2_8 : decode cX3_gives_2 8 = .ok (.iload_n 3, 1) := by decide +kernel
theorem dX3_gives_2_9 : decode cX3_gives_2 9 = .ok (.invokevirtual 566, 3) := by decide +kernel
theorem dX3_gives_2_12 : decode cX3_gives_2 12 = .ok (.ifCond .eq 12, 3) := by decide +kernel
theorem dX3_gives_2_15 : decode cX3_gives_2 15 = .ok (.aload_n 0, 1) := by decide +kernel
theorem dX3_gives_2_16 : decode cX3_gives_2 16 = .ok (.iload 4, 2) := by decide +kernel
theorem dX3_gives_2_18 : decode cX3_gives_2 18 = .ok (.invokevirtual 548, 3) := by decide +kernel
theorem dX3_gives_2_21 : decode cX3_gives_2 21 = .ok (.ifCond .ne 9, 3) := by decide +kernel
theorem dX3_gives_2_24 : decode cX3_gives_2 24 = .ok (.aload_n 0, 1) := by decide +kernel
theorem dX3_gives_2_25 : decode cX3_gives_2 25 = .ok (.iconst 1, 1) := by decide +kernel
theorem dX3_gives_2_26 : decode cX3_gives_2 26 = .ok (.invokevirtual 533, 3) := by decide +kernel
theorem dX3_gives_2_29 : decode cX3_gives_2 29 = .ok (.ireturn, 1) := by decide +kernel
theorem dX3_gives_2_30 : decode cX3_gives_2 30 = .ok (.aload_n 0, 1) := by decide +kernel
theorem dX3_gives_2_31 : decode cX3_gives_2 31 = .ok (.getfield 196, 3) := by decide +kernel
theorem dX3_gives_2_34 : decode cX3_gives_2 34 = .ok (.bipush 30, 2) := by decide +kernel
theorem dX3_gives_2_36 : decode cX3_gives_2 36 = .ok (.if_icmp .ne 9, 3) := by decide +kernel
theorem dX3_gives_2_39 : decode cX3_gives_2 39 = .ok (.aload_n 0, 1) := by decide +kernel
theorem dX3_gives_2_40 : decode cX3_gives_2 40 = .ok (.iconst 2, 1) := by decide +kernel
theorem dX3_gives_2_41 : decode cX3_gives_2 41 = .ok (.invokevirtual 533, 3) := by decide +kernel
theorem dX3_gives_2_44 : decode cX3_gives_2 44 = .ok (.ireturn, 1) := by decide +kernel
theorem dX3_gives_2_45 : decode cX3_gives_2 45 = .ok (.aload_n 0, 1) := by decide +kernel
theorem dX3_gives_2_46 : decode cX3_gives_2 46 = .ok (.getfield 199, 3) := by decide +kernel
theorem dX3_gives_2_49 : decode cX3_gives_2 49 = .ok (.aload_n 0, 1) := by decide +kernel
theorem dX3_gives_2_50 : decode cX3_gives_2 50 = .ok (.getfield 196, 3) := by decide +kernel
theorem dX3_gives_2_53 : decode cX3_gives_2 53 = .ok (.iconst 2, 1) := by decide +kernel
theorem dX3_gives_2_54 : decode cX3_gives_2 54 = .ok (.iastore, 1) := by decide +kernel
theorem dX3_gives_2_55 : decode cX3_gives_2 55 = .ok (.aload_n 0, 1) := by decide +kernel
theorem dX3_gives_2_56 : decode cX3_gives_2 56 = .ok (.getfield 208, 3) := by decide +kernel
theorem dX3_gives_2_59 : decode cX3_gives_2 59 = .ok (.aload_n 0, 1) := by decide +kernel
theorem dX3_gives_2_60 : decode cX3_gives_2 60 = .ok (.getfield 196, 3) := by decide +kernel
theorem dX3_gives_2_63 : decode cX3_gives_2 63 = .ok (.iload 4, 2) := by decide +kernel
theorem dX3_gives_2_65 : decode cX3_gives_2 65 = .ok (.iastore, 1) := by decide +kernel
theorem dX3_gives_2_66 : decode cX3_gives_2 66 = .ok (.aload_n 0, 1) := by decide +kernel
theorem dX3_gives_2_67 : decode cX3_gives_2 67 = .ok (.invokevirtual 563, 3) := by decide +kernel
theorem dX3_gives_2_70 : decode cX3_gives_2 70 = .ok (.ireturn, 1) := by decide +kernel
abbrev cX3_types : ByteArray := prog_4_method_109_code
def yX3_types : MethodName := ⟨RX3, "types", "(III)Z"⟩
theorem dX3_types_0 : decode cX3_types 0 = .ok (.iload_n 1, 1) := by decide +kernel
theorem dX3_types_1 : decode cX3_types 1 = .ok (.ifCond .lt 11, 3) := by decide +kernel
theorem dX3_types_4 : decode cX3_types 4 = .ok (.iload_n 1, 1) := by decide +kernel
theorem dX3_types_5 : decode cX3_types 5 = .ok (.aload_n 0, 1) := by decide +kernel
theorem dX3_types_6 : decode cX3_types 6 = .ok (.getfield 542, 3) := by decide +kernel
theorem dX3_types_9 : decode cX3_types 9 = .ok (.if_icmp .lt 5, 3) := by decide +kernel
theorem dX3_types_12 : decode cX3_types 12 = .ok (.iconst 0, 1) := by decide +kernel
theorem dX3_types_13 : decode cX3_types 13 = .ok (.ireturn, 1) := by decide +kernel
theorem dX3_types_14 : decode cX3_types 14 = .ok (.aload_n 0, 1) := by decide +kernel
theorem dX3_types_15 : decode cX3_types 15 = .ok (.iload_n 2, 1) := by decide +kernel
theorem dX3_types_16 : decode cX3_types 16 = .ok (.iconst 1, 1) := by decide +kernel
theorem dX3_types_17 : decode cX3_types 17 = .ok (.invokevirtual 527, 3) := by decide +kernel
theorem dX3_types_20 : decode cX3_types 20 = .ok (.istore 4, 2) := by decide +kernel
theorem dX3_types_22 : decode cX3_types 22 = .ok (.aload_n 0, 1) := by decide +kernel
theorem dX3_types_23 : decode cX3_types 23 = .ok (.iload_n 3, 1) := by decide +kernel
theorem dX3_types_24 : decode cX3_types 24 = .ok (.iconst 1, 1) := by decide +kernel
theorem dX3_types_25 : decode cX3_types 25 = .ok (.invokevirtual 527, 3) := by decide +kernel
theorem dX3_types_28 : decode cX3_types 28 = .ok (.istore 5, 2) := by decide +kernel
theorem dX3_types_30 : decode cX3_types 30 = .ok (.aload_n 0, 1) := by decide +kernel
theorem dX3_types_31 : decode cX3_types 31 = .ok (.getfield 505, 3) := by decide +kernel
theorem dX3_types_34 : decode cX3_types 34 = .ok (.iload_n 1, 1) := by decide +kernel
theorem dX3_types_35 : decode cX3_types 35 = .ok (.iaload, 1) := by decide +kernel
theorem dX3_types_36 : decode cX3_types 36 = .ok (.istore 6, 2) := by decide +kernel
theorem dX3_types_38 : decode cX3_types 38 = .ok (.iload 6, 2) := by decide +kernel
theorem dX3_types_40 : decode cX3_types 40 = .ok (.ifCond .le 22, 3) := by decide +kernel
theorem dX3_types_43 : decode cX3_types 43 = .ok (.iload 4, 2) := by decide +kernel
theorem dX3_types_45 : decode cX3_types 45 = .ok (.ifCond .eq 22, 3) := by decide +kernel
theorem dX3_types_48 : decode cX3_types 48 = .ok (.aload_n 0, 1) := by decide +kernel
theorem dX3_types_49 : decode cX3_types 49 = .ok (.iload 4, 2) := by decide +kernel
theorem dX3_types_51 : decode cX3_types 51 = .ok (.iload 6, 2) := by decide +kernel
theorem dX3_types_53 : decode cX3_types 53 = .ok (.invokevirtual 539, 3) := by decide +kernel
theorem dX3_types_56 : decode cX3_types 56 = .ok (.ifCond .ne 13, 3) := by decide +kernel
theorem dX3_types_59 : decode cX3_types 59 = .ok (.goto 8, 3) := by decide +kernel
theorem dX3_types_62 : decode cX3_types 62 = .ok (.iload_n 2, 1) := by decide +kernel
theorem dX3_types_63 : decode cX3_types 63 = .ok (.iconst (-1), 1) := by decide +kernel
theorem dX3_types_64 : decode cX3_types 64 = .ok (.if_icmp .eq 5, 3) := by decide +kernel
theorem dX3_types_67 : decode cX3_types 67 = .ok (.iconst 0, 1) := by decide +kernel
theorem dX3_types_68 : decode cX3_types 68 = .ok (.ireturn, 1) := by decide +kernel
theorem dX3_types_69 : decode cX3_types 69 = .ok (.iload 6, 2) := by decide +kernel
theorem dX3_types_71 : decode cX3_types 71 = .ok (.iconst 1, 1) := by decide +kernel
theorem dX3_types_72 : decode cX3_types 72 = .ok (.if_icmp .le 22, 3) := by decide +kernel
theorem dX3_types_75 : decode cX3_types 75 = .ok (.iload 5, 2) := by decide +kernel
theorem dX3_types_77 : decode cX3_types 77 = .ok (.ifCond .eq 22, 3) := by decide +kernel
theorem dX3_types_80 : decode cX3_types 80 = .ok (.aload_n 0, 1) := by decide +kernel
theorem dX3_types_81 : decode cX3_types 81 = .ok (.iload 5, 2) := by decide +kernel
theorem dX3_types_83 : decode cX3_types 83 = .ok (.iload 6, 2) := by decide +kernel
theorem dX3_types_85 : decode cX3_types 85 = .ok (.invokevirtual 539, 3) := by decide +kernel
theorem dX3_types_88 : decode cX3_types 88 = .ok (.ifCond .ne 13, 3) := by decide +kernel
theorem dX3_types_91 : decode cX3_types 91 = .ok (.goto 8, 3) := by decide +kernel
theorem dX3_types_94 : decode cX3_types 94 = .ok (.iload_n 3, 1) := by decide +kernel
theorem dX3_types_95 : decode cX3_types 95 = .ok (.iconst (-1), 1) := by decide +kernel
theorem dX3_types_96 : decode cX3_types 96 = .ok (.if_icmp .eq 5, 3) := by decide +kernel
theorem dX3_types_99 : decode cX3_types 99 = .ok (.iconst 0, 1) := by decide +kernel
theorem dX3_types_100 : decode cX3_types 100 = .ok (.ireturn, 1) := by decide +kernel
theorem dX3_types_101 : decode cX3_types 101 = .ok (.aload_n 0, 1) := by decide +kernel
theorem dX3_types_102 : decode cX3_types 102 = .ok (.getfield 196, 3) := by decide +kernel
theorem dX3_types_105 : decode cX3_types 105 = .ok (.bipush 30, 2) := by decide +kernel
theorem dX3_types_107 : decode cX3_types 107 = .ok (.if_icmp .ge 35, 3) := by decide +kernel
theorem dX3_types_110 : decode cX3_types 110 = .ok (.aload_n 0, 1) := by decide +kernel
theorem dX3_types_111 : decode cX3_types 111 = .ok (.getfield 202, 3) := by decide +kernel
theorem dX3_types_114 : decode cX3_types 114 = .ok (.aload_n 0, 1) := by decide +kernel
theorem dX3_types_115 : decode cX3_types 115 = .ok (.getfield 196, 3) := by decide +kernel
theorem dX3_types_118 : decode cX3_types 118 = .ok (.iload_n 1, 1) := by decide +kernel
theorem dX3_types_119 : decode cX3_types 119 = .ok (.iastore, 1) := by decide +kernel
theorem dX3_types_120 : decode cX3_types 120 = .ok (.aload_n 0, 1) := by decide +kernel
theorem dX3_types_121 : decode cX3_types 121 = .ok (.getfield 224, 3) := by decide +kernel
theorem dX3_types_124 : decode cX3_types 124 = .ok (.aload_n 0, 1) := by decide +kernel
theorem dX3_types_125 : decode cX3_types 125 = .ok (.getfield 196, 3) := by decide +kernel
theorem dX3_types_128 : decode cX3_types 128 = .ok (.iload 4, 2) := by decide +kernel
theorem dX3_types_130 : decode cX3_types 130 = .ok (.iastore, 1) := by decide +kernel
theorem dX3_types_131 : decode cX3_types 131 = .ok (.aload_n 0, 1) := by decide +kernel
theorem dX3_types_132 : decode cX3_types 132 = .ok (.getfield 227, 3) := by decide +kernel
theorem dX3_types_135 : decode cX3_types 135 = .ok (.aload_n 0, 1) := by decide +kernel
theorem dX3_types_136 : decode cX3_types 136 = .ok (.getfield 196, 3) := by decide +kernel
theorem dX3_types_139 : decode cX3_types 139 = .ok (.iload 5, 2) := by decide +kernel
theorem dX3_types_141 : decode cX3_types 141 = .ok (.iastore, 1) := by decide +kernel
theorem dX3_types_142 : decode cX3_types 142 = .ok (.iconst 1, 1) := by decide +kernel
theorem dX3_types_143 : decode cX3_types 143 = .ok (.ireturn, 1) := by decide +kernel
abbrev cX3_reduce : ByteArray := prog_4_method_111_code
def yX3_reduce : MethodName := ⟨RX3, "reduce", "(IIII)I"⟩
theorem dX3_reduce_0 : decode cX3_reduce 0 = .ok (.aload_n 0, 1) := by decide +kernel
theorem dX3_reduce_1 : decode cX3_reduce 1 = .ok (.iconst 0, 1) := by decide +kernel
theorem dX3_reduce_2 : decode cX3_reduce 2 = .ok (.putfield 1, 3) := by decide +kernel
theorem dX3_reduce_5 : decode cX3_reduce 5 = .ok (.aload_n 0, 1) := by decide +kernel
theorem dX3_reduce_6 : decode cX3_reduce 6 = .ok (.iload 4, 2) := by decide +kernel
theorem dX3_reduce_8 : decode cX3_reduce 8 = .ok (.iconst 0, 1) := by decide +kernel
theorem dX3_reduce_9 : decode cX3_reduce 9 = .ok (.invokevirtual 527, 3) := by decide +kernel
theorem dX3_reduce_12 : decode cX3_reduce 12 = .ok (.istore 5, 2) := by decide +kernel
theorem dX3_reduce_14 : decode cX3_reduce 14 = .ok (.aload_n 0, 1) := by decide +kernel
theorem dX3_reduce_15 : decode cX3_reduce 15 = .ok (.iload_n 1, 1) := by decide +kernel
theorem dX3_reduce_16 : decode cX3_reduce 16 = .ok (.iload_n 2, 1) := by decide +kernel
theorem dX3_reduce_17 : decode cX3_reduce 17 = .ok (.iload_n 3, 1) := by decide +kernel
theorem dX3_reduce_18 : decode cX3_reduce 18 = .ok (.invokevirtual 566, 3) := by decide +kernel
theorem dX3_reduce_21 : decode cX3_reduce 21 = .ok (.ifCond .eq 23, 3) := by decide +kernel
theorem dX3_reduce_24 : decode cX3_reduce 24 = .ok (.iload 5, 2) := by decide +kernel
theorem dX3_reduce_26 : decode cX3_reduce 26 = .ok (.ifCond .eq 18, 3) := by decide +kernel
theorem dX3_reduce_29 : decode cX3_reduce 29 = .ok (.aload_n 0, 1) := by decide +kernel
theorem dX3_reduce_30 : decode cX3_reduce 30 = .ok (.iload 5, 2) := by decide +kernel
theorem dX3_reduce_32 : decode cX3_reduce 32 = .ok (.aload_n 0, 1) := by decide +kernel
theorem dX3_reduce_33 : decode cX3_reduce 33 = .ok (.getfield 505, 3) := by decide +kernel
theorem dX3_reduce_36 : decode cX3_reduce 36 = .ok (.iload_n 1, 1) := by decide +kernel
theorem dX3_reduce_37 : decode cX3_reduce 37 = .ok (.iaload, 1) := by decide +kernel
theorem dX3_reduce_38 : decode cX3_reduce 38 = .ok (.invokevirtual 539, 3) := by decide +kernel
theorem dX3_reduce_41 : decode cX3_reduce 41 = .ok (.ifCond .ne 9, 3) := by decide +kernel
theorem dX3_reduce_44 : decode cX3_reduce 44 = .ok (.aload_n 0, 1) := by decide +kernel
theorem dX3_reduce_45 : decode cX3_reduce 45 = .ok (.iconst 1, 1) := by decide +kernel
theorem dX3_reduce_46 : decode cX3_reduce 46 = .ok (.invokevirtual 533, 3) := by decide +kernel
theorem dX3_reduce_49 : decode cX3_reduce 49 = .ok (.ireturn, 1) := by decide +kernel
theorem dX3_reduce_50 : decode cX3_reduce 50 = .ok (.aload_n 0, 1) := by decide +kernel
theorem dX3_reduce_51 : decode cX3_reduce 51 = .ok (.getfield 196, 3) := by decide +kernel
theorem dX3_reduce_54 : decode cX3_reduce 54 = .ok (.bipush 30, 2) := by decide +kernel
theorem dX3_reduce_56 : decode cX3_reduce 56 = .ok (.if_icmp .ne 9, 3) := by decide +kernel
theorem dX3_reduce_59 : decode cX3_reduce 59 = .ok (.aload_n 0, 1) := by decide +kernel
theorem dX3_reduce_60 : decode cX3_reduce 60 = .ok (.iconst 2, 1) := by decide +kernel
theorem dX3_reduce_61 : decode cX3_reduce 61 = .ok (.invokevirtual 533, 3) := by decide +kernel
theorem dX3_reduce_64 : decode cX3_reduce 64 = .ok (.ireturn, 1) := by decide +kernel
theorem dX3_reduce_65 : decode cX3_reduce 65 = .ok (.aload_n 0, 1) := by decide +kernel
theorem dX3_reduce_66 : decode cX3_reduce 66 = .ok (.getfield 199, 3) := by decide +kernel
theorem dX3_reduce_69 : decode cX3_reduce 69 = .ok (.aload_n 0, 1) := by decide +kernel
theorem dX3_reduce_70 : decode cX3_reduce 70 = .ok (.getfield 196, 3) := by decide +kernel
theorem dX3_reduce_73 : decode cX3_reduce 73 = .ok (.iconst 3, 1) := by decide +kernel
theorem dX3_reduce_74 : decode cX3_reduce 74 = .ok (.iastore, 1) := by decide +kernel
theorem dX3_reduce_75 : decode cX3_reduce 75 = .ok (.aload_n 0, 1) := by decide +kernel
theorem dX3_reduce_76 : decode cX3_reduce 76 = .ok (.getfield 493, 3) := by decide +kernel
theorem dX3_reduce_79 : decode cX3_reduce 79 = .ok (.aload_n 0, 1) := by decide +kernel
theorem dX3_reduce_80 : decode cX3_reduce 80 = .ok (.getfield 196, 3) := by decide +kernel
theorem dX3_reduce_83 : decode cX3_reduce 83 = .ok (.iload 5, 2) := by decide +kernel
theorem dX3_reduce_85 : decode cX3_reduce 85 = .ok (.iastore, 1) := by decide +kernel
theorem dX3_reduce_86 : decode cX3_reduce 86 = .ok (.aload_n 0, 1) := by decide +kernel
theorem dX3_reduce_87 : decode cX3_reduce 87 = .ok (.invokevirtual 563, 3) := by decide +kernel
theorem dX3_reduce_90 : decode cX3_reduce 90 = .ok (.ireturn, 1) := by decide +kernel
abbrev cX3_premise : ByteArray := prog_4_method_112_code
def yX3_premise : MethodName := ⟨RX3, "premise", "(I)I"⟩
theorem dX3_premise_0 : decode cX3_premise 0 = .ok (.aload_n 0, 1) := by decide +kernel
theorem dX3_premise_1 : decode cX3_premise 1 = .ok (.iconst 0, 1) := by decide +kernel
theorem dX3_premise_2 : decode cX3_premise 2 = .ok (.putfield 1, 3) := by decide +kernel
theorem dX3_premise_5 : decode cX3_premise 5 = .ok (.aload_n 0, 1) := by decide +kernel
theorem dX3_premise_6 : decode cX3_premise 6 = .ok (.iload_n 1, 1) := by decide +kernel
theorem dX3_premise_7 : decode cX3_premise 7 = .ok (.iconst 2, 1) := by decide +kernel
theorem dX3_premise_8 : decode cX3_premise 8 = .ok (.invokevirtual 527, 3) := by decide +kernel
theorem dX3_premise_11 : decode cX3_premise 11 = .ok (.istore_n 2, 1) := by decide +kernel
theorem dX3_premise_12 : decode cX3_premise 12 = .ok (.iload_n 2, 1) := by decide +kernel
theorem dX3_premise_13 : decode cX3_premise 13 = .ok (.ifCond .ne 9, 3) := by decide +kernel
theorem dX3_premise_16 : decode cX3_premise 16 = .ok (.aload_n 0, 1) := by decide +kernel
theorem dX3_premise_17 : decode cX3_premise 17 = .ok (.iconst 1, 1) := by decide +kernel
theorem dX3_premise_18 : decode cX3_premise 18 = .ok (.invokevirtual 533, 3) := by decide +kernel
theorem dX3_premise_21 : decode cX3_premise 21 = .ok (.ireturn, 1) := by decide +kernel
theorem dX3_premise_22 : decode cX3_premise 22 = .ok (.aload_n 0, 1) := by decide +kernel
theorem dX3_premise_23 : decode cX3_premise 23 = .ok (.getfield 283, 3) := by decide +kernel
theorem dX3_premise_26 : decode cX3_premise 26 = .ok (.bipush 20, 2) := by decide +kernel
theorem dX3_premise_28 : decode cX3_premise 28 = .ok (.if_icmp .ne 9, 3) := by decide +kernel
theorem dX3_premise_31 : decode cX3_premise 31 = .ok (.aload_n 0, 1) := by decide +kernel
theorem dX3_premise_32 : decode cX3_premise 32 = .ok (.iconst 2, 1) := by decide +kernel
theorem dX3_premise_33 : decode cX3_premise 33 = .ok (.invokevirtual 533, 3) := by decide +kernel
theorem dX3_premise_36 : decode cX3_premise 36 = .ok (.ireturn, 1) := by decide +kernel
theorem dX3_premise_37 : decode cX3_premise 37 = .ok (.aload_n 0, 1) := by decide +kernel
theorem dX3_premise_38 : decode cX3_premise 38 = .ok (.getfield 286, 3) := by decide +kernel
theorem dX3_premise_41 : decode cX3_premise 41 = .ok (.aload_n 0, 1) := by decide +kernel
theorem dX3_premise_42 : decode cX3_premise 42 = .ok (.dup, 1) := by decide +kernel
theorem dX3_premise_43 : decode cX3_premise 43 = .ok (.getfield 283, 3) := by decide +kernel
theorem dX3_premise_46 : decode cX3_premise 46 = .ok (.dup_x1, 1) := by decide +kernel
theorem dX3_premise_47 : decode cX3_premise 47 = .ok (.iconst 1, 1) := by decide +kernel
theorem dX3_premise_48 : decode cX3_premise 48 = .ok (.iadd, 1) := by decide +kernel
theorem dX3_premise_49 : decode cX3_premise 49 = .ok (.putfield 283, 3) := by decide +kernel
theorem dX3_premise_52 : decode cX3_premise 52 = .ok (.iload_n 2, 1) := by decide +kernel
theorem dX3_premise_53 : decode cX3_premise 53 = .ok (.iastore, 1) := by decide +kernel
theorem dX3_premise_54 : decode cX3_premise 54 = .ok (.aload_n 0, 1) := by decide +kernel
theorem dX3_premise_55 : decode cX3_premise 55 = .ok (.getfield 283, 3) := by decide +kernel
theorem dX3_premise_58 : decode cX3_premise 58 = .ok (.ireturn, 1) := by decide +kernel
abbrev cX3_clear : ByteArray := prog_4_method_113_code
def yX3_clear : MethodName := ⟨RX3, "clear", "()I"⟩
theorem dX3_clear_0 : decode cX3_clear 0 = .ok (.aload_n 0, 1) := by decide +kernel
theorem dX3_clear_1 : decode cX3_clear 1 = .ok (.iconst 0, 1) := by decide +kernel
theorem dX3_clear_2 : decode cX3_clear 2 = .ok (.putfield 1, 3) := by decide +kernel
theorem dX3_clear_5 : decode cX3_clear 5 = .ok (.aload_n 0, 1) := by decide +kernel
theorem dX3_clear_6 : decode cX3_clear 6 = .ok (.getfield 283, 3) := by decide +kernel
theorem dX3_clear_9 : decode cX3_clear 9 = .ok (.istore_n 1, 1) := by decide +kernel
theorem dX3_clear_10 : decode cX3_clear 10 = .ok (.aload_n 0, 1) := by decide +kernel
theorem dX3_clear_11 : decode cX3_clear 11 = .ok (.iconst 0, 1) := by decide +kernel
theorem dX3_clear_12 : decode cX3_clear 12 = .ok (.putfield 283, 3) := by decide +kernel
theorem dX3_clear_15 : decode cX3_clear 15 = .ok (.iload_n 1, 1) := by decide +kernel
theorem dX3_clear_16 : decode cX3_clear 16 = .ok (.ireturn, 1) := by decide +kernel
abbrev cX3_check : ByteArray := prog_4_method_114_code
def yX3_check : MethodName := ⟨RX3, "check", "(I)I"⟩
theorem dX3_check_0 : decode cX3_check 0 = .ok (.aload_n 0, 1) := by decide +kernel
theorem dX3_check_1 : decode cX3_check 1 = .ok (.iconst 0, 1) := by decide +kernel
theorem dX3_check_2 : decode cX3_check 2 = .ok (.putfield 1, 3) := by decide +kernel
theorem dX3_check_5 : decode cX3_check 5 = .ok (.aload_n 0, 1) := by decide +kernel
theorem dX3_check_6 : decode cX3_check 6 = .ok (.iload_n 1, 1) := by decide +kernel
theorem dX3_check_7 : decode cX3_check 7 = .ok (.iconst 2, 1) := by decide +kernel
theorem dX3_check_8 : decode cX3_check 8 = .ok (.invokevirtual 527, 3) := by decide +kernel
theorem dX3_check_11 : decode cX3_check 11 = .ok (.istore_n 2, 1) := by decide +kernel
theorem dX3_check_12 : decode cX3_check 12 = .ok (.iload_n 2, 1) := by decide +kernel
theorem dX3_check_13 : decode cX3_check 13 = .ok (.ifCond .ne 11, 3) := by decide +kernel
theorem dX3_check_16 : decode cX3_check 16 = .ok (.aload_n 0, 1) := by decide +kernel
theorem dX3_check_17 : decode cX3_check 17 = .ok (.iconst 1, 1) := by decide +kernel
theorem dX3_check_18 : decode cX3_check 18 = .ok (.invokevirtual 533, 3) := by decide +kernel
theorem dX3_check_21 : decode cX3_check 21 = .ok (.goto 8, 3) := by decide +kernel
theorem dX3_check_24 : decode cX3_check 24 = .ok (.aload_n 0, 1) := by decide +kernel
theorem dX3_check_25 : decode cX3_check 25 = .ok (.iload_n 2, 1) := by decide +kernel
theorem dX3_check_26 : decode cX3_check 26 = .ok (.invokevirtual 569, 3) := by decide +kernel
theorem dX3_check_29 : decode cX3_check 29 = .ok (.ireturn, 1) := by decide +kernel
abbrev cX3_checked : ByteArray := prog_4_method_50_code
def yX3_checked : MethodName := ⟨RX3, "checked", "(I)I"⟩
theorem dX3_checked_0 : decode cX3_checked 0 = .ok (.aload_n 0, 1) := by decide +kernel
theorem dX3_checked_1 : decode cX3_checked 1 = .ok (.getfield 42, 3) := by decide +kernel
theorem dX3_checked_4 : decode cX3_checked 4 = .ok (.istore_n 2, 1) := by decide +kernel
theorem dX3_checked_5 : decode cX3_checked 5 = .ok (.aload_n 0, 1) := by decide +kernel
theorem dX3_checked_6 : decode cX3_checked 6 = .ok (.getfield 54, 3) := by decide +kernel
theorem dX3_checked_9 : decode cX3_checked 9 = .ok (.istore_n 3, 1) := by decide +kernel
theorem dX3_checked_10 : decode cX3_checked 10 = .ok (.aload_n 0, 1) := by decide +kernel
theorem dX3_checked_11 : decode cX3_checked 11 = .ok (.getfield 142, 3) := by decide +kernel
theorem dX3_checked_14 : decode cX3_checked 14 = .ok (.istore 4, 2) := by decide +kernel
theorem dX3_checked_16 : decode cX3_checked 16 = .ok (.aload_n 0, 1) := by decide +kernel
theorem dX3_checked_17 : decode cX3_checked 17 = .ok (.iconst 0, 1) := by decide +kernel
theorem dX3_checked_18 : decode cX3_checked 18 = .ok (.putfield 236, 3) := by decide +kernel
theorem dX3_checked_21 : decode cX3_checked 21 = .ok (.aload_n 0, 1) := by decide +kernel
theorem dX3_checked_22 : decode cX3_checked 22 = .ok (.iconst 1, 1) := by decide +kernel
theorem dX3_checked_23 : decode cX3_checked 23 = .ok (.invokevirtual 255, 3) := by decide +kernel
theorem dX3_checked_26 : decode cX3_checked 26 = .ok (.istore 5, 2) := by decide +kernel
theorem dX3_checked_28 : decode cX3_checked 28 = .ok (.iconst 0, 1) := by decide +kernel
theorem dX3_checked_29 : decode cX3_checked 29 = .ok (.istore 6, 2) := by decide +kernel
theorem dX3_checked_31 : decode cX3_checked 31 = .ok (.iconst 0, 1) := by decide +kernel
theorem dX3_checked_32 : decode cX3_checked 32 = .ok (.istore 7, 2) := by decide +kernel
theorem dX3_checked_34 : decode cX3_checked 34 = .ok (.iload 7, 2) := by decide +kernel
theorem dX3_checked_36 : decode cX3_checked 36 = .ok (.aload_n 0, 1) := by decide +kernel
theorem dX3_checked_37 : decode cX3_checked 37 = .ok (.getfield 283, 3) := by decide +kernel
theorem dX3_checked_40 : decode cX3_checked 40 = .ok (.if_icmp .ge 30, 3) := by decide +kernel
theorem dX3_checked_43 : decode cX3_checked 43 = .ok (.aload_n 0, 1) := by decide +kernel
theorem dX3_checked_44 : decode cX3_checked 44 = .ok (.iload 5, 2) := by decide +kernel
theorem dX3_checked_46 : decode cX3_checked 46 = .ok (.iload 6, 2) := by decide +kernel
theorem dX3_checked_48 : decode cX3_checked 48 = .ok (.aload_n 0, 1) := by decide +kernel
theorem dX3_checked_49 : decode cX3_checked 49 = .ok (.aload_n 0, 1) := by decide +kernel
theorem dX3_checked_50 : decode cX3_checked 50 = .ok (.getfield 286, 3) := by decide +kernel
theorem dX3_checked_53 : decode cX3_checked 53 = .ok (.iload 7, 2) := by decide +kernel
theorem dX3_checked_55 : decode cX3_checked 55 = .ok (.iaload, 1) := by decide +kernel
theorem dX3_checked_56 : decode cX3_checked 56 = .ok (.invokevirtual 261, 3) := by decide +kernel
theorem dX3_checked_59 : decode cX3_checked 59 = .ok (.invokevirtual 264, 3) := by decide +kernel
theorem dX3_checked_62 : decode cX3_checked 62 = .ok (.istore 6, 2) := by decide +kernel
theorem dX3_checked_64 : decode cX3_checked 64 = .ok (.iinc 7 1, 3) := by decide +kernel
theorem dX3_checked_67 : decode cX3_checked 67 = .ok (.goto (-33), 3) := by decide +kernel
theorem dX3_checked_70 : decode cX3_checked 70 = .ok (.aload_n 0, 1) := by decide +kernel
theorem dX3_checked_71 : decode cX3_checked 71 = .ok (.iload 5, 2) := by decide +kernel
theorem dX3_checked_73 : decode cX3_checked 73 = .ok (.iload 6, 2) := by decide +kernel
theorem dX3_checked_75 : decode cX3_checked 75 = .ok (.aload_n 0, 1) := by decide +kernel
theorem dX3_checked_76 : decode cX3_checked 76 = .ok (.aload_n 0, 1) := by decide +kernel
theorem dX3_checked_77 : decode cX3_checked 77 = .ok (.iload_n 1, 1) := by decide +kernel
theorem dX3_checked_78 : decode cX3_checked 78 = .ok (.invokevirtual 88, 3) := by decide +kernel
theorem dX3_checked_81 : decode cX3_checked 81 = .ok (.invokevirtual 261, 3) := by decide +kernel
theorem dX3_checked_84 : decode cX3_checked 84 = .ok (.invokevirtual 264, 3) := by decide +kernel
theorem dX3_checked_87 : decode cX3_checked 87 = .ok (.pop, 1) := by decide +kernel
theorem dX3_checked_88 : decode cX3_checked 88 = .ok (.aload_n 0, 1) := by decide +kernel
theorem dX3_checked_89 : decode cX3_checked 89 = .ok (.iload 5, 2) := by decide +kernel
theorem dX3_checked_91 : decode cX3_checked 91 = .ok (.invokevirtual 258, 3) := by decide +kernel
theorem dX3_checked_94 : decode cX3_checked 94 = .ok (.pop, 1) := by decide +kernel
theorem dX3_checked_95 : decode cX3_checked 95 = .ok (.aload_n 0, 1) := by decide +kernel
theorem dX3_checked_96 : decode cX3_checked 96 = .ok (.getfield 251, 3) := by decide +kernel
theorem dX3_checked_99 : decode cX3_checked 99 = .ok (.iload 5, 2) := by decide +kernel
theorem dX3_checked_101 : decode cX3_checked 101 = .ok (.laload, 1) := by decide +kernel
theorem dX3_checked_102 : decode cX3_checked 102 = .ok (.lstore 7, 2) := by decide +kernel
theorem dX3_checked_104 : decode cX3_checked 104 = .ok (.aload_n 0, 1) := by decide +kernel
theorem dX3_checked_105 : decode cX3_checked 105 = .ok (.ldc2_w 289, 3) := by decide +kernel
theorem dX3_checked_108 : decode cX3_checked 108 = .ok (.lload 7, 2) := by decide +kernel
theorem dX3_checked_110 : decode cX3_checked 110 = .ok (.invokestatic 272, 3) := by decide +kernel
theorem dX3_checked_113 : decode cX3_checked 113 = .ok (.l2i, 1) := by decide +kernel
theorem dX3_checked_114 : decode cX3_checked 114 = .ok (.putfield 291, 3) := by decide +kernel
theorem dX3_checked_117 : decode cX3_checked 117 = .ok (.lload 7, 2) := by decide +kernel
theorem dX3_checked_119 : decode cX3_checked 119 = .ok (.ldc2_w 294, 3) := by decide +kernel
theorem dX3_checked_122 : decode cX3_checked 122 = .ok (.lcmp, 1) := by decide +kernel
theorem dX3_checked_123 : decode cX3_checked 123 = .ok (.ifCond .le 7, 3) := by decide +kernel
theorem dX3_checked_126 : decode cX3_checked 126 = .ok (.iconst 2, 1) := by decide +kernel
theorem dX3_checked_127 : decode cX3_checked 127 = .ok (.goto 4, 3) := by decide +kernel
theorem dX3_checked_130 : decode cX3_checked 130 = .ok (.iconst 1, 1) := by decide +kernel
theorem dX3_checked_131 : decode cX3_checked 131 = .ok (.istore 9, 2) := by decide +kernel
theorem dX3_checked_133 : decode cX3_checked 133 = .ok (.iload 9, 2) := by decide +kernel
theorem dX3_checked_135 : decode cX3_checked 135 = .ok (.iconst 1, 1) := by decide +kernel
theorem dX3_checked_136 : decode cX3_checked 136 = .ok (.if_icmp .ne 88, 3) := by decide +kernel
theorem dX3_checked_139 : decode cX3_checked 139 = .ok (.aload_n 0, 1) := by decide +kernel
theorem dX3_checked_140 : decode cX3_checked 140 = .ok (.getfield 42, 3) := by decide +kernel
theorem dX3_checked_143 : decode cX3_checked 143 = .ok (.istore 10, 2) := by decide +kernel
theorem dX3_checked_145 : decode cX3_checked 145 = .ok (.aload_n 0, 1) := by decide +kernel
theorem dX3_checked_146 : decode cX3_checked 146 = .ok (.getfield 54, 3) := by decide +kernel
theorem dX3_checked_149 : decode cX3_checked 149 = .ok (.istore 11, 2) := by decide +kernel
theorem dX3_checked_151 : decode cX3_checked 151 = .ok (.aload_n 0, 1) := by decide +kernel
theorem dX3_checked_152 : decode cX3_checked 152 = .ok (.getfield 142, 3) := by decide +kernel
theorem dX3_checked_155 : decode cX3_checked 155 = .ok (.istore 12, 2) := by decide +kernel
theorem dX3_checked_157 : decode cX3_checked 157 = .ok (.lconst 0, 1) := by decide +kernel
theorem dX3_checked_158 : decode cX3_checked 158 = .ok (.lstore 13, 2) := by decide +kernel
theorem dX3_checked_160 : decode cX3_checked 160 = .ok (.lload 13, 2) := by decide +kernel
theorem dX3_checked_162 : decode cX3_checked 162 = .ok (.lload 7, 2) := by decide +kernel
theorem dX3_checked_164 : decode cX3_checked 164 = .ok (.lcmp, 1) := by decide +kernel
theorem dX3_checked_165 : decode cX3_checked 165 = .ok (.ifCond .ge 59, 3) := by decide +kernel
theorem dX3_checked_168 : decode cX3_checked 168 = .ok (.iload 9, 2) := by decide +kernel
theorem dX3_checked_170 : decode cX3_checked 170 = .ok (.ifCond .eq 54, 3) := by decide +kernel
theorem dX3_checked_173 : decode cX3_checked 173 = .ok (.aload_n 0, 1) := by decide +kernel
theorem dX3_checked_174 : decode cX3_checked 174 = .ok (.iload 5, 2) := by decide +kernel
theorem dX3_checked_176 : decode cX3_checked 176 = .ok (.lload 13, 2) := by decide +kernel
theorem dX3_checked_178 : decode cX3_checked 178 = .ok (.invokevirtual 296, 3) := by decide +kernel
theorem dX3_checked_181 : decode cX3_checked 181 = .ok (.istore 15, 2) := by decide +kernel
theorem dX3_checked_183 : decode cX3_checked 183 = .ok (.iload 15, 2) := by decide +kernel
theorem dX3_checked_185 : decode cX3_checked 185 = .ok (.iconst 1, 1) := by decide +kernel
theorem dX3_checked_186 : decode cX3_checked 186 = .ok (.if_icmp .eq 15, 3) := by decide +kernel
theorem dX3_checked_189 : decode cX3_checked 189 = .ok (.iload 15, 2) := by decide +kernel
theorem dX3_checked_191 : decode cX3_checked 191 = .ok (.ifCond .ne 7, 3) := by decide +kernel
theorem dX3_checked_194 : decode cX3_checked 194 = .ok (.iconst 0, 1) := by decide +kernel
theorem dX3_checked_195 : decode cX3_checked 195 = .ok (.goto 4, 3) := by decide +kernel
theorem dX3_checked_198 : decode cX3_checked 198 = .ok (.iconst 2, 1) := by decide +kernel
theorem dX3_checked_199 : decode cX3_checked 199 = .ok (.istore 9, 2) := by decide +kernel
theorem dX3_checked_201 : decode cX3_checked 201 = .ok (.aload_n 0, 1) := by decide +kernel
theorem dX3_checked_202 : decode cX3_checked 202 = .ok (.iload 10, 2) := by decide +kernel
theorem dX3_checked_204 : decode cX3_checked 204 = .ok (.iload 11, 2) := by decide +kernel
theorem dX3_checked_206 : decode cX3_checked 206 = .ok (.invokevirtual 300, 3) := by decide +kernel
theorem dX3_checked_209 : decode cX3_checked 209 = .ok (.aload_n 0, 1) := by decide +kernel
theorem dX3_checked_210 : decode cX3_checked 210 = .ok (.iload 12, 2) := by decide +kernel
theorem dX3_checked_212 : decode cX3_checked 212 = .ok (.putfield 142, 3) := by decide +kernel
theorem dX3_checked_215 : decode cX3_checked 215 = .ok (.lload 13, 2) := by decide +kernel
theorem dX3_checked_217 : decode cX3_checked 217 = .ok (.lconst 1, 1) := by decide +kernel
theorem dX3_checked_218 : decode cX3_checked 218 = .ok (.ladd, 1) := by decide +kernel
theorem dX3_checked_219 : decode cX3_checked 219 = .ok (.lstore 13, 2) := by decide +kernel
theorem dX3_checked_221 : decode cX3_checked 221 = .ok (.goto (-61), 3) := by decide +kernel
theorem dX3_checked_224 : decode cX3_checked 224 = .ok (.aload_n 0, 1) := by decide +kernel
theorem dX3_checked_225 : decode cX3_checked 225 = .ok (.iload_n 2, 1) := by decide +kernel
theorem dX3_checked_226 : decode cX3_checked 226 = .ok (.iload_n 3, 1) := by decide +kernel
theorem dX3_checked_227 : decode cX3_checked 227 = .ok (.invokevirtual 300, 3) := by decide +kernel
theorem dX3_checked_230 : decode cX3_checked 230 = .ok (.aload_n 0, 1) := by decide +kernel
theorem dX3_checked_231 : decode cX3_checked 231 = .ok (.iload 4, 2) := by decide +kernel
theorem dX3_checked_233 : decode cX3_checked 233 = .ok (.putfield 142, 3) := by decide +kernel
theorem dX3_checked_236 : decode cX3_checked 236 = .ok (.iload 9, 2) := by decide +kernel
theorem dX3_checked_238 : decode cX3_checked 238 = .ok (.ireturn, 1) := by decide +kernel
abbrev cX3_q : ByteArray := prog_4_method_45_code
def yX3_q : MethodName := ⟨RX3, "q", "(I)I"⟩
theorem dX3_q_0 : decode cX3_q 0 = .ok (.aload_n 0, 1) := by decide +kernel
theorem dX3_q_1 : decode cX3_q 1 = .ok (.dup, 1) := by decide +kernel
theorem dX3_q_2 : decode cX3_q 2 = .ok (.getfield 236, 3) := by decide +kernel
theorem dX3_q_5 : decode cX3_q 5 = .ok (.iconst 1, 1) := by decide +kernel
theorem dX3_q_6 : decode cX3_q 6 = .ok (.iadd, 1) := by decide +kernel
theorem dX3_q_7 : decode cX3_q 7 = .ok (.putfield 236, 3) := by decide +kernel
theorem dX3_q_10 : decode cX3_q 10 = .ok (.aload_n 0, 1) := by decide +kernel
theorem dX3_q_11 : decode cX3_q 11 = .ok (.aload_n 0, 1) := by decide +kernel
theorem dX3_q_12 : decode cX3_q 12 = .ok (.getfield 239, 3) := by decide +kernel
theorem dX3_q_15 : decode cX3_q 15 = .ok (.aload_n 0, 1) := by decide +kernel
theorem dX3_q_16 : decode cX3_q 16 = .ok (.getfield 236, 3) := by decide +kernel
theorem dX3_q_19 : decode cX3_q 19 = .ok (.invokestatic 20, 3) := by decide +kernel
theorem dX3_q_22 : decode cX3_q 22 = .ok (.putfield 239, 3) := by decide +kernel
theorem dX3_q_25 : decode cX3_q 25 = .ok (.aload_n 0, 1) := by decide +kernel
theorem dX3_q_26 : decode cX3_q 26 = .ok (.aload_n 0, 1) := by decide +kernel
theorem dX3_q_27 : decode cX3_q 27 = .ok (.getfield 242, 3) := by decide +kernel
theorem dX3_q_30 : decode cX3_q 30 = .ok (.aload_n 0, 1) := by decide +kernel
theorem dX3_q_31 : decode cX3_q 31 = .ok (.getfield 236, 3) := by decide +kernel
theorem dX3_q_34 : decode cX3_q 34 = .ok (.invokestatic 20, 3) := by decide +kernel
theorem dX3_q_37 : decode cX3_q 37 = .ok (.putfield 242, 3) := by decide +kernel
theorem dX3_q_40 : decode cX3_q 40 = .ok (.aload_n 0, 1) := by decide +kernel
theorem dX3_q_41 : decode cX3_q 41 = .ok (.aload_n 0, 1) := by decide +kernel
theorem dX3_q_42 : decode cX3_q 42 = .ok (.getfield 245, 3) := by decide +kernel
theorem dX3_q_45 : decode cX3_q 45 = .ok (.aload_n 0, 1) := by decide +kernel
theorem dX3_q_46 : decode cX3_q 46 = .ok (.getfield 236, 3) := by decide +kernel
theorem dX3_q_49 : decode cX3_q 49 = .ok (.invokestatic 20, 3) := by decide +kernel
theorem dX3_q_52 : decode cX3_q 52 = .ok (.putfield 245, 3) := by decide +kernel
theorem dX3_q_55 : decode cX3_q 55 = .ok (.aload_n 0, 1) := by decide +kernel
theorem dX3_q_56 : decode cX3_q 56 = .ok (.aload_n 0, 1) := by decide +kernel
theorem dX3_q_57 : decode cX3_q 57 = .ok (.getfield 248, 3) := by decide +kernel
theorem dX3_q_60 : decode cX3_q 60 = .ok (.aload_n 0, 1) := by decide +kernel
theorem dX3_q_61 : decode cX3_q 61 = .ok (.getfield 236, 3) := by decide +kernel
theorem dX3_q_64 : decode cX3_q 64 = .ok (.invokestatic 20, 3) := by decide +kernel
theorem dX3_q_67 : decode cX3_q 67 = .ok (.putfield 248, 3) := by decide +kernel
theorem dX3_q_70 : decode cX3_q 70 = .ok (.aload_n 0, 1) := by decide +kernel
theorem dX3_q_71 : decode cX3_q 71 = .ok (.getfield 236, 3) := by decide +kernel
theorem dX3_q_74 : decode cX3_q 74 = .ok (.aload_n 0, 1) := by decide +kernel
theorem dX3_q_75 : decode cX3_q 75 = .ok (.getfield 251, 3) := by decide +kernel
theorem dX3_q_78 : decode cX3_q 78 = .ok (.arraylength, 1) := by decide +kernel
theorem dX3_q_79 : decode cX3_q 79 = .ok (.if_icmp .lt 42, 3) := by decide +kernel
theorem dX3_q_82 : decode cX3_q 82 = .ok (.iconst 2, 1) := by decide +kernel
theorem dX3_q_83 : decode cX3_q 83 = .ok (.aload_n 0, 1) := by decide +kernel
theorem dX3_q_84 : decode cX3_q 84 = .ok (.getfield 236, 3) := by decide +kernel
theorem dX3_q_87 : decode cX3_q 87 = .ok (.imul, 1) := by decide +kernel
theorem dX3_q_88 : decode cX3_q 88 = .ok (.newarray .long, 2) := by decide +kernel
theorem dX3_q_90 : decode cX3_q 90 = .ok (.astore_n 2, 1) := by decide +kernel
theorem dX3_q_91 : decode cX3_q 91 = .ok (.iconst 0, 1) := by decide +kernel
theorem dX3_q_92 : decode cX3_q 92 = .ok (.istore_n 3, 1) := by decide +kernel
theorem dX3_q_93 : decode cX3_q 93 = .ok (.iload_n 3, 1) := by decide +kernel
theorem dX3_q_94 : decode cX3_q 94 = .ok (.aload_n 0, 1) := by decide +kernel
theorem dX3_q_95 : decode cX3_q 95 = .ok (.getfield 236, 3) := by decide +kernel
theorem dX3_q_98 : decode cX3_q 98 = .ok (.if_icmp .ge 18, 3) := by decide +kernel
theorem dX3_q_101 : decode cX3_q 101 = .ok (.aload_n 2, 1) := by decide +kernel
theorem dX3_q_102 : decode cX3_q 102 = .ok (.iload_n 3, 1) := by decide +kernel
theorem dX3_q_103 : decode cX3_q 103 = .ok (.aload_n 0, 1) := by decide +kernel
theorem dX3_q_104 : decode cX3_q 104 = .ok (.getfield 251, 3) := by decide +kernel
theorem dX3_q_107 : decode cX3_q 107 = .ok (.iload_n 3, 1) := by decide +kernel
theorem dX3_q_108 : decode cX3_q 108 = .ok (.laload, 1) := by decide +kernel
theorem dX3_q_109 : decode cX3_q 109 = .ok (.lastore, 1) := by decide +kernel
theorem dX3_q_110 : decode cX3_q 110 = .ok (.iinc 3 1, 3) := by decide +kernel
theorem dX3_q_113 : decode cX3_q 113 = .ok (.goto (-20), 3) := by decide +kernel
theorem dX3_q_116 : decode cX3_q 116 = .ok (.aload_n 0, 1) := by decide +kernel
theorem dX3_q_117 : decode cX3_q 117 = .ok (.aload_n 2, 1) := by decide +kernel
theorem dX3_q_118 : decode cX3_q 118 = .ok (.putfield 251, 3) := by decide +kernel
theorem dX3_q_121 : decode cX3_q 121 = .ok (.aload_n 0, 1) := by decide +kernel
theorem dX3_q_122 : decode cX3_q 122 = .ok (.getfield 239, 3) := by decide +kernel
theorem dX3_q_125 : decode cX3_q 125 = .ok (.aload_n 0, 1) := by decide +kernel
theorem dX3_q_126 : decode cX3_q 126 = .ok (.getfield 236, 3) := by decide +kernel
theorem dX3_q_129 : decode cX3_q 129 = .ok (.iload_n 1, 1) := by decide +kernel
theorem dX3_q_130 : decode cX3_q 130 = .ok (.iastore, 1) := by decide +kernel
theorem dX3_q_131 : decode cX3_q 131 = .ok (.aload_n 0, 1) := by decide +kernel
theorem dX3_q_132 : decode cX3_q 132 = .ok (.getfield 242, 3) := by decide +kernel
theorem dX3_q_135 : decode cX3_q 135 = .ok (.aload_n 0, 1) := by decide +kernel
theorem dX3_q_136 : decode cX3_q 136 = .ok (.getfield 236, 3) := by decide +kernel
theorem dX3_q_139 : decode cX3_q 139 = .ok (.iconst 0, 1) := by decide +kernel
theorem dX3_q_140 : decode cX3_q 140 = .ok (.iastore, 1) := by decide +kernel
theorem dX3_q_141 : decode cX3_q 141 = .ok (.aload_n 0, 1) := by decide +kernel
theorem dX3_q_142 : decode cX3_q 142 = .ok (.getfield 245, 3) := by decide +kernel
theorem dX3_q_145 : decode cX3_q 145 = .ok (.aload_n 0, 1) := by decide +kernel
theorem dX3_q_146 : decode cX3_q 146 = .ok (.getfield 236, 3) := by decide +kernel
theorem dX3_q_149 : decode cX3_q 149 = .ok (.iconst 0, 1) := by decide +kernel
theorem dX3_q_150 : decode cX3_q 150 = .ok (.iastore, 1) := by decide +kernel
theorem dX3_q_151 : decode cX3_q 151 = .ok (.aload_n 0, 1) := by decide +kernel
theorem dX3_q_152 : decode cX3_q 152 = .ok (.getfield 248, 3) := by decide +kernel
theorem dX3_q_155 : decode cX3_q 155 = .ok (.aload_n 0, 1) := by decide +kernel
theorem dX3_q_156 : decode cX3_q 156 = .ok (.getfield 236, 3) := by decide +kernel
theorem dX3_q_159 : decode cX3_q 159 = .ok (.iconst 0, 1) := by decide +kernel
theorem dX3_q_160 : decode cX3_q 160 = .ok (.iastore, 1) := by decide +kernel
theorem dX3_q_161 : decode cX3_q 161 = .ok (.aload_n 0, 1) := by decide +kernel
theorem dX3_q_162 : decode cX3_q 162 = .ok (.getfield 236, 3) := by decide +kernel
theorem dX3_q_165 : decode cX3_q 165 = .ok (.ireturn, 1) := by decide +kernel
abbrev cX3_tree : ByteArray := prog_4_method_46_code
def yX3_tree : MethodName := ⟨RX3, "tree", "(I)I"⟩
theorem dX3_tree_0 : decode cX3_tree 0 = .ok (.aload_n 0, 1) := by decide +kernel
theorem dX3_tree_1 : decode cX3_tree 1 = .ok (.getfield 33, 3) := by decide +kernel
theorem dX3_tree_4 : decode cX3_tree 4 = .ok (.iload_n 1, 1) := by decide +kernel
theorem dX3_tree_5 : decode cX3_tree 5 = .ok (.iaload, 1) := by decide +kernel
theorem dX3_tree_6 : decode cX3_tree 6 = .ok (.istore_n 2, 1) := by decide +kernel
theorem dX3_tree_7 : decode cX3_tree 7 = .ok (.iload_n 2, 1) := by decide +kernel
theorem dX3_tree_8 : decode cX3_tree 8 = .ok (.bipush 8, 2) := by decide +kernel
theorem dX3_tree_10 : decode cX3_tree 10 = .ok (.if_icmp .ne 13, 3) := by decide +kernel
theorem dX3_tree_13 : decode cX3_tree 13 = .ok (.aload_n 0, 1) := by decide +kernel
theorem dX3_tree_14 : decode cX3_tree 14 = .ok (.aload_n 0, 1) := by decide +kernel
theorem dX3_tree_15 : decode cX3_tree 15 = .ok (.iconst 1, 1) := by decide +kernel
theorem dX3_tree_16 : decode cX3_tree 16 = .ok (.invokevirtual 255, 3) := by decide +kernel
theorem dX3_tree_19 : decode cX3_tree 19 = .ok (.invokevirtual 258, 3) := by decide +kernel
theorem dX3_tree_22 : decode cX3_tree 22 = .ok (.ireturn, 1) := by decide +kernel
theorem dX3_tree_23 : decode cX3_tree 23 = .ok (.iload_n 2, 1) := by decide +kernel
theorem dX3_tree_24 : decode cX3_tree 24 = .ok (.bipush 16, 2) := by decide +kernel
theorem dX3_tree_26 : decode cX3_tree 26 = .ok (.if_icmp .ne 58, 3) := by decide +kernel
theorem dX3_tree_29 : decode cX3_tree 29 = .ok (.aload_n 0, 1) := by decide +kernel
theorem dX3_tree_30 : decode cX3_tree 30 = .ok (.iconst 1, 1) := by decide +kernel
theorem dX3_tree_31 : decode cX3_tree 31 = .ok (.invokevirtual 255, 3) := by decide +kernel
theorem dX3_tree_34 : decode cX3_tree 34 = .ok (.istore_n 3, 1) := by decide +kernel
theorem dX3_tree_35 : decode cX3_tree 35 = .ok (.iconst 0, 1) := by decide +kernel
theorem dX3_tree_36 : decode cX3_tree 36 = .ok (.istore 4, 2) := by decide +kernel
theorem dX3_tree_38 : decode cX3_tree 38 = .ok (.iconst 0, 1) := by decide +kernel
theorem dX3_tree_39 : decode cX3_tree 39 = .ok (.istore 5, 2) := by decide +kernel
theorem dX3_tree_41 : decode cX3_tree 41 = .ok (.iload 5, 2) := by decide +kernel
theorem dX3_tree_43 : decode cX3_tree 43 = .ok (.aload_n 0, 1) := by decide +kernel
theorem dX3_tree_44 : decode cX3_tree 44 = .ok (.getfield 36, 3) := by decide +kernel
theorem dX3_tree_47 : decode cX3_tree 47 = .ok (.iload_n 1, 1) := by decide +kernel
theorem dX3_tree_48 : decode cX3_tree 48 = .ok (.iaload, 1) := by decide +kernel
theorem dX3_tree_49 : decode cX3_tree 49 = .ok (.if_icmp .ge 29, 3) := by decide +kernel
theorem dX3_tree_52 : decode cX3_tree 52 = .ok (.aload_n 0, 1) := by decide +kernel
theorem dX3_tree_53 : decode cX3_tree 53 = .ok (.iload_n 3, 1) := by decide +kernel
theorem dX3_tree_54 : decode cX3_tree 54 = .ok (.iload 4, 2) := by decide +kernel
theorem dX3_tree_56 : decode cX3_tree 56 = .ok (.aload_n 0, 1) := by decide +kernel
theorem dX3_tree_57 : decode cX3_tree 57 = .ok (.aload_n 0, 1) := by decide +kernel
theorem dX3_tree_58 : decode cX3_tree 58 = .ok (.iload_n 1, 1) := by decide +kernel
theorem dX3_tree_59 : decode cX3_tree 59 = .ok (.iload 5, 2) := by decide +kernel
theorem dX3_tree_61 : decode cX3_tree 61 = .ok (.invokevirtual 65, 3) := by decide +kernel
theorem dX3_tree_64 : decode cX3_tree 64 = .ok (.invokevirtual 261, 3) := by decide +kernel
theorem dX3_tree_67 : decode cX3_tree 67 = .ok (.invokevirtual 264, 3) := by decide +kernel
theorem dX3_tree_70 : decode cX3_tree 70 = .ok (.istore 4, 2) := by decide +kernel
theorem dX3_tree_72 : decode cX3_tree 72 = .ok (.iinc 5 1, 3) := by decide +kernel
theorem dX3_tree_75 : decode cX3_tree 75 = .ok (.goto (-34), 3) := by decide +kernel
theorem dX3_tree_78 : decode cX3_tree 78 = .ok (.aload_n 0, 1) := by decide +kernel
theorem dX3_tree_79 : decode cX3_tree 79 = .ok (.iload_n 3, 1) := by decide +kernel
theorem dX3_tree_80 : decode cX3_tree 80 = .ok (.invokevirtual 258, 3) := by decide +kernel
theorem dX3_tree_83 : decode cX3_tree 83 = .ok (.ireturn, 1) := by decide +kernel
theorem dX3_tree_84 : decode cX3_tree 84 = .ok (.iload_n 2, 1) := by decide +kernel
theorem dX3_tree_85 : decode cX3_tree 85 = .ok (.bipush 15, 2) := by decide +kernel
theorem dX3_tree_87 : decode cX3_tree 87 = .ok (.if_icmp .ne 151, 3) := by decide +kernel
theorem dX3_tree_90 : decode cX3_tree 90 = .ok (.aload_n 0, 1) := by decide +kernel
theorem dX3_tree_91 : decode cX3_tree 91 = .ok (.iload_n 1, 1) := by decide +kernel
theorem dX3_tree_92 : decode cX3_tree 92 = .ok (.iconst 0, 1) := by decide +kernel
theorem dX3_tree_93 : decode cX3_tree 93 = .ok (.invokevirtual 65, 3) := by decide +kernel
theorem dX3_tree_96 : decode cX3_tree 96 = .ok (.istore_n 3, 1) := by decide +kernel
theorem dX3_tree_97 : decode cX3_tree 97 = .ok (.aload_n 0, 1) := by decide +kernel
theorem dX3_tree_98 : decode cX3_tree 98 = .ok (.getfield 33, 3) := by decide +kernel
theorem dX3_tree_101 : decode cX3_tree 101 = .ok (.iload_n 3, 1) := by decide +kernel
theorem dX3_tree_102 : decode cX3_tree 102 = .ok (.iaload, 1) := by decide +kernel
theorem dX3_tree_103 : decode cX3_tree 103 = .ok (.bipush 8, 2) := by decide +kernel
theorem dX3_tree_105 : decode cX3_tree 105 = .ok (.if_icmp .ne 13, 3) := by decide +kernel
theorem dX3_tree_108 : decode cX3_tree 108 = .ok (.aload_n 0, 1) := by decide +kernel
theorem dX3_tree_109 : decode cX3_tree 109 = .ok (.aload_n 0, 1) := by decide +kernel
theorem dX3_tree_110 : decode cX3_tree 110 = .ok (.iconst 2, 1) := by decide +kernel
theorem dX3_tree_111 : decode cX3_tree 111 = .ok (.invokevirtual 255, 3) := by decide +kernel
theorem dX3_tree_114 : decode cX3_tree 114 = .ok (.invokevirtual 258, 3) := by decide +kernel
theorem dX3_tree_117 : decode cX3_tree 117 = .ok (.ireturn, 1) := by decide +kernel
theorem dX3_tree_118 : decode cX3_tree 118 = .ok (.aload_n 0, 1) := by decide +kernel
theorem dX3_tree_119 : decode cX3_tree 119 = .ok (.getfield 33, 3) := by decide +kernel
theorem dX3_tree_122 : decode cX3_tree 122 = .ok (.iload_n 3, 1) := by decide +kernel
theorem dX3_tree_123 : decode cX3_tree 123 = .ok (.iaload, 1) := by decide +kernel
theorem dX3_tree_124 : decode cX3_tree 124 = .ok (.bipush 16, 2) := by decide +kernel
theorem dX3_tree_126 : decode cX3_tree 126 = .ok (.if_icmp .ne 65, 3) := by decide +kernel
theorem dX3_tree_129 : decode cX3_tree 129 = .ok (.aload_n 0, 1) := by decide +kernel
theorem dX3_tree_130 : decode cX3_tree 130 = .ok (.iconst 2, 1) := by decide +kernel
theorem dX3_tree_131 : decode cX3_tree 131 = .ok (.invokevirtual 255, 3) := by decide +kernel
theorem dX3_tree_134 : decode cX3_tree 134 = .ok (.istore 4, 2) := by decide +kernel
theorem dX3_tree_136 : decode cX3_tree 136 = .ok (.iconst 0, 1) := by decide +kernel
theorem dX3_tree_137 : decode cX3_tree 137 = .ok (.istore 5, 2) := by decide +kernel
theorem dX3_tree_139 : decode cX3_tree 139 = .ok (.iconst 0, 1) := by decide +kernel
theorem dX3_tree_140 : decode cX3_tree 140 = .ok (.istore 6, 2) := by decide +kernel
theorem dX3_tree_142 : decode cX3_tree 142 = .ok (.iload 6, 2) := by decide +kernel
theorem dX3_tree_144 : decode cX3_tree 144 = .ok (.aload_n 0, 1) := by decide +kernel
theorem dX3_tree_145 : decode cX3_tree 145 = .ok (.getfield 36, 3) := by decide +kernel
theorem dX3_tree_148 : decode cX3_tree 148 = .ok (.iload_n 3, 1) := by decide +kernel
theorem dX3_tree_149 : decode cX3_tree 149 = .ok (.iaload, 1) := by decide +kernel
theorem dX3_tree_150 : decode cX3_tree 150 = .ok (.if_icmp .ge 34, 3) := by decide +kernel
theorem dX3_tree_153 : decode cX3_tree 153 = .ok (.aload_n 0, 1) := by decide +kernel
theorem dX3_tree_154 : decode cX3_tree 154 = .ok (.iload 4, 2) := by decide +kernel
theorem dX3_tree_156 : decode cX3_tree 156 = .ok (.iload 5, 2) := by decide +kernel
theorem dX3_tree_158 : decode cX3_tree 158 = .ok (.aload_n 0, 1) := by decide +kernel
theorem dX3_tree_159 : decode cX3_tree 159 = .ok (.aload_n 0, 1) := by decide +kernel
theorem dX3_tree_160 : decode cX3_tree 160 = .ok (.aload_n 0, 1) := by decide +kernel
theorem dX3_tree_161 : decode cX3_tree 161 = .ok (.iload_n 3, 1) := by decide +kernel
theorem dX3_tree_162 : decode cX3_tree 162 = .ok (.iload 6, 2) := by decide +kernel
theorem dX3_tree_164 : decode cX3_tree 164 = .ok (.invokevirtual 65, 3) := by decide +kernel
theorem dX3_tree_167 : decode cX3_tree 167 = .ok (.invokevirtual 88, 3) := by decide +kernel
theorem dX3_tree_170 : decode cX3_tree 170 = .ok (.invokevirtual 261, 3) := by decide +kernel
theorem dX3_tree_173 : decode cX3_tree 173 = .ok (.invokevirtual 264, 3) := by decide +kernel
theorem dX3_tree_176 : decode cX3_tree 176 = .ok (.istore 5, 2) := by decide +kernel
theorem dX3_tree_178 : decode cX3_tree 178 = .ok (.iinc 6 1, 3) := by decide +kernel
theorem dX3_tree_181 : decode cX3_tree 181 = .ok (.goto (-39), 3) := by decide +kernel
theorem dX3_tree_184 : decode cX3_tree 184 = .ok (.aload_n 0, 1) := by decide +kernel
theorem dX3_tree_185 : decode cX3_tree 185 = .ok (.iload 4, 2) := by decide +kernel
theorem dX3_tree_187 : decode cX3_tree 187 = .ok (.invokevirtual 258, 3) := by decide +kernel
theorem dX3_tree_190 : decode cX3_tree 190 = .ok (.ireturn, 1) := by decide +kernel
theorem dX3_tree_191 : decode cX3_tree 191 = .ok (.aload_n 0, 1) := by decide +kernel
theorem dX3_tree_192 : decode cX3_tree 192 = .ok (.getfield 33, 3) := by decide +kernel
theorem dX3_tree_195 : decode cX3_tree 195 = .ok (.iload_n 3, 1) := by decide +kernel
theorem dX3_tree_196 : decode cX3_tree 196 = .ok (.iaload, 1) := by decide +kernel
theorem dX3_tree_197 : decode cX3_tree 197 = .ok (.bipush 17, 2) := by decide +kernel
theorem dX3_tree_199 : decode cX3_tree 199 = .ok (.if_icmp .ne 39, 3) := by decide +kernel
theorem dX3_tree_202 : decode cX3_tree 202 = .ok (.aload_n 0, 1) := by decide +kernel
theorem dX3_tree_203 : decode cX3_tree 203 = .ok (.aload_n 0, 1) := by decide +kernel
theorem dX3_tree_204 : decode cX3_tree 204 = .ok (.aload_n 0, 1) := by decide +kernel
theorem dX3_tree_205 : decode cX3_tree 205 = .ok (.aload_n 0, 1) := by decide +kernel
theorem dX3_tree_206 : decode cX3_tree 206 = .ok (.iload_n 3, 1) := by decide +kernel
theorem dX3_tree_207 : decode cX3_tree 207 = .ok (.iconst 1, 1) := by decide +kernel
theorem dX3_tree_208 : decode cX3_tree 208 = .ok (.invokevirtual 65, 3) := by decide +kernel
theorem dX3_tree_211 : decode cX3_tree 211 = .ok (.iconst 0, 1) := by decide +kernel
theorem dX3_tree_212 : decode cX3_tree 212 = .ok (.aload_n 0, 1) := by decide +kernel
theorem dX3_tree_213 : decode cX3_tree 213 = .ok (.iconst 2, 1) := by decide +kernel
theorem dX3_tree_214 : decode cX3_tree 214 = .ok (.aload_n 0, 1) := by decide +kernel
theorem dX3_tree_215 : decode cX3_tree 215 = .ok (.iconst 0, 1) := by decide +kernel
theorem dX3_tree_216 : decode cX3_tree 216 = .ok (.aload_n 0, 1) := by decide +kernel
theorem dX3_tree_217 : decode cX3_tree 217 = .ok (.iload_n 3, 1) := by decide +kernel
theorem dX3_tree_218 : decode cX3_tree 218 = .ok (.iconst 0, 1) := by decide +kernel
theorem dX3_tree_219 : decode cX3_tree 219 = .ok (.invokevirtual 65, 3) := by decide +kernel
theorem dX3_tree_222 : decode cX3_tree 222 = .ok (.invokevirtual 267, 3) := by decide +kernel
theorem dX3_tree_225 : decode cX3_tree 225 = .ok (.invokevirtual 78, 3) := by decide +kernel
theorem dX3_tree_228 : decode cX3_tree 228 = .ok (.invokevirtual 113, 3) := by decide +kernel
theorem dX3_tree_231 : decode cX3_tree 231 = .ok (.invokevirtual 88, 3) := by decide +kernel
theorem dX3_tree_234 : decode cX3_tree 234 = .ok (.invokevirtual 261, 3) := by decide +kernel
theorem dX3_tree_237 : decode cX3_tree 237 = .ok (.ireturn, 1) := by decide +kernel
theorem dX3_tree_238 : decode cX3_tree 238 = .ok (.aload_n 0, 1) := by decide +kernel
theorem dX3_tree_239 : decode cX3_tree 239 = .ok (.iconst 3, 1) := by decide +kernel
theorem dX3_tree_240 : decode cX3_tree 240 = .ok (.invokevirtual 255, 3) := by decide +kernel
theorem dX3_tree_243 : decode cX3_tree 243 = .ok (.istore_n 3, 1) := by decide +kernel
theorem dX3_tree_244 : decode cX3_tree 244 = .ok (.aload_n 0, 1) := by decide +kernel
theorem dX3_tree_245 : decode cX3_tree 245 = .ok (.getfield 248, 3) := by decide +kernel
theorem dX3_tree_248 : decode cX3_tree 248 = .ok (.iload_n 3, 1) := by decide +kernel
theorem dX3_tree_249 : decode cX3_tree 249 = .ok (.iload_n 1, 1) := by decide +kernel
theorem dX3_tree_250 : decode cX3_tree 250 = .ok (.iastore, 1) := by decide +kernel
theorem dX3_tree_251 : decode cX3_tree 251 = .ok (.aload_n 0, 1) := by decide +kernel
theorem dX3_tree_252 : decode cX3_tree 252 = .ok (.getfield 251, 3) := by decide +kernel
theorem dX3_tree_255 : decode cX3_tree 255 = .ok (.iload_n 3, 1) := by decide +kernel
theorem dX3_tree_256 : decode cX3_tree 256 = .ok (.lconst 1, 1) := by decide +kernel
theorem dX3_tree_257 : decode cX3_tree 257 = .ok (.lastore, 1) := by decide +kernel
theorem dX3_tree_258 : decode cX3_tree 258 = .ok (.iload_n 3, 1) := by decide +kernel
theorem dX3_tree_259 : decode cX3_tree 259 = .ok (.ireturn, 1) := by decide +kernel
abbrev cX3_counted : ByteArray := prog_4_method_48_code
def yX3_counted : MethodName := ⟨RX3, "counted", "(I)I"⟩
theorem dX3_counted_0 : decode cX3_counted 0 = .ok (.aload_n 0, 1) := by decide +kernel
theorem dX3_counted_1 : decode cX3_counted 1 = .ok (.getfield 239, 3) := by decide +kernel
theorem dX3_counted_4 : decode cX3_counted 4 = .ok (.iload_n 1, 1) := by decide +kernel
theorem dX3_counted_5 : decode cX3_counted 5 = .ok (.iaload, 1) := by decide +kernel
theorem dX3_counted_6 : decode cX3_counted 6 = .ok (.iconst 1, 1) := by decide +kernel
theorem dX3_counted_7 : decode cX3_counted 7 = .ok (.if_icmp .ne 7, 3) := by decide +kernel
theorem dX3_counted_10 : decode cX3_counted 10 = .ok (.lconst 1, 1) := by decide +kernel
theorem dX3_counted_11 : decode cX3_counted 11 = .ok (.goto 4, 3) := by decide +kernel
theorem dX3_counted_14 : decode cX3_counted 14 = .ok (.lconst 0, 1) := by decide +kernel
theorem dX3_counted_15 : decode cX3_counted 15 = .ok (.lstore_n 2, 1) := by decide +kernel
theorem dX3_counted_16 : decode cX3_counted 16 = .ok (.iconst 0, 1) := by decide +kernel
