set_option maxRecDepth 100000
theorem dX3_isCongruent_101 : decode cX3_isCongruent 101 = .ok (.iconst 2, 1) := by decide +kernel
theorem dX3_isCongruent_102 : decode cX3_isCongruent 102 = .ok (.istore 6, 2) := by decide +kernel
theorem dX3_isCongruent_104 : decode cX3_isCongruent 104 = .ok (.iload 6, 2) := by decide +kernel
theorem dX3_isCongruent_106 : decode cX3_isCongruent 106 = .ok (.aload_n 0, 1) := by decide +kernel
theorem dX3_isCongruent_107 : decode cX3_isCongruent 107 = .ok (.getfield 36, 3) := by decide +kernel
theorem dX3_isCongruent_110 : decode cX3_isCongruent 110 = .ok (.iload 4, 2) := by decide +kernel
theorem dX3_isCongruent_112 : decode cX3_isCongruent 112 = .ok (.iaload, 1) := by decide +kernel
theorem dX3_isCongruent_113 : decode cX3_isCongruent 113 = .ok (.if_icmp .ge 30, 3) := by decide +kernel
theorem dX3_isCongruent_116 : decode cX3_isCongruent 116 = .ok (.aload_n 0, 1) := by decide +kernel
theorem dX3_isCongruent_117 : decode cX3_isCongruent 117 = .ok (.iload 4, 2) := by decide +kernel
theorem dX3_isCongruent_119 : decode cX3_isCongruent 119 = .ok (.iload 6, 2) := by decide +kernel
theorem dX3_isCongruent_121 : decode cX3_isCongruent 121 = .ok (.invokevirtual 65, 3) := by decide +kernel
theorem dX3_isCongruent_124 : decode cX3_isCongruent 124 = .ok (.aload_n 0, 1) := by decide +kernel
theorem dX3_isCongruent_125 : decode cX3_isCongruent 125 = .ok (.iload 5, 2) := by decide +kernel
theorem dX3_isCongruent_127 : decode cX3_isCongruent 127 = .ok (.iload 6, 2) := by decide +kernel
theorem dX3_isCongruent_129 : decode cX3_isCongruent 129 = .ok (.invokevirtual 65, 3) := by decide +kernel
theorem dX3_isCongruent_132 : decode cX3_isCongruent 132 = .ok (.if_icmp .eq 5, 3) := by decide +kernel
theorem dX3_isCongruent_135 : decode cX3_isCongruent 135 = .ok (.iconst 0, 1) := by decide +kernel
theorem dX3_isCongruent_136 : decode cX3_isCongruent 136 = .ok (.ireturn, 1) := by decide +kernel
theorem dX3_isCongruent_137 : decode cX3_isCongruent 137 = .ok (.iinc 6 1, 3) := by decide +kernel
theorem dX3_isCongruent_140 : decode cX3_isCongruent 140 = .ok (.goto (-36), 3) := by decide +kernel
theorem dX3_isCongruent_143 : decode cX3_isCongruent 143 = .ok (.aload_n 0, 1) := by decide +kernel
theorem dX3_isCongruent_144 : decode cX3_isCongruent 144 = .ok (.aload_n 0, 1) := by decide +kernel
theorem dX3_isCongruent_145 : decode cX3_isCongruent 145 = .ok (.iload 4, 2) := by decide +kernel
theorem dX3_isCongruent_147 : decode cX3_isCongruent 147 = .ok (.iconst 1, 1) := by decide +kernel
theorem dX3_isCongruent_148 : decode cX3_isCongruent 148 = .ok (.invokevirtual 65, 3) := by decide +kernel
theorem dX3_isCongruent_151 : decode cX3_isCongruent 151 = .ok (.aload_n 0, 1) := by decide +kernel
theorem dX3_isCongruent_152 : decode cX3_isCongruent 152 = .ok (.iload 5, 2) := by decide +kernel
theorem dX3_isCongruent_154 : decode cX3_isCongruent 154 = .ok (.iconst 1, 1) := by decide +kernel
theorem dX3_isCongruent_155 : decode cX3_isCongruent 155 = .ok (.invokevirtual 65, 3) := by decide +kernel
theorem dX3_isCongruent_158 : decode cX3_isCongruent 158 = .ok (.invokevirtual 358, 3) := by decide +kernel
theorem dX3_isCongruent_161 : decode cX3_isCongruent 161 = .ok (.ireturn, 1) := by decide +kernel
theorem dX3_isCongruent_162 : decode cX3_isCongruent 162 = .ok (.aload_n 0, 1) := by decide +kernel
theorem dX3_isCongruent_163 : decode cX3_isCongruent 163 = .ok (.iload_n 1, 1) := by decide +kernel
theorem dX3_isCongruent_164 : decode cX3_isCongruent 164 = .ok (.iconst 0, 1) := by decide +kernel
theorem dX3_isCongruent_165 : decode cX3_isCongruent 165 = .ok (.invokevirtual 65, 3) := by decide +kernel
theorem dX3_isCongruent_168 : decode cX3_isCongruent 168 = .ok (.aload_n 0, 1) := by decide +kernel
theorem dX3_isCongruent_169 : decode cX3_isCongruent 169 = .ok (.iload_n 2, 1) := by decide +kernel
theorem dX3_isCongruent_170 : decode cX3_isCongruent 170 = .ok (.iconst 0, 1) := by decide +kernel
theorem dX3_isCongruent_171 : decode cX3_isCongruent 171 = .ok (.invokevirtual 65, 3) := by decide +kernel
theorem dX3_isCongruent_174 : decode cX3_isCongruent 174 = .ok (.if_icmp .eq 5, 3) := by decide +kernel
theorem dX3_isCongruent_177 : decode cX3_isCongruent 177 = .ok (.iconst 0, 1) := by decide +kernel
theorem dX3_isCongruent_178 : decode cX3_isCongruent 178 = .ok (.ireturn, 1) := by decide +kernel
theorem dX3_isCongruent_179 : decode cX3_isCongruent 179 = .ok (.iconst 1, 1) := by decide +kernel
theorem dX3_isCongruent_180 : decode cX3_isCongruent 180 = .ok (.istore 4, 2) := by decide +kernel
theorem dX3_isCongruent_182 : decode cX3_isCongruent 182 = .ok (.iload 4, 2) := by decide +kernel
theorem dX3_isCongruent_184 : decode cX3_isCongruent 184 = .ok (.aload_n 0, 1) := by decide +kernel
theorem dX3_isCongruent_185 : decode cX3_isCongruent 185 = .ok (.getfield 36, 3) := by decide +kernel
theorem dX3_isCongruent_188 : decode cX3_isCongruent 188 = .ok (.iload_n 1, 1) := by decide +kernel
theorem dX3_isCongruent_189 : decode cX3_isCongruent 189 = .ok (.iaload, 1) := by decide +kernel
theorem dX3_isCongruent_190 : decode cX3_isCongruent 190 = .ok (.if_icmp .ge 32, 3) := by decide +kernel
theorem dX3_isCongruent_193 : decode cX3_isCongruent 193 = .ok (.aload_n 0, 1) := by decide +kernel
theorem dX3_isCongruent_194 : decode cX3_isCongruent 194 = .ok (.aload_n 0, 1) := by decide +kernel
theorem dX3_isCongruent_195 : decode cX3_isCongruent 195 = .ok (.iload_n 1, 1) := by decide +kernel
theorem dX3_isCongruent_196 : decode cX3_isCongruent 196 = .ok (.iload 4, 2) := by decide +kernel
theorem dX3_isCongruent_198 : decode cX3_isCongruent 198 = .ok (.invokevirtual 65, 3) := by decide +kernel
theorem dX3_isCongruent_201 : decode cX3_isCongruent 201 = .ok (.aload_n 0, 1) := by decide +kernel
theorem dX3_isCongruent_202 : decode cX3_isCongruent 202 = .ok (.iload_n 2, 1) := by decide +kernel
theorem dX3_isCongruent_203 : decode cX3_isCongruent 203 = .ok (.iload 4, 2) := by decide +kernel
theorem dX3_isCongruent_205 : decode cX3_isCongruent 205 = .ok (.invokevirtual 65, 3) := by decide +kernel
theorem dX3_isCongruent_208 : decode cX3_isCongruent 208 = .ok (.invokevirtual 358, 3) := by decide +kernel
theorem dX3_isCongruent_211 : decode cX3_isCongruent 211 = .ok (.ifCond .ne 5, 3) := by decide +kernel
theorem dX3_isCongruent_214 : decode cX3_isCongruent 214 = .ok (.iconst 0, 1) := by decide +kernel
theorem dX3_isCongruent_215 : decode cX3_isCongruent 215 = .ok (.ireturn, 1) := by decide +kernel
theorem dX3_isCongruent_216 : decode cX3_isCongruent 216 = .ok (.iinc 4 1, 3) := by decide +kernel
theorem dX3_isCongruent_219 : decode cX3_isCongruent 219 = .ok (.goto (-37), 3) := by decide +kernel
theorem dX3_isCongruent_222 : decode cX3_isCongruent 222 = .ok (.iconst 1, 1) := by decide +kernel
theorem dX3_isCongruent_223 : decode cX3_isCongruent 223 = .ok (.ireturn, 1) := by decide +kernel
abbrev cX3_byRegistrations : ByteArray := prog_4_method_82_code
def yX3_byRegistrations : MethodName := ⟨RX3, "byRegistrations", "()V"⟩
theorem dX3_byRegistrations_0 : decode cX3_byRegistrations 0 = .ok (.iconst 0, 1) := by decide +kernel
theorem dX3_byRegistrations_1 : decode cX3_byRegistrations 1 = .ok (.istore_n 1, 1) := by decide +kernel
theorem dX3_byRegistrations_2 : decode cX3_byRegistrations 2 = .ok (.iload_n 1, 1) := by decide +kernel
theorem dX3_byRegistrations_3 : decode cX3_byRegistrations 3 = .ok (.aload_n 0, 1) := by decide +kernel
theorem dX3_byRegistrations_4 : decode cX3_byRegistrations 4 = .ok (.getfield 196, 3) := by decide +kernel
theorem dX3_byRegistrations_7 : decode cX3_byRegistrations 7 = .ok (.if_icmp .ge 157, 3) := by decide +kernel
theorem dX3_byRegistrations_10 : decode cX3_byRegistrations 10 = .ok (.aload_n 0, 1) := by decide +kernel
theorem dX3_byRegistrations_11 : decode cX3_byRegistrations 11 = .ok (.getfield 338, 3) := by decide +kernel
theorem dX3_byRegistrations_14 : decode cX3_byRegistrations 14 = .ok (.istore_n 2, 1) := by decide +kernel
theorem dX3_byRegistrations_15 : decode cX3_byRegistrations 15 = .ok (.iconst 0, 1) := by decide +kernel
theorem dX3_byRegistrations_16 : decode cX3_byRegistrations 16 = .ok (.istore_n 3, 1) := by decide +kernel
theorem dX3_byRegistrations_17 : decode cX3_byRegistrations 17 = .ok (.iload_n 3, 1) := by decide +kernel
theorem dX3_byRegistrations_18 : decode cX3_byRegistrations 18 = .ok (.iload_n 2, 1) := by decide +kernel
theorem dX3_byRegistrations_19 : decode cX3_byRegistrations 19 = .ok (.if_icmp .ge 139, 3) := by decide +kernel
theorem dX3_byRegistrations_22 : decode cX3_byRegistrations 22 = .ok (.aload_n 0, 1) := by decide +kernel
theorem dX3_byRegistrations_23 : decode cX3_byRegistrations 23 = .ok (.getfield 338, 3) := by decide +kernel
theorem dX3_byRegistrations_26 : decode cX3_byRegistrations 26 = .ok (.bipush 100, 2) := by decide +kernel
theorem dX3_byRegistrations_28 : decode cX3_byRegistrations 28 = .ok (.if_icmp .gt 130, 3) := by decide +kernel
theorem dX3_byRegistrations_31 : decode cX3_byRegistrations 31 = .ok (.aload_n 0, 1) := by decide +kernel
theorem dX3_byRegistrations_32 : decode cX3_byRegistrations 32 = .ok (.getfield 199, 3) := by decide +kernel
theorem dX3_byRegistrations_35 : decode cX3_byRegistrations 35 = .ok (.iload_n 1, 1) := by decide +kernel
theorem dX3_byRegistrations_36 : decode cX3_byRegistrations 36 = .ok (.iaload, 1) := by decide +kernel
theorem dX3_byRegistrations_37 : decode cX3_byRegistrations 37 = .ok (.iconst 1, 1) := by decide +kernel
theorem dX3_byRegistrations_38 : decode cX3_byRegistrations 38 = .ok (.if_icmp .ne 21, 3) := by decide +kernel
theorem dX3_byRegistrations_41 : decode cX3_byRegistrations 41 = .ok (.aload_n 0, 1) := by decide +kernel
theorem dX3_byRegistrations_42 : decode cX3_byRegistrations 42 = .ok (.iload_n 3, 1) := by decide +kernel
theorem dX3_byRegistrations_43 : decode cX3_byRegistrations 43 = .ok (.invokevirtual 328, 3) := by decide +kernel
theorem dX3_byRegistrations_46 : decode cX3_byRegistrations 46 = .ok (.iload_n 3, 1) := by decide +kernel
theorem dX3_byRegistrations_47 : decode cX3_byRegistrations 47 = .ok (.if_icmp .ne 105, 3) := by decide +kernel
theorem dX3_byRegistrations_50 : decode cX3_byRegistrations 50 = .ok (.aload_n 0, 1) := by decide +kernel
theorem dX3_byRegistrations_51 : decode cX3_byRegistrations 51 = .ok (.iload_n 1, 1) := by decide +kernel
theorem dX3_byRegistrations_52 : decode cX3_byRegistrations 52 = .ok (.iload_n 3, 1) := by decide +kernel
theorem dX3_byRegistrations_53 : decode cX3_byRegistrations 53 = .ok (.invokevirtual 484, 3) := by decide +kernel
theorem dX3_byRegistrations_56 : decode cX3_byRegistrations 56 = .ok (.goto 96, 3) := by decide +kernel
theorem dX3_byRegistrations_59 : decode cX3_byRegistrations 59 = .ok (.aload_n 0, 1) := by decide +kernel
theorem dX3_byRegistrations_60 : decode cX3_byRegistrations 60 = .ok (.getfield 344, 3) := by decide +kernel
theorem dX3_byRegistrations_63 : decode cX3_byRegistrations 63 = .ok (.iload_n 3, 1) := by decide +kernel
theorem dX3_byRegistrations_64 : decode cX3_byRegistrations 64 = .ok (.iaload, 1) := by decide +kernel
theorem dX3_byRegistrations_65 : decode cX3_byRegistrations 65 = .ok (.istore 4, 2) := by decide +kernel
theorem dX3_byRegistrations_67 : decode cX3_byRegistrations 67 = .ok (.aload_n 0, 1) := by decide +kernel
theorem dX3_byRegistrations_68 : decode cX3_byRegistrations 68 = .ok (.getfield 33, 3) := by decide +kernel
theorem dX3_byRegistrations_71 : decode cX3_byRegistrations 71 = .ok (.iload 4, 2) := by decide +kernel
theorem dX3_byRegistrations_73 : decode cX3_byRegistrations 73 = .ok (.iaload, 1) := by decide +kernel
theorem dX3_byRegistrations_74 : decode cX3_byRegistrations 74 = .ok (.iconst 4, 1) := by decide +kernel
theorem dX3_byRegistrations_75 : decode cX3_byRegistrations 75 = .ok (.if_icmp .ne 77, 3) := by decide +kernel
theorem dX3_byRegistrations_78 : decode cX3_byRegistrations 78 = .ok (.aload_n 0, 1) := by decide +kernel
theorem dX3_byRegistrations_79 : decode cX3_byRegistrations 79 = .ok (.iload 4, 2) := by decide +kernel
theorem dX3_byRegistrations_81 : decode cX3_byRegistrations 81 = .ok (.iconst 0, 1) := by decide +kernel
theorem dX3_byRegistrations_82 : decode cX3_byRegistrations 82 = .ok (.invokevirtual 65, 3) := by decide +kernel
theorem dX3_byRegistrations_85 : decode cX3_byRegistrations 85 = .ok (.aload_n 0, 1) := by decide +kernel
theorem dX3_byRegistrations_86 : decode cX3_byRegistrations 86 = .ok (.getfield 202, 3) := by decide +kernel
theorem dX3_byRegistrations_89 : decode cX3_byRegistrations 89 = .ok (.iload_n 1, 1) := by decide +kernel
theorem dX3_byRegistrations_90 : decode cX3_byRegistrations 90 = .ok (.iaload, 1) := by decide +kernel
theorem dX3_byRegistrations_91 : decode cX3_byRegistrations 91 = .ok (.if_icmp .ne 61, 3) := by decide +kernel
theorem dX3_byRegistrations_94 : decode cX3_byRegistrations 94 = .ok (.aload_n 0, 1) := by decide +kernel
theorem dX3_byRegistrations_95 : decode cX3_byRegistrations 95 = .ok (.iload_n 1, 1) := by decide +kernel
theorem dX3_byRegistrations_96 : decode cX3_byRegistrations 96 = .ok (.iload 4, 2) := by decide +kernel
theorem dX3_byRegistrations_98 : decode cX3_byRegistrations 98 = .ok (.invokevirtual 487, 3) := by decide +kernel
theorem dX3_byRegistrations_101 : decode cX3_byRegistrations 101 = .ok (.ifCond .ne 6, 3) := by decide +kernel
theorem dX3_byRegistrations_104 : decode cX3_byRegistrations 104 = .ok (.goto 48, 3) := by decide +kernel
theorem dX3_byRegistrations_107 : decode cX3_byRegistrations 107 = .ok (.aload_n 0, 1) := by decide +kernel
theorem dX3_byRegistrations_108 : decode cX3_byRegistrations 108 = .ok (.getfield 199, 3) := by decide +kernel
theorem dX3_byRegistrations_111 : decode cX3_byRegistrations 111 = .ok (.iload_n 1, 1) := by decide +kernel
theorem dX3_byRegistrations_112 : decode cX3_byRegistrations 112 = .ok (.iaload, 1) := by decide +kernel
theorem dX3_byRegistrations_113 : decode cX3_byRegistrations 113 = .ok (.iconst 2, 1) := by decide +kernel
theorem dX3_byRegistrations_114 : decode cX3_byRegistrations 114 = .ok (.if_icmp .ne 17, 3) := by decide +kernel
theorem dX3_byRegistrations_117 : decode cX3_byRegistrations 117 = .ok (.aload_n 0, 1) := by decide +kernel
theorem dX3_byRegistrations_118 : decode cX3_byRegistrations 118 = .ok (.iload_n 3, 1) := by decide +kernel
theorem dX3_byRegistrations_119 : decode cX3_byRegistrations 119 = .ok (.aload_n 0, 1) := by decide +kernel
theorem dX3_byRegistrations_120 : decode cX3_byRegistrations 120 = .ok (.getfield 208, 3) := by decide +kernel
theorem dX3_byRegistrations_123 : decode cX3_byRegistrations 123 = .ok (.iload_n 1, 1) := by decide +kernel
theorem dX3_byRegistrations_124 : decode cX3_byRegistrations 124 = .ok (.iaload, 1) := by decide +kernel
theorem dX3_byRegistrations_125 : decode cX3_byRegistrations 125 = .ok (.invokevirtual 490, 3) := by decide +kernel
theorem dX3_byRegistrations_128 : decode cX3_byRegistrations 128 = .ok (.goto 24, 3) := by decide +kernel
theorem dX3_byRegistrations_131 : decode cX3_byRegistrations 131 = .ok (.aload_n 0, 1) := by decide +kernel
theorem dX3_byRegistrations_132 : decode cX3_byRegistrations 132 = .ok (.iload 4, 2) := by decide +kernel
theorem dX3_byRegistrations_134 : decode cX3_byRegistrations 134 = .ok (.invokevirtual 148, 3) := by decide +kernel
theorem dX3_byRegistrations_137 : decode cX3_byRegistrations 137 = .ok (.aload_n 0, 1) := by decide +kernel
theorem dX3_byRegistrations_138 : decode cX3_byRegistrations 138 = .ok (.iload_n 3, 1) := by decide +kernel
theorem dX3_byRegistrations_139 : decode cX3_byRegistrations 139 = .ok (.aload_n 0, 1) := by decide +kernel
theorem dX3_byRegistrations_140 : decode cX3_byRegistrations 140 = .ok (.aload_n 0, 1) := by decide +kernel
theorem dX3_byRegistrations_141 : decode cX3_byRegistrations 141 = .ok (.getfield 493, 3) := by decide +kernel
theorem dX3_byRegistrations_144 : decode cX3_byRegistrations 144 = .ok (.iload_n 1, 1) := by decide +kernel
theorem dX3_byRegistrations_145 : decode cX3_byRegistrations 145 = .ok (.iaload, 1) := by decide +kernel
theorem dX3_byRegistrations_146 : decode cX3_byRegistrations 146 = .ok (.invokevirtual 154, 3) := by decide +kernel
theorem dX3_byRegistrations_149 : decode cX3_byRegistrations 149 = .ok (.invokevirtual 496, 3) := by decide +kernel
theorem dX3_byRegistrations_152 : decode cX3_byRegistrations 152 = .ok (.iinc 3 1, 3) := by decide +kernel
theorem dX3_byRegistrations_155 : decode cX3_byRegistrations 155 = .ok (.goto (-138), 3) := by decide +kernel
theorem dX3_byRegistrations_158 : decode cX3_byRegistrations 158 = .ok (.iinc 1 1, 3) := by decide +kernel
theorem dX3_byRegistrations_161 : decode cX3_byRegistrations 161 = .ok (.goto (-159), 3) := by decide +kernel
theorem dX3_byRegistrations_164 : decode cX3_byRegistrations 164 = .ok (.return_, 1) := by decide +kernel
abbrev cX3_conditional : ByteArray := prog_4_method_85_code
def yX3_conditional : MethodName := ⟨RX3, "conditional", "(II)V"⟩
theorem dX3_conditional_0 : decode cX3_conditional 0 = .ok (.aload_n 0, 1) := by decide +kernel
theorem dX3_conditional_1 : decode cX3_conditional 1 = .ok (.getfield 211, 3) := by decide +kernel
theorem dX3_conditional_4 : decode cX3_conditional 4 = .ok (.iload_n 1, 1) := by decide +kernel
theorem dX3_conditional_5 : decode cX3_conditional 5 = .ok (.iaload, 1) := by decide +kernel
theorem dX3_conditional_6 : decode cX3_conditional 6 = .ok (.istore_n 3, 1) := by decide +kernel
theorem dX3_conditional_7 : decode cX3_conditional 7 = .ok (.aload_n 0, 1) := by decide +kernel
theorem dX3_conditional_8 : decode cX3_conditional 8 = .ok (.iload_n 3, 1) := by decide +kernel
theorem dX3_conditional_9 : decode cX3_conditional 9 = .ok (.iconst 0, 1) := by decide +kernel
theorem dX3_conditional_10 : decode cX3_conditional 10 = .ok (.invokevirtual 65, 3) := by decide +kernel
theorem dX3_conditional_13 : decode cX3_conditional 13 = .ok (.istore 4, 2) := by decide +kernel
theorem dX3_conditional_15 : decode cX3_conditional 15 = .ok (.iconst 2, 1) := by decide +kernel
theorem dX3_conditional_16 : decode cX3_conditional 16 = .ok (.istore 5, 2) := by decide +kernel
theorem dX3_conditional_18 : decode cX3_conditional 18 = .ok (.iload 5, 2) := by decide +kernel
theorem dX3_conditional_20 : decode cX3_conditional 20 = .ok (.aload_n 0, 1) := by decide +kernel
theorem dX3_conditional_21 : decode cX3_conditional 21 = .ok (.getfield 36, 3) := by decide +kernel
theorem dX3_conditional_24 : decode cX3_conditional 24 = .ok (.iload_n 3, 1) := by decide +kernel
theorem dX3_conditional_25 : decode cX3_conditional 25 = .ok (.iaload, 1) := by decide +kernel
theorem dX3_conditional_26 : decode cX3_conditional 26 = .ok (.if_icmp .ge 25, 3) := by decide +kernel
theorem dX3_conditional_29 : decode cX3_conditional 29 = .ok (.aload_n 0, 1) := by decide +kernel
theorem dX3_conditional_30 : decode cX3_conditional 30 = .ok (.iload_n 2, 1) := by decide +kernel
theorem dX3_conditional_31 : decode cX3_conditional 31 = .ok (.aload_n 0, 1) := by decide +kernel
theorem dX3_conditional_32 : decode cX3_conditional 32 = .ok (.iload_n 3, 1) := by decide +kernel
theorem dX3_conditional_33 : decode cX3_conditional 33 = .ok (.iload 5, 2) := by decide +kernel
theorem dX3_conditional_35 : decode cX3_conditional 35 = .ok (.invokevirtual 65, 3) := by decide +kernel
theorem dX3_conditional_38 : decode cX3_conditional 38 = .ok (.invokevirtual 373, 3) := by decide +kernel
theorem dX3_conditional_41 : decode cX3_conditional 41 = .ok (.ifCond .ne 4, 3) := by decide +kernel
theorem dX3_conditional_44 : decode cX3_conditional 44 = .ok (.return_, 1) := by decide +kernel
theorem dX3_conditional_45 : decode cX3_conditional 45 = .ok (.iinc 5 1, 3) := by decide +kernel
theorem dX3_conditional_48 : decode cX3_conditional 48 = .ok (.goto (-30), 3) := by decide +kernel
theorem dX3_conditional_51 : decode cX3_conditional 51 = .ok (.iload 4, 2) := by decide +kernel
theorem dX3_conditional_53 : decode cX3_conditional 53 = .ok (.ifCond .ne 7, 3) := by decide +kernel
theorem dX3_conditional_56 : decode cX3_conditional 56 = .ok (.iconst 1, 1) := by decide +kernel
theorem dX3_conditional_57 : decode cX3_conditional 57 = .ok (.goto 4, 3) := by decide +kernel
theorem dX3_conditional_60 : decode cX3_conditional 60 = .ok (.iconst 0, 1) := by decide +kernel
theorem dX3_conditional_61 : decode cX3_conditional 61 = .ok (.istore 5, 2) := by decide +kernel
theorem dX3_conditional_63 : decode cX3_conditional 63 = .ok (.iconst 0, 1) := by decide +kernel
theorem dX3_conditional_64 : decode cX3_conditional 64 = .ok (.istore 6, 2) := by decide +kernel
theorem dX3_conditional_66 : decode cX3_conditional 66 = .ok (.iload 6, 2) := by decide +kernel
theorem dX3_conditional_68 : decode cX3_conditional 68 = .ok (.aload_n 0, 1) := by decide +kernel
theorem dX3_conditional_69 : decode cX3_conditional 69 = .ok (.getfield 346, 3) := by decide +kernel
theorem dX3_conditional_72 : decode cX3_conditional 72 = .ok (.if_icmp .ge 97, 3) := by decide +kernel
theorem dX3_conditional_75 : decode cX3_conditional 75 = .ok (.iload 5, 2) := by decide +kernel
theorem dX3_conditional_77 : decode cX3_conditional 77 = .ok (.ifCond .ne 92, 3) := by decide +kernel
theorem dX3_conditional_80 : decode cX3_conditional 80 = .ok (.aload_n 0, 1) := by decide +kernel
theorem dX3_conditional_81 : decode cX3_conditional 81 = .ok (.getfield 349, 3) := by decide +kernel
theorem dX3_conditional_84 : decode cX3_conditional 84 = .ok (.iload 6, 2) := by decide +kernel
theorem dX3_conditional_86 : decode cX3_conditional 86 = .ok (.iaload, 1) := by decide +kernel
theorem dX3_conditional_87 : decode cX3_conditional 87 = .ok (.iload 4, 2) := by decide +kernel
theorem dX3_conditional_89 : decode cX3_conditional 89 = .ok (.if_icmp .ne 74, 3) := by decide +kernel
theorem dX3_conditional_92 : decode cX3_conditional 92 = .ok (.aload_n 0, 1) := by decide +kernel
theorem dX3_conditional_93 : decode cX3_conditional 93 = .ok (.aload_n 0, 1) := by decide +kernel
theorem dX3_conditional_94 : decode cX3_conditional 94 = .ok (.getfield 352, 3) := by decide +kernel
theorem dX3_conditional_97 : decode cX3_conditional 97 = .ok (.iload 6, 2) := by decide +kernel
theorem dX3_conditional_99 : decode cX3_conditional 99 = .ok (.iaload, 1) := by decide +kernel
theorem dX3_conditional_100 : decode cX3_conditional 100 = .ok (.invokevirtual 328, 3) := by decide +kernel
theorem dX3_conditional_103 : decode cX3_conditional 103 = .ok (.iload_n 2, 1) := by decide +kernel
theorem dX3_conditional_104 : decode cX3_conditional 104 = .ok (.if_icmp .ne 59, 3) := by decide +kernel
theorem dX3_conditional_107 : decode cX3_conditional 107 = .ok (.aload_n 0, 1) := by decide +kernel
theorem dX3_conditional_108 : decode cX3_conditional 108 = .ok (.getfield 217, 3) := by decide +kernel
theorem dX3_conditional_111 : decode cX3_conditional 111 = .ok (.iload_n 1, 1) := by decide +kernel
theorem dX3_conditional_112 : decode cX3_conditional 112 = .ok (.iaload, 1) := by decide +kernel
theorem dX3_conditional_113 : decode cX3_conditional 113 = .ok (.ifCond .eq 43, 3) := by decide +kernel
theorem dX3_conditional_116 : decode cX3_conditional 116 = .ok (.aload_n 0, 1) := by decide +kernel
theorem dX3_conditional_117 : decode cX3_conditional 117 = .ok (.aload_n 0, 1) := by decide +kernel
theorem dX3_conditional_118 : decode cX3_conditional 118 = .ok (.aload_n 0, 1) := by decide +kernel
theorem dX3_conditional_119 : decode cX3_conditional 119 = .ok (.getfield 355, 3) := by decide +kernel
theorem dX3_conditional_122 : decode cX3_conditional 122 = .ok (.iload 6, 2) := by decide +kernel
theorem dX3_conditional_124 : decode cX3_conditional 124 = .ok (.iaload, 1) := by decide +kernel
theorem dX3_conditional_125 : decode cX3_conditional 125 = .ok (.invokevirtual 325, 3) := by decide +kernel
theorem dX3_conditional_128 : decode cX3_conditional 128 = .ok (.aload_n 0, 1) := by decide +kernel
theorem dX3_conditional_129 : decode cX3_conditional 129 = .ok (.aload_n 0, 1) := by decide +kernel
theorem dX3_conditional_130 : decode cX3_conditional 130 = .ok (.getfield 217, 3) := by decide +kernel
theorem dX3_conditional_133 : decode cX3_conditional 133 = .ok (.iload_n 1, 1) := by decide +kernel
theorem dX3_conditional_134 : decode cX3_conditional 134 = .ok (.iaload, 1) := by decide +kernel
theorem dX3_conditional_135 : decode cX3_conditional 135 = .ok (.iconst 0, 1) := by decide +kernel
theorem dX3_conditional_136 : decode cX3_conditional 136 = .ok (.invokevirtual 65, 3) := by decide +kernel
theorem dX3_conditional_139 : decode cX3_conditional 139 = .ok (.aload_n 0, 1) := by decide +kernel
theorem dX3_conditional_140 : decode cX3_conditional 140 = .ok (.aload_n 0, 1) := by decide +kernel
theorem dX3_conditional_141 : decode cX3_conditional 141 = .ok (.getfield 217, 3) := by decide +kernel
theorem dX3_conditional_144 : decode cX3_conditional 144 = .ok (.iload_n 1, 1) := by decide +kernel
theorem dX3_conditional_145 : decode cX3_conditional 145 = .ok (.iaload, 1) := by decide +kernel
theorem dX3_conditional_146 : decode cX3_conditional 146 = .ok (.iconst 1, 1) := by decide +kernel
theorem dX3_conditional_147 : decode cX3_conditional 147 = .ok (.invokevirtual 65, 3) := by decide +kernel
theorem dX3_conditional_150 : decode cX3_conditional 150 = .ok (.invokevirtual 370, 3) := by decide +kernel
theorem dX3_conditional_153 : decode cX3_conditional 153 = .ok (.ifCond .eq 7, 3) := by decide +kernel
theorem dX3_conditional_156 : decode cX3_conditional 156 = .ok (.iconst 1, 1) := by decide +kernel
theorem dX3_conditional_157 : decode cX3_conditional 157 = .ok (.goto 4, 3) := by decide +kernel
theorem dX3_conditional_160 : decode cX3_conditional 160 = .ok (.iconst 0, 1) := by decide +kernel
theorem dX3_conditional_161 : decode cX3_conditional 161 = .ok (.istore 5, 2) := by decide +kernel
theorem dX3_conditional_163 : decode cX3_conditional 163 = .ok (.iinc 6 1, 3) := by decide +kernel
theorem dX3_conditional_166 : decode cX3_conditional 166 = .ok (.goto (-100), 3) := by decide +kernel
theorem dX3_conditional_169 : decode cX3_conditional 169 = .ok (.iload 5, 2) := by decide +kernel
theorem dX3_conditional_171 : decode cX3_conditional 171 = .ok (.ifCond .eq 14, 3) := by decide +kernel
theorem dX3_conditional_174 : decode cX3_conditional 174 = .ok (.aload_n 0, 1) := by decide +kernel
theorem dX3_conditional_175 : decode cX3_conditional 175 = .ok (.iload_n 2, 1) := by decide +kernel
theorem dX3_conditional_176 : decode cX3_conditional 176 = .ok (.aload_n 0, 1) := by decide +kernel
theorem dX3_conditional_177 : decode cX3_conditional 177 = .ok (.getfield 208, 3) := by decide +kernel
theorem dX3_conditional_180 : decode cX3_conditional 180 = .ok (.iload_n 1, 1) := by decide +kernel
theorem dX3_conditional_181 : decode cX3_conditional 181 = .ok (.iaload, 1) := by decide +kernel
theorem dX3_conditional_182 : decode cX3_conditional 182 = .ok (.invokevirtual 490, 3) := by decide +kernel
theorem dX3_conditional_185 : decode cX3_conditional 185 = .ok (.return_, 1) := by decide +kernel
abbrev cX3_adjs : ByteArray := prog_4_method_83_code
def yX3_adjs : MethodName := ⟨RX3, "adjs", "(II)V"⟩
theorem dX3_adjs_0 : decode cX3_adjs 0 = .ok (.iconst 0, 1) := by decide +kernel
theorem dX3_adjs_1 : decode cX3_adjs 1 = .ok (.istore_n 3, 1) := by decide +kernel
theorem dX3_adjs_2 : decode cX3_adjs 2 = .ok (.iload_n 3, 1) := by decide +kernel
theorem dX3_adjs_3 : decode cX3_adjs 3 = .ok (.bipush 31, 2) := by decide +kernel
theorem dX3_adjs_5 : decode cX3_adjs 5 = .ok (.if_icmp .ge 24, 3) := by decide +kernel
theorem dX3_adjs_8 : decode cX3_adjs 8 = .ok (.iload_n 2, 1) := by decide +kernel
theorem dX3_adjs_9 : decode cX3_adjs 9 = .ok (.iload_n 3, 1) := by decide +kernel
theorem dX3_adjs_10 : decode cX3_adjs 10 = .ok (.ishr, 1) := by decide +kernel
theorem dX3_adjs_11 : decode cX3_adjs 11 = .ok (.iconst 1, 1) := by decide +kernel
theorem dX3_adjs_12 : decode cX3_adjs 12 = .ok (.iand, 1) := by decide +kernel
theorem dX3_adjs_13 : decode cX3_adjs 13 = .ok (.iconst 1, 1) := by decide +kernel
theorem dX3_adjs_14 : decode cX3_adjs 14 = .ok (.if_icmp .ne 9, 3) := by decide +kernel
theorem dX3_adjs_17 : decode cX3_adjs 17 = .ok (.aload_n 0, 1) := by decide +kernel
theorem dX3_adjs_18 : decode cX3_adjs 18 = .ok (.iload_n 1, 1) := by decide +kernel
theorem dX3_adjs_19 : decode cX3_adjs 19 = .ok (.iload_n 3, 1) := by decide +kernel
theorem dX3_adjs_20 : decode cX3_adjs 20 = .ok (.invokevirtual 385, 3) := by decide +kernel
theorem dX3_adjs_23 : decode cX3_adjs 23 = .ok (.iinc 3 1, 3) := by decide +kernel
theorem dX3_adjs_26 : decode cX3_adjs 26 = .ok (.goto (-24), 3) := by decide +kernel
theorem dX3_adjs_29 : decode cX3_adjs 29 = .ok (.return_, 1) := by decide +kernel
abbrev cX3_termsFit : ByteArray := prog_4_method_84_code
def yX3_termsFit : MethodName := ⟨RX3, "termsFit", "(II)Z"⟩
theorem dX3_termsFit_0 : decode cX3_termsFit 0 = .ok (.iconst 1, 1) := by decide +kernel
theorem dX3_termsFit_1 : decode cX3_termsFit 1 = .ok (.istore_n 3, 1) := by decide +kernel
theorem dX3_termsFit_2 : decode cX3_termsFit 2 = .ok (.iload_n 3, 1) := by decide +kernel
theorem dX3_termsFit_3 : decode cX3_termsFit 3 = .ok (.aload_n 0, 1) := by decide +kernel
theorem dX3_termsFit_4 : decode cX3_termsFit 4 = .ok (.getfield 36, 3) := by decide +kernel
theorem dX3_termsFit_7 : decode cX3_termsFit 7 = .ok (.iload_n 2, 1) := by decide +kernel
theorem dX3_termsFit_8 : decode cX3_termsFit 8 = .ok (.iaload, 1) := by decide +kernel
theorem dX3_termsFit_9 : decode cX3_termsFit 9 = .ok (.if_icmp .ge 53, 3) := by decide +kernel
theorem dX3_termsFit_12 : decode cX3_termsFit 12 = .ok (.aload_n 0, 1) := by decide +kernel
theorem dX3_termsFit_13 : decode cX3_termsFit 13 = .ok (.iload_n 2, 1) := by decide +kernel
theorem dX3_termsFit_14 : decode cX3_termsFit 14 = .ok (.invokevirtual 148, 3) := by decide +kernel
theorem dX3_termsFit_17 : decode cX3_termsFit 17 = .ok (.aload_n 0, 1) := by decide +kernel
theorem dX3_termsFit_18 : decode cX3_termsFit 18 = .ok (.aload_n 0, 1) := by decide +kernel
theorem dX3_termsFit_19 : decode cX3_termsFit 19 = .ok (.iload_n 2, 1) := by decide +kernel
theorem dX3_termsFit_20 : decode cX3_termsFit 20 = .ok (.iload_n 3, 1) := by decide +kernel
theorem dX3_termsFit_21 : decode cX3_termsFit 21 = .ok (.invokevirtual 65, 3) := by decide +kernel
theorem dX3_termsFit_24 : decode cX3_termsFit 24 = .ok (.aload_n 0, 1) := by decide +kernel
theorem dX3_termsFit_25 : decode cX3_termsFit 25 = .ok (.iload_n 3, 1) := by decide +kernel
theorem dX3_termsFit_26 : decode cX3_termsFit 26 = .ok (.iconst 1, 1) := by decide +kernel
theorem dX3_termsFit_27 : decode cX3_termsFit 27 = .ok (.if_icmp .ne 12, 3) := by decide +kernel
theorem dX3_termsFit_30 : decode cX3_termsFit 30 = .ok (.aload_n 0, 1) := by decide +kernel
theorem dX3_termsFit_31 : decode cX3_termsFit 31 = .ok (.getfield 224, 3) := by decide +kernel
theorem dX3_termsFit_34 : decode cX3_termsFit 34 = .ok (.iload_n 1, 1) := by decide +kernel
theorem dX3_termsFit_35 : decode cX3_termsFit 35 = .ok (.iaload, 1) := by decide +kernel
theorem dX3_termsFit_36 : decode cX3_termsFit 36 = .ok (.goto 9, 3) := by decide +kernel
theorem dX3_termsFit_39 : decode cX3_termsFit 39 = .ok (.aload_n 0, 1) := by decide +kernel
theorem dX3_termsFit_40 : decode cX3_termsFit 40 = .ok (.getfield 227, 3) := by decide +kernel
theorem dX3_termsFit_43 : decode cX3_termsFit 43 = .ok (.iload_n 1, 1) := by decide +kernel
theorem dX3_termsFit_44 : decode cX3_termsFit 44 = .ok (.iaload, 1) := by decide +kernel
theorem dX3_termsFit_45 : decode cX3_termsFit 45 = .ok (.invokevirtual 154, 3) := by decide +kernel
theorem dX3_termsFit_48 : decode cX3_termsFit 48 = .ok (.invokevirtual 463, 3) := by decide +kernel
theorem dX3_termsFit_51 : decode cX3_termsFit 51 = .ok (.ifCond .ne 5, 3) := by decide +kernel
theorem dX3_termsFit_54 : decode cX3_termsFit 54 = .ok (.iconst 0, 1) := by decide +kernel
theorem dX3_termsFit_55 : decode cX3_termsFit 55 = .ok (.ireturn, 1) := by decide +kernel
theorem dX3_termsFit_56 : decode cX3_termsFit 56 = .ok (.iinc 3 1, 3) := by decide +kernel
theorem dX3_termsFit_59 : decode cX3_termsFit 59 = .ok (.goto (-57), 3) := by decide +kernel
theorem dX3_termsFit_62 : decode cX3_termsFit 62 = .ok (.iconst 1, 1) := by decide +kernel
theorem dX3_termsFit_63 : decode cX3_termsFit 63 = .ok (.ireturn, 1) := by decide +kernel
abbrev cX3_fitsHere : ByteArray := prog_4_method_62_code
def yX3_fitsHere : MethodName := ⟨RX3, "fitsHere", "(II)Z"⟩
theorem dX3_fitsHere_0 : decode cX3_fitsHere 0 = .ok (.aload_n 0, 1) := by decide +kernel
theorem dX3_fitsHere_1 : decode cX3_fitsHere 1 = .ok (.iload_n 1, 1) := by decide +kernel
theorem dX3_fitsHere_2 : decode cX3_fitsHere 2 = .ok (.invokevirtual 325, 3) := by decide +kernel
theorem dX3_fitsHere_5 : decode cX3_fitsHere 5 = .ok (.istore_n 3, 1) := by decide +kernel
theorem dX3_fitsHere_6 : decode cX3_fitsHere 6 = .ok (.iload_n 3, 1) := by decide +kernel
theorem dX3_fitsHere_7 : decode cX3_fitsHere 7 = .ok (.ifCond .ge 10, 3) := by decide +kernel
theorem dX3_fitsHere_10 : decode cX3_fitsHere 10 = .ok (.aload_n 0, 1) := by decide +kernel
theorem dX3_fitsHere_11 : decode cX3_fitsHere 11 = .ok (.iload_n 1, 1) := by decide +kernel
theorem dX3_fitsHere_12 : decode cX3_fitsHere 12 = .ok (.iload_n 2, 1) := by decide +kernel
theorem dX3_fitsHere_13 : decode cX3_fitsHere 13 = .ok (.invokevirtual 230, 3) := by decide +kernel
theorem dX3_fitsHere_16 : decode cX3_fitsHere 16 = .ok (.ireturn, 1) := by decide +kernel
theorem dX3_fitsHere_17 : decode cX3_fitsHere 17 = .ok (.aload_n 0, 1) := by decide +kernel
theorem dX3_fitsHere_18 : decode cX3_fitsHere 18 = .ok (.iload_n 3, 1) := by decide +kernel
theorem dX3_fitsHere_19 : decode cX3_fitsHere 19 = .ok (.aload_n 0, 1) := by decide +kernel
theorem dX3_fitsHere_20 : decode cX3_fitsHere 20 = .ok (.iload_n 2, 1) := by decide +kernel
theorem dX3_fitsHere_21 : decode cX3_fitsHere 21 = .ok (.iconst 0, 1) := by decide +kernel
theorem dX3_fitsHere_22 : decode cX3_fitsHere 22 = .ok (.invokevirtual 65, 3) := by decide +kernel
theorem dX3_fitsHere_25 : decode cX3_fitsHere 25 = .ok (.aload_n 0, 1) := by decide +kernel
theorem dX3_fitsHere_26 : decode cX3_fitsHere 26 = .ok (.iload_n 2, 1) := by decide +kernel
theorem dX3_fitsHere_27 : decode cX3_fitsHere 27 = .ok (.iconst 1, 1) := by decide +kernel
theorem dX3_fitsHere_28 : decode cX3_fitsHere 28 = .ok (.invokevirtual 65, 3) := by decide +kernel
theorem dX3_fitsHere_31 : decode cX3_fitsHere 31 = .ok (.invokevirtual 370, 3) := by decide +kernel
theorem dX3_fitsHere_34 : decode cX3_fitsHere 34 = .ok (.ifCond .ne 5, 3) := by decide +kernel
theorem dX3_fitsHere_37 : decode cX3_fitsHere 37 = .ok (.iconst 0, 1) := by decide +kernel
theorem dX3_fitsHere_38 : decode cX3_fitsHere 38 = .ok (.ireturn, 1) := by decide +kernel
theorem dX3_fitsHere_39 : decode cX3_fitsHere 39 = .ok (.iconst 2, 1) := by decide +kernel
theorem dX3_fitsHere_40 : decode cX3_fitsHere 40 = .ok (.istore 4, 2) := by decide +kernel
theorem dX3_fitsHere_42 : decode cX3_fitsHere 42 = .ok (.iload 4, 2) := by decide +kernel
theorem dX3_fitsHere_44 : decode cX3_fitsHere 44 = .ok (.aload_n 0, 1) := by decide +kernel
theorem dX3_fitsHere_45 : decode cX3_fitsHere 45 = .ok (.getfield 36, 3) := by decide +kernel
theorem dX3_fitsHere_48 : decode cX3_fitsHere 48 = .ok (.iload_n 2, 1) := by decide +kernel
theorem dX3_fitsHere_49 : decode cX3_fitsHere 49 = .ok (.iaload, 1) := by decide +kernel
theorem dX3_fitsHere_50 : decode cX3_fitsHere 50 = .ok (.if_icmp .ge 26, 3) := by decide +kernel
theorem dX3_fitsHere_53 : decode cX3_fitsHere 53 = .ok (.aload_n 0, 1) := by decide +kernel
theorem dX3_fitsHere_54 : decode cX3_fitsHere 54 = .ok (.iload_n 3, 1) := by decide +kernel
theorem dX3_fitsHere_55 : decode cX3_fitsHere 55 = .ok (.aload_n 0, 1) := by decide +kernel
theorem dX3_fitsHere_56 : decode cX3_fitsHere 56 = .ok (.iload_n 2, 1) := by decide +kernel
theorem dX3_fitsHere_57 : decode cX3_fitsHere 57 = .ok (.iload 4, 2) := by decide +kernel
theorem dX3_fitsHere_59 : decode cX3_fitsHere 59 = .ok (.invokevirtual 65, 3) := by decide +kernel
theorem dX3_fitsHere_62 : decode cX3_fitsHere 62 = .ok (.invokevirtual 373, 3) := by decide +kernel
theorem dX3_fitsHere_65 : decode cX3_fitsHere 65 = .ok (.ifCond .ne 5, 3) := by decide +kernel
theorem dX3_fitsHere_68 : decode cX3_fitsHere 68 = .ok (.iconst 0, 1) := by decide +kernel
theorem dX3_fitsHere_69 : decode cX3_fitsHere 69 = .ok (.ireturn, 1) := by decide +kernel
theorem dX3_fitsHere_70 : decode cX3_fitsHere 70 = .ok (.iinc 4 1, 3) := by decide +kernel
theorem dX3_fitsHere_73 : decode cX3_fitsHere 73 = .ok (.goto (-31), 3) := by decide +kernel
theorem dX3_fitsHere_76 : decode cX3_fitsHere 76 = .ok (.iconst 1, 1) := by decide +kernel
theorem dX3_fitsHere_77 : decode cX3_fitsHere 77 = .ok (.ireturn, 1) := by decide +kernel
abbrev cX3_suits : ByteArray := prog_4_method_44_code
def yX3_suits : MethodName := ⟨RX3, "suits", "(II)Z"⟩
theorem dX3_suits_0 : decode cX3_suits 0 = .ok (.aload_n 0, 1) := by decide +kernel
theorem dX3_suits_1 : decode cX3_suits 1 = .ok (.aload_n 0, 1) := by decide +kernel
theorem dX3_suits_2 : decode cX3_suits 2 = .ok (.iload_n 1, 1) := by decide +kernel
theorem dX3_suits_3 : decode cX3_suits 3 = .ok (.invokevirtual 190, 3) := by decide +kernel
theorem dX3_suits_6 : decode cX3_suits 6 = .ok (.aload_n 0, 1) := by decide +kernel
theorem dX3_suits_7 : decode cX3_suits 7 = .ok (.iload_n 2, 1) := by decide +kernel
theorem dX3_suits_8 : decode cX3_suits 8 = .ok (.iconst 0, 1) := by decide +kernel
theorem dX3_suits_9 : decode cX3_suits 9 = .ok (.invokevirtual 65, 3) := by decide +kernel
theorem dX3_suits_12 : decode cX3_suits 12 = .ok (.aload_n 0, 1) := by decide +kernel
theorem dX3_suits_13 : decode cX3_suits 13 = .ok (.iload_n 2, 1) := by decide +kernel
theorem dX3_suits_14 : decode cX3_suits 14 = .ok (.iconst 1, 1) := by decide +kernel
theorem dX3_suits_15 : decode cX3_suits 15 = .ok (.invokevirtual 65, 3) := by decide +kernel
theorem dX3_suits_18 : decode cX3_suits 18 = .ok (.invokevirtual 220, 3) := by decide +kernel
theorem dX3_suits_21 : decode cX3_suits 21 = .ok (.ifCond .ne 5, 3) := by decide +kernel
theorem dX3_suits_24 : decode cX3_suits 24 = .ok (.iconst 0, 1) := by decide +kernel
theorem dX3_suits_25 : decode cX3_suits 25 = .ok (.ireturn, 1) := by decide +kernel
theorem dX3_suits_26 : decode cX3_suits 26 = .ok (.aload_n 0, 1) := by decide +kernel
theorem dX3_suits_27 : decode cX3_suits 27 = .ok (.iload_n 2, 1) := by decide +kernel
theorem dX3_suits_28 : decode cX3_suits 28 = .ok (.invokevirtual 159, 3) := by decide +kernel
theorem dX3_suits_31 : decode cX3_suits 31 = .ok (.istore_n 3, 1) := by decide +kernel
theorem dX3_suits_32 : decode cX3_suits 32 = .ok (.iload_n 3, 1) := by decide +kernel
theorem dX3_suits_33 : decode cX3_suits 33 = .ok (.ifCond .eq 15, 3) := by decide +kernel
theorem dX3_suits_36 : decode cX3_suits 36 = .ok (.iload_n 3, 1) := by decide +kernel
theorem dX3_suits_37 : decode cX3_suits 37 = .ok (.aload_n 0, 1) := by decide +kernel
theorem dX3_suits_38 : decode cX3_suits 38 = .ok (.iload_n 1, 1) := by decide +kernel
theorem dX3_suits_39 : decode cX3_suits 39 = .ok (.invokevirtual 233, 3) := by decide +kernel
theorem dX3_suits_42 : decode cX3_suits 42 = .ok (.iconst (-1), 1) := by decide +kernel
theorem dX3_suits_43 : decode cX3_suits 43 = .ok (.ixor, 1) := by decide +kernel
theorem dX3_suits_44 : decode cX3_suits 44 = .ok (.iand, 1) := by decide +kernel
theorem dX3_suits_45 : decode cX3_suits 45 = .ok (.ifCond .ne 7, 3) := by decide +kernel
theorem dX3_suits_48 : decode cX3_suits 48 = .ok (.iconst 1, 1) := by decide +kernel
theorem dX3_suits_49 : decode cX3_suits 49 = .ok (.goto 4, 3) := by decide +kernel
theorem dX3_suits_52 : decode cX3_suits 52 = .ok (.iconst 0, 1) := by decide +kernel
theorem dX3_suits_53 : decode cX3_suits 53 = .ok (.ireturn, 1) := by decide +kernel
abbrev cX3_has : ByteArray := prog_4_method_36_code
def yX3_has : MethodName := ⟨RX3, "has", "(III)Z"⟩
theorem dX3_has_0 : decode cX3_has 0 = .ok (.iload_n 2, 1) := by decide +kernel
theorem dX3_has_1 : decode cX3_has 1 = .ok (.ifCond .ne 5, 3) := by decide +kernel
theorem dX3_has_4 : decode cX3_has 4 = .ok (.iconst 1, 1) := by decide +kernel
theorem dX3_has_5 : decode cX3_has 5 = .ok (.ireturn, 1) := by decide +kernel
theorem dX3_has_6 : decode cX3_has 6 = .ok (.iload_n 1, 1) := by decide +kernel
theorem dX3_has_7 : decode cX3_has 7 = .ok (.istore 4, 2) := by decide +kernel
theorem dX3_has_9 : decode cX3_has 9 = .ok (.iload 4, 2) := by decide +kernel
theorem dX3_has_11 : decode cX3_has 11 = .ok (.ifCond .le 38, 3) := by decide +kernel
theorem dX3_has_14 : decode cX3_has 14 = .ok (.aload_n 0, 1) := by decide +kernel
theorem dX3_has_15 : decode cX3_has 15 = .ok (.iload 4, 2) := by decide +kernel
theorem dX3_has_17 : decode cX3_has 17 = .ok (.iconst 0, 1) := by decide +kernel
theorem dX3_has_18 : decode cX3_has 18 = .ok (.invokevirtual 65, 3) := by decide +kernel
theorem dX3_has_21 : decode cX3_has 21 = .ok (.iload_n 2, 1) := by decide +kernel
theorem dX3_has_22 : decode cX3_has 22 = .ok (.if_icmp .ne 16, 3) := by decide +kernel
theorem dX3_has_25 : decode cX3_has 25 = .ok (.aload_n 0, 1) := by decide +kernel
theorem dX3_has_26 : decode cX3_has 26 = .ok (.iload 4, 2) := by decide +kernel
theorem dX3_has_28 : decode cX3_has 28 = .ok (.iconst 1, 1) := by decide +kernel
theorem dX3_has_29 : decode cX3_has 29 = .ok (.invokevirtual 65, 3) := by decide +kernel
theorem dX3_has_32 : decode cX3_has 32 = .ok (.iload_n 3, 1) := by decide +kernel
theorem dX3_has_33 : decode cX3_has 33 = .ok (.if_icmp .ne 5, 3) := by decide +kernel
theorem dX3_has_36 : decode cX3_has 36 = .ok (.iconst 1, 1) := by decide +kernel
theorem dX3_has_37 : decode cX3_has 37 = .ok (.ireturn, 1) := by decide +kernel
theorem dX3_has_38 : decode cX3_has 38 = .ok (.aload_n 0, 1) := by decide +kernel
theorem dX3_has_39 : decode cX3_has 39 = .ok (.iload 4, 2) := by decide +kernel
theorem dX3_has_41 : decode cX3_has 41 = .ok (.invokevirtual 162, 3) := by decide +kernel
theorem dX3_has_44 : decode cX3_has 44 = .ok (.istore 4, 2) := by decide +kernel
theorem dX3_has_46 : decode cX3_has 46 = .ok (.goto (-37), 3) := by decide +kernel
theorem dX3_has_49 : decode cX3_has 49 = .ok (.iconst 0, 1) := by decide +kernel
theorem dX3_has_50 : decode cX3_has 50 = .ok (.ireturn, 1) := by decide +kernel
abbrev cX3_setOf : ByteArray := prog_4_method_34_code
def yX3_setOf : MethodName := ⟨RX3, "setOf", "(I)I"⟩
theorem dX3_setOf_0 : decode cX3_setOf 0 = .ok (.iconst 0, 1) := by decide +kernel
theorem dX3_setOf_1 : decode cX3_setOf 1 = .ok (.istore_n 2, 1) := by decide +kernel
theorem dX3_setOf_2 : decode cX3_setOf 2 = .ok (.iconst 2, 1) := by decide +kernel
theorem dX3_setOf_3 : decode cX3_setOf 3 = .ok (.istore_n 3, 1) := by decide +kernel
theorem dX3_setOf_4 : decode cX3_setOf 4 = .ok (.iload_n 3, 1) := by decide +kernel
theorem dX3_setOf_5 : decode cX3_setOf 5 = .ok (.aload_n 0, 1) := by decide +kernel
theorem dX3_setOf_6 : decode cX3_setOf 6 = .ok (.getfield 36, 3) := by decide +kernel
theorem dX3_setOf_9 : decode cX3_setOf 9 = .ok (.iload_n 1, 1) := by decide +kernel
theorem dX3_setOf_10 : decode cX3_setOf 10 = .ok (.iaload, 1) := by decide +kernel
theorem dX3_setOf_11 : decode cX3_setOf 11 = .ok (.if_icmp .ge 20, 3) := by decide +kernel
theorem dX3_setOf_14 : decode cX3_setOf 14 = .ok (.iload_n 2, 1) := by decide +kernel
theorem dX3_setOf_15 : decode cX3_setOf 15 = .ok (.iconst 1, 1) := by decide +kernel
theorem dX3_setOf_16 : decode cX3_setOf 16 = .ok (.aload_n 0, 1) := by decide +kernel
theorem dX3_setOf_17 : decode cX3_setOf 17 = .ok (.iload_n 1, 1) := by decide +kernel
theorem dX3_setOf_18 : decode cX3_setOf 18 = .ok (.iload_n 3, 1) := by decide +kernel
theorem dX3_setOf_19 : decode cX3_setOf 19 = .ok (.invokevirtual 65, 3) := by decide +kernel
theorem dX3_setOf_22 : decode cX3_setOf 22 = .ok (.ishl, 1) := by decide +kernel
theorem dX3_setOf_23 : decode cX3_setOf 23 = .ok (.ior, 1) := by decide +kernel
theorem dX3_setOf_24 : decode cX3_setOf 24 = .ok (.istore_n 2, 1) := by decide +kernel
theorem dX3_setOf_25 : decode cX3_setOf 25 = .ok (.iinc 3 1, 3) := by decide +kernel
theorem dX3_setOf_28 : decode cX3_setOf 28 = .ok (.goto (-24), 3) := by decide +kernel
theorem dX3_setOf_31 : decode cX3_setOf 31 = .ok (.iload_n 2, 1) := by decide +kernel
theorem dX3_setOf_32 : decode cX3_setOf 32 = .ok (.ireturn, 1) := by decide +kernel
abbrev cX3_allOf : ByteArray := prog_4_method_40_code
def yX3_allOf : MethodName := ⟨RX3, "allOf", "(I)I"⟩
theorem dX3_allOf_0 : decode cX3_allOf 0 = .ok (.aload_n 0, 1) := by decide +kernel
theorem dX3_allOf_1 : decode cX3_allOf 1 = .ok (.getfield 179, 3) := by decide +kernel
theorem dX3_allOf_4 : decode cX3_allOf 4 = .ok (.istore_n 2, 1) := by decide +kernel
theorem dX3_allOf_5 : decode cX3_allOf 5 = .ok (.aload_n 0, 1) := by decide +kernel
theorem dX3_allOf_6 : decode cX3_allOf 6 = .ok (.iload_n 1, 1) := by decide +kernel
theorem dX3_allOf_7 : decode cX3_allOf 7 = .ok (.invokevirtual 182, 3) := by decide +kernel
theorem dX3_allOf_10 : decode cX3_allOf 10 = .ok (.aload_n 0, 1) := by decide +kernel
theorem dX3_allOf_11 : decode cX3_allOf 11 = .ok (.getfield 179, 3) := by decide +kernel
theorem dX3_allOf_14 : decode cX3_allOf 14 = .ok (.iload_n 2, 1) := by decide +kernel
theorem dX3_allOf_15 : decode cX3_allOf 15 = .ok (.if_icmp .le 163, 3) := by decide +kernel
theorem dX3_allOf_18 : decode cX3_allOf 18 = .ok (.aload_n 0, 1) := by decide +kernel
theorem dX3_allOf_19 : decode cX3_allOf 19 = .ok (.getfield 176, 3) := by decide +kernel
theorem dX3_allOf_22 : decode cX3_allOf 22 = .ok (.aload_n 0, 1) := by decide +kernel
theorem dX3_allOf_23 : decode cX3_allOf 23 = .ok (.getfield 179, 3) := by decide +kernel
theorem dX3_allOf_26 : decode cX3_allOf 26 = .ok (.iconst 1, 1) := by decide +kernel
theorem dX3_allOf_27 : decode cX3_allOf 27 = .ok (.isub, 1) := by decide +kernel
theorem dX3_allOf_28 : decode cX3_allOf 28 = .ok (.iaload, 1) := by decide +kernel
theorem dX3_allOf_29 : decode cX3_allOf 29 = .ok (.istore_n 3, 1) := by decide +kernel
theorem dX3_allOf_30 : decode cX3_allOf 30 = .ok (.aload_n 0, 1) := by decide +kernel
theorem dX3_allOf_31 : decode cX3_allOf 31 = .ok (.getfield 179, 3) := by decide +kernel
theorem dX3_allOf_34 : decode cX3_allOf 34 = .ok (.istore 4, 2) := by decide +kernel
theorem dX3_allOf_36 : decode cX3_allOf 36 = .ok (.aload_n 0, 1) := by decide +kernel
theorem dX3_allOf_37 : decode cX3_allOf 37 = .ok (.iload_n 3, 1) := by decide +kernel
theorem dX3_allOf_38 : decode cX3_allOf 38 = .ok (.invokevirtual 172, 3) := by decide +kernel
theorem dX3_allOf_41 : decode cX3_allOf 41 = .ok (.ifCond .eq 16, 3) := by decide +kernel
theorem dX3_allOf_44 : decode cX3_allOf 44 = .ok (.aload_n 0, 1) := by decide +kernel
theorem dX3_allOf_45 : decode cX3_allOf 45 = .ok (.dup, 1) := by decide +kernel
theorem dX3_allOf_46 : decode cX3_allOf 46 = .ok (.getfield 179, 3) := by decide +kernel
theorem dX3_allOf_49 : decode cX3_allOf 49 = .ok (.iconst 1, 1) := by decide +kernel
theorem dX3_allOf_50 : decode cX3_allOf 50 = .ok (.isub, 1) := by decide +kernel
theorem dX3_allOf_51 : decode cX3_allOf 51 = .ok (.putfield 179, 3) := by decide +kernel
theorem dX3_allOf_54 : decode cX3_allOf 54 = .ok (.goto (-44), 3) := by decide +kernel
theorem dX3_allOf_57 : decode cX3_allOf 57 = .ok (.aload_n 0, 1) := by decide +kernel
theorem dX3_allOf_58 : decode cX3_allOf 58 = .ok (.getfield 33, 3) := by decide +kernel
theorem dX3_allOf_61 : decode cX3_allOf 61 = .ok (.iload_n 3, 1) := by decide +kernel
theorem dX3_allOf_62 : decode cX3_allOf 62 = .ok (.iaload, 1) := by decide +kernel
theorem dX3_allOf_63 : decode cX3_allOf 63 = .ok (.iconst 4, 1) := by decide +kernel
theorem dX3_allOf_64 : decode cX3_allOf 64 = .ok (.if_icmp .ne 34, 3) := by decide +kernel
theorem dX3_allOf_67 : decode cX3_allOf 67 = .ok (.iconst 1, 1) := by decide +kernel
theorem dX3_allOf_68 : decode cX3_allOf 68 = .ok (.istore 5, 2) := by decide +kernel
theorem dX3_allOf_70 : decode cX3_allOf 70 = .ok (.iload 5, 2) := by decide +kernel
theorem dX3_allOf_72 : decode cX3_allOf 72 = .ok (.aload_n 0, 1) := by decide +kernel
theorem dX3_allOf_73 : decode cX3_allOf 73 = .ok (.getfield 36, 3) := by decide +kernel
theorem dX3_allOf_76 : decode cX3_allOf 76 = .ok (.iload_n 3, 1) := by decide +kernel
theorem dX3_allOf_77 : decode cX3_allOf 77 = .ok (.iaload, 1) := by decide +kernel
theorem dX3_allOf_78 : decode cX3_allOf 78 = .ok (.if_icmp .ge 20, 3) := by decide +kernel
theorem dX3_allOf_81 : decode cX3_allOf 81 = .ok (.aload_n 0, 1) := by decide +kernel
theorem dX3_allOf_82 : decode cX3_allOf 82 = .ok (.aload_n 0, 1) := by decide +kernel
theorem dX3_allOf_83 : decode cX3_allOf 83 = .ok (.iload_n 3, 1) := by decide +kernel
theorem dX3_allOf_84 : decode cX3_allOf 84 = .ok (.iload 5, 2) := by decide +kernel
theorem dX3_allOf_86 : decode cX3_allOf 86 = .ok (.invokevirtual 65, 3) := by decide +kernel
theorem dX3_allOf_89 : decode cX3_allOf 89 = .ok (.invokevirtual 182, 3) := by decide +kernel
theorem dX3_allOf_92 : decode cX3_allOf 92 = .ok (.iinc 5 1, 3) := by decide +kernel
theorem dX3_allOf_95 : decode cX3_allOf 95 = .ok (.goto (-25), 3) := by decide +kernel
theorem dX3_allOf_98 : decode cX3_allOf 98 = .ok (.aload_n 0, 1) := by decide +kernel
theorem dX3_allOf_99 : decode cX3_allOf 99 = .ok (.getfield 179, 3) := by decide +kernel
theorem dX3_allOf_102 : decode cX3_allOf 102 = .ok (.iload 4, 2) := by decide +kernel
theorem dX3_allOf_104 : decode cX3_allOf 104 = .ok (.if_icmp .le 6, 3) := by decide +kernel
theorem dX3_allOf_107 : decode cX3_allOf 107 = .ok (.goto (-97), 3) := by decide +kernel
theorem dX3_allOf_110 : decode cX3_allOf 110 = .ok (.aload_n 0, 1) := by decide +kernel
theorem dX3_allOf_111 : decode cX3_allOf 111 = .ok (.iload_n 3, 1) := by decide +kernel
theorem dX3_allOf_112 : decode cX3_allOf 112 = .ok (.invokevirtual 184, 3) := by decide +kernel
theorem dX3_allOf_115 : decode cX3_allOf 115 = .ok (.istore 5, 2) := by decide +kernel
theorem dX3_allOf_117 : decode cX3_allOf 117 = .ok (.aload_n 0, 1) := by decide +kernel
theorem dX3_allOf_118 : decode cX3_allOf 118 = .ok (.aload_n 0, 1) := by decide +kernel
theorem dX3_allOf_119 : decode cX3_allOf 119 = .ok (.getfield 187, 3) := by decide +kernel
theorem dX3_allOf_122 : decode cX3_allOf 122 = .ok (.aload_n 0, 1) := by decide +kernel
theorem dX3_allOf_123 : decode cX3_allOf 123 = .ok (.getfield 42, 3) := by decide +kernel
theorem dX3_allOf_126 : decode cX3_allOf 126 = .ok (.invokestatic 20, 3) := by decide +kernel
theorem dX3_allOf_129 : decode cX3_allOf 129 = .ok (.putfield 187, 3) := by decide +kernel
theorem dX3_allOf_132 : decode cX3_allOf 132 = .ok (.aload_n 0, 1) := by decide +kernel
theorem dX3_allOf_133 : decode cX3_allOf 133 = .ok (.aload_n 0, 1) := by decide +kernel
theorem dX3_allOf_134 : decode cX3_allOf 134 = .ok (.getfield 169, 3) := by decide +kernel
theorem dX3_allOf_137 : decode cX3_allOf 137 = .ok (.aload_n 0, 1) := by decide +kernel
theorem dX3_allOf_138 : decode cX3_allOf 138 = .ok (.getfield 42, 3) := by decide +kernel
theorem dX3_allOf_141 : decode cX3_allOf 141 = .ok (.invokestatic 20, 3) := by decide +kernel
theorem dX3_allOf_144 : decode cX3_allOf 144 = .ok (.putfield 169, 3) := by decide +kernel
theorem dX3_allOf_147 : decode cX3_allOf 147 = .ok (.aload_n 0, 1) := by decide +kernel
theorem dX3_allOf_148 : decode cX3_allOf 148 = .ok (.getfield 187, 3) := by decide +kernel
theorem dX3_allOf_151 : decode cX3_allOf 151 = .ok (.iload_n 3, 1) := by decide +kernel
theorem dX3_allOf_152 : decode cX3_allOf 152 = .ok (.iload 5, 2) := by decide +kernel
theorem dX3_allOf_154 : decode cX3_allOf 154 = .ok (.iastore, 1) := by decide +kernel
theorem dX3_allOf_155 : decode cX3_allOf 155 = .ok (.aload_n 0, 1) := by decide +kernel
theorem dX3_allOf_156 : decode cX3_allOf 156 = .ok (.getfield 169, 3) := by decide +kernel
theorem dX3_allOf_159 : decode cX3_allOf 159 = .ok (.iload_n 3, 1) := by decide +kernel
theorem dX3_allOf_160 : decode cX3_allOf 160 = .ok (.aload_n 0, 1) := by decide +kernel
theorem dX3_allOf_161 : decode cX3_allOf 161 = .ok (.getfield 165, 3) := by decide +kernel
theorem dX3_allOf_164 : decode cX3_allOf 164 = .ok (.iastore, 1) := by decide +kernel
theorem dX3_allOf_165 : decode cX3_allOf 165 = .ok (.aload_n 0, 1) := by decide +kernel
theorem dX3_allOf_166 : decode cX3_allOf 166 = .ok (.dup, 1) := by decide +kernel
theorem dX3_allOf_167 : decode cX3_allOf 167 = .ok (.getfield 179, 3) := by decide +kernel
theorem dX3_allOf_170 : decode cX3_allOf 170 = .ok (.iconst 1, 1) := by decide +kernel
theorem dX3_allOf_171 : decode cX3_allOf 171 = .ok (.isub, 1) := by decide +kernel
theorem dX3_allOf_172 : decode cX3_allOf 172 = .ok (.putfield 179, 3) := by decide +kernel
theorem dX3_allOf_175 : decode cX3_allOf 175 = .ok (.goto (-165), 3) := by decide +kernel
theorem dX3_allOf_178 : decode cX3_allOf 178 = .ok (.aload_n 0, 1) := by decide +kernel
theorem dX3_allOf_179 : decode cX3_allOf 179 = .ok (.getfield 187, 3) := by decide +kernel
theorem dX3_allOf_182 : decode cX3_allOf 182 = .ok (.iload_n 1, 1) := by decide +kernel
theorem dX3_allOf_183 : decode cX3_allOf 183 = .ok (.iaload, 1) := by decide +kernel
theorem dX3_allOf_184 : decode cX3_allOf 184 = .ok (.ireturn, 1) := by decide +kernel
abbrev cX3_wants : ByteArray := prog_4_method_39_code
def yX3_wants : MethodName := ⟨RX3, "wants", "(I)V"⟩
theorem dX3_wants_0 : decode cX3_wants 0 = .ok (.iload_n 1, 1) := by decide +kernel
theorem dX3_wants_1 : decode cX3_wants 1 = .ok (.ifCond .eq 11, 3) := by decide +kernel
theorem dX3_wants_4 : decode cX3_wants 4 = .ok (.aload_n 0, 1) := by decide +kernel
theorem dX3_wants_5 : decode cX3_wants 5 = .ok (.iload_n 1, 1) := by decide +kernel
theorem dX3_wants_6 : decode cX3_wants 6 = .ok (.invokevirtual 172, 3) := by decide +kernel
theorem dX3_wants_9 : decode cX3_wants 9 = .ok (.ifCond .eq 4, 3) := by decide +kernel
theorem dX3_wants_12 : decode cX3_wants 12 = .ok (.return_, 1) := by decide +kernel
theorem dX3_wants_13 : decode cX3_wants 13 = .ok (.aload_n 0, 1) := by decide +kernel
theorem dX3_wants_14 : decode cX3_wants 14 = .ok (.aload_n 0, 1) := by decide +kernel
theorem dX3_wants_15 : decode cX3_wants 15 = .ok (.getfield 176, 3) := by decide +kernel
theorem dX3_wants_18 : decode cX3_wants 18 = .ok (.aload_n 0, 1) := by decide +kernel
theorem dX3_wants_19 : decode cX3_wants 19 = .ok (.getfield 179, 3) := by decide +kernel
theorem dX3_wants_22 : decode cX3_wants 22 = .ok (.invokestatic 20, 3) := by decide +kernel
theorem dX3_wants_25 : decode cX3_wants 25 = .ok (.putfield 176, 3) := by decide +kernel
theorem dX3_wants_28 : decode cX3_wants 28 = .ok (.aload_n 0, 1) := by decide +kernel
theorem dX3_wants_29 : decode cX3_wants 29 = .ok (.getfield 176, 3) := by decide +kernel
theorem dX3_wants_32 : decode cX3_wants 32 = .ok (.aload_n 0, 1) := by decide +kernel
theorem dX3_wants_33 : decode cX3_wants 33 = .ok (.dup, 1) := by decide +kernel
theorem dX3_wants_34 : decode cX3_wants 34 = .ok (.getfield 179, 3) := by decide +kernel
theorem dX3_wants_37 : decode cX3_wants 37 = .ok (.dup_x1, 1) := by decide +kernel
theorem dX3_wants_38 : decode cX3_wants 38 = .ok (.iconst 1, 1) := by decide +kernel
theorem dX3_wants_39 : decode cX3_wants 39 = .ok (.iadd, 1) := by decide +kernel
theorem dX3_wants_40 : decode cX3_wants 40 = .ok (.putfield 179, 3) := by decide +kernel
theorem dX3_wants_43 : decode cX3_wants 43 = .ok (.iload_n 1, 1) := by decide +kernel
theorem dX3_wants_44 : decode cX3_wants 44 = .ok (.iastore, 1) := by decide +kernel
theorem dX3_wants_45 : decode cX3_wants 45 = .ok (.return_, 1) := by decide +kernel
abbrev cX3_isRemembered : ByteArray := prog_4_method_38_code
def yX3_isRemembered : MethodName := ⟨RX3, "isRemembered", "(I)Z"⟩
theorem dX3_isRemembered_0 : decode cX3_isRemembered 0 = .ok (.iload_n 1, 1) := by decide +kernel
theorem dX3_isRemembered_1 : decode cX3_isRemembered 1 = .ok (.aload_n 0, 1) := by decide +kernel
theorem dX3_isRemembered_2 : decode cX3_isRemembered 2 = .ok (.getfield 169, 3) := by decide +kernel
theorem dX3_isRemembered_5 : decode cX3_isRemembered 5 = .ok (.arraylength, 1) := by decide +kernel
theorem dX3_isRemembered_6 : decode cX3_isRemembered 6 = .ok (.if_icmp .ge 20, 3) := by decide +kernel
theorem dX3_isRemembered_9 : decode cX3_isRemembered 9 = .ok (.aload_n 0, 1) := by decide +kernel
theorem dX3_isRemembered_10 : decode cX3_isRemembered 10 = .ok (.getfield 169, 3) := by decide +kernel
theorem dX3_isRemembered_13 : decode cX3_isRemembered 13 = .ok (.iload_n 1, 1) := by decide +kernel
theorem dX3_isRemembered_14 : decode cX3_isRemembered 14 = .ok (.iaload, 1) := by decide +kernel
theorem dX3_isRemembered_15 : decode cX3_isRemembered 15 = .ok (.aload_n 0, 1) := by decide +kernel
theorem dX3_isRemembered_16 : decode cX3_isRemembered 16 = .ok (.getfield 165, 3) := by decide +kernel
theorem dX3_isRemembered_19 : decode cX3_isRemembered 19 = .ok (.if_icmp .ne 7, 3) := by decide +kernel
theorem dX3_isRemembered_22 : decode cX3_isRemembered 22 = .ok (.iconst 1, 1) := by decide +kernel
theorem dX3_isRemembered_23 : decode cX3_isRemembered 23 = .ok (.goto 4, 3) := by decide +kernel
theorem dX3_isRemembered_26 : decode cX3_isRemembered 26 = .ok (.iconst 0, 1) := by decide +kernel
theorem dX3_isRemembered_27 : decode cX3_isRemembered 27 = .ok (.ireturn, 1) := by decide +kernel
abbrev cX3_found : ByteArray := prog_4_method_41_code
def yX3_found : MethodName := ⟨RX3, "found", "(I)I"⟩
theorem dX3_found_0 : decode cX3_found 0 = .ok (.aload_n 0, 1) := by decide +kernel
theorem dX3_found_1 : decode cX3_found 1 = .ok (.iload_n 1, 1) := by decide +kernel
theorem dX3_found_2 : decode cX3_found 2 = .ok (.invokevirtual 190, 3) := by decide +kernel
theorem dX3_found_5 : decode cX3_found 5 = .ok (.istore_n 2, 1) := by decide +kernel
theorem dX3_found_6 : decode cX3_found 6 = .ok (.aload_n 0, 1) := by decide +kernel
theorem dX3_found_7 : decode cX3_found 7 = .ok (.iload_n 2, 1) := by decide +kernel
theorem dX3_found_8 : decode cX3_found 8 = .ok (.invokevirtual 193, 3) := by decide +kernel
theorem dX3_found_11 : decode cX3_found 11 = .ok (.istore_n 3, 1) := by decide +kernel
theorem dX3_found_12 : decode cX3_found 12 = .ok (.aload_n 0, 1) := by decide +kernel
theorem dX3_found_13 : decode cX3_found 13 = .ok (.getfield 33, 3) := by decide +kernel
theorem dX3_found_16 : decode cX3_found 16 = .ok (.iload_n 1, 1) := by decide +kernel
theorem dX3_found_17 : decode cX3_found 17 = .ok (.iaload, 1) := by decide +kernel
theorem dX3_found_18 : decode cX3_found 18 = .ok (.iconst 4, 1) := by decide +kernel
theorem dX3_found_19 : decode cX3_found 19 = .ok (.if_icmp .ne 68, 3) := by decide +kernel
theorem dX3_found_22 : decode cX3_found 22 = .ok (.iconst 0, 1) := by decide +kernel
theorem dX3_found_23 : decode cX3_found 23 = .ok (.istore 4, 2) := by decide +kernel
theorem dX3_found_25 : decode cX3_found 25 = .ok (.iload 4, 2) := by decide +kernel
theorem dX3_found_27 : decode cX3_found 27 = .ok (.aload_n 0, 1) := by decide +kernel
theorem dX3_found_28 : decode cX3_found 28 = .ok (.getfield 196, 3) := by decide +kernel
theorem dX3_found_31 : decode cX3_found 31 = .ok (.if_icmp .ge 56, 3) := by decide +kernel
theorem dX3_found_34 : decode cX3_found 34 = .ok (.aload_n 0, 1) := by decide +kernel
theorem dX3_found_35 : decode cX3_found 35 = .ok (.getfield 199, 3) := by decide +kernel
theorem dX3_found_38 : decode cX3_found 38 = .ok (.iload 4, 2) := by decide +kernel
theorem dX3_found_40 : decode cX3_found 40 = .ok (.iaload, 1) := by decide +kernel
theorem dX3_found_41 : decode cX3_found 41 = .ok (.iconst 2, 1) := by decide +kernel
theorem dX3_found_42 : decode cX3_found 42 = .ok (.if_icmp .ne 39, 3) := by decide +kernel
theorem dX3_found_45 : decode cX3_found 45 = .ok (.aload_n 0, 1) := by decide +kernel
theorem dX3_found_46 : decode cX3_found 46 = .ok (.getfield 202, 3) := by decide +kernel
theorem dX3_found_49 : decode cX3_found 49 = .ok (.iload 4, 2) := by decide +kernel
theorem dX3_found_51 : decode cX3_found 51 = .ok (.iaload, 1) := by decide +kernel
theorem dX3_found_52 : decode cX3_found 52 = .ok (.aload_n 0, 1) := by decide +kernel
theorem dX3_found_53 : decode cX3_found 53 = .ok (.iload_n 1, 1) := by decide +kernel
theorem dX3_found_54 : decode cX3_found 54 = .ok (.iconst 0, 1) := by decide +kernel
theorem dX3_found_55 : decode cX3_found 55 = .ok (.invokevirtual 65, 3) := by decide +kernel
theorem dX3_found_58 : decode cX3_found 58 = .ok (.if_icmp .ne 23, 3) := by decide +kernel
theorem dX3_found_61 : decode cX3_found 61 = .ok (.aload_n 0, 1) := by decide +kernel
theorem dX3_found_62 : decode cX3_found 62 = .ok (.iload 4, 2) := by decide +kernel
theorem dX3_found_64 : decode cX3_found 64 = .ok (.iload_n 1, 1) := by decide +kernel
theorem dX3_found_65 : decode cX3_found 65 = .ok (.invokevirtual 205, 3) := by decide +kernel
theorem dX3_found_68 : decode cX3_found 68 = .ok (.ifCond .eq 13, 3) := by decide +kernel
theorem dX3_found_71 : decode cX3_found 71 = .ok (.iload_n 3, 1) := by decide +kernel
theorem dX3_found_72 : decode cX3_found 72 = .ok (.aload_n 0, 1) := by decide +kernel
theorem dX3_found_73 : decode cX3_found 73 = .ok (.getfield 208, 3) := by decide +kernel
theorem dX3_found_76 : decode cX3_found 76 = .ok (.iload 4, 2) := by decide +kernel
theorem dX3_found_78 : decode cX3_found 78 = .ok (.iaload, 1) := by decide +kernel
theorem dX3_found_79 : decode cX3_found 79 = .ok (.ior, 1) := by decide +kernel
theorem dX3_found_80 : decode cX3_found 80 = .ok (.istore_n 3, 1) := by decide +kernel
theorem dX3_found_81 : decode cX3_found 81 = .ok (.iinc 4 1, 3) := by decide +kernel
theorem dX3_found_84 : decode cX3_found 84 = .ok (.goto (-59), 3) := by decide +kernel
theorem dX3_found_87 : decode cX3_found 87 = .ok (.iconst 1, 1) := by decide +kernel
theorem dX3_found_88 : decode cX3_found 88 = .ok (.istore 4, 2) := by decide +kernel
theorem dX3_found_90 : decode cX3_found 90 = .ok (.iload 4, 2) := by decide +kernel
theorem dX3_found_92 : decode cX3_found 92 = .ok (.ifCond .eq 95, 3) := by decide +kernel
theorem dX3_found_95 : decode cX3_found 95 = .ok (.iconst 0, 1) := by decide +kernel
theorem dX3_found_96 : decode cX3_found 96 = .ok (.istore 4, 2) := by decide +kernel
theorem dX3_found_98 : decode cX3_found 98 = .ok (.iconst 0, 1) := by decide +kernel
theorem dX3_found_99 : decode cX3_found 99 = .ok (.istore 5, 2) := by decide +kernel
theorem dX3_found_101 : decode cX3_found 101 = .ok (.iload 5, 2) := by decide +kernel
theorem dX3_found_103 : decode cX3_found 103 = .ok (.aload_n 0, 1) := by decide +kernel
theorem dX3_found_104 : decode cX3_found 104 = .ok (.getfield 196, 3) := by decide +kernel
theorem dX3_found_107 : decode cX3_found 107 = .ok (.if_icmp .ge 77, 3) := by decide +kernel
theorem dX3_found_110 : decode cX3_found 110 = .ok (.aload_n 0, 1) := by decide +kernel
theorem dX3_found_111 : decode cX3_found 111 = .ok (.getfield 199, 3) := by decide +kernel
theorem dX3_found_114 : decode cX3_found 114 = .ok (.iload 5, 2) := by decide +kernel
theorem dX3_found_116 : decode cX3_found 116 = .ok (.iaload, 1) := by decide +kernel
theorem dX3_found_117 : decode cX3_found 117 = .ok (.iconst 1, 1) := by decide +kernel
theorem dX3_found_118 : decode cX3_found 118 = .ok (.if_icmp .ne 60, 3) := by decide +kernel
theorem dX3_found_121 : decode cX3_found 121 = .ok (.iload_n 3, 1) := by decide +kernel
theorem dX3_found_122 : decode cX3_found 122 = .ok (.aload_n 0, 1) := by decide +kernel
theorem dX3_found_123 : decode cX3_found 123 = .ok (.getfield 208, 3) := by decide +kernel
theorem dX3_found_126 : decode cX3_found 126 = .ok (.iload 5, 2) := by decide +kernel
theorem dX3_found_128 : decode cX3_found 128 = .ok (.iaload, 1) := by decide +kernel
theorem dX3_found_129 : decode cX3_found 129 = .ok (.ior, 1) := by decide +kernel
theorem dX3_found_130 : decode cX3_found 130 = .ok (.iload_n 3, 1) := by decide +kernel
theorem dX3_found_131 : decode cX3_found 131 = .ok (.if_icmp .eq 47, 3) := by decide +kernel
theorem dX3_found_134 : decode cX3_found 134 = .ok (.aload_n 0, 1) := by decide +kernel
theorem dX3_found_135 : decode cX3_found 135 = .ok (.aload_n 0, 1) := by decide +kernel
theorem dX3_found_136 : decode cX3_found 136 = .ok (.getfield 211, 3) := by decide +kernel
theorem dX3_found_139 : decode cX3_found 139 = .ok (.iload 5, 2) := by decide +kernel
theorem dX3_found_141 : decode cX3_found 141 = .ok (.iaload, 1) := by decide +kernel
theorem dX3_found_142 : decode cX3_found 142 = .ok (.invokevirtual 159, 3) := by decide +kernel
theorem dX3_found_145 : decode cX3_found 145 = .ok (.iload_n 3, 1) := by decide +kernel
theorem dX3_found_146 : decode cX3_found 146 = .ok (.iconst (-1), 1) := by decide +kernel
theorem dX3_found_147 : decode cX3_found 147 = .ok (.ixor, 1) := by decide +kernel
theorem dX3_found_148 : decode cX3_found 148 = .ok (.iand, 1) := by decide +kernel
theorem dX3_found_149 : decode cX3_found 149 = .ok (.ifCond .ne 29, 3) := by decide +kernel
theorem dX3_found_152 : decode cX3_found 152 = .ok (.aload_n 0, 1) := by decide +kernel
theorem dX3_found_153 : decode cX3_found 153 = .ok (.iload_n 2, 1) := by decide +kernel
theorem dX3_found_154 : decode cX3_found 154 = .ok (.iload 5, 2) := by decide +kernel
theorem dX3_found_156 : decode cX3_found 156 = .ok (.invokevirtual 214, 3) := by decide +kernel
theorem dX3_found_159 : decode cX3_found 159 = .ok (.ifCond .ne 6, 3) := by decide +kernel
theorem dX3_found_162 : decode cX3_found 162 = .ok (.goto 16, 3) := by decide +kernel
theorem dX3_found_165 : decode cX3_found 165 = .ok (.iload_n 3, 1) := by decide +kernel
theorem dX3_found_166 : decode cX3_found 166 = .ok (.aload_n 0, 1) := by decide +kernel
theorem dX3_found_167 : decode cX3_found 167 = .ok (.getfield 208, 3) := by decide +kernel
theorem dX3_found_170 : decode cX3_found 170 = .ok (.iload 5, 2) := by decide +kernel
theorem dX3_found_172 : decode cX3_found 172 = .ok (.iaload, 1) := by decide +kernel
theorem dX3_found_173 : decode cX3_found 173 = .ok (.ior, 1) := by decide +kernel
theorem dX3_found_174 : decode cX3_found 174 = .ok (.istore_n 3, 1) := by decide +kernel
theorem dX3_found_175 : decode cX3_found 175 = .ok (.iconst 1, 1) := by decide +kernel
theorem dX3_found_176 : decode cX3_found 176 = .ok (.istore 4, 2) := by decide +kernel
theorem dX3_found_178 : decode cX3_found 178 = .ok (.iinc 5 1, 3) := by decide +kernel
theorem dX3_found_181 : decode cX3_found 181 = .ok (.goto (-80), 3) := by decide +kernel
theorem dX3_found_184 : decode cX3_found 184 = .ok (.goto (-94), 3) := by decide +kernel
theorem dX3_found_187 : decode cX3_found 187 = .ok (.iload_n 3, 1) := by decide +kernel
theorem dX3_found_188 : decode cX3_found 188 = .ok (.ireturn, 1) := by decide +kernel
abbrev cX3_ownAndParents : ByteArray := prog_4_method_35_code
def yX3_ownAndParents : MethodName := ⟨RX3, "ownAndParents", "(I)I"⟩
theorem dX3_ownAndParents_0 : decode cX3_ownAndParents 0 = .ok (.iconst 0, 1) := by decide +kernel
theorem dX3_ownAndParents_1 : decode cX3_ownAndParents 1 = .ok (.istore_n 2, 1) := by decide +kernel
theorem dX3_ownAndParents_2 : decode cX3_ownAndParents 2 = .ok (.iload_n 1, 1) := by decide +kernel
theorem dX3_ownAndParents_3 : decode cX3_ownAndParents 3 = .ok (.istore_n 3, 1) := by decide +kernel
theorem dX3_ownAndParents_4 : decode cX3_ownAndParents 4 = .ok (.iload_n 3, 1) := by decide +kernel
theorem dX3_ownAndParents_5 : decode cX3_ownAndParents 5 = .ok (.ifCond .le 20, 3) := by decide +kernel
theorem dX3_ownAndParents_8 : decode cX3_ownAndParents 8 = .ok (.iload_n 2, 1) := by decide +kernel
theorem dX3_ownAndParents_9 : decode cX3_ownAndParents 9 = .ok (.aload_n 0, 1) := by decide +kernel
theorem dX3_ownAndParents_10 : decode cX3_ownAndParents 10 = .ok (.iload_n 3, 1) := by decide +kernel
theorem dX3_ownAndParents_11 : decode cX3_ownAndParents 11 = .ok (.invokevirtual 159, 3) := by decide +kernel
theorem dX3_ownAndParents_14 : decode cX3_ownAndParents 14 = .ok (.ior, 1) := by decide +kernel
theorem dX3_ownAndParents_15 : decode cX3_ownAndParents 15 = .ok (.istore_n 2, 1) := by decide +kernel
theorem dX3_ownAndParents_16 : decode cX3_ownAndParents 16 = .ok (.aload_n 0, 1) := by decide +kernel
theorem dX3_ownAndParents_17 : decode cX3_ownAndParents 17 = .ok (.iload_n 3, 1) := by decide +kernel
theorem dX3_ownAndParents_18 : decode cX3_ownAndParents 18 = .ok (.invokevirtual 162, 3) := by decide +kernel
theorem dX3_ownAndParents_21 : decode cX3_ownAndParents 21 = .ok (.istore_n 3, 1) := by decide +kernel
theorem dX3_ownAndParents_22 : decode cX3_ownAndParents 22 = .ok (.goto (-18), 3) := by decide +kernel
theorem dX3_ownAndParents_25 : decode cX3_ownAndParents 25 = .ok (.iload_n 2, 1) := by decide +kernel
theorem dX3_ownAndParents_26 : decode cX3_ownAndParents 26 = .ok (.ireturn, 1) := by decide +kernel
abbrev cX3_termsSuit : ByteArray := prog_4_method_43_code
def yX3_termsSuit : MethodName := ⟨RX3, "termsSuit", "(II)Z"⟩
theorem dX3_termsSuit_0 : decode cX3_termsSuit 0 = .ok (.iconst 1, 1) := by decide +kernel
theorem dX3_termsSuit_1 : decode cX3_termsSuit 1 = .ok (.istore_n 3, 1) := by decide +kernel
theorem dX3_termsSuit_2 : decode cX3_termsSuit 2 = .ok (.iload_n 3, 1) := by decide +kernel
theorem dX3_termsSuit_3 : decode cX3_termsSuit 3 = .ok (.aload_n 0, 1) := by decide +kernel
theorem dX3_termsSuit_4 : decode cX3_termsSuit 4 = .ok (.getfield 36, 3) := by decide +kernel
theorem dX3_termsSuit_7 : decode cX3_termsSuit 7 = .ok (.iload_n 2, 1) := by decide +kernel
theorem dX3_termsSuit_8 : decode cX3_termsSuit 8 = .ok (.iaload, 1) := by decide +kernel
theorem dX3_termsSuit_9 : decode cX3_termsSuit 9 = .ok (.if_icmp .ge 53, 3) := by decide +kernel
theorem dX3_termsSuit_12 : decode cX3_termsSuit 12 = .ok (.aload_n 0, 1) := by decide +kernel
theorem dX3_termsSuit_13 : decode cX3_termsSuit 13 = .ok (.iload_n 2, 1) := by decide +kernel
theorem dX3_termsSuit_14 : decode cX3_termsSuit 14 = .ok (.invokevirtual 148, 3) := by decide +kernel
theorem dX3_termsSuit_17 : decode cX3_termsSuit 17 = .ok (.aload_n 0, 1) := by decide +kernel
theorem dX3_termsSuit_18 : decode cX3_termsSuit 18 = .ok (.aload_n 0, 1) := by decide +kernel
theorem dX3_termsSuit_19 : decode cX3_termsSuit 19 = .ok (.iload_n 2, 1) := by decide +kernel
theorem dX3_termsSuit_20 : decode cX3_termsSuit 20 = .ok (.iload_n 3, 1) := by decide +kernel
theorem dX3_termsSuit_21 : decode cX3_termsSuit 21 = .ok (.invokevirtual 65, 3) := by decide +kernel
theorem dX3_termsSuit_24 : decode cX3_termsSuit 24 = .ok (.aload_n 0, 1) := by decide +kernel
theorem dX3_termsSuit_25 : decode cX3_termsSuit 25 = .ok (.iload_n 3, 1) := by decide +kernel
theorem dX3_termsSuit_26 : decode cX3_termsSuit 26 = .ok (.iconst 1, 1) := by decide +kernel
theorem dX3_termsSuit_27 : decode cX3_termsSuit 27 = .ok (.if_icmp .ne 12, 3) := by decide +kernel
theorem dX3_termsSuit_30 : decode cX3_termsSuit 30 = .ok (.aload_n 0, 1) := by decide +kernel
theorem dX3_termsSuit_31 : decode cX3_termsSuit 31 = .ok (.getfield 224, 3) := by decide +kernel
theorem dX3_termsSuit_34 : decode cX3_termsSuit 34 = .ok (.iload_n 1, 1) := by decide +kernel
theorem dX3_termsSuit_35 : decode cX3_termsSuit 35 = .ok (.iaload, 1) := by decide +kernel
theorem dX3_termsSuit_36 : decode cX3_termsSuit 36 = .ok (.goto 9, 3) := by decide +kernel
theorem dX3_termsSuit_39 : decode cX3_termsSuit 39 = .ok (.aload_n 0, 1) := by decide +kernel
theorem dX3_termsSuit_40 : decode cX3_termsSuit 40 = .ok (.getfield 227, 3) := by decide +kernel
theorem dX3_termsSuit_43 : decode cX3_termsSuit 43 = .ok (.iload_n 1, 1) := by decide +kernel
theorem dX3_termsSuit_44 : decode cX3_termsSuit 44 = .ok (.iaload, 1) := by decide +kernel
theorem dX3_termsSuit_45 : decode cX3_termsSuit 45 = .ok (.invokevirtual 154, 3) := by decide +kernel
theorem dX3_termsSuit_48 : decode cX3_termsSuit 48 = .ok (.invokevirtual 230, 3) := by decide +kernel
theorem dX3_termsSuit_51 : decode cX3_termsSuit 51 = .ok (.ifCond .ne 5, 3) := by decide +kernel
theorem dX3_termsSuit_54 : decode cX3_termsSuit 54 = .ok (.iconst 0, 1) := by decide +kernel
theorem dX3_termsSuit_55 : decode cX3_termsSuit 55 = .ok (.ireturn, 1) := by decide +kernel
theorem dX3_termsSuit_56 : decode cX3_termsSuit 56 = .ok (.iinc 3 1, 3) := by decide +kernel
theorem dX3_termsSuit_59 : decode cX3_termsSuit 59 = .ok (.goto (-57), 3) := by decide +kernel
theorem dX3_termsSuit_62 : decode cX3_termsSuit 62 = .ok (.iconst 1, 1) := by decide +kernel
theorem dX3_termsSuit_63 : decode cX3_termsSuit 63 = .ok (.ireturn, 1) := by decide +kernel
abbrev cX3_hasOf : ByteArray := prog_4_method_42_code
def yX3_hasOf : MethodName := ⟨RX3, "hasOf", "(II)Z"⟩
theorem dX3_hasOf_0 : decode cX3_hasOf 0 = .ok (.aload_n 0, 1) := by decide +kernel
theorem dX3_hasOf_1 : decode cX3_hasOf 1 = .ok (.aload_n 0, 1) := by decide +kernel
theorem dX3_hasOf_2 : decode cX3_hasOf 2 = .ok (.getfield 211, 3) := by decide +kernel
theorem dX3_hasOf_5 : decode cX3_hasOf 5 = .ok (.iload_n 2, 1) := by decide +kernel
theorem dX3_hasOf_6 : decode cX3_hasOf 6 = .ok (.iaload, 1) := by decide +kernel
theorem dX3_hasOf_7 : decode cX3_hasOf 7 = .ok (.iconst 0, 1) := by decide +kernel
theorem dX3_hasOf_8 : decode cX3_hasOf 8 = .ok (.invokevirtual 65, 3) := by decide +kernel
theorem dX3_hasOf_11 : decode cX3_hasOf 11 = .ok (.istore_n 3, 1) := by decide +kernel
theorem dX3_hasOf_12 : decode cX3_hasOf 12 = .ok (.iload_n 3, 1) := by decide +kernel
theorem dX3_hasOf_13 : decode cX3_hasOf 13 = .ok (.ifCond .ne 5, 3) := by decide +kernel
theorem dX3_hasOf_16 : decode cX3_hasOf 16 = .ok (.iconst 1, 1) := by decide +kernel
theorem dX3_hasOf_17 : decode cX3_hasOf 17 = .ok (.ireturn, 1) := by decide +kernel
theorem dX3_hasOf_18 : decode cX3_hasOf 18 = .ok (.iload_n 1, 1) := by decide +kernel
theorem dX3_hasOf_19 : decode cX3_hasOf 19 = .ok (.istore 4, 2) := by decide +kernel
theorem dX3_hasOf_21 : decode cX3_hasOf 21 = .ok (.iload 4, 2) := by decide +kernel
theorem dX3_hasOf_23 : decode cX3_hasOf 23 = .ok (.ifCond .le 76, 3) := by decide +kernel
theorem dX3_hasOf_26 : decode cX3_hasOf 26 = .ok (.aload_n 0, 1) := by decide +kernel
theorem dX3_hasOf_27 : decode cX3_hasOf 27 = .ok (.iload 4, 2) := by decide +kernel
theorem dX3_hasOf_29 : decode cX3_hasOf 29 = .ok (.iconst 0, 1) := by decide +kernel
theorem dX3_hasOf_30 : decode cX3_hasOf 30 = .ok (.invokevirtual 65, 3) := by decide +kernel
theorem dX3_hasOf_33 : decode cX3_hasOf 33 = .ok (.iload_n 3, 1) := by decide +kernel
theorem dX3_hasOf_34 : decode cX3_hasOf 34 = .ok (.if_icmp .ne 54, 3) := by decide +kernel
theorem dX3_hasOf_37 : decode cX3_hasOf 37 = .ok (.aload_n 0, 1) := by decide +kernel
theorem dX3_hasOf_38 : decode cX3_hasOf 38 = .ok (.getfield 217, 3) := by decide +kernel
theorem dX3_hasOf_41 : decode cX3_hasOf 41 = .ok (.iload_n 2, 1) := by decide +kernel
theorem dX3_hasOf_42 : decode cX3_hasOf 42 = .ok (.iaload, 1) := by decide +kernel
theorem dX3_hasOf_43 : decode cX3_hasOf 43 = .ok (.ifCond .eq 43, 3) := by decide +kernel
theorem dX3_hasOf_46 : decode cX3_hasOf 46 = .ok (.aload_n 0, 1) := by decide +kernel
theorem dX3_hasOf_47 : decode cX3_hasOf 47 = .ok (.aload_n 0, 1) := by decide +kernel
theorem dX3_hasOf_48 : decode cX3_hasOf 48 = .ok (.aload_n 0, 1) := by decide +kernel
theorem dX3_hasOf_49 : decode cX3_hasOf 49 = .ok (.iload 4, 2) := by decide +kernel
theorem dX3_hasOf_51 : decode cX3_hasOf 51 = .ok (.iconst 1, 1) := by decide +kernel
theorem dX3_hasOf_52 : decode cX3_hasOf 52 = .ok (.invokevirtual 65, 3) := by decide +kernel
theorem dX3_hasOf_55 : decode cX3_hasOf 55 = .ok (.invokevirtual 190, 3) := by decide +kernel
theorem dX3_hasOf_58 : decode cX3_hasOf 58 = .ok (.aload_n 0, 1) := by decide +kernel
theorem dX3_hasOf_59 : decode cX3_hasOf 59 = .ok (.aload_n 0, 1) := by decide +kernel
theorem dX3_hasOf_60 : decode cX3_hasOf 60 = .ok (.getfield 217, 3) := by decide +kernel
theorem dX3_hasOf_63 : decode cX3_hasOf 63 = .ok (.iload_n 2, 1) := by decide +kernel
theorem dX3_hasOf_64 : decode cX3_hasOf 64 = .ok (.iaload, 1) := by decide +kernel
theorem dX3_hasOf_65 : decode cX3_hasOf 65 = .ok (.iconst 0, 1) := by decide +kernel
theorem dX3_hasOf_66 : decode cX3_hasOf 66 = .ok (.invokevirtual 65, 3) := by decide +kernel
theorem dX3_hasOf_69 : decode cX3_hasOf 69 = .ok (.aload_n 0, 1) := by decide +kernel
theorem dX3_hasOf_70 : decode cX3_hasOf 70 = .ok (.aload_n 0, 1) := by decide +kernel
theorem dX3_hasOf_71 : decode cX3_hasOf 71 = .ok (.getfield 217, 3) := by decide +kernel
theorem dX3_hasOf_74 : decode cX3_hasOf 74 = .ok (.iload_n 2, 1) := by decide +kernel
theorem dX3_hasOf_75 : decode cX3_hasOf 75 = .ok (.iaload, 1) := by decide +kernel
theorem dX3_hasOf_76 : decode cX3_hasOf 76 = .ok (.iconst 1, 1) := by decide +kernel
theorem dX3_hasOf_77 : decode cX3_hasOf 77 = .ok (.invokevirtual 65, 3) := by decide +kernel
theorem dX3_hasOf_80 : decode cX3_hasOf 80 = .ok (.invokevirtual 220, 3) := by decide +kernel
theorem dX3_hasOf_83 : decode cX3_hasOf 83 = .ok (.ifCond .eq 5, 3) := by decide +kernel
theorem dX3_hasOf_86 : decode cX3_hasOf 86 = .ok (.iconst 1, 1) := by decide +kernel
theorem dX3_hasOf_87 : decode cX3_hasOf 87 = .ok (.ireturn, 1) := by decide +kernel
theorem dX3_hasOf_88 : decode cX3_hasOf 88 = .ok (.aload_n 0, 1) := by decide +kernel
theorem dX3_hasOf_89 : decode cX3_hasOf 89 = .ok (.iload 4, 2) := by decide +kernel
theorem dX3_hasOf_91 : decode cX3_hasOf 91 = .ok (.invokevirtual 162, 3) := by decide +kernel
theorem dX3_hasOf_94 : decode cX3_hasOf 94 = .ok (.istore 4, 2) := by decide +kernel
theorem dX3_hasOf_96 : decode cX3_hasOf 96 = .ok (.goto (-75), 3) := by decide +kernel
theorem dX3_hasOf_99 : decode cX3_hasOf 99 = .ok (.iconst 0, 1) := by decide +kernel
theorem dX3_hasOf_100 : decode cX3_hasOf 100 = .ok (.ireturn, 1) := by decide +kernel
abbrev cX3_same : ByteArray := prog_4_method_66_code
def yX3_same : MethodName := ⟨RX3, "same", "(II)V"⟩
theorem dX3_same_0 : decode cX3_same 0 = .ok (.aload_n 0, 1) := by decide +kernel
theorem dX3_same_1 : decode cX3_same 1 = .ok (.iload_n 2, 1) := by decide +kernel
theorem dX3_same_2 : decode cX3_same 2 = .ok (.invokevirtual 341, 3) := by decide +kernel
theorem dX3_same_5 : decode cX3_same 5 = .ok (.aload_n 0, 1) := by decide +kernel
theorem dX3_same_6 : decode cX3_same 6 = .ok (.getfield 338, 3) := by decide +kernel
theorem dX3_same_9 : decode cX3_same 9 = .ok (.bipush 100, 2) := by decide +kernel
theorem dX3_same_11 : decode cX3_same 11 = .ok (.if_icmp .gt 13, 3) := by decide +kernel
theorem dX3_same_14 : decode cX3_same 14 = .ok (.aload_n 0, 1) := by decide +kernel
theorem dX3_same_15 : decode cX3_same 15 = .ok (.iload_n 1, 1) := by decide +kernel
theorem dX3_same_16 : decode cX3_same 16 = .ok (.aload_n 0, 1) := by decide +kernel
theorem dX3_same_17 : decode cX3_same 17 = .ok (.iload_n 2, 1) := by decide +kernel
theorem dX3_same_18 : decode cX3_same 18 = .ok (.invokevirtual 325, 3) := by decide +kernel
theorem dX3_same_21 : decode cX3_same 21 = .ok (.invokevirtual 382, 3) := by decide +kernel
theorem dX3_same_24 : decode cX3_same 24 = .ok (.return_, 1) := by decide +kernel
abbrev cX3_isContradictory : ByteArray := prog_4_method_72_code
def yX3_isContradictory : MethodName := ⟨RX3, "isContradictory", "()Z"⟩
theorem dX3_isContradictory_0 : decode cX3_isContradictory 0 = .ok (.iconst 0, 1) := by decide +kernel
theorem dX3_isContradictory_1 : decode cX3_isContradictory 1 = .ok (.istore_n 1, 1) := by decide +kernel
theorem dX3_isContradictory_2 : decode cX3_isContradictory 2 = .ok (.iload_n 1, 1) := by decide +kernel
theorem dX3_isContradictory_3 : decode cX3_isContradictory 3 = .ok (.aload_n 0, 1) := by decide +kernel
theorem dX3_isContradictory_4 : decode cX3_isContradictory 4 = .ok (.getfield 361, 3) := by decide +kernel
theorem dX3_isContradictory_7 : decode cX3_isContradictory 7 = .ok (.if_icmp .ge 43, 3) := by decide +kernel
theorem dX3_isContradictory_10 : decode cX3_isContradictory 10 = .ok (.aload_n 0, 1) := by decide +kernel
theorem dX3_isContradictory_11 : decode cX3_isContradictory 11 = .ok (.getfield 364, 3) := by decide +kernel
theorem dX3_isContradictory_14 : decode cX3_isContradictory 14 = .ok (.iload_n 1, 1) := by decide +kernel
theorem dX3_isContradictory_15 : decode cX3_isContradictory 15 = .ok (.iaload, 1) := by decide +kernel
theorem dX3_isContradictory_16 : decode cX3_isContradictory 16 = .ok (.iconst 1, 1) := by decide +kernel
theorem dX3_isContradictory_17 : decode cX3_isContradictory 17 = .ok (.iand, 1) := by decide +kernel
theorem dX3_isContradictory_18 : decode cX3_isContradictory 18 = .ok (.ifCond .ne 26, 3) := by decide +kernel
theorem dX3_isContradictory_21 : decode cX3_isContradictory 21 = .ok (.aload_n 0, 1) := by decide +kernel
theorem dX3_isContradictory_22 : decode cX3_isContradictory 22 = .ok (.aload_n 0, 1) := by decide +kernel
theorem dX3_isContradictory_23 : decode cX3_isContradictory 23 = .ok (.getfield 367, 3) := by decide +kernel
theorem dX3_isContradictory_26 : decode cX3_isContradictory 26 = .ok (.iload_n 1, 1) := by decide +kernel
theorem dX3_isContradictory_27 : decode cX3_isContradictory 27 = .ok (.iaload, 1) := by decide +kernel
theorem dX3_isContradictory_28 : decode cX3_isContradictory 28 = .ok (.aload_n 0, 1) := by decide +kernel
theorem dX3_isContradictory_29 : decode cX3_isContradictory 29 = .ok (.getfield 364, 3) := by decide +kernel
theorem dX3_isContradictory_32 : decode cX3_isContradictory 32 = .ok (.iload_n 1, 1) := by decide +kernel
theorem dX3_isContradictory_33 : decode cX3_isContradictory 33 = .ok (.iaload, 1) := by decide +kernel
theorem dX3_isContradictory_34 : decode cX3_isContradictory 34 = .ok (.iconst 1, 1) := by decide +kernel
theorem dX3_isContradictory_35 : decode cX3_isContradictory 35 = .ok (.ior, 1) := by decide +kernel
theorem dX3_isContradictory_36 : decode cX3_isContradictory 36 = .ok (.invokevirtual 373, 3) := by decide +kernel
theorem dX3_isContradictory_39 : decode cX3_isContradictory 39 = .ok (.ifCond .eq 5, 3) := by decide +kernel
theorem dX3_isContradictory_42 : decode cX3_isContradictory 42 = .ok (.iconst 1, 1) := by decide +kernel
theorem dX3_isContradictory_43 : decode cX3_isContradictory 43 = .ok (.ireturn, 1) := by decide +kernel
theorem dX3_isContradictory_44 : decode cX3_isContradictory 44 = .ok (.iinc 1 1, 3) := by decide +kernel
theorem dX3_isContradictory_47 : decode cX3_isContradictory 47 = .ok (.goto (-45), 3) := by decide +kernel
theorem dX3_isContradictory_50 : decode cX3_isContradictory 50 = .ok (.iconst 0, 1) := by decide +kernel
theorem dX3_isContradictory_51 : decode cX3_isContradictory 51 = .ok (.istore_n 1, 1) := by decide +kernel
theorem dX3_isContradictory_52 : decode cX3_isContradictory 52 = .ok (.iload_n 1, 1) := by decide +kernel
theorem dX3_isContradictory_53 : decode cX3_isContradictory 53 = .ok (.aload_n 0, 1) := by decide +kernel
theorem dX3_isContradictory_54 : decode cX3_isContradictory 54 = .ok (.getfield 313, 3) := by decide +kernel
theorem dX3_isContradictory_57 : decode cX3_isContradictory 57 = .ok (.if_icmp .ge 199, 3) := by decide +kernel
theorem dX3_isContradictory_60 : decode cX3_isContradictory 60 = .ok (.aload_n 0, 1) := by decide +kernel
theorem dX3_isContradictory_61 : decode cX3_isContradictory 61 = .ok (.getfield 310, 3) := by decide +kernel
theorem dX3_isContradictory_64 : decode cX3_isContradictory 64 = .ok (.iload_n 1, 1) := by decide +kernel
theorem dX3_isContradictory_65 : decode cX3_isContradictory 65 = .ok (.iaload, 1) := by decide +kernel
theorem dX3_isContradictory_66 : decode cX3_isContradictory 66 = .ok (.istore_n 2, 1) := by decide +kernel
theorem dX3_isContradictory_67 : decode cX3_isContradictory 67 = .ok (.aload_n 0, 1) := by decide +kernel
theorem dX3_isContradictory_68 : decode cX3_isContradictory 68 = .ok (.getfield 33, 3) := by decide +kernel
theorem dX3_isContradictory_71 : decode cX3_isContradictory 71 = .ok (.iload_n 2, 1) := by decide +kernel
theorem dX3_isContradictory_72 : decode cX3_isContradictory 72 = .ok (.iaload, 1) := by decide +kernel
theorem dX3_isContradictory_73 : decode cX3_isContradictory 73 = .ok (.bipush 15, 2) := by decide +kernel
theorem dX3_isContradictory_75 : decode cX3_isContradictory 75 = .ok (.if_icmp .eq 6, 3) := by decide +kernel
theorem dX3_isContradictory_78 : decode cX3_isContradictory 78 = .ok (.goto 172, 3) := by decide +kernel
theorem dX3_isContradictory_81 : decode cX3_isContradictory 81 = .ok (.aload_n 0, 1) := by decide +kernel
theorem dX3_isContradictory_82 : decode cX3_isContradictory 82 = .ok (.iload_n 2, 1) := by decide +kernel
theorem dX3_isContradictory_83 : decode cX3_isContradictory 83 = .ok (.iconst 0, 1) := by decide +kernel
theorem dX3_isContradictory_84 : decode cX3_isContradictory 84 = .ok (.invokevirtual 65, 3) := by decide +kernel
theorem dX3_isContradictory_87 : decode cX3_isContradictory 87 = .ok (.istore_n 3, 1) := by decide +kernel
theorem dX3_isContradictory_88 : decode cX3_isContradictory 88 = .ok (.aload_n 0, 1) := by decide +kernel
theorem dX3_isContradictory_89 : decode cX3_isContradictory 89 = .ok (.getfield 33, 3) := by decide +kernel
theorem dX3_isContradictory_92 : decode cX3_isContradictory 92 = .ok (.iload_n 3, 1) := by decide +kernel
theorem dX3_isContradictory_93 : decode cX3_isContradictory 93 = .ok (.iaload, 1) := by decide +kernel
theorem dX3_isContradictory_94 : decode cX3_isContradictory 94 = .ok (.tableswitch 145 8 17 #[54, 56, 145, 145, 142, 77, 145, 145, 108, 118], 54) := by decide +kernel
theorem dX3_isContradictory_148 : decode cX3_isContradictory 148 = .ok (.iconst 1, 1) := by decide +kernel
theorem dX3_isContradictory_149 : decode cX3_isContradictory 149 = .ok (.ireturn, 1) := by decide +kernel
theorem dX3_isContradictory_150 : decode cX3_isContradictory 150 = .ok (.aload_n 0, 1) := by decide +kernel
theorem dX3_isContradictory_151 : decode cX3_isContradictory 151 = .ok (.aload_n 0, 1) := by decide +kernel
theorem dX3_isContradictory_152 : decode cX3_isContradictory 152 = .ok (.iload_n 3, 1) := by decide +kernel
theorem dX3_isContradictory_153 : decode cX3_isContradictory 153 = .ok (.iconst 0, 1) := by decide +kernel
theorem dX3_isContradictory_154 : decode cX3_isContradictory 154 = .ok (.invokevirtual 65, 3) := by decide +kernel
theorem dX3_isContradictory_157 : decode cX3_isContradictory 157 = .ok (.aload_n 0, 1) := by decide +kernel
theorem dX3_isContradictory_158 : decode cX3_isContradictory 158 = .ok (.iload_n 3, 1) := by decide +kernel
theorem dX3_isContradictory_159 : decode cX3_isContradictory 159 = .ok (.iconst 1, 1) := by decide +kernel
theorem dX3_isContradictory_160 : decode cX3_isContradictory 160 = .ok (.invokevirtual 65, 3) := by decide +kernel
theorem dX3_isContradictory_163 : decode cX3_isContradictory 163 = .ok (.invokevirtual 358, 3) := by decide +kernel
theorem dX3_isContradictory_166 : decode cX3_isContradictory 166 = .ok (.ifCond .eq 84, 3) := by decide +kernel
theorem dX3_isContradictory_169 : decode cX3_isContradictory 169 = .ok (.iconst 1, 1) := by decide +kernel
theorem dX3_isContradictory_170 : decode cX3_isContradictory 170 = .ok (.ireturn, 1) := by decide +kernel
theorem dX3_isContradictory_171 : decode cX3_isContradictory 171 = .ok (.aload_n 0, 1) := by decide +kernel
theorem dX3_isContradictory_172 : decode cX3_isContradictory 172 = .ok (.aload_n 0, 1) := by decide +kernel
theorem dX3_isContradictory_173 : decode cX3_isContradictory 173 = .ok (.aload_n 0, 1) := by decide +kernel
theorem dX3_isContradictory_174 : decode cX3_isContradictory 174 = .ok (.iload_n 3, 1) := by decide +kernel
theorem dX3_isContradictory_175 : decode cX3_isContradictory 175 = .ok (.iconst 2, 1) := by decide +kernel
theorem dX3_isContradictory_176 : decode cX3_isContradictory 176 = .ok (.invokevirtual 65, 3) := by decide +kernel
theorem dX3_isContradictory_179 : decode cX3_isContradictory 179 = .ok (.invokevirtual 325, 3) := by decide +kernel
theorem dX3_isContradictory_182 : decode cX3_isContradictory 182 = .ok (.aload_n 0, 1) := by decide +kernel
theorem dX3_isContradictory_183 : decode cX3_isContradictory 183 = .ok (.iload_n 3, 1) := by decide +kernel
theorem dX3_isContradictory_184 : decode cX3_isContradictory 184 = .ok (.iconst 0, 1) := by decide +kernel
theorem dX3_isContradictory_185 : decode cX3_isContradictory 185 = .ok (.invokevirtual 65, 3) := by decide +kernel
theorem dX3_isContradictory_188 : decode cX3_isContradictory 188 = .ok (.aload_n 0, 1) := by decide +kernel
theorem dX3_isContradictory_189 : decode cX3_isContradictory 189 = .ok (.iload_n 3, 1) := by decide +kernel
theorem dX3_isContradictory_190 : decode cX3_isContradictory 190 = .ok (.iconst 1, 1) := by decide +kernel
theorem dX3_isContradictory_191 : decode cX3_isContradictory 191 = .ok (.invokevirtual 65, 3) := by decide +kernel
theorem dX3_isContradictory_194 : decode cX3_isContradictory 194 = .ok (.invokevirtual 370, 3) := by decide +kernel
theorem dX3_isContradictory_197 : decode cX3_isContradictory 197 = .ok (.ifCond .eq 53, 3) := by decide +kernel
theorem dX3_isContradictory_200 : decode cX3_isContradictory 200 = .ok (.iconst 1, 1) := by decide +kernel
theorem dX3_isContradictory_201 : decode cX3_isContradictory 201 = .ok (.ireturn, 1) := by decide +kernel
theorem dX3_isContradictory_202 : decode cX3_isContradictory 202 = .ok (.aload_n 0, 1) := by decide +kernel
theorem dX3_isContradictory_203 : decode cX3_isContradictory 203 = .ok (.iload_n 3, 1) := by decide +kernel
theorem dX3_isContradictory_204 : decode cX3_isContradictory 204 = .ok (.invokevirtual 413, 3) := by decide +kernel
theorem dX3_isContradictory_207 : decode cX3_isContradictory 207 = .ok (.ifCond .eq 43, 3) := by decide +kernel
theorem dX3_isContradictory_210 : decode cX3_isContradictory 210 = .ok (.iconst 1, 1) := by decide +kernel
theorem dX3_isContradictory_211 : decode cX3_isContradictory 211 = .ok (.ireturn, 1) := by decide +kernel
theorem dX3_isContradictory_212 : decode cX3_isContradictory 212 = .ok (.iload_n 3, 1) := by decide +kernel
theorem dX3_isContradictory_213 : decode cX3_isContradictory 213 = .ok (.aload_n 0, 1) := by decide +kernel
theorem dX3_isContradictory_214 : decode cX3_isContradictory 214 = .ok (.getfield 304, 3) := by decide +kernel
theorem dX3_isContradictory_217 : decode cX3_isContradictory 217 = .ok (.arraylength, 1) := by decide +kernel
theorem dX3_isContradictory_218 : decode cX3_isContradictory 218 = .ok (.if_icmp .ge 32, 3) := by decide +kernel
theorem dX3_isContradictory_221 : decode cX3_isContradictory 221 = .ok (.aload_n 0, 1) := by decide +kernel
theorem dX3_isContradictory_222 : decode cX3_isContradictory 222 = .ok (.getfield 304, 3) := by decide +kernel
theorem dX3_isContradictory_225 : decode cX3_isContradictory 225 = .ok (.iload_n 3, 1) := by decide +kernel
theorem dX3_isContradictory_226 : decode cX3_isContradictory 226 = .ok (.iaload, 1) := by decide +kernel
theorem dX3_isContradictory_227 : decode cX3_isContradictory 227 = .ok (.aload_n 0, 1) := by decide +kernel
theorem dX3_isContradictory_228 : decode cX3_isContradictory 228 = .ok (.getfield 307, 3) := by decide +kernel
theorem dX3_isContradictory_231 : decode cX3_isContradictory 231 = .ok (.if_icmp .ne 19, 3) := by decide +kernel
theorem dX3_isContradictory_234 : decode cX3_isContradictory 234 = .ok (.iconst 1, 1) := by decide +kernel
theorem dX3_isContradictory_235 : decode cX3_isContradictory 235 = .ok (.ireturn, 1) := by decide +kernel
theorem dX3_isContradictory_236 : decode cX3_isContradictory 236 = .ok (.goto 14, 3) := by decide +kernel
theorem dX3_isContradictory_239 : decode cX3_isContradictory 239 = .ok (.aload_n 0, 1) := by decide +kernel
theorem dX3_isContradictory_240 : decode cX3_isContradictory 240 = .ok (.iload_n 3, 1) := by decide +kernel
theorem dX3_isContradictory_241 : decode cX3_isContradictory 241 = .ok (.iconst 0, 1) := by decide +kernel
theorem dX3_isContradictory_242 : decode cX3_isContradictory 242 = .ok (.invokevirtual 416, 3) := by decide +kernel
theorem dX3_isContradictory_245 : decode cX3_isContradictory 245 = .ok (.ifCond .eq 5, 3) := by decide +kernel
theorem dX3_isContradictory_248 : decode cX3_isContradictory 248 = .ok (.iconst 1, 1) := by decide +kernel
theorem dX3_isContradictory_249 : decode cX3_isContradictory 249 = .ok (.ireturn, 1) := by decide +kernel
theorem dX3_isContradictory_250 : decode cX3_isContradictory 250 = .ok (.iinc 1 1, 3) := by decide +kernel
theorem dX3_isContradictory_253 : decode cX3_isContradictory 253 = .ok (.goto (-201), 3) := by decide +kernel
theorem dX3_isContradictory_256 : decode cX3_isContradictory 256 = .ok (.iconst 0, 1) := by decide +kernel
theorem dX3_isContradictory_257 : decode cX3_isContradictory 257 = .ok (.ireturn, 1) := by decide +kernel
abbrev cX3_holds : ByteArray := prog_4_method_71_code
def yX3_holds : MethodName := ⟨RX3, "holds", "(I)Z"⟩
theorem dX3_holds_0 : decode cX3_holds 0 = .ok (.aload_n 0, 1) := by decide +kernel
theorem dX3_holds_1 : decode cX3_holds 1 = .ok (.getfield 33, 3) := by decide +kernel
theorem dX3_holds_4 : decode cX3_holds 4 = .ok (.iload_n 1, 1) := by decide +kernel
theorem dX3_holds_5 : decode cX3_holds 5 = .ok (.iaload, 1) := by decide +kernel
theorem dX3_holds_6 : decode cX3_holds 6 = .ok (.istore_n 2, 1) := by decide +kernel
theorem dX3_holds_7 : decode cX3_holds 7 = .ok (.iload_n 2, 1) := by decide +kernel
theorem dX3_holds_8 : decode cX3_holds 8 = .ok (.bipush 8, 2) := by decide +kernel
theorem dX3_holds_10 : decode cX3_holds 10 = .ok (.if_icmp .ne 5, 3) := by decide +kernel
theorem dX3_holds_13 : decode cX3_holds 13 = .ok (.iconst 1, 1) := by decide +kernel
theorem dX3_holds_14 : decode cX3_holds 14 = .ok (.ireturn, 1) := by decide +kernel
theorem dX3_holds_15 : decode cX3_holds 15 = .ok (.iload_n 2, 1) := by decide +kernel
theorem dX3_holds_16 : decode cX3_holds 16 = .ok (.bipush 16, 2) := by decide +kernel
theorem dX3_holds_18 : decode cX3_holds 18 = .ok (.if_icmp .ne 38, 3) := by decide +kernel
theorem dX3_holds_21 : decode cX3_holds 21 = .ok (.iconst 0, 1) := by decide +kernel
theorem dX3_holds_22 : decode cX3_holds 22 = .ok (.istore_n 3, 1) := by decide +kernel
theorem dX3_holds_23 : decode cX3_holds 23 = .ok (.iload_n 3, 1) := by decide +kernel
theorem dX3_holds_24 : decode cX3_holds 24 = .ok (.aload_n 0, 1) := by decide +kernel
theorem dX3_holds_25 : decode cX3_holds 25 = .ok (.getfield 36, 3) := by decide +kernel
theorem dX3_holds_28 : decode cX3_holds 28 = .ok (.iload_n 1, 1) := by decide +kernel
theorem dX3_holds_29 : decode cX3_holds 29 = .ok (.iaload, 1) := by decide +kernel
theorem dX3_holds_30 : decode cX3_holds 30 = .ok (.if_icmp .ge 24, 3) := by decide +kernel
theorem dX3_holds_33 : decode cX3_holds 33 = .ok (.aload_n 0, 1) := by decide +kernel
theorem dX3_holds_34 : decode cX3_holds 34 = .ok (.aload_n 0, 1) := by decide +kernel
theorem dX3_holds_35 : decode cX3_holds 35 = .ok (.iload_n 1, 1) := by decide +kernel
theorem dX3_holds_36 : decode cX3_holds 36 = .ok (.iload_n 3, 1) := by decide +kernel
theorem dX3_holds_37 : decode cX3_holds 37 = .ok (.invokevirtual 65, 3) := by decide +kernel
theorem dX3_holds_40 : decode cX3_holds 40 = .ok (.invokevirtual 413, 3) := by decide +kernel
theorem dX3_holds_43 : decode cX3_holds 43 = .ok (.ifCond .ne 5, 3) := by decide +kernel
theorem dX3_holds_46 : decode cX3_holds 46 = .ok (.iconst 0, 1) := by decide +kernel
theorem dX3_holds_47 : decode cX3_holds 47 = .ok (.ireturn, 1) := by decide +kernel
theorem dX3_holds_48 : decode cX3_holds 48 = .ok (.iinc 3 1, 3) := by decide +kernel
theorem dX3_holds_51 : decode cX3_holds 51 = .ok (.goto (-28), 3) := by decide +kernel
theorem dX3_holds_54 : decode cX3_holds 54 = .ok (.iconst 1, 1) := by decide +kernel
theorem dX3_holds_55 : decode cX3_holds 55 = .ok (.ireturn, 1) := by decide +kernel
theorem dX3_holds_56 : decode cX3_holds 56 = .ok (.iload_n 2, 1) := by decide +kernel
theorem dX3_holds_57 : decode cX3_holds 57 = .ok (.bipush 15, 2) := by decide +kernel
theorem dX3_holds_59 : decode cX3_holds 59 = .ok (.if_icmp .ne 7, 3) := by decide +kernel
theorem dX3_holds_62 : decode cX3_holds 62 = .ok (.iconst 1, 1) := by decide +kernel
theorem dX3_holds_63 : decode cX3_holds 63 = .ok (.goto 4, 3) := by decide +kernel
theorem dX3_holds_66 : decode cX3_holds 66 = .ok (.iconst 0, 1) := by decide +kernel
theorem dX3_holds_67 : decode cX3_holds 67 = .ok (.istore_n 3, 1) := by decide +kernel
theorem dX3_holds_68 : decode cX3_holds 68 = .ok (.iload_n 3, 1) := by decide +kernel
theorem dX3_holds_69 : decode cX3_holds 69 = .ok (.ifCond .eq 12, 3) := by decide +kernel
theorem dX3_holds_72 : decode cX3_holds 72 = .ok (.aload_n 0, 1) := by decide +kernel
theorem dX3_holds_73 : decode cX3_holds 73 = .ok (.iload_n 1, 1) := by decide +kernel
theorem dX3_holds_74 : decode cX3_holds 74 = .ok (.iconst 0, 1) := by decide +kernel
theorem dX3_holds_75 : decode cX3_holds 75 = .ok (.invokevirtual 65, 3) := by decide +kernel
theorem dX3_holds_78 : decode cX3_holds 78 = .ok (.goto 4, 3) := by decide +kernel
theorem dX3_holds_81 : decode cX3_holds 81 = .ok (.iload_n 1, 1) := by decide +kernel
theorem dX3_holds_82 : decode cX3_holds 82 = .ok (.istore 4, 2) := by decide +kernel
theorem dX3_holds_84 : decode cX3_holds 84 = .ok (.aload_n 0, 1) := by decide +kernel
theorem dX3_holds_85 : decode cX3_holds 85 = .ok (.getfield 33, 3) := by decide +kernel
theorem dX3_holds_88 : decode cX3_holds 88 = .ok (.iload 4, 2) := by decide +kernel
theorem dX3_holds_90 : decode cX3_holds 90 = .ok (.iaload, 1) := by decide +kernel
theorem dX3_holds_91 : decode cX3_holds 91 = .ok (.istore_n 2, 1) := by decide +kernel
theorem dX3_holds_92 : decode cX3_holds 92 = .ok (.iload_n 2, 1) := by decide +kernel
theorem dX3_holds_93 : decode cX3_holds 93 = .ok (.bipush 16, 2) := by decide +kernel
theorem dX3_holds_95 : decode cX3_holds 95 = .ok (.if_icmp .ne 47, 3) := by decide +kernel
theorem dX3_holds_98 : decode cX3_holds 98 = .ok (.iconst 0, 1) := by decide +kernel
theorem dX3_holds_99 : decode cX3_holds 99 = .ok (.istore 5, 2) := by decide +kernel
theorem dX3_holds_101 : decode cX3_holds 101 = .ok (.iload 5, 2) := by decide +kernel
theorem dX3_holds_103 : decode cX3_holds 103 = .ok (.aload_n 0, 1) := by decide +kernel
theorem dX3_holds_104 : decode cX3_holds 104 = .ok (.getfield 36, 3) := by decide +kernel
theorem dX3_holds_107 : decode cX3_holds 107 = .ok (.iload 4, 2) := by decide +kernel
theorem dX3_holds_109 : decode cX3_holds 109 = .ok (.iaload, 1) := by decide +kernel
theorem dX3_holds_110 : decode cX3_holds 110 = .ok (.if_icmp .ge 30, 3) := by decide +kernel
theorem dX3_holds_113 : decode cX3_holds 113 = .ok (.aload_n 0, 1) := by decide +kernel
theorem dX3_holds_114 : decode cX3_holds 114 = .ok (.aload_n 0, 1) := by decide +kernel
theorem dX3_holds_115 : decode cX3_holds 115 = .ok (.aload_n 0, 1) := by decide +kernel
theorem dX3_holds_116 : decode cX3_holds 116 = .ok (.iload 4, 2) := by decide +kernel
theorem dX3_holds_118 : decode cX3_holds 118 = .ok (.iload 5, 2) := by decide +kernel
theorem dX3_holds_120 : decode cX3_holds 120 = .ok (.invokevirtual 65, 3) := by decide +kernel
theorem dX3_holds_123 : decode cX3_holds 123 = .ok (.invokevirtual 88, 3) := by decide +kernel
theorem dX3_holds_126 : decode cX3_holds 126 = .ok (.invokevirtual 413, 3) := by decide +kernel
theorem dX3_holds_129 : decode cX3_holds 129 = .ok (.ifCond .eq 5, 3) := by decide +kernel
theorem dX3_holds_132 : decode cX3_holds 132 = .ok (.iconst 1, 1) := by decide +kernel
theorem dX3_holds_133 : decode cX3_holds 133 = .ok (.ireturn, 1) := by decide +kernel
theorem dX3_holds_134 : decode cX3_holds 134 = .ok (.iinc 5 1, 3) := by decide +kernel
theorem dX3_holds_137 : decode cX3_holds 137 = .ok (.goto (-36), 3) := by decide +kernel
theorem dX3_holds_140 : decode cX3_holds 140 = .ok (.iconst 0, 1) := by decide +kernel
theorem dX3_holds_141 : decode cX3_holds 141 = .ok (.ireturn, 1) := by decide +kernel
theorem dX3_holds_142 : decode cX3_holds 142 = .ok (.iload_n 2, 1) := by decide +kernel
theorem dX3_holds_143 : decode cX3_holds 143 = .ok (.bipush 17, 2) := by decide +kernel
theorem dX3_holds_145 : decode cX3_holds 145 = .ok (.if_icmp .ne 31, 3) := by decide +kernel
theorem dX3_holds_148 : decode cX3_holds 148 = .ok (.iload_n 1, 1) := by decide +kernel
theorem dX3_holds_149 : decode cX3_holds 149 = .ok (.aload_n 0, 1) := by decide +kernel
theorem dX3_holds_150 : decode cX3_holds 150 = .ok (.getfield 304, 3) := by decide +kernel
theorem dX3_holds_153 : decode cX3_holds 153 = .ok (.arraylength, 1) := by decide +kernel
theorem dX3_holds_154 : decode cX3_holds 154 = .ok (.if_icmp .ge 20, 3) := by decide +kernel
theorem dX3_holds_157 : decode cX3_holds 157 = .ok (.aload_n 0, 1) := by decide +kernel
theorem dX3_holds_158 : decode cX3_holds 158 = .ok (.getfield 304, 3) := by decide +kernel
theorem dX3_holds_161 : decode cX3_holds 161 = .ok (.iload_n 1, 1) := by decide +kernel
theorem dX3_holds_162 : decode cX3_holds 162 = .ok (.iaload, 1) := by decide +kernel
theorem dX3_holds_163 : decode cX3_holds 163 = .ok (.aload_n 0, 1) := by decide +kernel
theorem dX3_holds_164 : decode cX3_holds 164 = .ok (.getfield 307, 3) := by decide +kernel
theorem dX3_holds_167 : decode cX3_holds 167 = .ok (.if_icmp .ne 7, 3) := by decide +kernel
theorem dX3_holds_170 : decode cX3_holds 170 = .ok (.iconst 1, 1) := by decide +kernel
theorem dX3_holds_171 : decode cX3_holds 171 = .ok (.goto 4, 3) := by decide +kernel
theorem dX3_holds_174 : decode cX3_holds 174 = .ok (.iconst 0, 1) := by decide +kernel
theorem dX3_holds_175 : decode cX3_holds 175 = .ok (.ireturn, 1) := by decide +kernel
theorem dX3_holds_176 : decode cX3_holds 176 = .ok (.iload_n 2, 1) := by decide +kernel
theorem dX3_holds_177 : decode cX3_holds 177 = .ok (.bipush 8, 2) := by decide +kernel
theorem dX3_holds_179 : decode cX3_holds 179 = .ok (.if_icmp .ne 5, 3) := by decide +kernel
theorem dX3_holds_182 : decode cX3_holds 182 = .ok (.iconst 0, 1) := by decide +kernel
theorem dX3_holds_183 : decode cX3_holds 183 = .ok (.ireturn, 1) := by decide +kernel
theorem dX3_holds_184 : decode cX3_holds 184 = .ok (.iload_n 2, 1) := by decide +kernel
theorem dX3_holds_185 : decode cX3_holds 185 = .ok (.bipush 9, 2) := by decide +kernel
theorem dX3_holds_187 : decode cX3_holds 187 = .ok (.if_icmp .ne 170, 3) := by decide +kernel
theorem dX3_holds_190 : decode cX3_holds 190 = .ok (.aload_n 0, 1) := by decide +kernel
theorem dX3_holds_191 : decode cX3_holds 191 = .ok (.iload 4, 2) := by decide +kernel
theorem dX3_holds_193 : decode cX3_holds 193 = .ok (.iconst 0, 1) := by decide +kernel
theorem dX3_holds_194 : decode cX3_holds 194 = .ok (.invokevirtual 65, 3) := by decide +kernel
theorem dX3_holds_197 : decode cX3_holds 197 = .ok (.istore 5, 2) := by decide +kernel
theorem dX3_holds_199 : decode cX3_holds 199 = .ok (.aload_n 0, 1) := by decide +kernel
theorem dX3_holds_200 : decode cX3_holds 200 = .ok (.iload 4, 2) := by decide +kernel
theorem dX3_holds_202 : decode cX3_holds 202 = .ok (.iconst 1, 1) := by decide +kernel
theorem dX3_holds_203 : decode cX3_holds 203 = .ok (.invokevirtual 65, 3) := by decide +kernel
theorem dX3_holds_206 : decode cX3_holds 206 = .ok (.istore 6, 2) := by decide +kernel
theorem dX3_holds_208 : decode cX3_holds 208 = .ok (.iload_n 3, 1) := by decide +kernel
theorem dX3_holds_209 : decode cX3_holds 209 = .ok (.ifCond .ne 12, 3) := by decide +kernel
theorem dX3_holds_212 : decode cX3_holds 212 = .ok (.aload_n 0, 1) := by decide +kernel
theorem dX3_holds_213 : decode cX3_holds 213 = .ok (.iload 5, 2) := by decide +kernel
theorem dX3_holds_215 : decode cX3_holds 215 = .ok (.iload 6, 2) := by decide +kernel
theorem dX3_holds_217 : decode cX3_holds 217 = .ok (.invokevirtual 358, 3) := by decide +kernel
theorem dX3_holds_220 : decode cX3_holds 220 = .ok (.ireturn, 1) := by decide +kernel
theorem dX3_holds_221 : decode cX3_holds 221 = .ok (.iconst 0, 1) := by decide +kernel
theorem dX3_holds_222 : decode cX3_holds 222 = .ok (.istore 7, 2) := by decide +kernel
theorem dX3_holds_224 : decode cX3_holds 224 = .ok (.iload 7, 2) := by decide +kernel
theorem dX3_holds_226 : decode cX3_holds 226 = .ok (.aload_n 0, 1) := by decide +kernel
theorem dX3_holds_227 : decode cX3_holds 227 = .ok (.getfield 313, 3) := by decide +kernel
theorem dX3_holds_230 : decode cX3_holds 230 = .ok (.if_icmp .ge 125, 3) := by decide +kernel
theorem dX3_holds_233 : decode cX3_holds 233 = .ok (.aload_n 0, 1) := by decide +kernel
theorem dX3_holds_234 : decode cX3_holds 234 = .ok (.getfield 310, 3) := by decide +kernel
theorem dX3_holds_237 : decode cX3_holds 237 = .ok (.iload 7, 2) := by decide +kernel
theorem dX3_holds_239 : decode cX3_holds 239 = .ok (.iaload, 1) := by decide +kernel
theorem dX3_holds_240 : decode cX3_holds 240 = .ok (.istore 8, 2) := by decide +kernel
theorem dX3_holds_242 : decode cX3_holds 242 = .ok (.aload_n 0, 1) := by decide +kernel
theorem dX3_holds_243 : decode cX3_holds 243 = .ok (.getfield 33, 3) := by decide +kernel
theorem dX3_holds_246 : decode cX3_holds 246 = .ok (.iload 8, 2) := by decide +kernel
theorem dX3_holds_248 : decode cX3_holds 248 = .ok (.iaload, 1) := by decide +kernel
theorem dX3_holds_249 : decode cX3_holds 249 = .ok (.bipush 15, 2) := by decide +kernel
theorem dX3_holds_251 : decode cX3_holds 251 = .ok (.if_icmp .ne 98, 3) := by decide +kernel
theorem dX3_holds_254 : decode cX3_holds 254 = .ok (.aload_n 0, 1) := by decide +kernel
theorem dX3_holds_255 : decode cX3_holds 255 = .ok (.getfield 33, 3) := by decide +kernel
theorem dX3_holds_258 : decode cX3_holds 258 = .ok (.aload_n 0, 1) := by decide +kernel
theorem dX3_holds_259 : decode cX3_holds 259 = .ok (.iload 8, 2) := by decide +kernel
theorem dX3_holds_261 : decode cX3_holds 261 = .ok (.iconst 0, 1) := by decide +kernel
theorem dX3_holds_262 : decode cX3_holds 262 = .ok (.invokevirtual 65, 3) := by decide +kernel
theorem dX3_holds_265 : decode cX3_holds 265 = .ok (.iaload, 1) := by decide +kernel
theorem dX3_holds_266 : decode cX3_holds 266 = .ok (.bipush 9, 2) := by decide +kernel
theorem dX3_holds_268 : decode cX3_holds 268 = .ok (.if_icmp .eq 6, 3) := by decide +kernel
theorem dX3_holds_271 : decode cX3_holds 271 = .ok (.goto 78, 3) := by decide +kernel
theorem dX3_holds_274 : decode cX3_holds 274 = .ok (.aload_n 0, 1) := by decide +kernel
theorem dX3_holds_275 : decode cX3_holds 275 = .ok (.iload 8, 2) := by decide +kernel
theorem dX3_holds_277 : decode cX3_holds 277 = .ok (.iconst 0, 1) := by decide +kernel
theorem dX3_holds_278 : decode cX3_holds 278 = .ok (.invokevirtual 65, 3) := by decide +kernel
theorem dX3_holds_281 : decode cX3_holds 281 = .ok (.istore 9, 2) := by decide +kernel
theorem dX3_holds_283 : decode cX3_holds 283 = .ok (.aload_n 0, 1) := by decide +kernel
theorem dX3_holds_284 : decode cX3_holds 284 = .ok (.aload_n 0, 1) := by decide +kernel
theorem dX3_holds_285 : decode cX3_holds 285 = .ok (.iload 9, 2) := by decide +kernel
theorem dX3_holds_287 : decode cX3_holds 287 = .ok (.iconst 0, 1) := by decide +kernel
theorem dX3_holds_288 : decode cX3_holds 288 = .ok (.invokevirtual 65, 3) := by decide +kernel
theorem dX3_holds_291 : decode cX3_holds 291 = .ok (.iload 5, 2) := by decide +kernel
theorem dX3_holds_293 : decode cX3_holds 293 = .ok (.invokevirtual 358, 3) := by decide +kernel
theorem dX3_holds_296 : decode cX3_holds 296 = .ok (.ifCond .eq 19, 3) := by decide +kernel
theorem dX3_holds_299 : decode cX3_holds 299 = .ok (.aload_n 0, 1) := by decide +kernel
theorem dX3_holds_300 : decode cX3_holds 300 = .ok (.aload_n 0, 1) := by decide +kernel
theorem dX3_holds_301 : decode cX3_holds 301 = .ok (.iload 9, 2) := by decide +kernel
theorem dX3_holds_303 : decode cX3_holds 303 = .ok (.iconst 1, 1) := by decide +kernel
theorem dX3_holds_304 : decode cX3_holds 304 = .ok (.invokevirtual 65, 3) := by decide +kernel
theorem dX3_holds_307 : decode cX3_holds 307 = .ok (.iload 6, 2) := by decide +kernel
theorem dX3_holds_309 : decode cX3_holds 309 = .ok (.invokevirtual 358, 3) := by decide +kernel
theorem dX3_holds_312 : decode cX3_holds 312 = .ok (.ifCond .ne 35, 3) := by decide +kernel
theorem dX3_holds_315 : decode cX3_holds 315 = .ok (.aload_n 0, 1) := by decide +kernel
theorem dX3_holds_316 : decode cX3_holds 316 = .ok (.aload_n 0, 1) := by decide +kernel
theorem dX3_holds_317 : decode cX3_holds 317 = .ok (.iload 9, 2) := by decide +kernel
theorem dX3_holds_319 : decode cX3_holds 319 = .ok (.iconst 0, 1) := by decide +kernel
theorem dX3_holds_320 : decode cX3_holds 320 = .ok (.invokevirtual 65, 3) := by decide +kernel
theorem dX3_holds_323 : decode cX3_holds 323 = .ok (.iload 6, 2) := by decide +kernel
theorem dX3_holds_325 : decode cX3_holds 325 = .ok (.invokevirtual 358, 3) := by decide +kernel
theorem dX3_holds_328 : decode cX3_holds 328 = .ok (.ifCond .eq 21, 3) := by decide +kernel
theorem dX3_holds_331 : decode cX3_holds 331 = .ok (.aload_n 0, 1) := by decide +kernel
theorem dX3_holds_332 : decode cX3_holds 332 = .ok (.aload_n 0, 1) := by decide +kernel
theorem dX3_holds_333 : decode cX3_holds 333 = .ok (.iload 9, 2) := by decide +kernel
theorem dX3_holds_335 : decode cX3_holds 335 = .ok (.iconst 1, 1) := by decide +kernel
theorem dX3_holds_336 : decode cX3_holds 336 = .ok (.invokevirtual 65, 3) := by decide +kernel
theorem dX3_holds_339 : decode cX3_holds 339 = .ok (.iload 5, 2) := by decide +kernel
theorem dX3_holds_341 : decode cX3_holds 341 = .ok (.invokevirtual 358, 3) := by decide +kernel
theorem dX3_holds_344 : decode cX3_holds 344 = .ok (.ifCond .eq 5, 3) := by decide +kernel
theorem dX3_holds_347 : decode cX3_holds 347 = .ok (.iconst 1, 1) := by decide +kernel
theorem dX3_holds_348 : decode cX3_holds 348 = .ok (.ireturn, 1) := by decide +kernel
theorem dX3_holds_349 : decode cX3_holds 349 = .ok (.iinc 7 1, 3) := by decide +kernel
theorem dX3_holds_352 : decode cX3_holds 352 = .ok (.goto (-128), 3) := by decide +kernel
theorem dX3_holds_355 : decode cX3_holds 355 = .ok (.iconst 0, 1) := by decide +kernel
theorem dX3_holds_356 : decode cX3_holds 356 = .ok (.ireturn, 1) := by decide +kernel
theorem dX3_holds_357 : decode cX3_holds 357 = .ok (.iload_n 2, 1) := by decide +kernel
theorem dX3_holds_358 : decode cX3_holds 358 = .ok (.bipush 12, 2) := by decide +kernel
theorem dX3_holds_360 : decode cX3_holds 360 = .ok (.if_icmp .ne 55, 3) := by decide +kernel
theorem dX3_holds_363 : decode cX3_holds 363 = .ok (.aload_n 0, 1) := by decide +kernel
theorem dX3_holds_364 : decode cX3_holds 364 = .ok (.aload_n 0, 1) := by decide +kernel
theorem dX3_holds_365 : decode cX3_holds 365 = .ok (.iload 4, 2) := by decide +kernel
theorem dX3_holds_367 : decode cX3_holds 367 = .ok (.iconst 1, 1) := by decide +kernel
theorem dX3_holds_368 : decode cX3_holds 368 = .ok (.invokevirtual 65, 3) := by decide +kernel
theorem dX3_holds_371 : decode cX3_holds 371 = .ok (.invokevirtual 325, 3) := by decide +kernel
theorem dX3_holds_374 : decode cX3_holds 374 = .ok (.istore 5, 2) := by decide +kernel
theorem dX3_holds_376 : decode cX3_holds 376 = .ok (.iload 5, 2) := by decide +kernel
theorem dX3_holds_378 : decode cX3_holds 378 = .ok (.ifCond .lt 35, 3) := by decide +kernel
theorem dX3_holds_381 : decode cX3_holds 381 = .ok (.aload_n 0, 1) := by decide +kernel
theorem dX3_holds_382 : decode cX3_holds 382 = .ok (.iload 5, 2) := by decide +kernel
theorem dX3_holds_384 : decode cX3_holds 384 = .ok (.iconst 2, 1) := by decide +kernel
theorem dX3_holds_385 : decode cX3_holds 385 = .ok (.aload_n 0, 1) := by decide +kernel
theorem dX3_holds_386 : decode cX3_holds 386 = .ok (.iload 4, 2) := by decide +kernel
theorem dX3_holds_388 : decode cX3_holds 388 = .ok (.iconst 0, 1) := by decide +kernel
theorem dX3_holds_389 : decode cX3_holds 389 = .ok (.invokevirtual 65, 3) := by decide +kernel
theorem dX3_holds_392 : decode cX3_holds 392 = .ok (.imul, 1) := by decide +kernel
theorem dX3_holds_393 : decode cX3_holds 393 = .ok (.iload_n 3, 1) := by decide +kernel
theorem dX3_holds_394 : decode cX3_holds 394 = .ok (.ifCond .eq 7, 3) := by decide +kernel
theorem dX3_holds_397 : decode cX3_holds 397 = .ok (.iconst 1, 1) := by decide +kernel
theorem dX3_holds_398 : decode cX3_holds 398 = .ok (.goto 4, 3) := by decide +kernel
theorem dX3_holds_401 : decode cX3_holds 401 = .ok (.iconst 0, 1) := by decide +kernel
theorem dX3_holds_402 : decode cX3_holds 402 = .ok (.iadd, 1) := by decide +kernel
theorem dX3_holds_403 : decode cX3_holds 403 = .ok (.invokevirtual 373, 3) := by decide +kernel
theorem dX3_holds_406 : decode cX3_holds 406 = .ok (.ifCond .eq 7, 3) := by decide +kernel
theorem dX3_holds_409 : decode cX3_holds 409 = .ok (.iconst 1, 1) := by decide +kernel
theorem dX3_holds_410 : decode cX3_holds 410 = .ok (.goto 4, 3) := by decide +kernel
theorem dX3_holds_413 : decode cX3_holds 413 = .ok (.iconst 0, 1) := by decide +kernel
theorem dX3_holds_414 : decode cX3_holds 414 = .ok (.ireturn, 1) := by decide +kernel
theorem dX3_holds_415 : decode cX3_holds 415 = .ok (.iload_n 2, 1) := by decide +kernel
theorem dX3_holds_416 : decode cX3_holds 416 = .ok (.bipush 13, 2) := by decide +kernel
theorem dX3_holds_418 : decode cX3_holds 418 = .ok (.if_icmp .ne 54, 3) := by decide +kernel
theorem dX3_holds_421 : decode cX3_holds 421 = .ok (.iload_n 3, 1) := by decide +kernel
theorem dX3_holds_422 : decode cX3_holds 422 = .ok (.ifCond .ne 50, 3) := by decide +kernel
theorem dX3_holds_425 : decode cX3_holds 425 = .ok (.aload_n 0, 1) := by decide +kernel
theorem dX3_holds_426 : decode cX3_holds 426 = .ok (.aload_n 0, 1) := by decide +kernel
theorem dX3_holds_427 : decode cX3_holds 427 = .ok (.iload 4, 2) := by decide +kernel
theorem dX3_holds_429 : decode cX3_holds 429 = .ok (.iconst 2, 1) := by decide +kernel
theorem dX3_holds_430 : decode cX3_holds 430 = .ok (.invokevirtual 65, 3) := by decide +kernel
theorem dX3_holds_433 : decode cX3_holds 433 = .ok (.invokevirtual 325, 3) := by decide +kernel
theorem dX3_holds_436 : decode cX3_holds 436 = .ok (.istore 5, 2) := by decide +kernel
theorem dX3_holds_438 : decode cX3_holds 438 = .ok (.iload 5, 2) := by decide +kernel
theorem dX3_holds_440 : decode cX3_holds 440 = .ok (.ifCond .lt 30, 3) := by decide +kernel
theorem dX3_holds_443 : decode cX3_holds 443 = .ok (.aload_n 0, 1) := by decide +kernel
theorem dX3_holds_444 : decode cX3_holds 444 = .ok (.iload 5, 2) := by decide +kernel
theorem dX3_holds_446 : decode cX3_holds 446 = .ok (.aload_n 0, 1) := by decide +kernel
theorem dX3_holds_447 : decode cX3_holds 447 = .ok (.iload 4, 2) := by decide +kernel
theorem dX3_holds_449 : decode cX3_holds 449 = .ok (.iconst 0, 1) := by decide +kernel
theorem dX3_holds_450 : decode cX3_holds 450 = .ok (.invokevirtual 65, 3) := by decide +kernel
theorem dX3_holds_453 : decode cX3_holds 453 = .ok (.aload_n 0, 1) := by decide +kernel
theorem dX3_holds_454 : decode cX3_holds 454 = .ok (.iload 4, 2) := by decide +kernel
theorem dX3_holds_456 : decode cX3_holds 456 = .ok (.iconst 1, 1) := by decide +kernel
theorem dX3_holds_457 : decode cX3_holds 457 = .ok (.invokevirtual 65, 3) := by decide +kernel
theorem dX3_holds_460 : decode cX3_holds 460 = .ok (.invokevirtual 370, 3) := by decide +kernel
theorem dX3_holds_463 : decode cX3_holds 463 = .ok (.ifCond .eq 7, 3) := by decide +kernel
theorem dX3_holds_466 : decode cX3_holds 466 = .ok (.iconst 1, 1) := by decide +kernel
theorem dX3_holds_467 : decode cX3_holds 467 = .ok (.goto 4, 3) := by decide +kernel
theorem dX3_holds_470 : decode cX3_holds 470 = .ok (.iconst 0, 1) := by decide +kernel
theorem dX3_holds_471 : decode cX3_holds 471 = .ok (.ireturn, 1) := by decide +kernel
theorem dX3_holds_472 : decode cX3_holds 472 = .ok (.aload_n 0, 1) := by decide +kernel
theorem dX3_holds_473 : decode cX3_holds 473 = .ok (.iload 4, 2) := by decide +kernel
theorem dX3_holds_475 : decode cX3_holds 475 = .ok (.iload_n 3, 1) := by decide +kernel
theorem dX3_holds_476 : decode cX3_holds 476 = .ok (.invokevirtual 416, 3) := by decide +kernel
theorem dX3_holds_479 : decode cX3_holds 479 = .ok (.ireturn, 1) := by decide +kernel
abbrev cX3_isKnownAtom : ByteArray := prog_4_method_70_code
def yX3_isKnownAtom : MethodName := ⟨RX3, "isKnownAtom", "(IZ)Z"⟩
theorem dX3_isKnownAtom_0 : decode cX3_isKnownAtom 0 = .ok (.iconst 0, 1) := by decide +kernel
theorem dX3_isKnownAtom_1 : decode cX3_isKnownAtom 1 = .ok (.istore_n 3, 1) := by decide +kernel
theorem dX3_isKnownAtom_2 : decode cX3_isKnownAtom 2 = .ok (.iload_n 3, 1) := by decide +kernel
theorem dX3_isKnownAtom_3 : decode cX3_isKnownAtom 3 = .ok (.aload_n 0, 1) := by decide +kernel
theorem dX3_isKnownAtom_4 : decode cX3_isKnownAtom 4 = .ok (.getfield 313, 3) := by decide +kernel
theorem dX3_isKnownAtom_7 : decode cX3_isKnownAtom 7 = .ok (.if_icmp .ge 80, 3) := by decide +kernel
theorem dX3_isKnownAtom_10 : decode cX3_isKnownAtom 10 = .ok (.aload_n 0, 1) := by decide +kernel
theorem dX3_isKnownAtom_11 : decode cX3_isKnownAtom 11 = .ok (.getfield 310, 3) := by decide +kernel
theorem dX3_isKnownAtom_14 : decode cX3_isKnownAtom 14 = .ok (.iload_n 3, 1) := by decide +kernel
theorem dX3_isKnownAtom_15 : decode cX3_isKnownAtom 15 = .ok (.iaload, 1) := by decide +kernel
theorem dX3_isKnownAtom_16 : decode cX3_isKnownAtom 16 = .ok (.istore 4, 2) := by decide +kernel
theorem dX3_isKnownAtom_18 : decode cX3_isKnownAtom 18 = .ok (.iload_n 2, 1) := by decide +kernel
theorem dX3_isKnownAtom_19 : decode cX3_isKnownAtom 19 = .ok (.aload_n 0, 1) := by decide +kernel
theorem dX3_isKnownAtom_20 : decode cX3_isKnownAtom 20 = .ok (.getfield 33, 3) := by decide +kernel
theorem dX3_isKnownAtom_23 : decode cX3_isKnownAtom 23 = .ok (.iload 4, 2) := by decide +kernel
theorem dX3_isKnownAtom_25 : decode cX3_isKnownAtom 25 = .ok (.iaload, 1) := by decide +kernel
theorem dX3_isKnownAtom_26 : decode cX3_isKnownAtom 26 = .ok (.bipush 15, 2) := by decide +kernel
theorem dX3_isKnownAtom_28 : decode cX3_isKnownAtom 28 = .ok (.if_icmp .ne 7, 3) := by decide +kernel
theorem dX3_isKnownAtom_31 : decode cX3_isKnownAtom 31 = .ok (.iconst 1, 1) := by decide +kernel
theorem dX3_isKnownAtom_32 : decode cX3_isKnownAtom 32 = .ok (.goto 4, 3) := by decide +kernel
theorem dX3_isKnownAtom_35 : decode cX3_isKnownAtom 35 = .ok (.iconst 0, 1) := by decide +kernel
theorem dX3_isKnownAtom_36 : decode cX3_isKnownAtom 36 = .ok (.if_icmp .eq 6, 3) := by decide +kernel
theorem dX3_isKnownAtom_39 : decode cX3_isKnownAtom 39 = .ok (.goto 42, 3) := by decide +kernel
theorem dX3_isKnownAtom_42 : decode cX3_isKnownAtom 42 = .ok (.iload_n 2, 1) := by decide +kernel
theorem dX3_isKnownAtom_43 : decode cX3_isKnownAtom 43 = .ok (.ifCond .eq 13, 3) := by decide +kernel
theorem dX3_isKnownAtom_46 : decode cX3_isKnownAtom 46 = .ok (.aload_n 0, 1) := by decide +kernel
theorem dX3_isKnownAtom_47 : decode cX3_isKnownAtom 47 = .ok (.iload 4, 2) := by decide +kernel
theorem dX3_isKnownAtom_49 : decode cX3_isKnownAtom 49 = .ok (.iconst 0, 1) := by decide +kernel
theorem dX3_isKnownAtom_50 : decode cX3_isKnownAtom 50 = .ok (.invokevirtual 65, 3) := by decide +kernel
theorem dX3_isKnownAtom_53 : decode cX3_isKnownAtom 53 = .ok (.goto 5, 3) := by decide +kernel
theorem dX3_isKnownAtom_56 : decode cX3_isKnownAtom 56 = .ok (.iload 4, 2) := by decide +kernel
theorem dX3_isKnownAtom_58 : decode cX3_isKnownAtom 58 = .ok (.istore 5, 2) := by decide +kernel
theorem dX3_isKnownAtom_60 : decode cX3_isKnownAtom 60 = .ok (.aload_n 0, 1) := by decide +kernel
theorem dX3_isKnownAtom_61 : decode cX3_isKnownAtom 61 = .ok (.iload 5, 2) := by decide +kernel
theorem dX3_isKnownAtom_63 : decode cX3_isKnownAtom 63 = .ok (.invokevirtual 407, 3) := by decide +kernel
theorem dX3_isKnownAtom_66 : decode cX3_isKnownAtom 66 = .ok (.ifCond .eq 15, 3) := by decide +kernel
theorem dX3_isKnownAtom_69 : decode cX3_isKnownAtom 69 = .ok (.aload_n 0, 1) := by decide +kernel
theorem dX3_isKnownAtom_70 : decode cX3_isKnownAtom 70 = .ok (.iload 5, 2) := by decide +kernel
theorem dX3_isKnownAtom_72 : decode cX3_isKnownAtom 72 = .ok (.iload_n 1, 1) := by decide +kernel
theorem dX3_isKnownAtom_73 : decode cX3_isKnownAtom 73 = .ok (.invokevirtual 410, 3) := by decide +kernel
theorem dX3_isKnownAtom_76 : decode cX3_isKnownAtom 76 = .ok (.ifCond .eq 5, 3) := by decide +kernel
theorem dX3_isKnownAtom_79 : decode cX3_isKnownAtom 79 = .ok (.iconst 1, 1) := by decide +kernel
theorem dX3_isKnownAtom_80 : decode cX3_isKnownAtom 80 = .ok (.ireturn, 1) := by decide +kernel
theorem dX3_isKnownAtom_81 : decode cX3_isKnownAtom 81 = .ok (.iinc 3 1, 3) := by decide +kernel
theorem dX3_isKnownAtom_84 : decode cX3_isKnownAtom 84 = .ok (.goto (-82), 3) := by decide +kernel
theorem dX3_isKnownAtom_87 : decode cX3_isKnownAtom 87 = .ok (.iconst 0, 1) := by decide +kernel
theorem dX3_isKnownAtom_88 : decode cX3_isKnownAtom 88 = .ok (.ireturn, 1) := by decide +kernel
abbrev cX3_isAtom : ByteArray := prog_4_method_69_code
def yX3_isAtom : MethodName := ⟨RX3, "isAtom", "(I)Z"⟩
theorem dX3_isAtom_0 : decode cX3_isAtom 0 = .ok (.aload_n 0, 1) := by decide +kernel
theorem dX3_isAtom_1 : decode cX3_isAtom 1 = .ok (.getfield 33, 3) := by decide +kernel
theorem dX3_isAtom_4 : decode cX3_isAtom 4 = .ok (.iload_n 1, 1) := by decide +kernel
theorem dX3_isAtom_5 : decode cX3_isAtom 5 = .ok (.iaload, 1) := by decide +kernel
theorem dX3_isAtom_6 : decode cX3_isAtom 6 = .ok (.bipush 10, 2) := by decide +kernel
theorem dX3_isAtom_8 : decode cX3_isAtom 8 = .ok (.if_icmp .lt 18, 3) := by decide +kernel
theorem dX3_isAtom_11 : decode cX3_isAtom 11 = .ok (.aload_n 0, 1) := by decide +kernel
theorem dX3_isAtom_12 : decode cX3_isAtom 12 = .ok (.getfield 33, 3) := by decide +kernel
theorem dX3_isAtom_15 : decode cX3_isAtom 15 = .ok (.iload_n 1, 1) := by decide +kernel
theorem dX3_isAtom_16 : decode cX3_isAtom 16 = .ok (.iaload, 1) := by decide +kernel
theorem dX3_isAtom_17 : decode cX3_isAtom 17 = .ok (.bipush 14, 2) := by decide +kernel
theorem dX3_isAtom_19 : decode cX3_isAtom 19 = .ok (.if_icmp .gt 7, 3) := by decide +kernel
theorem dX3_isAtom_22 : decode cX3_isAtom 22 = .ok (.iconst 1, 1) := by decide +kernel
theorem dX3_isAtom_23 : decode cX3_isAtom 23 = .ok (.goto 4, 3) := by decide +kernel
theorem dX3_isAtom_26 : decode cX3_isAtom 26 = .ok (.iconst 0, 1) := by decide +kernel
theorem dX3_isAtom_27 : decode cX3_isAtom 27 = .ok (.ireturn, 1) := by decide +kernel
abbrev cX3_isAlike : ByteArray := prog_4_method_68_code
def yX3_isAlike : MethodName := ⟨RX3, "isAlike", "(II)Z"⟩
theorem dX3_isAlike_0 : decode cX3_isAlike 0 = .ok (.aload_n 0, 1) := by decide +kernel
theorem dX3_isAlike_1 : decode cX3_isAlike 1 = .ok (.getfield 33, 3) := by decide +kernel
theorem dX3_isAlike_4 : decode cX3_isAlike 4 = .ok (.iload_n 1, 1) := by decide +kernel
theorem dX3_isAlike_5 : decode cX3_isAlike 5 = .ok (.iaload, 1) := by decide +kernel
theorem dX3_isAlike_6 : decode cX3_isAlike 6 = .ok (.istore_n 3, 1) := by decide +kernel
theorem dX3_isAlike_7 : decode cX3_isAlike 7 = .ok (.iload_n 3, 1) := by decide +kernel
theorem dX3_isAlike_8 : decode cX3_isAlike 8 = .ok (.aload_n 0, 1) := by decide +kernel
theorem dX3_isAlike_9 : decode cX3_isAlike 9 = .ok (.getfield 33, 3) := by decide +kernel
theorem dX3_isAlike_12 : decode cX3_isAlike 12 = .ok (.iload_n 2, 1) := by decide +kernel
theorem dX3_isAlike_13 : decode cX3_isAlike 13 = .ok (.iaload, 1) := by decide +kernel
theorem dX3_isAlike_14 : decode cX3_isAlike 14 = .ok (.if_icmp .ne 18, 3) := by decide +kernel
theorem dX3_isAlike_17 : decode cX3_isAlike 17 = .ok (.aload_n 0, 1) := by decide +kernel
theorem dX3_isAlike_18 : decode cX3_isAlike 18 = .ok (.getfield 36, 3) := by decide +kernel
theorem dX3_isAlike_21 : decode cX3_isAlike 21 = .ok (.iload_n 1, 1) := by decide +kernel
theorem dX3_isAlike_22 : decode cX3_isAlike 22 = .ok (.iaload, 1) := by decide +kernel
theorem dX3_isAlike_23 : decode cX3_isAlike 23 = .ok (.aload_n 0, 1) := by decide +kernel
theorem dX3_isAlike_24 : decode cX3_isAlike 24 = .ok (.getfield 36, 3) := by decide +kernel
theorem dX3_isAlike_27 : decode cX3_isAlike 27 = .ok (.iload_n 2, 1) := by decide +kernel
theorem dX3_isAlike_28 : decode cX3_isAlike 28 = .ok (.iaload, 1) := by decide +kernel
theorem dX3_isAlike_29 : decode cX3_isAlike 29 = .ok (.if_icmp .eq 5, 3) := by decide +kernel
theorem dX3_isAlike_32 : decode cX3_isAlike 32 = .ok (.iconst 0, 1) := by decide +kernel
theorem dX3_isAlike_33 : decode cX3_isAlike 33 = .ok (.ireturn, 1) := by decide +kernel
theorem dX3_isAlike_34 : decode cX3_isAlike 34 = .ok (.iconst 0, 1) := by decide +kernel
theorem dX3_isAlike_35 : decode cX3_isAlike 35 = .ok (.istore 4, 2) := by decide +kernel
theorem dX3_isAlike_37 : decode cX3_isAlike 37 = .ok (.iload 4, 2) := by decide +kernel
theorem dX3_isAlike_39 : decode cX3_isAlike 39 = .ok (.aload_n 0, 1) := by decide +kernel
theorem dX3_isAlike_40 : decode cX3_isAlike 40 = .ok (.getfield 36, 3) := by decide +kernel
theorem dX3_isAlike_43 : decode cX3_isAlike 43 = .ok (.iload_n 1, 1) := by decide +kernel
theorem dX3_isAlike_44 : decode cX3_isAlike 44 = .ok (.iaload, 1) := by decide +kernel
theorem dX3_isAlike_45 : decode cX3_isAlike 45 = .ok (.if_icmp .ge 61, 3) := by decide +kernel
theorem dX3_isAlike_48 : decode cX3_isAlike 48 = .ok (.iload 4, 2) := by decide +kernel
theorem dX3_isAlike_50 : decode cX3_isAlike 50 = .ok (.iload_n 3, 1) := by decide +kernel
theorem dX3_isAlike_51 : decode cX3_isAlike 51 = .ok (.invokestatic 68, 3) := by decide +kernel
theorem dX3_isAlike_54 : decode cX3_isAlike 54 = .ok (.if_icmp .ge 23, 3) := by decide +kernel
theorem dX3_isAlike_57 : decode cX3_isAlike 57 = .ok (.aload_n 0, 1) := by decide +kernel
theorem dX3_isAlike_58 : decode cX3_isAlike 58 = .ok (.iload_n 1, 1) := by decide +kernel
theorem dX3_isAlike_59 : decode cX3_isAlike 59 = .ok (.iload 4, 2) := by decide +kernel
theorem dX3_isAlike_61 : decode cX3_isAlike 61 = .ok (.invokevirtual 65, 3) := by decide +kernel
theorem dX3_isAlike_64 : decode cX3_isAlike 64 = .ok (.aload_n 0, 1) := by decide +kernel
theorem dX3_isAlike_65 : decode cX3_isAlike 65 = .ok (.iload_n 2, 1) := by decide +kernel
theorem dX3_isAlike_66 : decode cX3_isAlike 66 = .ok (.iload 4, 2) := by decide +kernel
theorem dX3_isAlike_68 : decode cX3_isAlike 68 = .ok (.invokevirtual 65, 3) := by decide +kernel
theorem dX3_isAlike_71 : decode cX3_isAlike 71 = .ok (.if_icmp .eq 29, 3) := by decide +kernel
theorem dX3_isAlike_74 : decode cX3_isAlike 74 = .ok (.goto 24, 3) := by decide +kernel
theorem dX3_isAlike_77 : decode cX3_isAlike 77 = .ok (.aload_n 0, 1) := by decide +kernel
theorem dX3_isAlike_78 : decode cX3_isAlike 78 = .ok (.aload_n 0, 1) := by decide +kernel
theorem dX3_isAlike_79 : decode cX3_isAlike 79 = .ok (.iload_n 1, 1) := by decide +kernel
theorem dX3_isAlike_80 : decode cX3_isAlike 80 = .ok (.iload 4, 2) := by decide +kernel
theorem dX3_isAlike_82 : decode cX3_isAlike 82 = .ok (.invokevirtual 65, 3) := by decide +kernel
theorem dX3_isAlike_85 : decode cX3_isAlike 85 = .ok (.aload_n 0, 1) := by decide +kernel
theorem dX3_isAlike_86 : decode cX3_isAlike 86 = .ok (.iload_n 2, 1) := by decide +kernel
theorem dX3_isAlike_87 : decode cX3_isAlike 87 = .ok (.iload 4, 2) := by decide +kernel
theorem dX3_isAlike_89 : decode cX3_isAlike 89 = .ok (.invokevirtual 65, 3) := by decide +kernel
theorem dX3_isAlike_92 : decode cX3_isAlike 92 = .ok (.invokevirtual 358, 3) := by decide +kernel
theorem dX3_isAlike_95 : decode cX3_isAlike 95 = .ok (.ifCond .ne 5, 3) := by decide +kernel
theorem dX3_isAlike_98 : decode cX3_isAlike 98 = .ok (.iconst 0, 1) := by decide +kernel
theorem dX3_isAlike_99 : decode cX3_isAlike 99 = .ok (.ireturn, 1) := by decide +kernel
theorem dX3_isAlike_100 : decode cX3_isAlike 100 = .ok (.iinc 4 1, 3) := by decide +kernel
theorem dX3_isAlike_103 : decode cX3_isAlike 103 = .ok (.goto (-66), 3) := by decide +kernel
theorem dX3_isAlike_106 : decode cX3_isAlike 106 = .ok (.iconst 1, 1) := by decide +kernel
theorem dX3_isAlike_107 : decode cX3_isAlike 107 = .ok (.ireturn, 1) := by decide +kernel
abbrev cX3_brings : ByteArray := prog_4_method_78_code
def yX3_brings : MethodName := ⟨RX3, "brings", "(II)V"⟩
theorem dX3_brings_0 : decode cX3_brings 0 = .ok (.aload_n 0, 1) := by decide +kernel
theorem dX3_brings_1 : decode cX3_brings 1 = .ok (.iconst 0, 1) := by decide +kernel
theorem dX3_brings_2 : decode cX3_brings 2 = .ok (.putfield 460, 3) := by decide +kernel
theorem dX3_brings_5 : decode cX3_brings 5 = .ok (.aload_n 0, 1) := by decide +kernel
theorem dX3_brings_6 : decode cX3_brings 6 = .ok (.dup, 1) := by decide +kernel
theorem dX3_brings_7 : decode cX3_brings 7 = .ok (.getfield 454, 3) := by decide +kernel
theorem dX3_brings_10 : decode cX3_brings 10 = .ok (.iconst 1, 1) := by decide +kernel
theorem dX3_brings_11 : decode cX3_brings 11 = .ok (.iadd, 1) := by decide +kernel
theorem dX3_brings_12 : decode cX3_brings 12 = .ok (.putfield 454, 3) := by decide +kernel
theorem dX3_brings_15 : decode cX3_brings 15 = .ok (.aload_n 0, 1) := by decide +kernel
theorem dX3_brings_16 : decode cX3_brings 16 = .ok (.iload_n 1, 1) := by decide +kernel
theorem dX3_brings_17 : decode cX3_brings 17 = .ok (.iload_n 2, 1) := by decide +kernel
theorem dX3_brings_18 : decode cX3_brings 18 = .ok (.invokevirtual 469, 3) := by decide +kernel
theorem dX3_brings_21 : decode cX3_brings 21 = .ok (.iconst 0, 1) := by decide +kernel
theorem dX3_brings_22 : decode cX3_brings 22 = .ok (.istore_n 3, 1) := by decide +kernel
theorem dX3_brings_23 : decode cX3_brings 23 = .ok (.iload_n 3, 1) := by decide +kernel
theorem dX3_brings_24 : decode cX3_brings 24 = .ok (.aload_n 0, 1) := by decide +kernel
theorem dX3_brings_25 : decode cX3_brings 25 = .ok (.getfield 460, 3) := by decide +kernel
theorem dX3_brings_28 : decode cX3_brings 28 = .ok (.if_icmp .ge 19, 3) := by decide +kernel
theorem dX3_brings_31 : decode cX3_brings 31 = .ok (.aload_n 0, 1) := by decide +kernel
theorem dX3_brings_32 : decode cX3_brings 32 = .ok (.aload_n 0, 1) := by decide +kernel
theorem dX3_brings_33 : decode cX3_brings 33 = .ok (.getfield 457, 3) := by decide +kernel
theorem dX3_brings_36 : decode cX3_brings 36 = .ok (.iload_n 3, 1) := by decide +kernel
theorem dX3_brings_37 : decode cX3_brings 37 = .ok (.iaload, 1) := by decide +kernel
theorem dX3_brings_38 : decode cX3_brings 38 = .ok (.invokevirtual 276, 3) := by decide +kernel
theorem dX3_brings_41 : decode cX3_brings 41 = .ok (.iinc 3 1, 3) := by decide +kernel
theorem dX3_brings_44 : decode cX3_brings 44 = .ok (.goto (-21), 3) := by decide +kernel
theorem dX3_brings_47 : decode cX3_brings 47 = .ok (.return_, 1) := by decide +kernel
abbrev cX3_bringsOf : ByteArray := prog_4_method_79_code
def yX3_bringsOf : MethodName := ⟨RX3, "bringsOf", "(II)V"⟩
theorem dX3_bringsOf_0 : decode cX3_bringsOf 0 = .ok (.iconst 0, 1) := by decide +kernel
theorem dX3_bringsOf_1 : decode cX3_bringsOf 1 = .ok (.istore_n 3, 1) := by decide +kernel
theorem dX3_bringsOf_2 : decode cX3_bringsOf 2 = .ok (.iload_n 3, 1) := by decide +kernel
theorem dX3_bringsOf_3 : decode cX3_bringsOf 3 = .ok (.iload_n 1, 1) := by decide +kernel
theorem dX3_bringsOf_4 : decode cX3_bringsOf 4 = .ok (.if_icmp .ge 392, 3) := by decide +kernel
theorem dX3_bringsOf_7 : decode cX3_bringsOf 7 = .ok (.aload_n 0, 1) := by decide +kernel
theorem dX3_bringsOf_8 : decode cX3_bringsOf 8 = .ok (.getfield 460, 3) := by decide +kernel
theorem dX3_bringsOf_11 : decode cX3_bringsOf 11 = .ok (.ifCond .eq 18, 3) := by decide +kernel
theorem dX3_bringsOf_14 : decode cX3_bringsOf 14 = .ok (.aload_n 0, 1) := by decide +kernel
theorem dX3_bringsOf_15 : decode cX3_bringsOf 15 = .ok (.getfield 313, 3) := by decide +kernel
theorem dX3_bringsOf_18 : decode cX3_bringsOf 18 = .ok (.aload_n 0, 1) := by decide +kernel
theorem dX3_bringsOf_19 : decode cX3_bringsOf 19 = .ok (.getfield 460, 3) := by decide +kernel
