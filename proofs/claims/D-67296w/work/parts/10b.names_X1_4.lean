set_option maxRecDepth 100000
theorem dX1_isSaid_52 : decode cX1_isSaid 52 = .ok (.getfield 1, 3) := by decide +kernel
theorem dX1_isSaid_55 : decode cX1_isSaid 55 = .ok (.iload 4, 2) := by decide +kernel
theorem dX1_isSaid_57 : decode cX1_isSaid 57 = .ok (.iconst 0, 1) := by decide +kernel
theorem dX1_isSaid_58 : decode cX1_isSaid 58 = .ok (.invokevirtual 28, 3) := by decide +kernel
theorem dX1_isSaid_61 : decode cX1_isSaid 61 = .ok (.goto 5, 3) := by decide +kernel
theorem dX1_isSaid_64 : decode cX1_isSaid 64 = .ok (.iload 4, 2) := by decide +kernel
theorem dX1_isSaid_66 : decode cX1_isSaid 66 = .ok (.invokevirtual 247, 3) := by decide +kernel
theorem dX1_isSaid_69 : decode cX1_isSaid 69 = .ok (.ifCond .eq 5, 3) := by decide +kernel
theorem dX1_isSaid_72 : decode cX1_isSaid 72 = .ok (.iconst 1, 1) := by decide +kernel
theorem dX1_isSaid_73 : decode cX1_isSaid 73 = .ok (.ireturn, 1) := by decide +kernel
theorem dX1_isSaid_74 : decode cX1_isSaid 74 = .ok (.iinc 3 1, 3) := by decide +kernel
theorem dX1_isSaid_77 : decode cX1_isSaid 77 = .ok (.goto (-75), 3) := by decide +kernel
theorem dX1_isSaid_80 : decode cX1_isSaid 80 = .ok (.iconst 0, 1) := by decide +kernel
theorem dX1_isSaid_81 : decode cX1_isSaid 81 = .ok (.ireturn, 1) := by decide +kernel
abbrev cX1_sameAtom : ByteArray := prog_1_method_35_code
def yX1_sameAtom : MethodName := ⟨RX1, "sameAtom", "(II)Z"⟩
theorem dX1_sameAtom_0 : decode cX1_sameAtom 0 = .ok (.aload_n 0, 1) := by decide +kernel
theorem dX1_sameAtom_1 : decode cX1_sameAtom 1 = .ok (.getfield 1, 3) := by decide +kernel
theorem dX1_sameAtom_4 : decode cX1_sameAtom 4 = .ok (.getfield 39, 3) := by decide +kernel
theorem dX1_sameAtom_7 : decode cX1_sameAtom 7 = .ok (.iload_n 1, 1) := by decide +kernel
theorem dX1_sameAtom_8 : decode cX1_sameAtom 8 = .ok (.iaload, 1) := by decide +kernel
theorem dX1_sameAtom_9 : decode cX1_sameAtom 9 = .ok (.aload_n 0, 1) := by decide +kernel
theorem dX1_sameAtom_10 : decode cX1_sameAtom 10 = .ok (.getfield 1, 3) := by decide +kernel
theorem dX1_sameAtom_13 : decode cX1_sameAtom 13 = .ok (.getfield 39, 3) := by decide +kernel
theorem dX1_sameAtom_16 : decode cX1_sameAtom 16 = .ok (.iload_n 2, 1) := by decide +kernel
theorem dX1_sameAtom_17 : decode cX1_sameAtom 17 = .ok (.iaload, 1) := by decide +kernel
theorem dX1_sameAtom_18 : decode cX1_sameAtom 18 = .ok (.if_icmp .ne 45, 3) := by decide +kernel
theorem dX1_sameAtom_21 : decode cX1_sameAtom 21 = .ok (.aload_n 0, 1) := by decide +kernel
theorem dX1_sameAtom_22 : decode cX1_sameAtom 22 = .ok (.getfield 1, 3) := by decide +kernel
theorem dX1_sameAtom_25 : decode cX1_sameAtom 25 = .ok (.getfield 45, 3) := by decide +kernel
theorem dX1_sameAtom_28 : decode cX1_sameAtom 28 = .ok (.iload_n 1, 1) := by decide +kernel
theorem dX1_sameAtom_29 : decode cX1_sameAtom 29 = .ok (.iaload, 1) := by decide +kernel
theorem dX1_sameAtom_30 : decode cX1_sameAtom 30 = .ok (.aload_n 0, 1) := by decide +kernel
theorem dX1_sameAtom_31 : decode cX1_sameAtom 31 = .ok (.getfield 1, 3) := by decide +kernel
theorem dX1_sameAtom_34 : decode cX1_sameAtom 34 = .ok (.getfield 45, 3) := by decide +kernel
theorem dX1_sameAtom_37 : decode cX1_sameAtom 37 = .ok (.iload_n 2, 1) := by decide +kernel
theorem dX1_sameAtom_38 : decode cX1_sameAtom 38 = .ok (.iaload, 1) := by decide +kernel
theorem dX1_sameAtom_39 : decode cX1_sameAtom 39 = .ok (.if_icmp .ne 24, 3) := by decide +kernel
theorem dX1_sameAtom_42 : decode cX1_sameAtom 42 = .ok (.aload_n 0, 1) := by decide +kernel
theorem dX1_sameAtom_43 : decode cX1_sameAtom 43 = .ok (.getfield 1, 3) := by decide +kernel
theorem dX1_sameAtom_46 : decode cX1_sameAtom 46 = .ok (.getfield 32, 3) := by decide +kernel
theorem dX1_sameAtom_49 : decode cX1_sameAtom 49 = .ok (.iload_n 1, 1) := by decide +kernel
theorem dX1_sameAtom_50 : decode cX1_sameAtom 50 = .ok (.iaload, 1) := by decide +kernel
theorem dX1_sameAtom_51 : decode cX1_sameAtom 51 = .ok (.aload_n 0, 1) := by decide +kernel
theorem dX1_sameAtom_52 : decode cX1_sameAtom 52 = .ok (.getfield 1, 3) := by decide +kernel
theorem dX1_sameAtom_55 : decode cX1_sameAtom 55 = .ok (.getfield 32, 3) := by decide +kernel
theorem dX1_sameAtom_58 : decode cX1_sameAtom 58 = .ok (.iload_n 2, 1) := by decide +kernel
theorem dX1_sameAtom_59 : decode cX1_sameAtom 59 = .ok (.iaload, 1) := by decide +kernel
theorem dX1_sameAtom_60 : decode cX1_sameAtom 60 = .ok (.if_icmp .eq 5, 3) := by decide +kernel
theorem dX1_sameAtom_63 : decode cX1_sameAtom 63 = .ok (.iconst 0, 1) := by decide +kernel
theorem dX1_sameAtom_64 : decode cX1_sameAtom 64 = .ok (.ireturn, 1) := by decide +kernel
theorem dX1_sameAtom_65 : decode cX1_sameAtom 65 = .ok (.iconst 0, 1) := by decide +kernel
theorem dX1_sameAtom_66 : decode cX1_sameAtom 66 = .ok (.istore_n 3, 1) := by decide +kernel
theorem dX1_sameAtom_67 : decode cX1_sameAtom 67 = .ok (.iload_n 3, 1) := by decide +kernel
theorem dX1_sameAtom_68 : decode cX1_sameAtom 68 = .ok (.aload_n 0, 1) := by decide +kernel
theorem dX1_sameAtom_69 : decode cX1_sameAtom 69 = .ok (.getfield 1, 3) := by decide +kernel
theorem dX1_sameAtom_72 : decode cX1_sameAtom 72 = .ok (.getfield 32, 3) := by decide +kernel
theorem dX1_sameAtom_75 : decode cX1_sameAtom 75 = .ok (.iload_n 1, 1) := by decide +kernel
theorem dX1_sameAtom_76 : decode cX1_sameAtom 76 = .ok (.iaload, 1) := by decide +kernel
theorem dX1_sameAtom_77 : decode cX1_sameAtom 77 = .ok (.if_icmp .ge 36, 3) := by decide +kernel
theorem dX1_sameAtom_80 : decode cX1_sameAtom 80 = .ok (.aload_n 0, 1) := by decide +kernel
theorem dX1_sameAtom_81 : decode cX1_sameAtom 81 = .ok (.aload_n 0, 1) := by decide +kernel
theorem dX1_sameAtom_82 : decode cX1_sameAtom 82 = .ok (.getfield 1, 3) := by decide +kernel
theorem dX1_sameAtom_85 : decode cX1_sameAtom 85 = .ok (.iload_n 1, 1) := by decide +kernel
theorem dX1_sameAtom_86 : decode cX1_sameAtom 86 = .ok (.iload_n 3, 1) := by decide +kernel
theorem dX1_sameAtom_87 : decode cX1_sameAtom 87 = .ok (.invokevirtual 28, 3) := by decide +kernel
theorem dX1_sameAtom_90 : decode cX1_sameAtom 90 = .ok (.aload_n 0, 1) := by decide +kernel
theorem dX1_sameAtom_91 : decode cX1_sameAtom 91 = .ok (.getfield 1, 3) := by decide +kernel
theorem dX1_sameAtom_94 : decode cX1_sameAtom 94 = .ok (.iload_n 2, 1) := by decide +kernel
theorem dX1_sameAtom_95 : decode cX1_sameAtom 95 = .ok (.iload_n 3, 1) := by decide +kernel
theorem dX1_sameAtom_96 : decode cX1_sameAtom 96 = .ok (.invokevirtual 28, 3) := by decide +kernel
theorem dX1_sameAtom_99 : decode cX1_sameAtom 99 = .ok (.invokevirtual 205, 3) := by decide +kernel
theorem dX1_sameAtom_102 : decode cX1_sameAtom 102 = .ok (.ifCond .ne 5, 3) := by decide +kernel
theorem dX1_sameAtom_105 : decode cX1_sameAtom 105 = .ok (.iconst 0, 1) := by decide +kernel
theorem dX1_sameAtom_106 : decode cX1_sameAtom 106 = .ok (.ireturn, 1) := by decide +kernel
theorem dX1_sameAtom_107 : decode cX1_sameAtom 107 = .ok (.iinc 3 1, 3) := by decide +kernel
theorem dX1_sameAtom_110 : decode cX1_sameAtom 110 = .ok (.goto (-43), 3) := by decide +kernel
theorem dX1_sameAtom_113 : decode cX1_sameAtom 113 = .ok (.iconst 1, 1) := by decide +kernel
theorem dX1_sameAtom_114 : decode cX1_sameAtom 114 = .ok (.ireturn, 1) := by decide +kernel
abbrev cX1_round : ByteArray := prog_1_method_40_code
def yX1_round : MethodName := ⟨RX1, "round", "()Z"⟩
theorem dX1_round_0 : decode cX1_round 0 = .ok (.aload_n 0, 1) := by decide +kernel
theorem dX1_round_1 : decode cX1_round 1 = .ok (.getfield 223, 3) := by decide +kernel
theorem dX1_round_4 : decode cX1_round 4 = .ok (.istore_n 1, 1) := by decide +kernel
theorem dX1_round_5 : decode cX1_round 5 = .ok (.iconst 0, 1) := by decide +kernel
theorem dX1_round_6 : decode cX1_round 6 = .ok (.istore_n 2, 1) := by decide +kernel
theorem dX1_round_7 : decode cX1_round 7 = .ok (.iload_n 2, 1) := by decide +kernel
theorem dX1_round_8 : decode cX1_round 8 = .ok (.iload_n 1, 1) := by decide +kernel
theorem dX1_round_9 : decode cX1_round 9 = .ok (.if_icmp .ge 380, 3) := by decide +kernel
theorem dX1_round_12 : decode cX1_round 12 = .ok (.aload_n 0, 1) := by decide +kernel
theorem dX1_round_13 : decode cX1_round 13 = .ok (.getfield 226, 3) := by decide +kernel
theorem dX1_round_16 : decode cX1_round 16 = .ok (.iload_n 2, 1) := by decide +kernel
theorem dX1_round_17 : decode cX1_round 17 = .ok (.iaload, 1) := by decide +kernel
theorem dX1_round_18 : decode cX1_round 18 = .ok (.istore_n 3, 1) := by decide +kernel
theorem dX1_round_19 : decode cX1_round 19 = .ok (.aload_n 0, 1) := by decide +kernel
theorem dX1_round_20 : decode cX1_round 20 = .ok (.getfield 1, 3) := by decide +kernel
theorem dX1_round_23 : decode cX1_round 23 = .ok (.getfield 39, 3) := by decide +kernel
theorem dX1_round_26 : decode cX1_round 26 = .ok (.iload_n 3, 1) := by decide +kernel
theorem dX1_round_27 : decode cX1_round 27 = .ok (.iaload, 1) := by decide +kernel
theorem dX1_round_28 : decode cX1_round 28 = .ok (.istore 4, 2) := by decide +kernel
theorem dX1_round_30 : decode cX1_round 30 = .ok (.iload 4, 2) := by decide +kernel
theorem dX1_round_32 : decode cX1_round 32 = .ok (.bipush 17, 2) := by decide +kernel
theorem dX1_round_34 : decode cX1_round 34 = .ok (.if_icmp .ne 43, 3) := by decide +kernel
theorem dX1_round_37 : decode cX1_round 37 = .ok (.iconst 0, 1) := by decide +kernel
theorem dX1_round_38 : decode cX1_round 38 = .ok (.istore 5, 2) := by decide +kernel
theorem dX1_round_40 : decode cX1_round 40 = .ok (.iload 5, 2) := by decide +kernel
theorem dX1_round_42 : decode cX1_round 42 = .ok (.aload_n 0, 1) := by decide +kernel
theorem dX1_round_43 : decode cX1_round 43 = .ok (.getfield 1, 3) := by decide +kernel
theorem dX1_round_46 : decode cX1_round 46 = .ok (.getfield 32, 3) := by decide +kernel
theorem dX1_round_49 : decode cX1_round 49 = .ok (.iload_n 3, 1) := by decide +kernel
theorem dX1_round_50 : decode cX1_round 50 = .ok (.iaload, 1) := by decide +kernel
theorem dX1_round_51 : decode cX1_round 51 = .ok (.if_icmp .ge 23, 3) := by decide +kernel
theorem dX1_round_54 : decode cX1_round 54 = .ok (.aload_n 0, 1) := by decide +kernel
theorem dX1_round_55 : decode cX1_round 55 = .ok (.aload_n 0, 1) := by decide +kernel
theorem dX1_round_56 : decode cX1_round 56 = .ok (.getfield 1, 3) := by decide +kernel
theorem dX1_round_59 : decode cX1_round 59 = .ok (.iload_n 3, 1) := by decide +kernel
theorem dX1_round_60 : decode cX1_round 60 = .ok (.iload 5, 2) := by decide +kernel
theorem dX1_round_62 : decode cX1_round 62 = .ok (.invokevirtual 28, 3) := by decide +kernel
theorem dX1_round_65 : decode cX1_round 65 = .ok (.invokevirtual 269, 3) := by decide +kernel
theorem dX1_round_68 : decode cX1_round 68 = .ok (.iinc 5 1, 3) := by decide +kernel
theorem dX1_round_71 : decode cX1_round 71 = .ok (.goto (-31), 3) := by decide +kernel
theorem dX1_round_74 : decode cX1_round 74 = .ok (.goto 300, 3) := by decide +kernel
theorem dX1_round_77 : decode cX1_round 77 = .ok (.iload 4, 2) := by decide +kernel
theorem dX1_round_79 : decode cX1_round 79 = .ok (.bipush 18, 2) := by decide +kernel
theorem dX1_round_81 : decode cX1_round 81 = .ok (.if_icmp .ne 149, 3) := by decide +kernel
theorem dX1_round_84 : decode cX1_round 84 = .ok (.iconst 0, 1) := by decide +kernel
theorem dX1_round_85 : decode cX1_round 85 = .ok (.istore 5, 2) := by decide +kernel
theorem dX1_round_87 : decode cX1_round 87 = .ok (.iload 5, 2) := by decide +kernel
theorem dX1_round_89 : decode cX1_round 89 = .ok (.aload_n 0, 1) := by decide +kernel
theorem dX1_round_90 : decode cX1_round 90 = .ok (.getfield 163, 3) := by decide +kernel
theorem dX1_round_93 : decode cX1_round 93 = .ok (.if_icmp .ge 134, 3) := by decide +kernel
theorem dX1_round_96 : decode cX1_round 96 = .ok (.aload_n 0, 1) := by decide +kernel
theorem dX1_round_97 : decode cX1_round 97 = .ok (.getfield 159, 3) := by decide +kernel
theorem dX1_round_100 : decode cX1_round 100 = .ok (.ifCond .ne 127, 3) := by decide +kernel
theorem dX1_round_103 : decode cX1_round 103 = .ok (.aload_n 0, 1) := by decide +kernel
theorem dX1_round_104 : decode cX1_round 104 = .ok (.getfield 169, 3) := by decide +kernel
theorem dX1_round_107 : decode cX1_round 107 = .ok (.iload 5, 2) := by decide +kernel
theorem dX1_round_109 : decode cX1_round 109 = .ok (.iaload, 1) := by decide +kernel
theorem dX1_round_110 : decode cX1_round 110 = .ok (.istore 6, 2) := by decide +kernel
theorem dX1_round_112 : decode cX1_round 112 = .ok (.iload 5, 2) := by decide +kernel
theorem dX1_round_114 : decode cX1_round 114 = .ok (.aload_n 0, 1) := by decide +kernel
theorem dX1_round_115 : decode cX1_round 115 = .ok (.getfield 272, 3) := by decide +kernel
theorem dX1_round_118 : decode cX1_round 118 = .ok (.if_icmp .lt 12, 3) := by decide +kernel
theorem dX1_round_121 : decode cX1_round 121 = .ok (.aload_n 0, 1) := by decide +kernel
theorem dX1_round_122 : decode cX1_round 122 = .ok (.iload 6, 2) := by decide +kernel
theorem dX1_round_124 : decode cX1_round 124 = .ok (.invokevirtual 275, 3) := by decide +kernel
theorem dX1_round_127 : decode cX1_round 127 = .ok (.ifCond .eq 94, 3) := by decide +kernel
theorem dX1_round_130 : decode cX1_round 130 = .ok (.aload_n 0, 1) := by decide +kernel
theorem dX1_round_131 : decode cX1_round 131 = .ok (.iload 6, 2) := by decide +kernel
theorem dX1_round_133 : decode cX1_round 133 = .ok (.aload_n 0, 1) := by decide +kernel
theorem dX1_round_134 : decode cX1_round 134 = .ok (.getfield 1, 3) := by decide +kernel
theorem dX1_round_137 : decode cX1_round 137 = .ok (.iload_n 3, 1) := by decide +kernel
theorem dX1_round_138 : decode cX1_round 138 = .ok (.iconst 0, 1) := by decide +kernel
theorem dX1_round_139 : decode cX1_round 139 = .ok (.invokevirtual 28, 3) := by decide +kernel
theorem dX1_round_142 : decode cX1_round 142 = .ok (.invokevirtual 244, 3) := by decide +kernel
theorem dX1_round_145 : decode cX1_round 145 = .ok (.ifCond .ne 6, 3) := by decide +kernel
theorem dX1_round_148 : decode cX1_round 148 = .ok (.goto 73, 3) := by decide +kernel
theorem dX1_round_151 : decode cX1_round 151 = .ok (.aload_n 0, 1) := by decide +kernel
theorem dX1_round_152 : decode cX1_round 152 = .ok (.iconst 0, 1) := by decide +kernel
theorem dX1_round_153 : decode cX1_round 153 = .ok (.putfield 278, 3) := by decide +kernel
theorem dX1_round_156 : decode cX1_round 156 = .ok (.aload_n 0, 1) := by decide +kernel
theorem dX1_round_157 : decode cX1_round 157 = .ok (.iconst 0, 1) := by decide +kernel
theorem dX1_round_158 : decode cX1_round 158 = .ok (.putfield 281, 3) := by decide +kernel
theorem dX1_round_161 : decode cX1_round 161 = .ok (.aload_n 0, 1) := by decide +kernel
theorem dX1_round_162 : decode cX1_round 162 = .ok (.aload_n 0, 1) := by decide +kernel
theorem dX1_round_163 : decode cX1_round 163 = .ok (.getfield 1, 3) := by decide +kernel
theorem dX1_round_166 : decode cX1_round 166 = .ok (.iload_n 3, 1) := by decide +kernel
theorem dX1_round_167 : decode cX1_round 167 = .ok (.iconst 1, 1) := by decide +kernel
theorem dX1_round_168 : decode cX1_round 168 = .ok (.invokevirtual 28, 3) := by decide +kernel
theorem dX1_round_171 : decode cX1_round 171 = .ok (.iload 6, 2) := by decide +kernel
theorem dX1_round_173 : decode cX1_round 173 = .ok (.iconst 0, 1) := by decide +kernel
theorem dX1_round_174 : decode cX1_round 174 = .ok (.invokevirtual 284, 3) := by decide +kernel
theorem dX1_round_177 : decode cX1_round 177 = .ok (.pop, 1) := by decide +kernel
theorem dX1_round_178 : decode cX1_round 178 = .ok (.aload_n 0, 1) := by decide +kernel
theorem dX1_round_179 : decode cX1_round 179 = .ok (.getfield 281, 3) := by decide +kernel
theorem dX1_round_182 : decode cX1_round 182 = .ok (.ifCond .eq 13, 3) := by decide +kernel
theorem dX1_round_185 : decode cX1_round 185 = .ok (.aload_n 0, 1) := by decide +kernel
theorem dX1_round_186 : decode cX1_round 186 = .ok (.getfield 278, 3) := by decide +kernel
theorem dX1_round_189 : decode cX1_round 189 = .ok (.ifCond .ne 6, 3) := by decide +kernel
theorem dX1_round_192 : decode cX1_round 192 = .ok (.goto 29, 3) := by decide +kernel
theorem dX1_round_195 : decode cX1_round 195 = .ok (.aload_n 0, 1) := by decide +kernel
theorem dX1_round_196 : decode cX1_round 196 = .ok (.getfield 1, 3) := by decide +kernel
theorem dX1_round_199 : decode cX1_round 199 = .ok (.aload_n 0, 1) := by decide +kernel
theorem dX1_round_200 : decode cX1_round 200 = .ok (.getfield 1, 3) := by decide +kernel
theorem dX1_round_203 : decode cX1_round 203 = .ok (.iload_n 3, 1) := by decide +kernel
theorem dX1_round_204 : decode cX1_round 204 = .ok (.iconst 1, 1) := by decide +kernel
theorem dX1_round_205 : decode cX1_round 205 = .ok (.invokevirtual 28, 3) := by decide +kernel
theorem dX1_round_208 : decode cX1_round 208 = .ok (.iload 6, 2) := by decide +kernel
theorem dX1_round_210 : decode cX1_round 210 = .ok (.invokevirtual 287, 3) := by decide +kernel
theorem dX1_round_213 : decode cX1_round 213 = .ok (.istore 7, 2) := by decide +kernel
theorem dX1_round_215 : decode cX1_round 215 = .ok (.aload_n 0, 1) := by decide +kernel
theorem dX1_round_216 : decode cX1_round 216 = .ok (.iload 7, 2) := by decide +kernel
theorem dX1_round_218 : decode cX1_round 218 = .ok (.invokevirtual 269, 3) := by decide +kernel
theorem dX1_round_221 : decode cX1_round 221 = .ok (.iinc 5 1, 3) := by decide +kernel
theorem dX1_round_224 : decode cX1_round 224 = .ok (.goto (-137), 3) := by decide +kernel
theorem dX1_round_227 : decode cX1_round 227 = .ok (.goto 147, 3) := by decide +kernel
theorem dX1_round_230 : decode cX1_round 230 = .ok (.iload 4, 2) := by decide +kernel
theorem dX1_round_232 : decode cX1_round 232 = .ok (.bipush 16, 2) := by decide +kernel
theorem dX1_round_234 : decode cX1_round 234 = .ok (.if_icmp .ne 140, 3) := by decide +kernel
theorem dX1_round_237 : decode cX1_round 237 = .ok (.aload_n 0, 1) := by decide +kernel
theorem dX1_round_238 : decode cX1_round 238 = .ok (.getfield 1, 3) := by decide +kernel
theorem dX1_round_241 : decode cX1_round 241 = .ok (.iload_n 3, 1) := by decide +kernel
theorem dX1_round_242 : decode cX1_round 242 = .ok (.iconst 0, 1) := by decide +kernel
theorem dX1_round_243 : decode cX1_round 243 = .ok (.invokevirtual 28, 3) := by decide +kernel
theorem dX1_round_246 : decode cX1_round 246 = .ok (.istore 5, 2) := by decide +kernel
theorem dX1_round_248 : decode cX1_round 248 = .ok (.aload_n 0, 1) := by decide +kernel
theorem dX1_round_249 : decode cX1_round 249 = .ok (.getfield 1, 3) := by decide +kernel
theorem dX1_round_252 : decode cX1_round 252 = .ok (.getfield 39, 3) := by decide +kernel
theorem dX1_round_255 : decode cX1_round 255 = .ok (.iload 5, 2) := by decide +kernel
theorem dX1_round_257 : decode cX1_round 257 = .ok (.iaload, 1) := by decide +kernel
theorem dX1_round_258 : decode cX1_round 258 = .ok (.bipush 17, 2) := by decide +kernel
theorem dX1_round_260 : decode cX1_round 260 = .ok (.if_icmp .ne 12, 3) := by decide +kernel
theorem dX1_round_263 : decode cX1_round 263 = .ok (.aload_n 0, 1) := by decide +kernel
theorem dX1_round_264 : decode cX1_round 264 = .ok (.iload 5, 2) := by decide +kernel
theorem dX1_round_266 : decode cX1_round 266 = .ok (.invokevirtual 290, 3) := by decide +kernel
theorem dX1_round_269 : decode cX1_round 269 = .ok (.goto 105, 3) := by decide +kernel
theorem dX1_round_272 : decode cX1_round 272 = .ok (.aload_n 0, 1) := by decide +kernel
theorem dX1_round_273 : decode cX1_round 273 = .ok (.getfield 1, 3) := by decide +kernel
theorem dX1_round_276 : decode cX1_round 276 = .ok (.getfield 39, 3) := by decide +kernel
theorem dX1_round_279 : decode cX1_round 279 = .ok (.iload 5, 2) := by decide +kernel
theorem dX1_round_281 : decode cX1_round 281 = .ok (.iaload, 1) := by decide +kernel
theorem dX1_round_282 : decode cX1_round 282 = .ok (.bipush 18, 2) := by decide +kernel
theorem dX1_round_284 : decode cX1_round 284 = .ok (.if_icmp .ne 90, 3) := by decide +kernel
theorem dX1_round_287 : decode cX1_round 287 = .ok (.aload_n 0, 1) := by decide +kernel
theorem dX1_round_288 : decode cX1_round 288 = .ok (.iload_n 3, 1) := by decide +kernel
theorem dX1_round_289 : decode cX1_round 289 = .ok (.invokevirtual 166, 3) := by decide +kernel
theorem dX1_round_292 : decode cX1_round 292 = .ok (.aload_n 0, 1) := by decide +kernel
theorem dX1_round_293 : decode cX1_round 293 = .ok (.getfield 134, 3) := by decide +kernel
theorem dX1_round_296 : decode cX1_round 296 = .ok (.iload_n 3, 1) := by decide +kernel
theorem dX1_round_297 : decode cX1_round 297 = .ok (.iaload, 1) := by decide +kernel
theorem dX1_round_298 : decode cX1_round 298 = .ok (.aload_n 0, 1) := by decide +kernel
theorem dX1_round_299 : decode cX1_round 299 = .ok (.getfield 143, 3) := by decide +kernel
theorem dX1_round_302 : decode cX1_round 302 = .ok (.if_icmp .ne 6, 3) := by decide +kernel
theorem dX1_round_305 : decode cX1_round 305 = .ok (.goto 78, 3) := by decide +kernel
theorem dX1_round_308 : decode cX1_round 308 = .ok (.aload_n 0, 1) := by decide +kernel
theorem dX1_round_309 : decode cX1_round 309 = .ok (.getfield 134, 3) := by decide +kernel
theorem dX1_round_312 : decode cX1_round 312 = .ok (.iload_n 3, 1) := by decide +kernel
theorem dX1_round_313 : decode cX1_round 313 = .ok (.aload_n 0, 1) := by decide +kernel
theorem dX1_round_314 : decode cX1_round 314 = .ok (.getfield 143, 3) := by decide +kernel
theorem dX1_round_317 : decode cX1_round 317 = .ok (.iastore, 1) := by decide +kernel
theorem dX1_round_318 : decode cX1_round 318 = .ok (.aload_n 0, 1) := by decide +kernel
theorem dX1_round_319 : decode cX1_round 319 = .ok (.aload_n 0, 1) := by decide +kernel
theorem dX1_round_320 : decode cX1_round 320 = .ok (.getfield 1, 3) := by decide +kernel
theorem dX1_round_323 : decode cX1_round 323 = .ok (.iload 5, 2) := by decide +kernel
theorem dX1_round_325 : decode cX1_round 325 = .ok (.iconst 0, 1) := by decide +kernel
theorem dX1_round_326 : decode cX1_round 326 = .ok (.invokevirtual 28, 3) := by decide +kernel
theorem dX1_round_329 : decode cX1_round 329 = .ok (.invokevirtual 293, 3) := by decide +kernel
theorem dX1_round_332 : decode cX1_round 332 = .ok (.istore 6, 2) := by decide +kernel
theorem dX1_round_334 : decode cX1_round 334 = .ok (.aload_n 0, 1) := by decide +kernel
theorem dX1_round_335 : decode cX1_round 335 = .ok (.iload 6, 2) := by decide +kernel
theorem dX1_round_337 : decode cX1_round 337 = .ok (.invokevirtual 296, 3) := by decide +kernel
theorem dX1_round_340 : decode cX1_round 340 = .ok (.aload_n 0, 1) := by decide +kernel
theorem dX1_round_341 : decode cX1_round 341 = .ok (.getfield 1, 3) := by decide +kernel
theorem dX1_round_344 : decode cX1_round 344 = .ok (.aload_n 0, 1) := by decide +kernel
theorem dX1_round_345 : decode cX1_round 345 = .ok (.getfield 1, 3) := by decide +kernel
theorem dX1_round_348 : decode cX1_round 348 = .ok (.iload 5, 2) := by decide +kernel
theorem dX1_round_350 : decode cX1_round 350 = .ok (.iconst 1, 1) := by decide +kernel
theorem dX1_round_351 : decode cX1_round 351 = .ok (.invokevirtual 28, 3) := by decide +kernel
theorem dX1_round_354 : decode cX1_round 354 = .ok (.iload 6, 2) := by decide +kernel
theorem dX1_round_356 : decode cX1_round 356 = .ok (.invokevirtual 287, 3) := by decide +kernel
theorem dX1_round_359 : decode cX1_round 359 = .ok (.istore 7, 2) := by decide +kernel
theorem dX1_round_361 : decode cX1_round 361 = .ok (.aload_n 0, 1) := by decide +kernel
theorem dX1_round_362 : decode cX1_round 362 = .ok (.aload_n 0, 1) := by decide +kernel
theorem dX1_round_363 : decode cX1_round 363 = .ok (.getfield 1, 3) := by decide +kernel
theorem dX1_round_366 : decode cX1_round 366 = .ok (.iload 7, 2) := by decide +kernel
theorem dX1_round_368 : decode cX1_round 368 = .ok (.invokevirtual 263, 3) := by decide +kernel
theorem dX1_round_371 : decode cX1_round 371 = .ok (.invokevirtual 269, 3) := by decide +kernel
theorem dX1_round_374 : decode cX1_round 374 = .ok (.aload_n 0, 1) := by decide +kernel
theorem dX1_round_375 : decode cX1_round 375 = .ok (.getfield 159, 3) := by decide +kernel
theorem dX1_round_378 : decode cX1_round 378 = .ok (.ifCond .eq 5, 3) := by decide +kernel
theorem dX1_round_381 : decode cX1_round 381 = .ok (.iconst 1, 1) := by decide +kernel
theorem dX1_round_382 : decode cX1_round 382 = .ok (.ireturn, 1) := by decide +kernel
theorem dX1_round_383 : decode cX1_round 383 = .ok (.iinc 2 1, 3) := by decide +kernel
theorem dX1_round_386 : decode cX1_round 386 = .ok (.goto (-379), 3) := by decide +kernel
theorem dX1_round_389 : decode cX1_round 389 = .ok (.aload_n 0, 1) := by decide +kernel
theorem dX1_round_390 : decode cX1_round 390 = .ok (.getfield 299, 3) := by decide +kernel
theorem dX1_round_393 : decode cX1_round 393 = .ok (.ifCond .le 7, 3) := by decide +kernel
theorem dX1_round_396 : decode cX1_round 396 = .ok (.iconst 1, 1) := by decide +kernel
theorem dX1_round_397 : decode cX1_round 397 = .ok (.goto 4, 3) := by decide +kernel
theorem dX1_round_400 : decode cX1_round 400 = .ok (.iconst 0, 1) := by decide +kernel
theorem dX1_round_401 : decode cX1_round 401 = .ok (.istore_n 2, 1) := by decide +kernel
theorem dX1_round_402 : decode cX1_round 402 = .ok (.iconst 0, 1) := by decide +kernel
theorem dX1_round_403 : decode cX1_round 403 = .ok (.istore_n 3, 1) := by decide +kernel
theorem dX1_round_404 : decode cX1_round 404 = .ok (.iload_n 3, 1) := by decide +kernel
theorem dX1_round_405 : decode cX1_round 405 = .ok (.aload_n 0, 1) := by decide +kernel
theorem dX1_round_406 : decode cX1_round 406 = .ok (.getfield 299, 3) := by decide +kernel
theorem dX1_round_409 : decode cX1_round 409 = .ok (.if_icmp .ge 19, 3) := by decide +kernel
theorem dX1_round_412 : decode cX1_round 412 = .ok (.aload_n 0, 1) := by decide +kernel
theorem dX1_round_413 : decode cX1_round 413 = .ok (.aload_n 0, 1) := by decide +kernel
theorem dX1_round_414 : decode cX1_round 414 = .ok (.getfield 302, 3) := by decide +kernel
theorem dX1_round_417 : decode cX1_round 417 = .ok (.iload_n 3, 1) := by decide +kernel
theorem dX1_round_418 : decode cX1_round 418 = .ok (.iaload, 1) := by decide +kernel
theorem dX1_round_419 : decode cX1_round 419 = .ok (.invokevirtual 305, 3) := by decide +kernel
theorem dX1_round_422 : decode cX1_round 422 = .ok (.iinc 3 1, 3) := by decide +kernel
theorem dX1_round_425 : decode cX1_round 425 = .ok (.goto (-21), 3) := by decide +kernel
theorem dX1_round_428 : decode cX1_round 428 = .ok (.iload_n 2, 1) := by decide +kernel
theorem dX1_round_429 : decode cX1_round 429 = .ok (.ireturn, 1) := by decide +kernel
abbrev cX1_come : ByteArray := prog_1_method_46_code
def yX1_come : MethodName := ⟨RX1, "come", "(I)V"⟩
theorem dX1_come_0 : decode cX1_come 0 = .ok (.aload_n 0, 1) := by decide +kernel
theorem dX1_come_1 : decode cX1_come 1 = .ok (.iload_n 1, 1) := by decide +kernel
theorem dX1_come_2 : decode cX1_come 2 = .ok (.invokevirtual 253, 3) := by decide +kernel
theorem dX1_come_5 : decode cX1_come 5 = .ok (.ifCond .eq 4, 3) := by decide +kernel
theorem dX1_come_8 : decode cX1_come 8 = .ok (.return_, 1) := by decide +kernel
theorem dX1_come_9 : decode cX1_come 9 = .ok (.iconst 0, 1) := by decide +kernel
theorem dX1_come_10 : decode cX1_come 10 = .ok (.istore_n 2, 1) := by decide +kernel
theorem dX1_come_11 : decode cX1_come 11 = .ok (.iload_n 2, 1) := by decide +kernel
theorem dX1_come_12 : decode cX1_come 12 = .ok (.aload_n 0, 1) := by decide +kernel
theorem dX1_come_13 : decode cX1_come 13 = .ok (.getfield 299, 3) := by decide +kernel
theorem dX1_come_16 : decode cX1_come 16 = .ok (.if_icmp .ge 20, 3) := by decide +kernel
theorem dX1_come_19 : decode cX1_come 19 = .ok (.aload_n 0, 1) := by decide +kernel
theorem dX1_come_20 : decode cX1_come 20 = .ok (.getfield 302, 3) := by decide +kernel
theorem dX1_come_23 : decode cX1_come 23 = .ok (.iload_n 2, 1) := by decide +kernel
theorem dX1_come_24 : decode cX1_come 24 = .ok (.iaload, 1) := by decide +kernel
theorem dX1_come_25 : decode cX1_come 25 = .ok (.iload_n 1, 1) := by decide +kernel
theorem dX1_come_26 : decode cX1_come 26 = .ok (.if_icmp .ne 4, 3) := by decide +kernel
theorem dX1_come_29 : decode cX1_come 29 = .ok (.return_, 1) := by decide +kernel
theorem dX1_come_30 : decode cX1_come 30 = .ok (.iinc 2 1, 3) := by decide +kernel
theorem dX1_come_33 : decode cX1_come 33 = .ok (.goto (-22), 3) := by decide +kernel
theorem dX1_come_36 : decode cX1_come 36 = .ok (.aload_n 0, 1) := by decide +kernel
theorem dX1_come_37 : decode cX1_come 37 = .ok (.getfield 223, 3) := by decide +kernel
theorem dX1_come_40 : decode cX1_come 40 = .ok (.aload_n 0, 1) := by decide +kernel
theorem dX1_come_41 : decode cX1_come 41 = .ok (.getfield 299, 3) := by decide +kernel
theorem dX1_come_44 : decode cX1_come 44 = .ok (.iadd, 1) := by decide +kernel
theorem dX1_come_45 : decode cX1_come 45 = .ok (.sipush 400, 3) := by decide +kernel
theorem dX1_come_48 : decode cX1_come 48 = .ok (.if_icmp .lt 9, 3) := by decide +kernel
theorem dX1_come_51 : decode cX1_come 51 = .ok (.aload_n 0, 1) := by decide +kernel
theorem dX1_come_52 : decode cX1_come 52 = .ok (.iconst 1, 1) := by decide +kernel
theorem dX1_come_53 : decode cX1_come 53 = .ok (.putfield 159, 3) := by decide +kernel
theorem dX1_come_56 : decode cX1_come 56 = .ok (.return_, 1) := by decide +kernel
theorem dX1_come_57 : decode cX1_come 57 = .ok (.aload_n 0, 1) := by decide +kernel
theorem dX1_come_58 : decode cX1_come 58 = .ok (.getfield 299, 3) := by decide +kernel
theorem dX1_come_61 : decode cX1_come 61 = .ok (.aload_n 0, 1) := by decide +kernel
theorem dX1_come_62 : decode cX1_come 62 = .ok (.getfield 302, 3) := by decide +kernel
theorem dX1_come_65 : decode cX1_come 65 = .ok (.arraylength, 1) := by decide +kernel
theorem dX1_come_66 : decode cX1_come 66 = .ok (.if_icmp .ne 20, 3) := by decide +kernel
theorem dX1_come_69 : decode cX1_come 69 = .ok (.aload_n 0, 1) := by decide +kernel
theorem dX1_come_70 : decode cX1_come 70 = .ok (.aload_n 0, 1) := by decide +kernel
theorem dX1_come_71 : decode cX1_come 71 = .ok (.getfield 302, 3) := by decide +kernel
theorem dX1_come_74 : decode cX1_come 74 = .ok (.iconst 2, 1) := by decide +kernel
theorem dX1_come_75 : decode cX1_come 75 = .ok (.aload_n 0, 1) := by decide +kernel
theorem dX1_come_76 : decode cX1_come 76 = .ok (.getfield 299, 3) := by decide +kernel
theorem dX1_come_79 : decode cX1_come 79 = .ok (.imul, 1) := by decide +kernel
theorem dX1_come_80 : decode cX1_come 80 = .ok (.invokestatic 112, 3) := by decide +kernel
theorem dX1_come_83 : decode cX1_come 83 = .ok (.putfield 302, 3) := by decide +kernel
theorem dX1_come_86 : decode cX1_come 86 = .ok (.aload_n 0, 1) := by decide +kernel
theorem dX1_come_87 : decode cX1_come 87 = .ok (.getfield 302, 3) := by decide +kernel
theorem dX1_come_90 : decode cX1_come 90 = .ok (.aload_n 0, 1) := by decide +kernel
theorem dX1_come_91 : decode cX1_come 91 = .ok (.getfield 299, 3) := by decide +kernel
theorem dX1_come_94 : decode cX1_come 94 = .ok (.iload_n 1, 1) := by decide +kernel
theorem dX1_come_95 : decode cX1_come 95 = .ok (.iastore, 1) := by decide +kernel
theorem dX1_come_96 : decode cX1_come 96 = .ok (.aload_n 0, 1) := by decide +kernel
theorem dX1_come_97 : decode cX1_come 97 = .ok (.dup, 1) := by decide +kernel
theorem dX1_come_98 : decode cX1_come 98 = .ok (.getfield 299, 3) := by decide +kernel
theorem dX1_come_101 : decode cX1_come 101 = .ok (.iconst 1, 1) := by decide +kernel
theorem dX1_come_102 : decode cX1_come 102 = .ok (.iadd, 1) := by decide +kernel
theorem dX1_come_103 : decode cX1_come 103 = .ok (.putfield 299, 3) := by decide +kernel
theorem dX1_come_106 : decode cX1_come 106 = .ok (.return_, 1) := by decide +kernel
abbrev cX1_isNew : ByteArray := prog_1_method_42_code
def yX1_isNew : MethodName := ⟨RX1, "isNew", "(I)Z"⟩
theorem dX1_isNew_0 : decode cX1_isNew 0 = .ok (.aload_n 0, 1) := by decide +kernel
theorem dX1_isNew_1 : decode cX1_isNew 1 = .ok (.getfield 1, 3) := by decide +kernel
theorem dX1_isNew_4 : decode cX1_isNew 4 = .ok (.getfield 39, 3) := by decide +kernel
theorem dX1_isNew_7 : decode cX1_isNew 7 = .ok (.iload_n 1, 1) := by decide +kernel
theorem dX1_isNew_8 : decode cX1_isNew 8 = .ok (.iaload, 1) := by decide +kernel
theorem dX1_isNew_9 : decode cX1_isNew 9 = .ok (.iconst 1, 1) := by decide +kernel
theorem dX1_isNew_10 : decode cX1_isNew 10 = .ok (.if_icmp .ne 23, 3) := by decide +kernel
theorem dX1_isNew_13 : decode cX1_isNew 13 = .ok (.aload_n 0, 1) := by decide +kernel
theorem dX1_isNew_14 : decode cX1_isNew 14 = .ok (.getfield 1, 3) := by decide +kernel
theorem dX1_isNew_17 : decode cX1_isNew 17 = .ok (.getfield 45, 3) := by decide +kernel
theorem dX1_isNew_20 : decode cX1_isNew 20 = .ok (.iload_n 1, 1) := by decide +kernel
theorem dX1_isNew_21 : decode cX1_isNew 21 = .ok (.iaload, 1) := by decide +kernel
theorem dX1_isNew_22 : decode cX1_isNew 22 = .ok (.aload_n 0, 1) := by decide +kernel
theorem dX1_isNew_23 : decode cX1_isNew 23 = .ok (.getfield 314, 3) := by decide +kernel
theorem dX1_isNew_26 : decode cX1_isNew 26 = .ok (.if_icmp .lt 7, 3) := by decide +kernel
theorem dX1_isNew_29 : decode cX1_isNew 29 = .ok (.iconst 1, 1) := by decide +kernel
theorem dX1_isNew_30 : decode cX1_isNew 30 = .ok (.goto 4, 3) := by decide +kernel
theorem dX1_isNew_33 : decode cX1_isNew 33 = .ok (.iconst 0, 1) := by decide +kernel
theorem dX1_isNew_34 : decode cX1_isNew 34 = .ok (.ireturn, 1) := by decide +kernel
abbrev cX1_placed : ByteArray := prog_1_method_43_code
def yX1_placed : MethodName := ⟨RX1, "placed", "(III)I"⟩
theorem dX1_placed_0 : decode cX1_placed 0 = .ok (.aload_n 0, 1) := by decide +kernel
theorem dX1_placed_1 : decode cX1_placed 1 = .ok (.getfield 1, 3) := by decide +kernel
theorem dX1_placed_4 : decode cX1_placed 4 = .ok (.getfield 39, 3) := by decide +kernel
theorem dX1_placed_7 : decode cX1_placed 7 = .ok (.iload_n 1, 1) := by decide +kernel
theorem dX1_placed_8 : decode cX1_placed 8 = .ok (.iaload, 1) := by decide +kernel
theorem dX1_placed_9 : decode cX1_placed 9 = .ok (.istore 4, 2) := by decide +kernel
theorem dX1_placed_11 : decode cX1_placed 11 = .ok (.iload 4, 2) := by decide +kernel
theorem dX1_placed_13 : decode cX1_placed 13 = .ok (.iconst 2, 1) := by decide +kernel
theorem dX1_placed_14 : decode cX1_placed 14 = .ok (.if_icmp .ne 22, 3) := by decide +kernel
theorem dX1_placed_17 : decode cX1_placed 17 = .ok (.aload_n 0, 1) := by decide +kernel
theorem dX1_placed_18 : decode cX1_placed 18 = .ok (.getfield 1, 3) := by decide +kernel
theorem dX1_placed_21 : decode cX1_placed 21 = .ok (.getfield 45, 3) := by decide +kernel
theorem dX1_placed_24 : decode cX1_placed 24 = .ok (.iload_n 1, 1) := by decide +kernel
theorem dX1_placed_25 : decode cX1_placed 25 = .ok (.iaload, 1) := by decide +kernel
theorem dX1_placed_26 : decode cX1_placed 26 = .ok (.iload_n 3, 1) := by decide +kernel
theorem dX1_placed_27 : decode cX1_placed 27 = .ok (.if_icmp .ne 7, 3) := by decide +kernel
theorem dX1_placed_30 : decode cX1_placed 30 = .ok (.iload_n 2, 1) := by decide +kernel
theorem dX1_placed_31 : decode cX1_placed 31 = .ok (.goto 4, 3) := by decide +kernel
theorem dX1_placed_34 : decode cX1_placed 34 = .ok (.iconst 0, 1) := by decide +kernel
theorem dX1_placed_35 : decode cX1_placed 35 = .ok (.ireturn, 1) := by decide +kernel
theorem dX1_placed_36 : decode cX1_placed 36 = .ok (.aload_n 0, 1) := by decide +kernel
theorem dX1_placed_37 : decode cX1_placed 37 = .ok (.getfield 1, 3) := by decide +kernel
theorem dX1_placed_40 : decode cX1_placed 40 = .ok (.getfield 217, 3) := by decide +kernel
theorem dX1_placed_43 : decode cX1_placed 43 = .ok (.iload_n 1, 1) := by decide +kernel
theorem dX1_placed_44 : decode cX1_placed 44 = .ok (.iaload, 1) := by decide +kernel
theorem dX1_placed_45 : decode cX1_placed 45 = .ok (.iload_n 3, 1) := by decide +kernel
theorem dX1_placed_46 : decode cX1_placed 46 = .ok (.if_icmp .gt 29, 3) := by decide +kernel
theorem dX1_placed_49 : decode cX1_placed 49 = .ok (.iload 4, 2) := by decide +kernel
theorem dX1_placed_51 : decode cX1_placed 51 = .ok (.invokestatic 214, 3) := by decide +kernel
theorem dX1_placed_54 : decode cX1_placed 54 = .ok (.ifCond .eq 19, 3) := by decide +kernel
theorem dX1_placed_57 : decode cX1_placed 57 = .ok (.aload_n 0, 1) := by decide +kernel
theorem dX1_placed_58 : decode cX1_placed 58 = .ok (.getfield 1, 3) := by decide +kernel
theorem dX1_placed_61 : decode cX1_placed 61 = .ok (.getfield 217, 3) := by decide +kernel
theorem dX1_placed_64 : decode cX1_placed 64 = .ok (.iload_n 1, 1) := by decide +kernel
theorem dX1_placed_65 : decode cX1_placed 65 = .ok (.iaload, 1) := by decide +kernel
theorem dX1_placed_66 : decode cX1_placed 66 = .ok (.ifCond .ne 7, 3) := by decide +kernel
theorem dX1_placed_69 : decode cX1_placed 69 = .ok (.iload_n 1, 1) := by decide +kernel
theorem dX1_placed_70 : decode cX1_placed 70 = .ok (.goto 4, 3) := by decide +kernel
theorem dX1_placed_73 : decode cX1_placed 73 = .ok (.iconst 0, 1) := by decide +kernel
theorem dX1_placed_74 : decode cX1_placed 74 = .ok (.ireturn, 1) := by decide +kernel
theorem dX1_placed_75 : decode cX1_placed 75 = .ok (.iload 4, 2) := by decide +kernel
theorem dX1_placed_77 : decode cX1_placed 77 = .ok (.invokestatic 214, 3) := by decide +kernel
theorem dX1_placed_80 : decode cX1_placed 80 = .ok (.ifCond .eq 16, 3) := by decide +kernel
theorem dX1_placed_83 : decode cX1_placed 83 = .ok (.aload_n 0, 1) := by decide +kernel
theorem dX1_placed_84 : decode cX1_placed 84 = .ok (.iload_n 1, 1) := by decide +kernel
theorem dX1_placed_85 : decode cX1_placed 85 = .ok (.iload_n 3, 1) := by decide +kernel
theorem dX1_placed_86 : decode cX1_placed 86 = .ok (.invokevirtual 317, 3) := by decide +kernel
theorem dX1_placed_89 : decode cX1_placed 89 = .ok (.ifCond .ne 7, 3) := by decide +kernel
theorem dX1_placed_92 : decode cX1_placed 92 = .ok (.iconst 1, 1) := by decide +kernel
theorem dX1_placed_93 : decode cX1_placed 93 = .ok (.goto 4, 3) := by decide +kernel
theorem dX1_placed_96 : decode cX1_placed 96 = .ok (.iconst 0, 1) := by decide +kernel
theorem dX1_placed_97 : decode cX1_placed 97 = .ok (.istore 5, 2) := by decide +kernel
theorem dX1_placed_99 : decode cX1_placed 99 = .ok (.aload_n 0, 1) := by decide +kernel
theorem dX1_placed_100 : decode cX1_placed 100 = .ok (.getfield 1, 3) := by decide +kernel
theorem dX1_placed_103 : decode cX1_placed 103 = .ok (.getfield 7, 3) := by decide +kernel
theorem dX1_placed_106 : decode cX1_placed 106 = .ok (.istore 6, 2) := by decide +kernel
theorem dX1_placed_108 : decode cX1_placed 108 = .ok (.iload 4, 2) := by decide +kernel
theorem dX1_placed_110 : decode cX1_placed 110 = .ok (.iconst 5, 1) := by decide +kernel
theorem dX1_placed_111 : decode cX1_placed 111 = .ok (.if_icmp .ne 151, 3) := by decide +kernel
theorem dX1_placed_114 : decode cX1_placed 114 = .ok (.aload_n 0, 1) := by decide +kernel
theorem dX1_placed_115 : decode cX1_placed 115 = .ok (.getfield 1, 3) := by decide +kernel
theorem dX1_placed_118 : decode cX1_placed 118 = .ok (.iload_n 1, 1) := by decide +kernel
theorem dX1_placed_119 : decode cX1_placed 119 = .ok (.iconst 0, 1) := by decide +kernel
theorem dX1_placed_120 : decode cX1_placed 120 = .ok (.invokevirtual 28, 3) := by decide +kernel
theorem dX1_placed_123 : decode cX1_placed 123 = .ok (.istore 7, 2) := by decide +kernel
theorem dX1_placed_125 : decode cX1_placed 125 = .ok (.aload_n 0, 1) := by decide +kernel
theorem dX1_placed_126 : decode cX1_placed 126 = .ok (.aload_n 0, 1) := by decide +kernel
theorem dX1_placed_127 : decode cX1_placed 127 = .ok (.iload 7, 2) := by decide +kernel
theorem dX1_placed_129 : decode cX1_placed 129 = .ok (.invokevirtual 58, 3) := by decide +kernel
theorem dX1_placed_132 : decode cX1_placed 132 = .ok (.iload_n 2, 1) := by decide +kernel
theorem dX1_placed_133 : decode cX1_placed 133 = .ok (.iload_n 3, 1) := by decide +kernel
theorem dX1_placed_134 : decode cX1_placed 134 = .ok (.invokevirtual 284, 3) := by decide +kernel
theorem dX1_placed_137 : decode cX1_placed 137 = .ok (.istore 8, 2) := by decide +kernel
theorem dX1_placed_139 : decode cX1_placed 139 = .ok (.iload 5, 2) := by decide +kernel
theorem dX1_placed_141 : decode cX1_placed 141 = .ok (.ifCond .ne 5, 3) := by decide +kernel
theorem dX1_placed_144 : decode cX1_placed 144 = .ok (.iconst 0, 1) := by decide +kernel
theorem dX1_placed_145 : decode cX1_placed 145 = .ok (.ireturn, 1) := by decide +kernel
theorem dX1_placed_146 : decode cX1_placed 146 = .ok (.iconst 0, 1) := by decide +kernel
theorem dX1_placed_147 : decode cX1_placed 147 = .ok (.istore 9, 2) := by decide +kernel
theorem dX1_placed_149 : decode cX1_placed 149 = .ok (.iload 8, 2) := by decide +kernel
theorem dX1_placed_151 : decode cX1_placed 151 = .ok (.ifCond .eq 104, 3) := by decide +kernel
theorem dX1_placed_154 : decode cX1_placed 154 = .ok (.aload_n 0, 1) := by decide +kernel
theorem dX1_placed_155 : decode cX1_placed 155 = .ok (.getfield 1, 3) := by decide +kernel
theorem dX1_placed_158 : decode cX1_placed 158 = .ok (.iload 8, 2) := by decide +kernel
theorem dX1_placed_160 : decode cX1_placed 160 = .ok (.invokevirtual 17, 3) := by decide +kernel
theorem dX1_placed_163 : decode cX1_placed 163 = .ok (.iconst 1, 1) := by decide +kernel
theorem dX1_placed_164 : decode cX1_placed 164 = .ok (.istore 10, 2) := by decide +kernel
theorem dX1_placed_166 : decode cX1_placed 166 = .ok (.iload 10, 2) := by decide +kernel
theorem dX1_placed_168 : decode cX1_placed 168 = .ok (.aload_n 0, 1) := by decide +kernel
theorem dX1_placed_169 : decode cX1_placed 169 = .ok (.getfield 1, 3) := by decide +kernel
theorem dX1_placed_172 : decode cX1_placed 172 = .ok (.getfield 32, 3) := by decide +kernel
theorem dX1_placed_175 : decode cX1_placed 175 = .ok (.iload 7, 2) := by decide +kernel
theorem dX1_placed_177 : decode cX1_placed 177 = .ok (.iaload, 1) := by decide +kernel
theorem dX1_placed_178 : decode cX1_placed 178 = .ok (.if_icmp .ge 27, 3) := by decide +kernel
theorem dX1_placed_181 : decode cX1_placed 181 = .ok (.aload_n 0, 1) := by decide +kernel
theorem dX1_placed_182 : decode cX1_placed 182 = .ok (.getfield 1, 3) := by decide +kernel
theorem dX1_placed_185 : decode cX1_placed 185 = .ok (.aload_n 0, 1) := by decide +kernel
theorem dX1_placed_186 : decode cX1_placed 186 = .ok (.getfield 1, 3) := by decide +kernel
theorem dX1_placed_189 : decode cX1_placed 189 = .ok (.iload 7, 2) := by decide +kernel
theorem dX1_placed_191 : decode cX1_placed 191 = .ok (.iload 10, 2) := by decide +kernel
theorem dX1_placed_193 : decode cX1_placed 193 = .ok (.invokevirtual 28, 3) := by decide +kernel
theorem dX1_placed_196 : decode cX1_placed 196 = .ok (.invokevirtual 17, 3) := by decide +kernel
theorem dX1_placed_199 : decode cX1_placed 199 = .ok (.iinc 10 1, 3) := by decide +kernel
theorem dX1_placed_202 : decode cX1_placed 202 = .ok (.goto (-36), 3) := by decide +kernel
theorem dX1_placed_205 : decode cX1_placed 205 = .ok (.aload_n 0, 1) := by decide +kernel
theorem dX1_placed_206 : decode cX1_placed 206 = .ok (.getfield 1, 3) := by decide +kernel
theorem dX1_placed_209 : decode cX1_placed 209 = .ok (.bipush 8, 2) := by decide +kernel
theorem dX1_placed_211 : decode cX1_placed 211 = .ok (.aload_n 0, 1) := by decide +kernel
theorem dX1_placed_212 : decode cX1_placed 212 = .ok (.getfield 1, 3) := by decide +kernel
theorem dX1_placed_215 : decode cX1_placed 215 = .ok (.getfield 45, 3) := by decide +kernel
theorem dX1_placed_218 : decode cX1_placed 218 = .ok (.iload 7, 2) := by decide +kernel
theorem dX1_placed_220 : decode cX1_placed 220 = .ok (.iaload, 1) := by decide +kernel
theorem dX1_placed_221 : decode cX1_placed 221 = .ok (.iload 6, 2) := by decide +kernel
theorem dX1_placed_223 : decode cX1_placed 223 = .ok (.invokevirtual 320, 3) := by decide +kernel
theorem dX1_placed_226 : decode cX1_placed 226 = .ok (.istore 10, 2) := by decide +kernel
theorem dX1_placed_228 : decode cX1_placed 228 = .ok (.iload 10, 2) := by decide +kernel
theorem dX1_placed_230 : decode cX1_placed 230 = .ok (.ifCond .eq 25, 3) := by decide +kernel
theorem dX1_placed_233 : decode cX1_placed 233 = .ok (.aload_n 0, 1) := by decide +kernel
theorem dX1_placed_234 : decode cX1_placed 234 = .ok (.getfield 1, 3) := by decide +kernel
theorem dX1_placed_237 : decode cX1_placed 237 = .ok (.iload 10, 2) := by decide +kernel
theorem dX1_placed_239 : decode cX1_placed 239 = .ok (.invokevirtual 17, 3) := by decide +kernel
theorem dX1_placed_242 : decode cX1_placed 242 = .ok (.aload_n 0, 1) := by decide +kernel
theorem dX1_placed_243 : decode cX1_placed 243 = .ok (.getfield 1, 3) := by decide +kernel
theorem dX1_placed_246 : decode cX1_placed 246 = .ok (.iconst 5, 1) := by decide +kernel
theorem dX1_placed_247 : decode cX1_placed 247 = .ok (.iconst 0, 1) := by decide +kernel
theorem dX1_placed_248 : decode cX1_placed 248 = .ok (.iload 6, 2) := by decide +kernel
theorem dX1_placed_250 : decode cX1_placed 250 = .ok (.invokevirtual 320, 3) := by decide +kernel
theorem dX1_placed_253 : decode cX1_placed 253 = .ok (.istore 9, 2) := by decide +kernel
theorem dX1_placed_255 : decode cX1_placed 255 = .ok (.aload_n 0, 1) := by decide +kernel
theorem dX1_placed_256 : decode cX1_placed 256 = .ok (.iload 9, 2) := by decide +kernel
theorem dX1_placed_258 : decode cX1_placed 258 = .ok (.invokevirtual 323, 3) := by decide +kernel
theorem dX1_placed_261 : decode cX1_placed 261 = .ok (.ireturn, 1) := by decide +kernel
theorem dX1_placed_262 : decode cX1_placed 262 = .ok (.iload 4, 2) := by decide +kernel
theorem dX1_placed_264 : decode cX1_placed 264 = .ok (.bipush 8, 2) := by decide +kernel
theorem dX1_placed_266 : decode cX1_placed 266 = .ok (.if_icmp .ne 7, 3) := by decide +kernel
theorem dX1_placed_269 : decode cX1_placed 269 = .ok (.iconst 1, 1) := by decide +kernel
theorem dX1_placed_270 : decode cX1_placed 270 = .ok (.goto 12, 3) := by decide +kernel
theorem dX1_placed_273 : decode cX1_placed 273 = .ok (.aload_n 0, 1) := by decide +kernel
theorem dX1_placed_274 : decode cX1_placed 274 = .ok (.getfield 1, 3) := by decide +kernel
theorem dX1_placed_277 : decode cX1_placed 277 = .ok (.getfield 32, 3) := by decide +kernel
theorem dX1_placed_280 : decode cX1_placed 280 = .ok (.iload_n 1, 1) := by decide +kernel
theorem dX1_placed_281 : decode cX1_placed 281 = .ok (.iaload, 1) := by decide +kernel
theorem dX1_placed_282 : decode cX1_placed 282 = .ok (.istore 7, 2) := by decide +kernel
theorem dX1_placed_284 : decode cX1_placed 284 = .ok (.iconst 1, 1) := by decide +kernel
theorem dX1_placed_285 : decode cX1_placed 285 = .ok (.istore 8, 2) := by decide +kernel
theorem dX1_placed_287 : decode cX1_placed 287 = .ok (.iconst 0, 1) := by decide +kernel
theorem dX1_placed_288 : decode cX1_placed 288 = .ok (.istore 9, 2) := by decide +kernel
theorem dX1_placed_290 : decode cX1_placed 290 = .ok (.iload 9, 2) := by decide +kernel
theorem dX1_placed_292 : decode cX1_placed 292 = .ok (.iload 7, 2) := by decide +kernel
theorem dX1_placed_294 : decode cX1_placed 294 = .ok (.if_icmp .ge 76, 3) := by decide +kernel
theorem dX1_placed_297 : decode cX1_placed 297 = .ok (.aload_n 0, 1) := by decide +kernel
theorem dX1_placed_298 : decode cX1_placed 298 = .ok (.getfield 1, 3) := by decide +kernel
theorem dX1_placed_301 : decode cX1_placed 301 = .ok (.iload_n 1, 1) := by decide +kernel
theorem dX1_placed_302 : decode cX1_placed 302 = .ok (.iload 9, 2) := by decide +kernel
theorem dX1_placed_304 : decode cX1_placed 304 = .ok (.invokevirtual 28, 3) := by decide +kernel
theorem dX1_placed_307 : decode cX1_placed 307 = .ok (.istore 10, 2) := by decide +kernel
theorem dX1_placed_309 : decode cX1_placed 309 = .ok (.iload 10, 2) := by decide +kernel
theorem dX1_placed_311 : decode cX1_placed 311 = .ok (.ifCond .ne 7, 3) := by decide +kernel
theorem dX1_placed_314 : decode cX1_placed 314 = .ok (.iconst 0, 1) := by decide +kernel
theorem dX1_placed_315 : decode cX1_placed 315 = .ok (.goto 30, 3) := by decide +kernel
theorem dX1_placed_318 : decode cX1_placed 318 = .ok (.aload_n 0, 1) := by decide +kernel
theorem dX1_placed_319 : decode cX1_placed 319 = .ok (.iload 10, 2) := by decide +kernel
theorem dX1_placed_321 : decode cX1_placed 321 = .ok (.iload_n 2, 1) := by decide +kernel
theorem dX1_placed_322 : decode cX1_placed 322 = .ok (.iload 4, 2) := by decide +kernel
theorem dX1_placed_324 : decode cX1_placed 324 = .ok (.bipush 18, 2) := by decide +kernel
theorem dX1_placed_326 : decode cX1_placed 326 = .ok (.if_icmp .ne 15, 3) := by decide +kernel
theorem dX1_placed_329 : decode cX1_placed 329 = .ok (.iload 9, 2) := by decide +kernel
theorem dX1_placed_331 : decode cX1_placed 331 = .ok (.iconst 1, 1) := by decide +kernel
theorem dX1_placed_332 : decode cX1_placed 332 = .ok (.if_icmp .ne 9, 3) := by decide +kernel
theorem dX1_placed_335 : decode cX1_placed 335 = .ok (.iload_n 3, 1) := by decide +kernel
theorem dX1_placed_336 : decode cX1_placed 336 = .ok (.iconst 1, 1) := by decide +kernel
theorem dX1_placed_337 : decode cX1_placed 337 = .ok (.iadd, 1) := by decide +kernel
theorem dX1_placed_338 : decode cX1_placed 338 = .ok (.goto 4, 3) := by decide +kernel
theorem dX1_placed_341 : decode cX1_placed 341 = .ok (.iload_n 3, 1) := by decide +kernel
theorem dX1_placed_342 : decode cX1_placed 342 = .ok (.invokevirtual 284, 3) := by decide +kernel
theorem dX1_placed_345 : decode cX1_placed 345 = .ok (.istore 11, 2) := by decide +kernel
theorem dX1_placed_347 : decode cX1_placed 347 = .ok (.iload 11, 2) := by decide +kernel
theorem dX1_placed_349 : decode cX1_placed 349 = .ok (.ifCond .ne 6, 3) := by decide +kernel
theorem dX1_placed_352 : decode cX1_placed 352 = .ok (.iconst 0, 1) := by decide +kernel
theorem dX1_placed_353 : decode cX1_placed 353 = .ok (.istore 8, 2) := by decide +kernel
theorem dX1_placed_355 : decode cX1_placed 355 = .ok (.aload_n 0, 1) := by decide +kernel
theorem dX1_placed_356 : decode cX1_placed 356 = .ok (.getfield 1, 3) := by decide +kernel
theorem dX1_placed_359 : decode cX1_placed 359 = .ok (.iload 11, 2) := by decide +kernel
theorem dX1_placed_361 : decode cX1_placed 361 = .ok (.invokevirtual 17, 3) := by decide +kernel
theorem dX1_placed_364 : decode cX1_placed 364 = .ok (.iinc 9 1, 3) := by decide +kernel
theorem dX1_placed_367 : decode cX1_placed 367 = .ok (.goto (-77), 3) := by decide +kernel
theorem dX1_placed_370 : decode cX1_placed 370 = .ok (.iload 5, 2) := by decide +kernel
theorem dX1_placed_372 : decode cX1_placed 372 = .ok (.ifCond .eq 8, 3) := by decide +kernel
theorem dX1_placed_375 : decode cX1_placed 375 = .ok (.iload 8, 2) := by decide +kernel
theorem dX1_placed_377 : decode cX1_placed 377 = .ok (.ifCond .ne 27, 3) := by decide +kernel
theorem dX1_placed_380 : decode cX1_placed 380 = .ok (.aload_n 0, 1) := by decide +kernel
theorem dX1_placed_381 : decode cX1_placed 381 = .ok (.getfield 1, 3) := by decide +kernel
theorem dX1_placed_384 : decode cX1_placed 384 = .ok (.iload 6, 2) := by decide +kernel
theorem dX1_placed_386 : decode cX1_placed 386 = .ok (.putfield 7, 3) := by decide +kernel
theorem dX1_placed_389 : decode cX1_placed 389 = .ok (.iload 5, 2) := by decide +kernel
theorem dX1_placed_391 : decode cX1_placed 391 = .ok (.ifCond .eq 11, 3) := by decide +kernel
theorem dX1_placed_394 : decode cX1_placed 394 = .ok (.aload_n 0, 1) := by decide +kernel
theorem dX1_placed_395 : decode cX1_placed 395 = .ok (.iconst 0, 1) := by decide +kernel
theorem dX1_placed_396 : decode cX1_placed 396 = .ok (.invokevirtual 323, 3) := by decide +kernel
theorem dX1_placed_399 : decode cX1_placed 399 = .ok (.goto 4, 3) := by decide +kernel
theorem dX1_placed_402 : decode cX1_placed 402 = .ok (.iconst 0, 1) := by decide +kernel
theorem dX1_placed_403 : decode cX1_placed 403 = .ok (.ireturn, 1) := by decide +kernel
theorem dX1_placed_404 : decode cX1_placed 404 = .ok (.aload_n 0, 1) := by decide +kernel
theorem dX1_placed_405 : decode cX1_placed 405 = .ok (.aload_n 0, 1) := by decide +kernel
theorem dX1_placed_406 : decode cX1_placed 406 = .ok (.getfield 1, 3) := by decide +kernel
theorem dX1_placed_409 : decode cX1_placed 409 = .ok (.iload 4, 2) := by decide +kernel
theorem dX1_placed_411 : decode cX1_placed 411 = .ok (.aload_n 0, 1) := by decide +kernel
theorem dX1_placed_412 : decode cX1_placed 412 = .ok (.getfield 1, 3) := by decide +kernel
theorem dX1_placed_415 : decode cX1_placed 415 = .ok (.getfield 45, 3) := by decide +kernel
theorem dX1_placed_418 : decode cX1_placed 418 = .ok (.iload_n 1, 1) := by decide +kernel
theorem dX1_placed_419 : decode cX1_placed 419 = .ok (.iaload, 1) := by decide +kernel
theorem dX1_placed_420 : decode cX1_placed 420 = .ok (.iload 6, 2) := by decide +kernel
theorem dX1_placed_422 : decode cX1_placed 422 = .ok (.invokevirtual 320, 3) := by decide +kernel
theorem dX1_placed_425 : decode cX1_placed 425 = .ok (.invokevirtual 323, 3) := by decide +kernel
theorem dX1_placed_428 : decode cX1_placed 428 = .ok (.ireturn, 1) := by decide +kernel
abbrev cX1_isWithin : ByteArray := prog_1_method_45_code
def yX1_isWithin : MethodName := ⟨RX1, "isWithin", "(II)Z"⟩
theorem dX1_isWithin_0 : decode cX1_isWithin 0 = .ok (.aload_n 0, 1) := by decide +kernel
theorem dX1_isWithin_1 : decode cX1_isWithin 1 = .ok (.getfield 1, 3) := by decide +kernel
theorem dX1_isWithin_4 : decode cX1_isWithin 4 = .ok (.getfield 217, 3) := by decide +kernel
theorem dX1_isWithin_7 : decode cX1_isWithin 7 = .ok (.iload_n 1, 1) := by decide +kernel
theorem dX1_isWithin_8 : decode cX1_isWithin 8 = .ok (.iaload, 1) := by decide +kernel
theorem dX1_isWithin_9 : decode cX1_isWithin 9 = .ok (.ifCond .ne 5, 3) := by decide +kernel
theorem dX1_isWithin_12 : decode cX1_isWithin 12 = .ok (.iconst 0, 1) := by decide +kernel
theorem dX1_isWithin_13 : decode cX1_isWithin 13 = .ok (.ireturn, 1) := by decide +kernel
theorem dX1_isWithin_14 : decode cX1_isWithin 14 = .ok (.aload_n 0, 1) := by decide +kernel
theorem dX1_isWithin_15 : decode cX1_isWithin 15 = .ok (.getfield 1, 3) := by decide +kernel
theorem dX1_isWithin_18 : decode cX1_isWithin 18 = .ok (.getfield 39, 3) := by decide +kernel
theorem dX1_isWithin_21 : decode cX1_isWithin 21 = .ok (.iload_n 1, 1) := by decide +kernel
theorem dX1_isWithin_22 : decode cX1_isWithin 22 = .ok (.iaload, 1) := by decide +kernel
theorem dX1_isWithin_23 : decode cX1_isWithin 23 = .ok (.iconst 2, 1) := by decide +kernel
theorem dX1_isWithin_24 : decode cX1_isWithin 24 = .ok (.if_icmp .ne 22, 3) := by decide +kernel
theorem dX1_isWithin_27 : decode cX1_isWithin 27 = .ok (.aload_n 0, 1) := by decide +kernel
theorem dX1_isWithin_28 : decode cX1_isWithin 28 = .ok (.getfield 1, 3) := by decide +kernel
theorem dX1_isWithin_31 : decode cX1_isWithin 31 = .ok (.getfield 45, 3) := by decide +kernel
theorem dX1_isWithin_34 : decode cX1_isWithin 34 = .ok (.iload_n 1, 1) := by decide +kernel
theorem dX1_isWithin_35 : decode cX1_isWithin 35 = .ok (.iaload, 1) := by decide +kernel
theorem dX1_isWithin_36 : decode cX1_isWithin 36 = .ok (.iload_n 2, 1) := by decide +kernel
theorem dX1_isWithin_37 : decode cX1_isWithin 37 = .ok (.if_icmp .eq 7, 3) := by decide +kernel
theorem dX1_isWithin_40 : decode cX1_isWithin 40 = .ok (.iconst 1, 1) := by decide +kernel
theorem dX1_isWithin_41 : decode cX1_isWithin 41 = .ok (.goto 4, 3) := by decide +kernel
theorem dX1_isWithin_44 : decode cX1_isWithin 44 = .ok (.iconst 0, 1) := by decide +kernel
theorem dX1_isWithin_45 : decode cX1_isWithin 45 = .ok (.ireturn, 1) := by decide +kernel
theorem dX1_isWithin_46 : decode cX1_isWithin 46 = .ok (.aload_n 0, 1) := by decide +kernel
theorem dX1_isWithin_47 : decode cX1_isWithin 47 = .ok (.getfield 1, 3) := by decide +kernel
theorem dX1_isWithin_50 : decode cX1_isWithin 50 = .ok (.getfield 39, 3) := by decide +kernel
theorem dX1_isWithin_53 : decode cX1_isWithin 53 = .ok (.iload_n 1, 1) := by decide +kernel
theorem dX1_isWithin_54 : decode cX1_isWithin 54 = .ok (.iaload, 1) := by decide +kernel
theorem dX1_isWithin_55 : decode cX1_isWithin 55 = .ok (.bipush 8, 2) := by decide +kernel
theorem dX1_isWithin_57 : decode cX1_isWithin 57 = .ok (.if_icmp .ne 7, 3) := by decide +kernel
theorem dX1_isWithin_60 : decode cX1_isWithin 60 = .ok (.iconst 1, 1) := by decide +kernel
theorem dX1_isWithin_61 : decode cX1_isWithin 61 = .ok (.goto 12, 3) := by decide +kernel
theorem dX1_isWithin_64 : decode cX1_isWithin 64 = .ok (.aload_n 0, 1) := by decide +kernel
theorem dX1_isWithin_65 : decode cX1_isWithin 65 = .ok (.getfield 1, 3) := by decide +kernel
theorem dX1_isWithin_68 : decode cX1_isWithin 68 = .ok (.getfield 32, 3) := by decide +kernel
theorem dX1_isWithin_71 : decode cX1_isWithin 71 = .ok (.iload_n 1, 1) := by decide +kernel
theorem dX1_isWithin_72 : decode cX1_isWithin 72 = .ok (.iaload, 1) := by decide +kernel
theorem dX1_isWithin_73 : decode cX1_isWithin 73 = .ok (.istore_n 3, 1) := by decide +kernel
theorem dX1_isWithin_74 : decode cX1_isWithin 74 = .ok (.iconst 0, 1) := by decide +kernel
theorem dX1_isWithin_75 : decode cX1_isWithin 75 = .ok (.istore 4, 2) := by decide +kernel
theorem dX1_isWithin_77 : decode cX1_isWithin 77 = .ok (.iload 4, 2) := by decide +kernel
theorem dX1_isWithin_79 : decode cX1_isWithin 79 = .ok (.iload_n 3, 1) := by decide +kernel
theorem dX1_isWithin_80 : decode cX1_isWithin 80 = .ok (.if_icmp .ge 42, 3) := by decide +kernel
theorem dX1_isWithin_83 : decode cX1_isWithin 83 = .ok (.aload_n 0, 1) := by decide +kernel
theorem dX1_isWithin_84 : decode cX1_isWithin 84 = .ok (.getfield 1, 3) := by decide +kernel
theorem dX1_isWithin_87 : decode cX1_isWithin 87 = .ok (.iload_n 1, 1) := by decide +kernel
theorem dX1_isWithin_88 : decode cX1_isWithin 88 = .ok (.iload 4, 2) := by decide +kernel
theorem dX1_isWithin_90 : decode cX1_isWithin 90 = .ok (.invokevirtual 28, 3) := by decide +kernel
theorem dX1_isWithin_93 : decode cX1_isWithin 93 = .ok (.ifCond .eq 23, 3) := by decide +kernel
theorem dX1_isWithin_96 : decode cX1_isWithin 96 = .ok (.aload_n 0, 1) := by decide +kernel
theorem dX1_isWithin_97 : decode cX1_isWithin 97 = .ok (.aload_n 0, 1) := by decide +kernel
theorem dX1_isWithin_98 : decode cX1_isWithin 98 = .ok (.getfield 1, 3) := by decide +kernel
theorem dX1_isWithin_101 : decode cX1_isWithin 101 = .ok (.iload_n 1, 1) := by decide +kernel
theorem dX1_isWithin_102 : decode cX1_isWithin 102 = .ok (.iload 4, 2) := by decide +kernel
theorem dX1_isWithin_104 : decode cX1_isWithin 104 = .ok (.invokevirtual 28, 3) := by decide +kernel
theorem dX1_isWithin_107 : decode cX1_isWithin 107 = .ok (.iload_n 2, 1) := by decide +kernel
theorem dX1_isWithin_108 : decode cX1_isWithin 108 = .ok (.invokevirtual 317, 3) := by decide +kernel
theorem dX1_isWithin_111 : decode cX1_isWithin 111 = .ok (.ifCond .eq 5, 3) := by decide +kernel
theorem dX1_isWithin_114 : decode cX1_isWithin 114 = .ok (.iconst 1, 1) := by decide +kernel
theorem dX1_isWithin_115 : decode cX1_isWithin 115 = .ok (.ireturn, 1) := by decide +kernel
theorem dX1_isWithin_116 : decode cX1_isWithin 116 = .ok (.iinc 4 1, 3) := by decide +kernel
theorem dX1_isWithin_119 : decode cX1_isWithin 119 = .ok (.goto (-42), 3) := by decide +kernel
theorem dX1_isWithin_122 : decode cX1_isWithin 122 = .ok (.iconst 0, 1) := by decide +kernel
theorem dX1_isWithin_123 : decode cX1_isWithin 123 = .ok (.ireturn, 1) := by decide +kernel
abbrev cX1_counted : ByteArray := prog_1_method_44_code
def yX1_counted : MethodName := ⟨RX1, "counted", "(I)I"⟩
theorem dX1_counted_0 : decode cX1_counted 0 = .ok (.iload_n 1, 1) := by decide +kernel
theorem dX1_counted_1 : decode cX1_counted 1 = .ok (.ifCond .eq 19, 3) := by decide +kernel
theorem dX1_counted_4 : decode cX1_counted 4 = .ok (.aload_n 0, 1) := by decide +kernel
theorem dX1_counted_5 : decode cX1_counted 5 = .ok (.iload_n 1, 1) := by decide +kernel
theorem dX1_counted_6 : decode cX1_counted 6 = .ok (.invokevirtual 149, 3) := by decide +kernel
theorem dX1_counted_9 : decode cX1_counted 9 = .ok (.ifCond .eq 11, 3) := by decide +kernel
theorem dX1_counted_12 : decode cX1_counted 12 = .ok (.aload_n 0, 1) := by decide +kernel
theorem dX1_counted_13 : decode cX1_counted 13 = .ok (.iconst 1, 1) := by decide +kernel
theorem dX1_counted_14 : decode cX1_counted 14 = .ok (.putfield 278, 3) := by decide +kernel
theorem dX1_counted_17 : decode cX1_counted 17 = .ok (.goto 8, 3) := by decide +kernel
theorem dX1_counted_20 : decode cX1_counted 20 = .ok (.aload_n 0, 1) := by decide +kernel
theorem dX1_counted_21 : decode cX1_counted 21 = .ok (.iconst 1, 1) := by decide +kernel
theorem dX1_counted_22 : decode cX1_counted 22 = .ok (.putfield 281, 3) := by decide +kernel
theorem dX1_counted_25 : decode cX1_counted 25 = .ok (.iload_n 1, 1) := by decide +kernel
theorem dX1_counted_26 : decode cX1_counted 26 = .ok (.ireturn, 1) := by decide +kernel
abbrev cX1_oneLeft : ByteArray := prog_1_method_47_code
def yX1_oneLeft : MethodName := ⟨RX1, "oneLeft", "(I)V"⟩
theorem dX1_oneLeft_0 : decode cX1_oneLeft 0 = .ok (.iconst 0, 1) := by decide +kernel
theorem dX1_oneLeft_1 : decode cX1_oneLeft 1 = .ok (.istore_n 2, 1) := by decide +kernel
theorem dX1_oneLeft_2 : decode cX1_oneLeft 2 = .ok (.iconst 0, 1) := by decide +kernel
theorem dX1_oneLeft_3 : decode cX1_oneLeft 3 = .ok (.istore_n 3, 1) := by decide +kernel
theorem dX1_oneLeft_4 : decode cX1_oneLeft 4 = .ok (.iconst 0, 1) := by decide +kernel
theorem dX1_oneLeft_5 : decode cX1_oneLeft 5 = .ok (.istore 4, 2) := by decide +kernel
theorem dX1_oneLeft_7 : decode cX1_oneLeft 7 = .ok (.iload 4, 2) := by decide +kernel
theorem dX1_oneLeft_9 : decode cX1_oneLeft 9 = .ok (.aload_n 0, 1) := by decide +kernel
theorem dX1_oneLeft_10 : decode cX1_oneLeft 10 = .ok (.getfield 1, 3) := by decide +kernel
theorem dX1_oneLeft_13 : decode cX1_oneLeft 13 = .ok (.getfield 32, 3) := by decide +kernel
theorem dX1_oneLeft_16 : decode cX1_oneLeft 16 = .ok (.iload_n 1, 1) := by decide +kernel
theorem dX1_oneLeft_17 : decode cX1_oneLeft 17 = .ok (.iaload, 1) := by decide +kernel
theorem dX1_oneLeft_18 : decode cX1_oneLeft 18 = .ok (.if_icmp .ge 48, 3) := by decide +kernel
theorem dX1_oneLeft_21 : decode cX1_oneLeft 21 = .ok (.iload_n 3, 1) := by decide +kernel
theorem dX1_oneLeft_22 : decode cX1_oneLeft 22 = .ok (.iconst 2, 1) := by decide +kernel
theorem dX1_oneLeft_23 : decode cX1_oneLeft 23 = .ok (.if_icmp .ge 43, 3) := by decide +kernel
theorem dX1_oneLeft_26 : decode cX1_oneLeft 26 = .ok (.aload_n 0, 1) := by decide +kernel
theorem dX1_oneLeft_27 : decode cX1_oneLeft 27 = .ok (.aload_n 0, 1) := by decide +kernel
theorem dX1_oneLeft_28 : decode cX1_oneLeft 28 = .ok (.getfield 1, 3) := by decide +kernel
theorem dX1_oneLeft_31 : decode cX1_oneLeft 31 = .ok (.iload_n 1, 1) := by decide +kernel
theorem dX1_oneLeft_32 : decode cX1_oneLeft 32 = .ok (.iload 4, 2) := by decide +kernel
theorem dX1_oneLeft_34 : decode cX1_oneLeft 34 = .ok (.invokevirtual 28, 3) := by decide +kernel
theorem dX1_oneLeft_37 : decode cX1_oneLeft 37 = .ok (.invokevirtual 250, 3) := by decide +kernel
theorem dX1_oneLeft_40 : decode cX1_oneLeft 40 = .ok (.ifCond .eq 6, 3) := by decide +kernel
theorem dX1_oneLeft_43 : decode cX1_oneLeft 43 = .ok (.goto 17, 3) := by decide +kernel
theorem dX1_oneLeft_46 : decode cX1_oneLeft 46 = .ok (.aload_n 0, 1) := by decide +kernel
theorem dX1_oneLeft_47 : decode cX1_oneLeft 47 = .ok (.getfield 1, 3) := by decide +kernel
theorem dX1_oneLeft_50 : decode cX1_oneLeft 50 = .ok (.iload_n 1, 1) := by decide +kernel
theorem dX1_oneLeft_51 : decode cX1_oneLeft 51 = .ok (.iload 4, 2) := by decide +kernel
theorem dX1_oneLeft_53 : decode cX1_oneLeft 53 = .ok (.invokevirtual 28, 3) := by decide +kernel
theorem dX1_oneLeft_56 : decode cX1_oneLeft 56 = .ok (.istore_n 2, 1) := by decide +kernel
theorem dX1_oneLeft_57 : decode cX1_oneLeft 57 = .ok (.iinc 3 1, 3) := by decide +kernel
theorem dX1_oneLeft_60 : decode cX1_oneLeft 60 = .ok (.iinc 4 1, 3) := by decide +kernel
theorem dX1_oneLeft_63 : decode cX1_oneLeft 63 = .ok (.goto (-56), 3) := by decide +kernel
theorem dX1_oneLeft_66 : decode cX1_oneLeft 66 = .ok (.iload_n 3, 1) := by decide +kernel
theorem dX1_oneLeft_67 : decode cX1_oneLeft 67 = .ok (.iconst 1, 1) := by decide +kernel
theorem dX1_oneLeft_68 : decode cX1_oneLeft 68 = .ok (.if_icmp .ne 15, 3) := by decide +kernel
theorem dX1_oneLeft_71 : decode cX1_oneLeft 71 = .ok (.aload_n 0, 1) := by decide +kernel
theorem dX1_oneLeft_72 : decode cX1_oneLeft 72 = .ok (.aload_n 0, 1) := by decide +kernel
theorem dX1_oneLeft_73 : decode cX1_oneLeft 73 = .ok (.getfield 1, 3) := by decide +kernel
theorem dX1_oneLeft_76 : decode cX1_oneLeft 76 = .ok (.iload_n 2, 1) := by decide +kernel
theorem dX1_oneLeft_77 : decode cX1_oneLeft 77 = .ok (.invokevirtual 263, 3) := by decide +kernel
theorem dX1_oneLeft_80 : decode cX1_oneLeft 80 = .ok (.invokevirtual 269, 3) := by decide +kernel
theorem dX1_oneLeft_83 : decode cX1_oneLeft 83 = .ok (.return_, 1) := by decide +kernel
abbrev cX1_newConstant : ByteArray := prog_1_method_41_code
def yX1_newConstant : MethodName := ⟨RX1, "newConstant", "(I)V"⟩
theorem dX1_newConstant_0 : decode cX1_newConstant 0 = .ok (.aload_n 0, 1) := by decide +kernel
theorem dX1_newConstant_1 : decode cX1_newConstant 1 = .ok (.getfield 308, 3) := by decide +kernel
theorem dX1_newConstant_4 : decode cX1_newConstant 4 = .ok (.aload_n 0, 1) := by decide +kernel
theorem dX1_newConstant_5 : decode cX1_newConstant 5 = .ok (.getfield 311, 3) := by decide +kernel
theorem dX1_newConstant_8 : decode cX1_newConstant 8 = .ok (.arraylength, 1) := by decide +kernel
theorem dX1_newConstant_9 : decode cX1_newConstant 9 = .ok (.if_icmp .ne 20, 3) := by decide +kernel
theorem dX1_newConstant_12 : decode cX1_newConstant 12 = .ok (.aload_n 0, 1) := by decide +kernel
theorem dX1_newConstant_13 : decode cX1_newConstant 13 = .ok (.aload_n 0, 1) := by decide +kernel
theorem dX1_newConstant_14 : decode cX1_newConstant 14 = .ok (.getfield 311, 3) := by decide +kernel
theorem dX1_newConstant_17 : decode cX1_newConstant 17 = .ok (.iconst 2, 1) := by decide +kernel
theorem dX1_newConstant_18 : decode cX1_newConstant 18 = .ok (.aload_n 0, 1) := by decide +kernel
theorem dX1_newConstant_19 : decode cX1_newConstant 19 = .ok (.getfield 308, 3) := by decide +kernel
theorem dX1_newConstant_22 : decode cX1_newConstant 22 = .ok (.imul, 1) := by decide +kernel
theorem dX1_newConstant_23 : decode cX1_newConstant 23 = .ok (.invokestatic 112, 3) := by decide +kernel
theorem dX1_newConstant_26 : decode cX1_newConstant 26 = .ok (.putfield 311, 3) := by decide +kernel
theorem dX1_newConstant_29 : decode cX1_newConstant 29 = .ok (.aload_n 0, 1) := by decide +kernel
theorem dX1_newConstant_30 : decode cX1_newConstant 30 = .ok (.getfield 311, 3) := by decide +kernel
theorem dX1_newConstant_33 : decode cX1_newConstant 33 = .ok (.aload_n 0, 1) := by decide +kernel
theorem dX1_newConstant_34 : decode cX1_newConstant 34 = .ok (.getfield 308, 3) := by decide +kernel
theorem dX1_newConstant_37 : decode cX1_newConstant 37 = .ok (.iload_n 1, 1) := by decide +kernel
theorem dX1_newConstant_38 : decode cX1_newConstant 38 = .ok (.iastore, 1) := by decide +kernel
theorem dX1_newConstant_39 : decode cX1_newConstant 39 = .ok (.aload_n 0, 1) := by decide +kernel
theorem dX1_newConstant_40 : decode cX1_newConstant 40 = .ok (.dup, 1) := by decide +kernel
theorem dX1_newConstant_41 : decode cX1_newConstant 41 = .ok (.getfield 308, 3) := by decide +kernel
theorem dX1_newConstant_44 : decode cX1_newConstant 44 = .ok (.iconst 1, 1) := by decide +kernel
theorem dX1_newConstant_45 : decode cX1_newConstant 45 = .ok (.iadd, 1) := by decide +kernel
theorem dX1_newConstant_46 : decode cX1_newConstant 46 = .ok (.putfield 308, 3) := by decide +kernel
theorem dX1_newConstant_49 : decode cX1_newConstant 49 = .ok (.return_, 1) := by decide +kernel
abbrev cX1_forget : ByteArray := prog_1_method_55_code
def yX1_forget : MethodName := ⟨RX1, "forget", "(III)V"⟩
theorem dX1_forget_0 : decode cX1_forget 0 = .ok (.aload_n 0, 1) := by decide +kernel
theorem dX1_forget_1 : decode cX1_forget 1 = .ok (.getfield 1, 3) := by decide +kernel
theorem dX1_forget_4 : decode cX1_forget 4 = .ok (.iload_n 1, 1) := by decide +kernel
theorem dX1_forget_5 : decode cX1_forget 5 = .ok (.iload_n 2, 1) := by decide +kernel
theorem dX1_forget_6 : decode cX1_forget 6 = .ok (.invokevirtual 403, 3) := by decide +kernel
theorem dX1_forget_9 : decode cX1_forget 9 = .ok (.aload_n 0, 1) := by decide +kernel
theorem dX1_forget_10 : decode cX1_forget 10 = .ok (.iload_n 3, 1) := by decide +kernel
theorem dX1_forget_11 : decode cX1_forget 11 = .ok (.putfield 333, 3) := by decide +kernel
theorem dX1_forget_14 : decode cX1_forget 14 = .ok (.aload_n 0, 1) := by decide +kernel
theorem dX1_forget_15 : decode cX1_forget 15 = .ok (.dup, 1) := by decide +kernel
theorem dX1_forget_16 : decode cX1_forget 16 = .ok (.getfield 71, 3) := by decide +kernel
theorem dX1_forget_19 : decode cX1_forget 19 = .ok (.iconst 1, 1) := by decide +kernel
theorem dX1_forget_20 : decode cX1_forget 20 = .ok (.iadd, 1) := by decide +kernel
theorem dX1_forget_21 : decode cX1_forget 21 = .ok (.putfield 71, 3) := by decide +kernel
theorem dX1_forget_24 : decode cX1_forget 24 = .ok (.return_, 1) := by decide +kernel
abbrev cX1_fits : ByteArray := prog_1_method_91_code
def yX1_fits : MethodName := ⟨RX1, "fits", "(II)Z"⟩
theorem dX1_fits_0 : decode cX1_fits 0 = .ok (.aload_n 0, 1) := by decide +kernel
theorem dX1_fits_1 : decode cX1_fits 1 = .ok (.aload_n 0, 1) := by decide +kernel
theorem dX1_fits_2 : decode cX1_fits 2 = .ok (.iload_n 1, 1) := by decide +kernel
theorem dX1_fits_3 : decode cX1_fits 3 = .ok (.invokevirtual 466, 3) := by decide +kernel
theorem dX1_fits_6 : decode cX1_fits 6 = .ok (.invokevirtual 478, 3) := by decide +kernel
theorem dX1_fits_9 : decode cX1_fits 9 = .ok (.istore_n 3, 1) := by decide +kernel
theorem dX1_fits_10 : decode cX1_fits 10 = .ok (.aload_n 0, 1) := by decide +kernel
theorem dX1_fits_11 : decode cX1_fits 11 = .ok (.aload_n 0, 1) := by decide +kernel
theorem dX1_fits_12 : decode cX1_fits 12 = .ok (.iload_n 2, 1) := by decide +kernel
theorem dX1_fits_13 : decode cX1_fits 13 = .ok (.invokevirtual 455, 3) := by decide +kernel
theorem dX1_fits_16 : decode cX1_fits 16 = .ok (.invokevirtual 478, 3) := by decide +kernel
theorem dX1_fits_19 : decode cX1_fits 19 = .ok (.istore 4, 2) := by decide +kernel
theorem dX1_fits_21 : decode cX1_fits 21 = .ok (.aload_n 0, 1) := by decide +kernel
theorem dX1_fits_22 : decode cX1_fits 22 = .ok (.getfield 1, 3) := by decide +kernel
theorem dX1_fits_25 : decode cX1_fits 25 = .ok (.getfield 390, 3) := by decide +kernel
theorem dX1_fits_28 : decode cX1_fits 28 = .ok (.istore 5, 2) := by decide +kernel
theorem dX1_fits_30 : decode cX1_fits 30 = .ok (.aload_n 0, 1) := by decide +kernel
theorem dX1_fits_31 : decode cX1_fits 31 = .ok (.getfield 1, 3) := by decide +kernel
theorem dX1_fits_34 : decode cX1_fits 34 = .ok (.getfield 393, 3) := by decide +kernel
theorem dX1_fits_37 : decode cX1_fits 37 = .ok (.istore 6, 2) := by decide +kernel
theorem dX1_fits_39 : decode cX1_fits 39 = .ok (.aload_n 0, 1) := by decide +kernel
theorem dX1_fits_40 : decode cX1_fits 40 = .ok (.iload_n 3, 1) := by decide +kernel
theorem dX1_fits_41 : decode cX1_fits 41 = .ok (.iload 4, 2) := by decide +kernel
theorem dX1_fits_43 : decode cX1_fits 43 = .ok (.invokevirtual 92, 3) := by decide +kernel
theorem dX1_fits_46 : decode cX1_fits 46 = .ok (.istore 7, 2) := by decide +kernel
theorem dX1_fits_48 : decode cX1_fits 48 = .ok (.aload_n 0, 1) := by decide +kernel
theorem dX1_fits_49 : decode cX1_fits 49 = .ok (.iload 5, 2) := by decide +kernel
theorem dX1_fits_51 : decode cX1_fits 51 = .ok (.iload 6, 2) := by decide +kernel
theorem dX1_fits_53 : decode cX1_fits 53 = .ok (.aload_n 0, 1) := by decide +kernel
theorem dX1_fits_54 : decode cX1_fits 54 = .ok (.getfield 333, 3) := by decide +kernel
theorem dX1_fits_57 : decode cX1_fits 57 = .ok (.invokevirtual 399, 3) := by decide +kernel
theorem dX1_fits_60 : decode cX1_fits 60 = .ok (.iload 7, 2) := by decide +kernel
theorem dX1_fits_62 : decode cX1_fits 62 = .ok (.ireturn, 1) := by decide +kernel
abbrev cX1_fits0 : ByteArray := prog_1_method_14_code
def yX1_fits0 : MethodName := ⟨RX1, "fits0", "(II)Z"⟩
theorem dX1_fits0_0 : decode cX1_fits0 0 = .ok (.aload_n 0, 1) := by decide +kernel
theorem dX1_fits0_1 : decode cX1_fits0 1 = .ok (.aload_n 0, 1) := by decide +kernel
theorem dX1_fits0_2 : decode cX1_fits0 2 = .ok (.iload_n 1, 1) := by decide +kernel
theorem dX1_fits0_3 : decode cX1_fits0 3 = .ok (.invokevirtual 74, 3) := by decide +kernel
theorem dX1_fits0_6 : decode cX1_fits0 6 = .ok (.aload_n 0, 1) := by decide +kernel
theorem dX1_fits0_7 : decode cX1_fits0 7 = .ok (.getfield 1, 3) := by decide +kernel
theorem dX1_fits0_10 : decode cX1_fits0 10 = .ok (.getfield 45, 3) := by decide +kernel
theorem dX1_fits0_13 : decode cX1_fits0 13 = .ok (.iload_n 2, 1) := by decide +kernel
theorem dX1_fits0_14 : decode cX1_fits0 14 = .ok (.iaload, 1) := by decide +kernel
theorem dX1_fits0_15 : decode cX1_fits0 15 = .ok (.aload_n 0, 1) := by decide +kernel
theorem dX1_fits0_16 : decode cX1_fits0 16 = .ok (.iload_n 2, 1) := by decide +kernel
theorem dX1_fits0_17 : decode cX1_fits0 17 = .ok (.invokevirtual 58, 3) := by decide +kernel
theorem dX1_fits0_20 : decode cX1_fits0 20 = .ok (.invokevirtual 118, 3) := by decide +kernel
theorem dX1_fits0_23 : decode cX1_fits0 23 = .ok (.ifCond .eq 28, 3) := by decide +kernel
theorem dX1_fits0_26 : decode cX1_fits0 26 = .ok (.aload_n 0, 1) := by decide +kernel
theorem dX1_fits0_27 : decode cX1_fits0 27 = .ok (.iload_n 2, 1) := by decide +kernel
theorem dX1_fits0_28 : decode cX1_fits0 28 = .ok (.invokevirtual 122, 3) := by decide +kernel
theorem dX1_fits0_31 : decode cX1_fits0 31 = .ok (.ifCond .eq 16, 3) := by decide +kernel
theorem dX1_fits0_34 : decode cX1_fits0 34 = .ok (.aload_n 0, 1) := by decide +kernel
theorem dX1_fits0_35 : decode cX1_fits0 35 = .ok (.iload_n 2, 1) := by decide +kernel
theorem dX1_fits0_36 : decode cX1_fits0 36 = .ok (.aload_n 0, 1) := by decide +kernel
theorem dX1_fits0_37 : decode cX1_fits0 37 = .ok (.iload_n 1, 1) := by decide +kernel
theorem dX1_fits0_38 : decode cX1_fits0 38 = .ok (.invokevirtual 125, 3) := by decide +kernel
theorem dX1_fits0_41 : decode cX1_fits0 41 = .ok (.invokevirtual 128, 3) := by decide +kernel
theorem dX1_fits0_44 : decode cX1_fits0 44 = .ok (.ifCond .eq 7, 3) := by decide +kernel
theorem dX1_fits0_47 : decode cX1_fits0 47 = .ok (.iconst 1, 1) := by decide +kernel
theorem dX1_fits0_48 : decode cX1_fits0 48 = .ok (.goto 4, 3) := by decide +kernel
theorem dX1_fits0_51 : decode cX1_fits0 51 = .ok (.iconst 0, 1) := by decide +kernel
theorem dX1_fits0_52 : decode cX1_fits0 52 = .ok (.ireturn, 1) := by decide +kernel
abbrev cX1_hasMode : ByteArray := prog_1_method_9_code
def yX1_hasMode : MethodName := ⟨RX1, "hasMode", "(III)Z"⟩
theorem dX1_hasMode_0 : decode cX1_hasMode 0 = .ok (.iload_n 1, 1) := by decide +kernel
theorem dX1_hasMode_1 : decode cX1_hasMode 1 = .ok (.istore 4, 2) := by decide +kernel
theorem dX1_hasMode_3 : decode cX1_hasMode 3 = .ok (.iload 4, 2) := by decide +kernel
theorem dX1_hasMode_5 : decode cX1_hasMode 5 = .ok (.ifCond .eq 40, 3) := by decide +kernel
theorem dX1_hasMode_8 : decode cX1_hasMode 8 = .ok (.aload_n 0, 1) := by decide +kernel
theorem dX1_hasMode_9 : decode cX1_hasMode 9 = .ok (.getfield 1, 3) := by decide +kernel
theorem dX1_hasMode_12 : decode cX1_hasMode 12 = .ok (.getfield 45, 3) := by decide +kernel
theorem dX1_hasMode_15 : decode cX1_hasMode 15 = .ok (.iload 4, 2) := by decide +kernel
theorem dX1_hasMode_17 : decode cX1_hasMode 17 = .ok (.iaload, 1) := by decide +kernel
theorem dX1_hasMode_18 : decode cX1_hasMode 18 = .ok (.iload_n 2, 1) := by decide +kernel
theorem dX1_hasMode_19 : decode cX1_hasMode 19 = .ok (.if_icmp .ne 15, 3) := by decide +kernel
theorem dX1_hasMode_22 : decode cX1_hasMode 22 = .ok (.aload_n 0, 1) := by decide +kernel
theorem dX1_hasMode_23 : decode cX1_hasMode 23 = .ok (.iload 4, 2) := by decide +kernel
theorem dX1_hasMode_25 : decode cX1_hasMode 25 = .ok (.invokevirtual 58, 3) := by decide +kernel
theorem dX1_hasMode_28 : decode cX1_hasMode 28 = .ok (.iload_n 3, 1) := by decide +kernel
theorem dX1_hasMode_29 : decode cX1_hasMode 29 = .ok (.if_icmp .ne 5, 3) := by decide +kernel
theorem dX1_hasMode_32 : decode cX1_hasMode 32 = .ok (.iconst 1, 1) := by decide +kernel
theorem dX1_hasMode_33 : decode cX1_hasMode 33 = .ok (.ireturn, 1) := by decide +kernel
theorem dX1_hasMode_34 : decode cX1_hasMode 34 = .ok (.aload_n 0, 1) := by decide +kernel
theorem dX1_hasMode_35 : decode cX1_hasMode 35 = .ok (.iload 4, 2) := by decide +kernel
theorem dX1_hasMode_37 : decode cX1_hasMode 37 = .ok (.invokevirtual 62, 3) := by decide +kernel
theorem dX1_hasMode_40 : decode cX1_hasMode 40 = .ok (.istore 4, 2) := by decide +kernel
theorem dX1_hasMode_42 : decode cX1_hasMode 42 = .ok (.goto (-39), 3) := by decide +kernel
theorem dX1_hasMode_45 : decode cX1_hasMode 45 = .ok (.iconst 0, 1) := by decide +kernel
theorem dX1_hasMode_46 : decode cX1_hasMode 46 = .ok (.ireturn, 1) := by decide +kernel
abbrev cX1_adjectivesOf : ByteArray := prog_1_method_4_code
def yX1_adjectivesOf : MethodName := ⟨RX1, "adjectivesOf", "(I)I"⟩
theorem dX1_adjectivesOf_0 : decode cX1_adjectivesOf 0 = .ok (.aload_n 0, 1) := by decide +kernel
theorem dX1_adjectivesOf_1 : decode cX1_adjectivesOf 1 = .ok (.getfield 1, 3) := by decide +kernel
theorem dX1_adjectivesOf_4 : decode cX1_adjectivesOf 4 = .ok (.getfield 32, 3) := by decide +kernel
theorem dX1_adjectivesOf_7 : decode cX1_adjectivesOf 7 = .ok (.iload_n 1, 1) := by decide +kernel
theorem dX1_adjectivesOf_8 : decode cX1_adjectivesOf 8 = .ok (.iaload, 1) := by decide +kernel
theorem dX1_adjectivesOf_9 : decode cX1_adjectivesOf 9 = .ok (.iconst 1, 1) := by decide +kernel
theorem dX1_adjectivesOf_10 : decode cX1_adjectivesOf 10 = .ok (.isub, 1) := by decide +kernel
theorem dX1_adjectivesOf_11 : decode cX1_adjectivesOf 11 = .ok (.ireturn, 1) := by decide +kernel
abbrev cX1_adjectivesOf0 : ByteArray := prog_1_method_12_code
def yX1_adjectivesOf0 : MethodName := ⟨RX1, "adjectivesOf0", "(I)I"⟩
theorem dX1_adjectivesOf0_0 : decode cX1_adjectivesOf0 0 = .ok (.iload_n 1, 1) := by decide +kernel
theorem dX1_adjectivesOf0_1 : decode cX1_adjectivesOf0 1 = .ok (.aload_n 0, 1) := by decide +kernel
theorem dX1_adjectivesOf0_2 : decode cX1_adjectivesOf0 2 = .ok (.getfield 65, 3) := by decide +kernel
theorem dX1_adjectivesOf0_5 : decode cX1_adjectivesOf0 5 = .ok (.arraylength, 1) := by decide +kernel
theorem dX1_adjectivesOf0_6 : decode cX1_adjectivesOf0 6 = .ok (.if_icmp .ge 23, 3) := by decide +kernel
theorem dX1_adjectivesOf0_9 : decode cX1_adjectivesOf0 9 = .ok (.aload_n 0, 1) := by decide +kernel
theorem dX1_adjectivesOf0_10 : decode cX1_adjectivesOf0 10 = .ok (.getfield 68, 3) := by decide +kernel
theorem dX1_adjectivesOf0_13 : decode cX1_adjectivesOf0 13 = .ok (.iload_n 1, 1) := by decide +kernel
theorem dX1_adjectivesOf0_14 : decode cX1_adjectivesOf0 14 = .ok (.iaload, 1) := by decide +kernel
theorem dX1_adjectivesOf0_15 : decode cX1_adjectivesOf0 15 = .ok (.aload_n 0, 1) := by decide +kernel
theorem dX1_adjectivesOf0_16 : decode cX1_adjectivesOf0 16 = .ok (.getfield 71, 3) := by decide +kernel
theorem dX1_adjectivesOf0_19 : decode cX1_adjectivesOf0 19 = .ok (.if_icmp .ne 10, 3) := by decide +kernel
theorem dX1_adjectivesOf0_22 : decode cX1_adjectivesOf0 22 = .ok (.aload_n 0, 1) := by decide +kernel
theorem dX1_adjectivesOf0_23 : decode cX1_adjectivesOf0 23 = .ok (.getfield 65, 3) := by decide +kernel
theorem dX1_adjectivesOf0_26 : decode cX1_adjectivesOf0 26 = .ok (.iload_n 1, 1) := by decide +kernel
theorem dX1_adjectivesOf0_27 : decode cX1_adjectivesOf0 27 = .ok (.iaload, 1) := by decide +kernel
theorem dX1_adjectivesOf0_28 : decode cX1_adjectivesOf0 28 = .ok (.ireturn, 1) := by decide +kernel
theorem dX1_adjectivesOf0_29 : decode cX1_adjectivesOf0 29 = .ok (.aload_n 0, 1) := by decide +kernel
theorem dX1_adjectivesOf0_30 : decode cX1_adjectivesOf0 30 = .ok (.getfield 1, 3) := by decide +kernel
theorem dX1_adjectivesOf0_33 : decode cX1_adjectivesOf0 33 = .ok (.getfield 7, 3) := by decide +kernel
theorem dX1_adjectivesOf0_36 : decode cX1_adjectivesOf0 36 = .ok (.istore_n 2, 1) := by decide +kernel
theorem dX1_adjectivesOf0_37 : decode cX1_adjectivesOf0 37 = .ok (.aload_n 0, 1) := by decide +kernel
theorem dX1_adjectivesOf0_38 : decode cX1_adjectivesOf0 38 = .ok (.iload_n 1, 1) := by decide +kernel
theorem dX1_adjectivesOf0_39 : decode cX1_adjectivesOf0 39 = .ok (.invokevirtual 74, 3) := by decide +kernel
theorem dX1_adjectivesOf0_42 : decode cX1_adjectivesOf0 42 = .ok (.istore_n 3, 1) := by decide +kernel
theorem dX1_adjectivesOf0_43 : decode cX1_adjectivesOf0 43 = .ok (.iload_n 3, 1) := by decide +kernel
theorem dX1_adjectivesOf0_44 : decode cX1_adjectivesOf0 44 = .ok (.istore 4, 2) := by decide +kernel
theorem dX1_adjectivesOf0_46 : decode cX1_adjectivesOf0 46 = .ok (.iload 4, 2) := by decide +kernel
theorem dX1_adjectivesOf0_48 : decode cX1_adjectivesOf0 48 = .ok (.ifCond .eq 55, 3) := by decide +kernel
theorem dX1_adjectivesOf0_51 : decode cX1_adjectivesOf0 51 = .ok (.iconst 1, 1) := by decide +kernel
theorem dX1_adjectivesOf0_52 : decode cX1_adjectivesOf0 52 = .ok (.istore 5, 2) := by decide +kernel
theorem dX1_adjectivesOf0_54 : decode cX1_adjectivesOf0 54 = .ok (.iload 5, 2) := by decide +kernel
theorem dX1_adjectivesOf0_56 : decode cX1_adjectivesOf0 56 = .ok (.aload_n 0, 1) := by decide +kernel
theorem dX1_adjectivesOf0_57 : decode cX1_adjectivesOf0 57 = .ok (.getfield 1, 3) := by decide +kernel
theorem dX1_adjectivesOf0_60 : decode cX1_adjectivesOf0 60 = .ok (.getfield 32, 3) := by decide +kernel
theorem dX1_adjectivesOf0_63 : decode cX1_adjectivesOf0 63 = .ok (.iload 4, 2) := by decide +kernel
theorem dX1_adjectivesOf0_65 : decode cX1_adjectivesOf0 65 = .ok (.iaload, 1) := by decide +kernel
theorem dX1_adjectivesOf0_66 : decode cX1_adjectivesOf0 66 = .ok (.if_icmp .ge 26, 3) := by decide +kernel
theorem dX1_adjectivesOf0_69 : decode cX1_adjectivesOf0 69 = .ok (.aload_n 0, 1) := by decide +kernel
theorem dX1_adjectivesOf0_70 : decode cX1_adjectivesOf0 70 = .ok (.iload_n 2, 1) := by decide +kernel
theorem dX1_adjectivesOf0_71 : decode cX1_adjectivesOf0 71 = .ok (.aload_n 0, 1) := by decide +kernel
theorem dX1_adjectivesOf0_72 : decode cX1_adjectivesOf0 72 = .ok (.getfield 1, 3) := by decide +kernel
theorem dX1_adjectivesOf0_75 : decode cX1_adjectivesOf0 75 = .ok (.iload 4, 2) := by decide +kernel
theorem dX1_adjectivesOf0_77 : decode cX1_adjectivesOf0 77 = .ok (.iload 5, 2) := by decide +kernel
theorem dX1_adjectivesOf0_79 : decode cX1_adjectivesOf0 79 = .ok (.invokevirtual 28, 3) := by decide +kernel
theorem dX1_adjectivesOf0_82 : decode cX1_adjectivesOf0 82 = .ok (.invokevirtual 77, 3) := by decide +kernel
theorem dX1_adjectivesOf0_85 : decode cX1_adjectivesOf0 85 = .ok (.pop, 1) := by decide +kernel
theorem dX1_adjectivesOf0_86 : decode cX1_adjectivesOf0 86 = .ok (.iinc 5 1, 3) := by decide +kernel
theorem dX1_adjectivesOf0_89 : decode cX1_adjectivesOf0 89 = .ok (.goto (-35), 3) := by decide +kernel
theorem dX1_adjectivesOf0_92 : decode cX1_adjectivesOf0 92 = .ok (.aload_n 0, 1) := by decide +kernel
theorem dX1_adjectivesOf0_93 : decode cX1_adjectivesOf0 93 = .ok (.iload 4, 2) := by decide +kernel
theorem dX1_adjectivesOf0_95 : decode cX1_adjectivesOf0 95 = .ok (.invokevirtual 62, 3) := by decide +kernel
theorem dX1_adjectivesOf0_98 : decode cX1_adjectivesOf0 98 = .ok (.istore 4, 2) := by decide +kernel
theorem dX1_adjectivesOf0_100 : decode cX1_adjectivesOf0 100 = .ok (.goto (-54), 3) := by decide +kernel
theorem dX1_adjectivesOf0_103 : decode cX1_adjectivesOf0 103 = .ok (.aload_n 0, 1) := by decide +kernel
theorem dX1_adjectivesOf0_104 : decode cX1_adjectivesOf0 104 = .ok (.getfield 1, 3) := by decide +kernel
theorem dX1_adjectivesOf0_107 : decode cX1_adjectivesOf0 107 = .ok (.getfield 39, 3) := by decide +kernel
theorem dX1_adjectivesOf0_110 : decode cX1_adjectivesOf0 110 = .ok (.iload_n 1, 1) := by decide +kernel
theorem dX1_adjectivesOf0_111 : decode cX1_adjectivesOf0 111 = .ok (.iaload, 1) := by decide +kernel
theorem dX1_adjectivesOf0_112 : decode cX1_adjectivesOf0 112 = .ok (.iconst 4, 1) := by decide +kernel
theorem dX1_adjectivesOf0_113 : decode cX1_adjectivesOf0 113 = .ok (.if_icmp .ne 245, 3) := by decide +kernel
theorem dX1_adjectivesOf0_116 : decode cX1_adjectivesOf0 116 = .ok (.aload_n 0, 1) := by decide +kernel
theorem dX1_adjectivesOf0_117 : decode cX1_adjectivesOf0 117 = .ok (.getfield 1, 3) := by decide +kernel
theorem dX1_adjectivesOf0_120 : decode cX1_adjectivesOf0 120 = .ok (.getfield 32, 3) := by decide +kernel
theorem dX1_adjectivesOf0_123 : decode cX1_adjectivesOf0 123 = .ok (.iload_n 1, 1) := by decide +kernel
theorem dX1_adjectivesOf0_124 : decode cX1_adjectivesOf0 124 = .ok (.iaload, 1) := by decide +kernel
theorem dX1_adjectivesOf0_125 : decode cX1_adjectivesOf0 125 = .ok (.istore 4, 2) := by decide +kernel
theorem dX1_adjectivesOf0_127 : decode cX1_adjectivesOf0 127 = .ok (.iconst 0, 1) := by decide +kernel
theorem dX1_adjectivesOf0_128 : decode cX1_adjectivesOf0 128 = .ok (.istore 5, 2) := by decide +kernel
theorem dX1_adjectivesOf0_130 : decode cX1_adjectivesOf0 130 = .ok (.iload 5, 2) := by decide +kernel
theorem dX1_adjectivesOf0_132 : decode cX1_adjectivesOf0 132 = .ok (.aload_n 0, 1) := by decide +kernel
theorem dX1_adjectivesOf0_133 : decode cX1_adjectivesOf0 133 = .ok (.getfield 80, 3) := by decide +kernel
theorem dX1_adjectivesOf0_136 : decode cX1_adjectivesOf0 136 = .ok (.if_icmp .ge 222, 3) := by decide +kernel
theorem dX1_adjectivesOf0_139 : decode cX1_adjectivesOf0 139 = .ok (.aload_n 0, 1) := by decide +kernel
theorem dX1_adjectivesOf0_140 : decode cX1_adjectivesOf0 140 = .ok (.getfield 83, 3) := by decide +kernel
theorem dX1_adjectivesOf0_143 : decode cX1_adjectivesOf0 143 = .ok (.iload 5, 2) := by decide +kernel
theorem dX1_adjectivesOf0_145 : decode cX1_adjectivesOf0 145 = .ok (.iaload, 1) := by decide +kernel
theorem dX1_adjectivesOf0_146 : decode cX1_adjectivesOf0 146 = .ok (.iconst 1, 1) := by decide +kernel
theorem dX1_adjectivesOf0_147 : decode cX1_adjectivesOf0 147 = .ok (.if_icmp .ne 205, 3) := by decide +kernel
theorem dX1_adjectivesOf0_150 : decode cX1_adjectivesOf0 150 = .ok (.aload_n 0, 1) := by decide +kernel
theorem dX1_adjectivesOf0_151 : decode cX1_adjectivesOf0 151 = .ok (.getfield 86, 3) := by decide +kernel
theorem dX1_adjectivesOf0_154 : decode cX1_adjectivesOf0 154 = .ok (.iload 5, 2) := by decide +kernel
theorem dX1_adjectivesOf0_156 : decode cX1_adjectivesOf0 156 = .ok (.iaload, 1) := by decide +kernel
theorem dX1_adjectivesOf0_157 : decode cX1_adjectivesOf0 157 = .ok (.aload_n 0, 1) := by decide +kernel
theorem dX1_adjectivesOf0_158 : decode cX1_adjectivesOf0 158 = .ok (.getfield 1, 3) := by decide +kernel
theorem dX1_adjectivesOf0_161 : decode cX1_adjectivesOf0 161 = .ok (.getfield 45, 3) := by decide +kernel
theorem dX1_adjectivesOf0_164 : decode cX1_adjectivesOf0 164 = .ok (.iload_n 1, 1) := by decide +kernel
theorem dX1_adjectivesOf0_165 : decode cX1_adjectivesOf0 165 = .ok (.iaload, 1) := by decide +kernel
theorem dX1_adjectivesOf0_166 : decode cX1_adjectivesOf0 166 = .ok (.if_icmp .eq 6, 3) := by decide +kernel
theorem dX1_adjectivesOf0_169 : decode cX1_adjectivesOf0 169 = .ok (.goto 183, 3) := by decide +kernel
theorem dX1_adjectivesOf0_172 : decode cX1_adjectivesOf0 172 = .ok (.iload 4, 2) := by decide +kernel
theorem dX1_adjectivesOf0_174 : decode cX1_adjectivesOf0 174 = .ok (.ifCond .le 15, 3) := by decide +kernel
theorem dX1_adjectivesOf0_177 : decode cX1_adjectivesOf0 177 = .ok (.aload_n 0, 1) := by decide +kernel
theorem dX1_adjectivesOf0_178 : decode cX1_adjectivesOf0 178 = .ok (.getfield 1, 3) := by decide +kernel
theorem dX1_adjectivesOf0_181 : decode cX1_adjectivesOf0 181 = .ok (.iload_n 1, 1) := by decide +kernel
theorem dX1_adjectivesOf0_182 : decode cX1_adjectivesOf0 182 = .ok (.iconst 0, 1) := by decide +kernel
theorem dX1_adjectivesOf0_183 : decode cX1_adjectivesOf0 183 = .ok (.invokevirtual 28, 3) := by decide +kernel
theorem dX1_adjectivesOf0_186 : decode cX1_adjectivesOf0 186 = .ok (.goto 4, 3) := by decide +kernel
theorem dX1_adjectivesOf0_189 : decode cX1_adjectivesOf0 189 = .ok (.iconst 0, 1) := by decide +kernel
theorem dX1_adjectivesOf0_190 : decode cX1_adjectivesOf0 190 = .ok (.istore 6, 2) := by decide +kernel
theorem dX1_adjectivesOf0_192 : decode cX1_adjectivesOf0 192 = .ok (.iload 4, 2) := by decide +kernel
theorem dX1_adjectivesOf0_194 : decode cX1_adjectivesOf0 194 = .ok (.iconst 1, 1) := by decide +kernel
theorem dX1_adjectivesOf0_195 : decode cX1_adjectivesOf0 195 = .ok (.if_icmp .le 15, 3) := by decide +kernel
theorem dX1_adjectivesOf0_198 : decode cX1_adjectivesOf0 198 = .ok (.aload_n 0, 1) := by decide +kernel
theorem dX1_adjectivesOf0_199 : decode cX1_adjectivesOf0 199 = .ok (.getfield 1, 3) := by decide +kernel
theorem dX1_adjectivesOf0_202 : decode cX1_adjectivesOf0 202 = .ok (.iload_n 1, 1) := by decide +kernel
theorem dX1_adjectivesOf0_203 : decode cX1_adjectivesOf0 203 = .ok (.iconst 1, 1) := by decide +kernel
theorem dX1_adjectivesOf0_204 : decode cX1_adjectivesOf0 204 = .ok (.invokevirtual 28, 3) := by decide +kernel
theorem dX1_adjectivesOf0_207 : decode cX1_adjectivesOf0 207 = .ok (.goto 4, 3) := by decide +kernel
theorem dX1_adjectivesOf0_210 : decode cX1_adjectivesOf0 210 = .ok (.iconst 0, 1) := by decide +kernel
theorem dX1_adjectivesOf0_211 : decode cX1_adjectivesOf0 211 = .ok (.istore 7, 2) := by decide +kernel
theorem dX1_adjectivesOf0_213 : decode cX1_adjectivesOf0 213 = .ok (.aload_n 0, 1) := by decide +kernel
theorem dX1_adjectivesOf0_214 : decode cX1_adjectivesOf0 214 = .ok (.getfield 89, 3) := by decide +kernel
theorem dX1_adjectivesOf0_217 : decode cX1_adjectivesOf0 217 = .ok (.iload 5, 2) := by decide +kernel
theorem dX1_adjectivesOf0_219 : decode cX1_adjectivesOf0 219 = .ok (.iaload, 1) := by decide +kernel
theorem dX1_adjectivesOf0_220 : decode cX1_adjectivesOf0 220 = .ok (.ifCond .eq 31, 3) := by decide +kernel
theorem dX1_adjectivesOf0_223 : decode cX1_adjectivesOf0 223 = .ok (.aload_n 0, 1) := by decide +kernel
theorem dX1_adjectivesOf0_224 : decode cX1_adjectivesOf0 224 = .ok (.iload 6, 2) := by decide +kernel
theorem dX1_adjectivesOf0_226 : decode cX1_adjectivesOf0 226 = .ok (.aload_n 0, 1) := by decide +kernel
theorem dX1_adjectivesOf0_227 : decode cX1_adjectivesOf0 227 = .ok (.getfield 1, 3) := by decide +kernel
theorem dX1_adjectivesOf0_230 : decode cX1_adjectivesOf0 230 = .ok (.aload_n 0, 1) := by decide +kernel
theorem dX1_adjectivesOf0_231 : decode cX1_adjectivesOf0 231 = .ok (.getfield 89, 3) := by decide +kernel
theorem dX1_adjectivesOf0_234 : decode cX1_adjectivesOf0 234 = .ok (.iload 5, 2) := by decide +kernel
theorem dX1_adjectivesOf0_236 : decode cX1_adjectivesOf0 236 = .ok (.iaload, 1) := by decide +kernel
theorem dX1_adjectivesOf0_237 : decode cX1_adjectivesOf0 237 = .ok (.iload 6, 2) := by decide +kernel
theorem dX1_adjectivesOf0_239 : decode cX1_adjectivesOf0 239 = .ok (.iload 7, 2) := by decide +kernel
theorem dX1_adjectivesOf0_241 : decode cX1_adjectivesOf0 241 = .ok (.iconst 0, 1) := by decide +kernel
theorem dX1_adjectivesOf0_242 : decode cX1_adjectivesOf0 242 = .ok (.invokevirtual 51, 3) := by decide +kernel
theorem dX1_adjectivesOf0_245 : decode cX1_adjectivesOf0 245 = .ok (.invokevirtual 92, 3) := by decide +kernel
theorem dX1_adjectivesOf0_248 : decode cX1_adjectivesOf0 248 = .ok (.ifCond .eq 45, 3) := by decide +kernel
theorem dX1_adjectivesOf0_251 : decode cX1_adjectivesOf0 251 = .ok (.aload_n 0, 1) := by decide +kernel
theorem dX1_adjectivesOf0_252 : decode cX1_adjectivesOf0 252 = .ok (.getfield 95, 3) := by decide +kernel
theorem dX1_adjectivesOf0_255 : decode cX1_adjectivesOf0 255 = .ok (.iload 5, 2) := by decide +kernel
theorem dX1_adjectivesOf0_257 : decode cX1_adjectivesOf0 257 = .ok (.iaload, 1) := by decide +kernel
theorem dX1_adjectivesOf0_258 : decode cX1_adjectivesOf0 258 = .ok (.ifCond .eq 31, 3) := by decide +kernel
theorem dX1_adjectivesOf0_261 : decode cX1_adjectivesOf0 261 = .ok (.aload_n 0, 1) := by decide +kernel
theorem dX1_adjectivesOf0_262 : decode cX1_adjectivesOf0 262 = .ok (.iload 7, 2) := by decide +kernel
theorem dX1_adjectivesOf0_264 : decode cX1_adjectivesOf0 264 = .ok (.aload_n 0, 1) := by decide +kernel
theorem dX1_adjectivesOf0_265 : decode cX1_adjectivesOf0 265 = .ok (.getfield 1, 3) := by decide +kernel
theorem dX1_adjectivesOf0_268 : decode cX1_adjectivesOf0 268 = .ok (.aload_n 0, 1) := by decide +kernel
theorem dX1_adjectivesOf0_269 : decode cX1_adjectivesOf0 269 = .ok (.getfield 95, 3) := by decide +kernel
theorem dX1_adjectivesOf0_272 : decode cX1_adjectivesOf0 272 = .ok (.iload 5, 2) := by decide +kernel
theorem dX1_adjectivesOf0_274 : decode cX1_adjectivesOf0 274 = .ok (.iaload, 1) := by decide +kernel
theorem dX1_adjectivesOf0_275 : decode cX1_adjectivesOf0 275 = .ok (.iload 6, 2) := by decide +kernel
theorem dX1_adjectivesOf0_277 : decode cX1_adjectivesOf0 277 = .ok (.iload 7, 2) := by decide +kernel
theorem dX1_adjectivesOf0_279 : decode cX1_adjectivesOf0 279 = .ok (.iconst 0, 1) := by decide +kernel
theorem dX1_adjectivesOf0_280 : decode cX1_adjectivesOf0 280 = .ok (.invokevirtual 51, 3) := by decide +kernel
theorem dX1_adjectivesOf0_283 : decode cX1_adjectivesOf0 283 = .ok (.invokevirtual 92, 3) := by decide +kernel
theorem dX1_adjectivesOf0_286 : decode cX1_adjectivesOf0 286 = .ok (.ifCond .eq 7, 3) := by decide +kernel
theorem dX1_adjectivesOf0_289 : decode cX1_adjectivesOf0 289 = .ok (.iconst 1, 1) := by decide +kernel
theorem dX1_adjectivesOf0_290 : decode cX1_adjectivesOf0 290 = .ok (.goto 4, 3) := by decide +kernel
theorem dX1_adjectivesOf0_293 : decode cX1_adjectivesOf0 293 = .ok (.iconst 0, 1) := by decide +kernel
theorem dX1_adjectivesOf0_294 : decode cX1_adjectivesOf0 294 = .ok (.istore 8, 2) := by decide +kernel
theorem dX1_adjectivesOf0_296 : decode cX1_adjectivesOf0 296 = .ok (.iconst 1, 1) := by decide +kernel
theorem dX1_adjectivesOf0_297 : decode cX1_adjectivesOf0 297 = .ok (.istore 9, 2) := by decide +kernel
theorem dX1_adjectivesOf0_299 : decode cX1_adjectivesOf0 299 = .ok (.iload 8, 2) := by decide +kernel
theorem dX1_adjectivesOf0_301 : decode cX1_adjectivesOf0 301 = .ok (.ifCond .eq 51, 3) := by decide +kernel
theorem dX1_adjectivesOf0_304 : decode cX1_adjectivesOf0 304 = .ok (.iload 9, 2) := by decide +kernel
theorem dX1_adjectivesOf0_306 : decode cX1_adjectivesOf0 306 = .ok (.aload_n 0, 1) := by decide +kernel
theorem dX1_adjectivesOf0_307 : decode cX1_adjectivesOf0 307 = .ok (.getfield 1, 3) := by decide +kernel
theorem dX1_adjectivesOf0_310 : decode cX1_adjectivesOf0 310 = .ok (.getfield 32, 3) := by decide +kernel
theorem dX1_adjectivesOf0_313 : decode cX1_adjectivesOf0 313 = .ok (.aload_n 0, 1) := by decide +kernel
theorem dX1_adjectivesOf0_314 : decode cX1_adjectivesOf0 314 = .ok (.getfield 98, 3) := by decide +kernel
theorem dX1_adjectivesOf0_317 : decode cX1_adjectivesOf0 317 = .ok (.iload 5, 2) := by decide +kernel
theorem dX1_adjectivesOf0_319 : decode cX1_adjectivesOf0 319 = .ok (.iaload, 1) := by decide +kernel
theorem dX1_adjectivesOf0_320 : decode cX1_adjectivesOf0 320 = .ok (.iaload, 1) := by decide +kernel
theorem dX1_adjectivesOf0_321 : decode cX1_adjectivesOf0 321 = .ok (.if_icmp .ge 31, 3) := by decide +kernel
theorem dX1_adjectivesOf0_324 : decode cX1_adjectivesOf0 324 = .ok (.aload_n 0, 1) := by decide +kernel
theorem dX1_adjectivesOf0_325 : decode cX1_adjectivesOf0 325 = .ok (.iload_n 2, 1) := by decide +kernel
theorem dX1_adjectivesOf0_326 : decode cX1_adjectivesOf0 326 = .ok (.aload_n 0, 1) := by decide +kernel
theorem dX1_adjectivesOf0_327 : decode cX1_adjectivesOf0 327 = .ok (.getfield 1, 3) := by decide +kernel
theorem dX1_adjectivesOf0_330 : decode cX1_adjectivesOf0 330 = .ok (.aload_n 0, 1) := by decide +kernel
theorem dX1_adjectivesOf0_331 : decode cX1_adjectivesOf0 331 = .ok (.getfield 98, 3) := by decide +kernel
theorem dX1_adjectivesOf0_334 : decode cX1_adjectivesOf0 334 = .ok (.iload 5, 2) := by decide +kernel
theorem dX1_adjectivesOf0_336 : decode cX1_adjectivesOf0 336 = .ok (.iaload, 1) := by decide +kernel
theorem dX1_adjectivesOf0_337 : decode cX1_adjectivesOf0 337 = .ok (.iload 9, 2) := by decide +kernel
theorem dX1_adjectivesOf0_339 : decode cX1_adjectivesOf0 339 = .ok (.invokevirtual 28, 3) := by decide +kernel
theorem dX1_adjectivesOf0_342 : decode cX1_adjectivesOf0 342 = .ok (.invokevirtual 77, 3) := by decide +kernel
theorem dX1_adjectivesOf0_345 : decode cX1_adjectivesOf0 345 = .ok (.pop, 1) := by decide +kernel
theorem dX1_adjectivesOf0_346 : decode cX1_adjectivesOf0 346 = .ok (.iinc 9 1, 3) := by decide +kernel
theorem dX1_adjectivesOf0_349 : decode cX1_adjectivesOf0 349 = .ok (.goto (-50), 3) := by decide +kernel
theorem dX1_adjectivesOf0_352 : decode cX1_adjectivesOf0 352 = .ok (.iinc 5 1, 3) := by decide +kernel
theorem dX1_adjectivesOf0_355 : decode cX1_adjectivesOf0 355 = .ok (.goto (-225), 3) := by decide +kernel
theorem dX1_adjectivesOf0_358 : decode cX1_adjectivesOf0 358 = .ok (.iconst 1, 1) := by decide +kernel
theorem dX1_adjectivesOf0_359 : decode cX1_adjectivesOf0 359 = .ok (.istore 4, 2) := by decide +kernel
theorem dX1_adjectivesOf0_361 : decode cX1_adjectivesOf0 361 = .ok (.iload 4, 2) := by decide +kernel
theorem dX1_adjectivesOf0_363 : decode cX1_adjectivesOf0 363 = .ok (.ifCond .eq 183, 3) := by decide +kernel
theorem dX1_adjectivesOf0_366 : decode cX1_adjectivesOf0 366 = .ok (.iconst 0, 1) := by decide +kernel
theorem dX1_adjectivesOf0_367 : decode cX1_adjectivesOf0 367 = .ok (.istore 4, 2) := by decide +kernel
theorem dX1_adjectivesOf0_369 : decode cX1_adjectivesOf0 369 = .ok (.iconst 0, 1) := by decide +kernel
theorem dX1_adjectivesOf0_370 : decode cX1_adjectivesOf0 370 = .ok (.istore 5, 2) := by decide +kernel
theorem dX1_adjectivesOf0_372 : decode cX1_adjectivesOf0 372 = .ok (.iload 5, 2) := by decide +kernel
theorem dX1_adjectivesOf0_374 : decode cX1_adjectivesOf0 374 = .ok (.aload_n 0, 1) := by decide +kernel
theorem dX1_adjectivesOf0_375 : decode cX1_adjectivesOf0 375 = .ok (.getfield 80, 3) := by decide +kernel
theorem dX1_adjectivesOf0_378 : decode cX1_adjectivesOf0 378 = .ok (.if_icmp .ge 165, 3) := by decide +kernel
theorem dX1_adjectivesOf0_381 : decode cX1_adjectivesOf0 381 = .ok (.aload_n 0, 1) := by decide +kernel
theorem dX1_adjectivesOf0_382 : decode cX1_adjectivesOf0 382 = .ok (.getfield 83, 3) := by decide +kernel
theorem dX1_adjectivesOf0_385 : decode cX1_adjectivesOf0 385 = .ok (.iload 5, 2) := by decide +kernel
theorem dX1_adjectivesOf0_387 : decode cX1_adjectivesOf0 387 = .ok (.iaload, 1) := by decide +kernel
theorem dX1_adjectivesOf0_388 : decode cX1_adjectivesOf0 388 = .ok (.ifCond .eq 6, 3) := by decide +kernel
theorem dX1_adjectivesOf0_391 : decode cX1_adjectivesOf0 391 = .ok (.goto 146, 3) := by decide +kernel
theorem dX1_adjectivesOf0_394 : decode cX1_adjectivesOf0 394 = .ok (.iconst 1, 1) := by decide +kernel
theorem dX1_adjectivesOf0_395 : decode cX1_adjectivesOf0 395 = .ok (.istore 6, 2) := by decide +kernel
theorem dX1_adjectivesOf0_397 : decode cX1_adjectivesOf0 397 = .ok (.iconst 1, 1) := by decide +kernel
theorem dX1_adjectivesOf0_398 : decode cX1_adjectivesOf0 398 = .ok (.istore 7, 2) := by decide +kernel
theorem dX1_adjectivesOf0_400 : decode cX1_adjectivesOf0 400 = .ok (.iload 7, 2) := by decide +kernel
theorem dX1_adjectivesOf0_402 : decode cX1_adjectivesOf0 402 = .ok (.aload_n 0, 1) := by decide +kernel
theorem dX1_adjectivesOf0_403 : decode cX1_adjectivesOf0 403 = .ok (.getfield 1, 3) := by decide +kernel
theorem dX1_adjectivesOf0_406 : decode cX1_adjectivesOf0 406 = .ok (.getfield 32, 3) := by decide +kernel
theorem dX1_adjectivesOf0_409 : decode cX1_adjectivesOf0 409 = .ok (.aload_n 0, 1) := by decide +kernel
theorem dX1_adjectivesOf0_410 : decode cX1_adjectivesOf0 410 = .ok (.getfield 86, 3) := by decide +kernel
theorem dX1_adjectivesOf0_413 : decode cX1_adjectivesOf0 413 = .ok (.iload 5, 2) := by decide +kernel
theorem dX1_adjectivesOf0_415 : decode cX1_adjectivesOf0 415 = .ok (.iaload, 1) := by decide +kernel
theorem dX1_adjectivesOf0_416 : decode cX1_adjectivesOf0 416 = .ok (.iaload, 1) := by decide +kernel
theorem dX1_adjectivesOf0_417 : decode cX1_adjectivesOf0 417 = .ok (.if_icmp .ge 37, 3) := by decide +kernel
theorem dX1_adjectivesOf0_420 : decode cX1_adjectivesOf0 420 = .ok (.iload 6, 2) := by decide +kernel
theorem dX1_adjectivesOf0_422 : decode cX1_adjectivesOf0 422 = .ok (.ifCond .eq 32, 3) := by decide +kernel
theorem dX1_adjectivesOf0_425 : decode cX1_adjectivesOf0 425 = .ok (.aload_n 0, 1) := by decide +kernel
theorem dX1_adjectivesOf0_426 : decode cX1_adjectivesOf0 426 = .ok (.iload_n 2, 1) := by decide +kernel
theorem dX1_adjectivesOf0_427 : decode cX1_adjectivesOf0 427 = .ok (.aload_n 0, 1) := by decide +kernel
theorem dX1_adjectivesOf0_428 : decode cX1_adjectivesOf0 428 = .ok (.getfield 1, 3) := by decide +kernel
theorem dX1_adjectivesOf0_431 : decode cX1_adjectivesOf0 431 = .ok (.aload_n 0, 1) := by decide +kernel
theorem dX1_adjectivesOf0_432 : decode cX1_adjectivesOf0 432 = .ok (.getfield 86, 3) := by decide +kernel
theorem dX1_adjectivesOf0_435 : decode cX1_adjectivesOf0 435 = .ok (.iload 5, 2) := by decide +kernel
theorem dX1_adjectivesOf0_437 : decode cX1_adjectivesOf0 437 = .ok (.iaload, 1) := by decide +kernel
theorem dX1_adjectivesOf0_438 : decode cX1_adjectivesOf0 438 = .ok (.iload 7, 2) := by decide +kernel
theorem dX1_adjectivesOf0_440 : decode cX1_adjectivesOf0 440 = .ok (.invokevirtual 28, 3) := by decide +kernel
theorem dX1_adjectivesOf0_443 : decode cX1_adjectivesOf0 443 = .ok (.invokevirtual 101, 3) := by decide +kernel
theorem dX1_adjectivesOf0_446 : decode cX1_adjectivesOf0 446 = .ok (.istore 6, 2) := by decide +kernel
theorem dX1_adjectivesOf0_448 : decode cX1_adjectivesOf0 448 = .ok (.iinc 7 1, 3) := by decide +kernel
theorem dX1_adjectivesOf0_451 : decode cX1_adjectivesOf0 451 = .ok (.goto (-51), 3) := by decide +kernel
theorem dX1_adjectivesOf0_454 : decode cX1_adjectivesOf0 454 = .ok (.iload 6, 2) := by decide +kernel
theorem dX1_adjectivesOf0_456 : decode cX1_adjectivesOf0 456 = .ok (.ifCond .eq 17, 3) := by decide +kernel
theorem dX1_adjectivesOf0_459 : decode cX1_adjectivesOf0 459 = .ok (.aload_n 0, 1) := by decide +kernel
theorem dX1_adjectivesOf0_460 : decode cX1_adjectivesOf0 460 = .ok (.iload_n 3, 1) := by decide +kernel
theorem dX1_adjectivesOf0_461 : decode cX1_adjectivesOf0 461 = .ok (.iload 5, 2) := by decide +kernel
theorem dX1_adjectivesOf0_463 : decode cX1_adjectivesOf0 463 = .ok (.invokevirtual 104, 3) := by decide +kernel
theorem dX1_adjectivesOf0_466 : decode cX1_adjectivesOf0 466 = .ok (.ifCond .eq 7, 3) := by decide +kernel
theorem dX1_adjectivesOf0_469 : decode cX1_adjectivesOf0 469 = .ok (.iconst 1, 1) := by decide +kernel
theorem dX1_adjectivesOf0_470 : decode cX1_adjectivesOf0 470 = .ok (.goto 4, 3) := by decide +kernel
theorem dX1_adjectivesOf0_473 : decode cX1_adjectivesOf0 473 = .ok (.iconst 0, 1) := by decide +kernel
theorem dX1_adjectivesOf0_474 : decode cX1_adjectivesOf0 474 = .ok (.istore 6, 2) := by decide +kernel
theorem dX1_adjectivesOf0_476 : decode cX1_adjectivesOf0 476 = .ok (.iconst 1, 1) := by decide +kernel
theorem dX1_adjectivesOf0_477 : decode cX1_adjectivesOf0 477 = .ok (.istore 7, 2) := by decide +kernel
theorem dX1_adjectivesOf0_479 : decode cX1_adjectivesOf0 479 = .ok (.iload 6, 2) := by decide +kernel
theorem dX1_adjectivesOf0_481 : decode cX1_adjectivesOf0 481 = .ok (.ifCond .eq 56, 3) := by decide +kernel
theorem dX1_adjectivesOf0_484 : decode cX1_adjectivesOf0 484 = .ok (.iload 7, 2) := by decide +kernel
theorem dX1_adjectivesOf0_486 : decode cX1_adjectivesOf0 486 = .ok (.aload_n 0, 1) := by decide +kernel
theorem dX1_adjectivesOf0_487 : decode cX1_adjectivesOf0 487 = .ok (.getfield 1, 3) := by decide +kernel
theorem dX1_adjectivesOf0_490 : decode cX1_adjectivesOf0 490 = .ok (.getfield 32, 3) := by decide +kernel
theorem dX1_adjectivesOf0_493 : decode cX1_adjectivesOf0 493 = .ok (.aload_n 0, 1) := by decide +kernel
theorem dX1_adjectivesOf0_494 : decode cX1_adjectivesOf0 494 = .ok (.getfield 98, 3) := by decide +kernel
theorem dX1_adjectivesOf0_497 : decode cX1_adjectivesOf0 497 = .ok (.iload 5, 2) := by decide +kernel
theorem dX1_adjectivesOf0_499 : decode cX1_adjectivesOf0 499 = .ok (.iaload, 1) := by decide +kernel
theorem dX1_adjectivesOf0_500 : decode cX1_adjectivesOf0 500 = .ok (.iaload, 1) := by decide +kernel
theorem dX1_adjectivesOf0_501 : decode cX1_adjectivesOf0 501 = .ok (.if_icmp .ge 36, 3) := by decide +kernel
theorem dX1_adjectivesOf0_504 : decode cX1_adjectivesOf0 504 = .ok (.aload_n 0, 1) := by decide +kernel
theorem dX1_adjectivesOf0_505 : decode cX1_adjectivesOf0 505 = .ok (.iload_n 2, 1) := by decide +kernel
theorem dX1_adjectivesOf0_506 : decode cX1_adjectivesOf0 506 = .ok (.aload_n 0, 1) := by decide +kernel
theorem dX1_adjectivesOf0_507 : decode cX1_adjectivesOf0 507 = .ok (.getfield 1, 3) := by decide +kernel
theorem dX1_adjectivesOf0_510 : decode cX1_adjectivesOf0 510 = .ok (.aload_n 0, 1) := by decide +kernel
theorem dX1_adjectivesOf0_511 : decode cX1_adjectivesOf0 511 = .ok (.getfield 98, 3) := by decide +kernel
theorem dX1_adjectivesOf0_514 : decode cX1_adjectivesOf0 514 = .ok (.iload 5, 2) := by decide +kernel
theorem dX1_adjectivesOf0_516 : decode cX1_adjectivesOf0 516 = .ok (.iaload, 1) := by decide +kernel
theorem dX1_adjectivesOf0_517 : decode cX1_adjectivesOf0 517 = .ok (.iload 7, 2) := by decide +kernel
theorem dX1_adjectivesOf0_519 : decode cX1_adjectivesOf0 519 = .ok (.invokevirtual 28, 3) := by decide +kernel
theorem dX1_adjectivesOf0_522 : decode cX1_adjectivesOf0 522 = .ok (.invokevirtual 77, 3) := by decide +kernel
theorem dX1_adjectivesOf0_525 : decode cX1_adjectivesOf0 525 = .ok (.ifCond .eq 6, 3) := by decide +kernel
theorem dX1_adjectivesOf0_528 : decode cX1_adjectivesOf0 528 = .ok (.iconst 1, 1) := by decide +kernel
theorem dX1_adjectivesOf0_529 : decode cX1_adjectivesOf0 529 = .ok (.istore 4, 2) := by decide +kernel
theorem dX1_adjectivesOf0_531 : decode cX1_adjectivesOf0 531 = .ok (.iinc 7 1, 3) := by decide +kernel
theorem dX1_adjectivesOf0_534 : decode cX1_adjectivesOf0 534 = .ok (.goto (-55), 3) := by decide +kernel
theorem dX1_adjectivesOf0_537 : decode cX1_adjectivesOf0 537 = .ok (.iinc 5 1, 3) := by decide +kernel
theorem dX1_adjectivesOf0_540 : decode cX1_adjectivesOf0 540 = .ok (.goto (-168), 3) := by decide +kernel
theorem dX1_adjectivesOf0_543 : decode cX1_adjectivesOf0 543 = .ok (.goto (-182), 3) := by decide +kernel
theorem dX1_adjectivesOf0_546 : decode cX1_adjectivesOf0 546 = .ok (.aload_n 0, 1) := by decide +kernel
theorem dX1_adjectivesOf0_547 : decode cX1_adjectivesOf0 547 = .ok (.iconst 0, 1) := by decide +kernel
theorem dX1_adjectivesOf0_548 : decode cX1_adjectivesOf0 548 = .ok (.iconst 0, 1) := by decide +kernel
theorem dX1_adjectivesOf0_549 : decode cX1_adjectivesOf0 549 = .ok (.iload_n 2, 1) := by decide +kernel
theorem dX1_adjectivesOf0_550 : decode cX1_adjectivesOf0 550 = .ok (.invokevirtual 25, 3) := by decide +kernel
theorem dX1_adjectivesOf0_553 : decode cX1_adjectivesOf0 553 = .ok (.istore 5, 2) := by decide +kernel
theorem dX1_adjectivesOf0_555 : decode cX1_adjectivesOf0 555 = .ok (.iload_n 1, 1) := by decide +kernel
theorem dX1_adjectivesOf0_556 : decode cX1_adjectivesOf0 556 = .ok (.aload_n 0, 1) := by decide +kernel
theorem dX1_adjectivesOf0_557 : decode cX1_adjectivesOf0 557 = .ok (.getfield 65, 3) := by decide +kernel
theorem dX1_adjectivesOf0_560 : decode cX1_adjectivesOf0 560 = .ok (.arraylength, 1) := by decide +kernel
theorem dX1_adjectivesOf0_561 : decode cX1_adjectivesOf0 561 = .ok (.if_icmp .lt 50, 3) := by decide +kernel
theorem dX1_adjectivesOf0_564 : decode cX1_adjectivesOf0 564 = .ok (.iload_n 1, 1) := by decide +kernel
theorem dX1_adjectivesOf0_565 : decode cX1_adjectivesOf0 565 = .ok (.iconst 1, 1) := by decide +kernel
theorem dX1_adjectivesOf0_566 : decode cX1_adjectivesOf0 566 = .ok (.iadd, 1) := by decide +kernel
theorem dX1_adjectivesOf0_567 : decode cX1_adjectivesOf0 567 = .ok (.aload_n 0, 1) := by decide +kernel
theorem dX1_adjectivesOf0_568 : decode cX1_adjectivesOf0 568 = .ok (.getfield 65, 3) := by decide +kernel
theorem dX1_adjectivesOf0_571 : decode cX1_adjectivesOf0 571 = .ok (.arraylength, 1) := by decide +kernel
theorem dX1_adjectivesOf0_572 : decode cX1_adjectivesOf0 572 = .ok (.aload_n 0, 1) := by decide +kernel
theorem dX1_adjectivesOf0_573 : decode cX1_adjectivesOf0 573 = .ok (.getfield 65, 3) := by decide +kernel
theorem dX1_adjectivesOf0_576 : decode cX1_adjectivesOf0 576 = .ok (.arraylength, 1) := by decide +kernel
theorem dX1_adjectivesOf0_577 : decode cX1_adjectivesOf0 577 = .ok (.iconst 2, 1) := by decide +kernel
theorem dX1_adjectivesOf0_578 : decode cX1_adjectivesOf0 578 = .ok (.idiv, 1) := by decide +kernel
theorem dX1_adjectivesOf0_579 : decode cX1_adjectivesOf0 579 = .ok (.iadd, 1) := by decide +kernel
theorem dX1_adjectivesOf0_580 : decode cX1_adjectivesOf0 580 = .ok (.invokestatic 107, 3) := by decide +kernel
theorem dX1_adjectivesOf0_583 : decode cX1_adjectivesOf0 583 = .ok (.istore 6, 2) := by decide +kernel
theorem dX1_adjectivesOf0_585 : decode cX1_adjectivesOf0 585 = .ok (.aload_n 0, 1) := by decide +kernel
theorem dX1_adjectivesOf0_586 : decode cX1_adjectivesOf0 586 = .ok (.aload_n 0, 1) := by decide +kernel
theorem dX1_adjectivesOf0_587 : decode cX1_adjectivesOf0 587 = .ok (.getfield 65, 3) := by decide +kernel
theorem dX1_adjectivesOf0_590 : decode cX1_adjectivesOf0 590 = .ok (.iload 6, 2) := by decide +kernel
theorem dX1_adjectivesOf0_592 : decode cX1_adjectivesOf0 592 = .ok (.invokestatic 112, 3) := by decide +kernel
theorem dX1_adjectivesOf0_595 : decode cX1_adjectivesOf0 595 = .ok (.putfield 65, 3) := by decide +kernel
theorem dX1_adjectivesOf0_598 : decode cX1_adjectivesOf0 598 = .ok (.aload_n 0, 1) := by decide +kernel
theorem dX1_adjectivesOf0_599 : decode cX1_adjectivesOf0 599 = .ok (.aload_n 0, 1) := by decide +kernel
theorem dX1_adjectivesOf0_600 : decode cX1_adjectivesOf0 600 = .ok (.getfield 68, 3) := by decide +kernel
theorem dX1_adjectivesOf0_603 : decode cX1_adjectivesOf0 603 = .ok (.iload 6, 2) := by decide +kernel
theorem dX1_adjectivesOf0_605 : decode cX1_adjectivesOf0 605 = .ok (.invokestatic 112, 3) := by decide +kernel
theorem dX1_adjectivesOf0_608 : decode cX1_adjectivesOf0 608 = .ok (.putfield 68, 3) := by decide +kernel
theorem dX1_adjectivesOf0_611 : decode cX1_adjectivesOf0 611 = .ok (.aload_n 0, 1) := by decide +kernel
theorem dX1_adjectivesOf0_612 : decode cX1_adjectivesOf0 612 = .ok (.getfield 65, 3) := by decide +kernel
theorem dX1_adjectivesOf0_615 : decode cX1_adjectivesOf0 615 = .ok (.iload_n 1, 1) := by decide +kernel
theorem dX1_adjectivesOf0_616 : decode cX1_adjectivesOf0 616 = .ok (.iload 5, 2) := by decide +kernel
theorem dX1_adjectivesOf0_618 : decode cX1_adjectivesOf0 618 = .ok (.iastore, 1) := by decide +kernel
theorem dX1_adjectivesOf0_619 : decode cX1_adjectivesOf0 619 = .ok (.aload_n 0, 1) := by decide +kernel
theorem dX1_adjectivesOf0_620 : decode cX1_adjectivesOf0 620 = .ok (.getfield 68, 3) := by decide +kernel
theorem dX1_adjectivesOf0_623 : decode cX1_adjectivesOf0 623 = .ok (.iload_n 1, 1) := by decide +kernel
theorem dX1_adjectivesOf0_624 : decode cX1_adjectivesOf0 624 = .ok (.aload_n 0, 1) := by decide +kernel
theorem dX1_adjectivesOf0_625 : decode cX1_adjectivesOf0 625 = .ok (.getfield 71, 3) := by decide +kernel
theorem dX1_adjectivesOf0_628 : decode cX1_adjectivesOf0 628 = .ok (.iastore, 1) := by decide +kernel
theorem dX1_adjectivesOf0_629 : decode cX1_adjectivesOf0 629 = .ok (.iload 5, 2) := by decide +kernel
theorem dX1_adjectivesOf0_631 : decode cX1_adjectivesOf0 631 = .ok (.ireturn, 1) := by decide +kernel
abbrev cX1_addAdjective : ByteArray := prog_1_method_10_code
def yX1_addAdjective : MethodName := ⟨RX1, "addAdjective", "(II)Z"⟩
theorem dX1_addAdjective_0 : decode cX1_addAdjective 0 = .ok (.iload_n 1, 1) := by decide +kernel
theorem dX1_addAdjective_1 : decode cX1_addAdjective 1 = .ok (.istore_n 3, 1) := by decide +kernel
theorem dX1_addAdjective_2 : decode cX1_addAdjective 2 = .ok (.iload_n 3, 1) := by decide +kernel
theorem dX1_addAdjective_3 : decode cX1_addAdjective 3 = .ok (.aload_n 0, 1) := by decide +kernel
theorem dX1_addAdjective_4 : decode cX1_addAdjective 4 = .ok (.getfield 1, 3) := by decide +kernel
theorem dX1_addAdjective_7 : decode cX1_addAdjective 7 = .ok (.getfield 7, 3) := by decide +kernel
theorem dX1_addAdjective_10 : decode cX1_addAdjective 10 = .ok (.if_icmp .ge 24, 3) := by decide +kernel
theorem dX1_addAdjective_13 : decode cX1_addAdjective 13 = .ok (.aload_n 0, 1) := by decide +kernel
theorem dX1_addAdjective_14 : decode cX1_addAdjective 14 = .ok (.getfield 1, 3) := by decide +kernel
theorem dX1_addAdjective_17 : decode cX1_addAdjective 17 = .ok (.getfield 13, 3) := by decide +kernel
theorem dX1_addAdjective_20 : decode cX1_addAdjective 20 = .ok (.iload_n 3, 1) := by decide +kernel
theorem dX1_addAdjective_21 : decode cX1_addAdjective 21 = .ok (.iaload, 1) := by decide +kernel
theorem dX1_addAdjective_22 : decode cX1_addAdjective 22 = .ok (.iload_n 2, 1) := by decide +kernel
theorem dX1_addAdjective_23 : decode cX1_addAdjective 23 = .ok (.if_icmp .ne 5, 3) := by decide +kernel
theorem dX1_addAdjective_26 : decode cX1_addAdjective 26 = .ok (.iconst 0, 1) := by decide +kernel
theorem dX1_addAdjective_27 : decode cX1_addAdjective 27 = .ok (.ireturn, 1) := by decide +kernel
theorem dX1_addAdjective_28 : decode cX1_addAdjective 28 = .ok (.iinc 3 1, 3) := by decide +kernel
theorem dX1_addAdjective_31 : decode cX1_addAdjective 31 = .ok (.goto (-29), 3) := by decide +kernel
theorem dX1_addAdjective_34 : decode cX1_addAdjective 34 = .ok (.aload_n 0, 1) := by decide +kernel
theorem dX1_addAdjective_35 : decode cX1_addAdjective 35 = .ok (.getfield 1, 3) := by decide +kernel
theorem dX1_addAdjective_38 : decode cX1_addAdjective 38 = .ok (.iload_n 2, 1) := by decide +kernel
theorem dX1_addAdjective_39 : decode cX1_addAdjective 39 = .ok (.invokevirtual 17, 3) := by decide +kernel
theorem dX1_addAdjective_42 : decode cX1_addAdjective 42 = .ok (.iconst 1, 1) := by decide +kernel
theorem dX1_addAdjective_43 : decode cX1_addAdjective 43 = .ok (.ireturn, 1) := by decide +kernel
abbrev cX1_inRow : ByteArray := prog_1_method_11_code
def yX1_inRow : MethodName := ⟨RX1, "inRow", "(II)Z"⟩
theorem dX1_inRow_0 : decode cX1_inRow 0 = .ok (.iload_n 1, 1) := by decide +kernel
theorem dX1_inRow_1 : decode cX1_inRow 1 = .ok (.istore_n 3, 1) := by decide +kernel
theorem dX1_inRow_2 : decode cX1_inRow 2 = .ok (.iload_n 3, 1) := by decide +kernel
theorem dX1_inRow_3 : decode cX1_inRow 3 = .ok (.aload_n 0, 1) := by decide +kernel
theorem dX1_inRow_4 : decode cX1_inRow 4 = .ok (.getfield 1, 3) := by decide +kernel
theorem dX1_inRow_7 : decode cX1_inRow 7 = .ok (.getfield 7, 3) := by decide +kernel
theorem dX1_inRow_10 : decode cX1_inRow 10 = .ok (.if_icmp .ge 24, 3) := by decide +kernel
theorem dX1_inRow_13 : decode cX1_inRow 13 = .ok (.aload_n 0, 1) := by decide +kernel
theorem dX1_inRow_14 : decode cX1_inRow 14 = .ok (.getfield 1, 3) := by decide +kernel
theorem dX1_inRow_17 : decode cX1_inRow 17 = .ok (.getfield 13, 3) := by decide +kernel
theorem dX1_inRow_20 : decode cX1_inRow 20 = .ok (.iload_n 3, 1) := by decide +kernel
theorem dX1_inRow_21 : decode cX1_inRow 21 = .ok (.iaload, 1) := by decide +kernel
theorem dX1_inRow_22 : decode cX1_inRow 22 = .ok (.iload_n 2, 1) := by decide +kernel
theorem dX1_inRow_23 : decode cX1_inRow 23 = .ok (.if_icmp .ne 5, 3) := by decide +kernel
theorem dX1_inRow_26 : decode cX1_inRow 26 = .ok (.iconst 1, 1) := by decide +kernel
theorem dX1_inRow_27 : decode cX1_inRow 27 = .ok (.ireturn, 1) := by decide +kernel
theorem dX1_inRow_28 : decode cX1_inRow 28 = .ok (.iinc 3 1, 3) := by decide +kernel
theorem dX1_inRow_31 : decode cX1_inRow 31 = .ok (.goto (-29), 3) := by decide +kernel
theorem dX1_inRow_34 : decode cX1_inRow 34 = .ok (.iconst 0, 1) := by decide +kernel
theorem dX1_inRow_35 : decode cX1_inRow 35 = .ok (.ireturn, 1) := by decide +kernel
abbrev cX1_ofMode : ByteArray := prog_1_method_13_code
def yX1_ofMode : MethodName := ⟨RX1, "ofMode", "(II)Z"⟩
theorem dX1_ofMode_0 : decode cX1_ofMode 0 = .ok (.aload_n 0, 1) := by decide +kernel
theorem dX1_ofMode_1 : decode cX1_ofMode 1 = .ok (.getfield 86, 3) := by decide +kernel
theorem dX1_ofMode_4 : decode cX1_ofMode 4 = .ok (.iload_n 2, 1) := by decide +kernel
theorem dX1_ofMode_5 : decode cX1_ofMode 5 = .ok (.iaload, 1) := by decide +kernel
theorem dX1_ofMode_6 : decode cX1_ofMode 6 = .ok (.istore_n 3, 1) := by decide +kernel
theorem dX1_ofMode_7 : decode cX1_ofMode 7 = .ok (.iload_n 1, 1) := by decide +kernel
theorem dX1_ofMode_8 : decode cX1_ofMode 8 = .ok (.istore 4, 2) := by decide +kernel
theorem dX1_ofMode_10 : decode cX1_ofMode 10 = .ok (.iload 4, 2) := by decide +kernel
theorem dX1_ofMode_12 : decode cX1_ofMode 12 = .ok (.ifCond .eq 114, 3) := by decide +kernel
theorem dX1_ofMode_15 : decode cX1_ofMode 15 = .ok (.aload_n 0, 1) := by decide +kernel
theorem dX1_ofMode_16 : decode cX1_ofMode 16 = .ok (.getfield 1, 3) := by decide +kernel
theorem dX1_ofMode_19 : decode cX1_ofMode 19 = .ok (.getfield 45, 3) := by decide +kernel
theorem dX1_ofMode_22 : decode cX1_ofMode 22 = .ok (.iload 4, 2) := by decide +kernel
theorem dX1_ofMode_24 : decode cX1_ofMode 24 = .ok (.iaload, 1) := by decide +kernel
theorem dX1_ofMode_25 : decode cX1_ofMode 25 = .ok (.aload_n 0, 1) := by decide +kernel
theorem dX1_ofMode_26 : decode cX1_ofMode 26 = .ok (.getfield 1, 3) := by decide +kernel
theorem dX1_ofMode_29 : decode cX1_ofMode 29 = .ok (.getfield 45, 3) := by decide +kernel
theorem dX1_ofMode_32 : decode cX1_ofMode 32 = .ok (.iload_n 3, 1) := by decide +kernel
theorem dX1_ofMode_33 : decode cX1_ofMode 33 = .ok (.iaload, 1) := by decide +kernel
theorem dX1_ofMode_34 : decode cX1_ofMode 34 = .ok (.if_icmp .eq 6, 3) := by decide +kernel
theorem dX1_ofMode_37 : decode cX1_ofMode 37 = .ok (.goto 78, 3) := by decide +kernel
theorem dX1_ofMode_40 : decode cX1_ofMode 40 = .ok (.aload_n 0, 1) := by decide +kernel
theorem dX1_ofMode_41 : decode cX1_ofMode 41 = .ok (.iload_n 3, 1) := by decide +kernel
theorem dX1_ofMode_42 : decode cX1_ofMode 42 = .ok (.invokevirtual 58, 3) := by decide +kernel
theorem dX1_ofMode_45 : decode cX1_ofMode 45 = .ok (.ifCond .ne 18, 3) := by decide +kernel
theorem dX1_ofMode_48 : decode cX1_ofMode 48 = .ok (.aload_n 0, 1) := by decide +kernel
theorem dX1_ofMode_49 : decode cX1_ofMode 49 = .ok (.iload 4, 2) := by decide +kernel
theorem dX1_ofMode_51 : decode cX1_ofMode 51 = .ok (.invokevirtual 58, 3) := by decide +kernel
theorem dX1_ofMode_54 : decode cX1_ofMode 54 = .ok (.ifCond .ne 7, 3) := by decide +kernel
theorem dX1_ofMode_57 : decode cX1_ofMode 57 = .ok (.iconst 1, 1) := by decide +kernel
theorem dX1_ofMode_58 : decode cX1_ofMode 58 = .ok (.goto 4, 3) := by decide +kernel
theorem dX1_ofMode_61 : decode cX1_ofMode 61 = .ok (.iconst 0, 1) := by decide +kernel
theorem dX1_ofMode_62 : decode cX1_ofMode 62 = .ok (.ireturn, 1) := by decide +kernel
theorem dX1_ofMode_63 : decode cX1_ofMode 63 = .ok (.aload_n 0, 1) := by decide +kernel
theorem dX1_ofMode_64 : decode cX1_ofMode 64 = .ok (.iload 4, 2) := by decide +kernel
theorem dX1_ofMode_66 : decode cX1_ofMode 66 = .ok (.invokevirtual 58, 3) := by decide +kernel
theorem dX1_ofMode_69 : decode cX1_ofMode 69 = .ok (.ifCond .eq 46, 3) := by decide +kernel
theorem dX1_ofMode_72 : decode cX1_ofMode 72 = .ok (.aload_n 0, 1) := by decide +kernel
theorem dX1_ofMode_73 : decode cX1_ofMode 73 = .ok (.aload_n 0, 1) := by decide +kernel
theorem dX1_ofMode_74 : decode cX1_ofMode 74 = .ok (.aload_n 0, 1) := by decide +kernel
theorem dX1_ofMode_75 : decode cX1_ofMode 75 = .ok (.iload 4, 2) := by decide +kernel
theorem dX1_ofMode_77 : decode cX1_ofMode 77 = .ok (.invokevirtual 58, 3) := by decide +kernel
theorem dX1_ofMode_80 : decode cX1_ofMode 80 = .ok (.invokevirtual 74, 3) := by decide +kernel
theorem dX1_ofMode_83 : decode cX1_ofMode 83 = .ok (.aload_n 0, 1) := by decide +kernel
theorem dX1_ofMode_84 : decode cX1_ofMode 84 = .ok (.getfield 1, 3) := by decide +kernel
theorem dX1_ofMode_87 : decode cX1_ofMode 87 = .ok (.getfield 45, 3) := by decide +kernel
theorem dX1_ofMode_90 : decode cX1_ofMode 90 = .ok (.aload_n 0, 1) := by decide +kernel
theorem dX1_ofMode_91 : decode cX1_ofMode 91 = .ok (.getfield 89, 3) := by decide +kernel
theorem dX1_ofMode_94 : decode cX1_ofMode 94 = .ok (.iload_n 2, 1) := by decide +kernel
theorem dX1_ofMode_95 : decode cX1_ofMode 95 = .ok (.iaload, 1) := by decide +kernel
theorem dX1_ofMode_96 : decode cX1_ofMode 96 = .ok (.iaload, 1) := by decide +kernel
theorem dX1_ofMode_97 : decode cX1_ofMode 97 = .ok (.aload_n 0, 1) := by decide +kernel
theorem dX1_ofMode_98 : decode cX1_ofMode 98 = .ok (.aload_n 0, 1) := by decide +kernel
theorem dX1_ofMode_99 : decode cX1_ofMode 99 = .ok (.getfield 89, 3) := by decide +kernel
theorem dX1_ofMode_102 : decode cX1_ofMode 102 = .ok (.iload_n 2, 1) := by decide +kernel
theorem dX1_ofMode_103 : decode cX1_ofMode 103 = .ok (.iaload, 1) := by decide +kernel
theorem dX1_ofMode_104 : decode cX1_ofMode 104 = .ok (.invokevirtual 58, 3) := by decide +kernel
theorem dX1_ofMode_107 : decode cX1_ofMode 107 = .ok (.invokevirtual 118, 3) := by decide +kernel
theorem dX1_ofMode_110 : decode cX1_ofMode 110 = .ok (.ifCond .eq 5, 3) := by decide +kernel
theorem dX1_ofMode_113 : decode cX1_ofMode 113 = .ok (.iconst 1, 1) := by decide +kernel
theorem dX1_ofMode_114 : decode cX1_ofMode 114 = .ok (.ireturn, 1) := by decide +kernel
theorem dX1_ofMode_115 : decode cX1_ofMode 115 = .ok (.aload_n 0, 1) := by decide +kernel
theorem dX1_ofMode_116 : decode cX1_ofMode 116 = .ok (.iload 4, 2) := by decide +kernel
theorem dX1_ofMode_118 : decode cX1_ofMode 118 = .ok (.invokevirtual 62, 3) := by decide +kernel
theorem dX1_ofMode_121 : decode cX1_ofMode 121 = .ok (.istore 4, 2) := by decide +kernel
theorem dX1_ofMode_123 : decode cX1_ofMode 123 = .ok (.goto (-113), 3) := by decide +kernel
theorem dX1_ofMode_126 : decode cX1_ofMode 126 = .ok (.iconst 0, 1) := by decide +kernel
theorem dX1_ofMode_127 : decode cX1_ofMode 127 = .ok (.ireturn, 1) := by decide +kernel
abbrev cX1_within : ByteArray := prog_1_method_6_code
def yX1_within : MethodName := ⟨RX1, "within", "(II)Z"⟩
theorem dX1_within_0 : decode cX1_within 0 = .ok (.iconst 1, 1) := by decide +kernel
theorem dX1_within_1 : decode cX1_within 1 = .ok (.istore_n 3, 1) := by decide +kernel
theorem dX1_within_2 : decode cX1_within 2 = .ok (.iload_n 3, 1) := by decide +kernel
theorem dX1_within_3 : decode cX1_within 3 = .ok (.aload_n 0, 1) := by decide +kernel
theorem dX1_within_4 : decode cX1_within 4 = .ok (.getfield 1, 3) := by decide +kernel
theorem dX1_within_7 : decode cX1_within 7 = .ok (.getfield 32, 3) := by decide +kernel
theorem dX1_within_10 : decode cX1_within 10 = .ok (.iload_n 1, 1) := by decide +kernel
theorem dX1_within_11 : decode cX1_within 11 = .ok (.iaload, 1) := by decide +kernel
theorem dX1_within_12 : decode cX1_within 12 = .ok (.if_icmp .ge 28, 3) := by decide +kernel
theorem dX1_within_15 : decode cX1_within 15 = .ok (.aload_n 0, 1) := by decide +kernel
theorem dX1_within_16 : decode cX1_within 16 = .ok (.iload_n 2, 1) := by decide +kernel
theorem dX1_within_17 : decode cX1_within 17 = .ok (.aload_n 0, 1) := by decide +kernel
theorem dX1_within_18 : decode cX1_within 18 = .ok (.getfield 1, 3) := by decide +kernel
theorem dX1_within_21 : decode cX1_within 21 = .ok (.iload_n 1, 1) := by decide +kernel
theorem dX1_within_22 : decode cX1_within 22 = .ok (.iload_n 3, 1) := by decide +kernel
theorem dX1_within_23 : decode cX1_within 23 = .ok (.invokevirtual 28, 3) := by decide +kernel
theorem dX1_within_26 : decode cX1_within 26 = .ok (.invokevirtual 35, 3) := by decide +kernel
theorem dX1_within_29 : decode cX1_within 29 = .ok (.ifCond .ne 5, 3) := by decide +kernel
theorem dX1_within_32 : decode cX1_within 32 = .ok (.iconst 0, 1) := by decide +kernel
theorem dX1_within_33 : decode cX1_within 33 = .ok (.ireturn, 1) := by decide +kernel
theorem dX1_within_34 : decode cX1_within 34 = .ok (.iinc 3 1, 3) := by decide +kernel
theorem dX1_within_37 : decode cX1_within 37 = .ok (.goto (-35), 3) := by decide +kernel
theorem dX1_within_40 : decode cX1_within 40 = .ok (.iconst 1, 1) := by decide +kernel
theorem dX1_within_41 : decode cX1_within 41 = .ok (.ireturn, 1) := by decide +kernel
abbrev cX1_hasAdjective : ByteArray := prog_1_method_5_code
def yX1_hasAdjective : MethodName := ⟨RX1, "hasAdjective", "(II)Z"⟩
theorem dX1_hasAdjective_0 : decode cX1_hasAdjective 0 = .ok (.iconst 1, 1) := by decide +kernel
theorem dX1_hasAdjective_1 : decode cX1_hasAdjective 1 = .ok (.istore_n 3, 1) := by decide +kernel
theorem dX1_hasAdjective_2 : decode cX1_hasAdjective 2 = .ok (.iload_n 3, 1) := by decide +kernel
theorem dX1_hasAdjective_3 : decode cX1_hasAdjective 3 = .ok (.aload_n 0, 1) := by decide +kernel
theorem dX1_hasAdjective_4 : decode cX1_hasAdjective 4 = .ok (.getfield 1, 3) := by decide +kernel
theorem dX1_hasAdjective_7 : decode cX1_hasAdjective 7 = .ok (.getfield 32, 3) := by decide +kernel
theorem dX1_hasAdjective_10 : decode cX1_hasAdjective 10 = .ok (.iload_n 1, 1) := by decide +kernel
theorem dX1_hasAdjective_11 : decode cX1_hasAdjective 11 = .ok (.iaload, 1) := by decide +kernel
theorem dX1_hasAdjective_12 : decode cX1_hasAdjective 12 = .ok (.if_icmp .ge 24, 3) := by decide +kernel
theorem dX1_hasAdjective_15 : decode cX1_hasAdjective 15 = .ok (.aload_n 0, 1) := by decide +kernel
theorem dX1_hasAdjective_16 : decode cX1_hasAdjective 16 = .ok (.getfield 1, 3) := by decide +kernel
theorem dX1_hasAdjective_19 : decode cX1_hasAdjective 19 = .ok (.iload_n 1, 1) := by decide +kernel
theorem dX1_hasAdjective_20 : decode cX1_hasAdjective 20 = .ok (.iload_n 3, 1) := by decide +kernel
theorem dX1_hasAdjective_21 : decode cX1_hasAdjective 21 = .ok (.invokevirtual 28, 3) := by decide +kernel
theorem dX1_hasAdjective_24 : decode cX1_hasAdjective 24 = .ok (.iload_n 2, 1) := by decide +kernel
theorem dX1_hasAdjective_25 : decode cX1_hasAdjective 25 = .ok (.if_icmp .ne 5, 3) := by decide +kernel
theorem dX1_hasAdjective_28 : decode cX1_hasAdjective 28 = .ok (.iconst 1, 1) := by decide +kernel
theorem dX1_hasAdjective_29 : decode cX1_hasAdjective 29 = .ok (.ireturn, 1) := by decide +kernel
theorem dX1_hasAdjective_30 : decode cX1_hasAdjective 30 = .ok (.iinc 3 1, 3) := by decide +kernel
theorem dX1_hasAdjective_33 : decode cX1_hasAdjective 33 = .ok (.goto (-31), 3) := by decide +kernel
theorem dX1_hasAdjective_36 : decode cX1_hasAdjective 36 = .ok (.iconst 0, 1) := by decide +kernel
theorem dX1_hasAdjective_37 : decode cX1_hasAdjective 37 = .ok (.ireturn, 1) := by decide +kernel
abbrev cX1_adjectives : ByteArray := prog_1_method_92_code
def yX1_adjectives : MethodName := ⟨RX1, "adjectives", "(I)I"⟩
theorem dX1_adjectives_0 : decode cX1_adjectives 0 = .ok (.aload_n 0, 1) := by decide +kernel
theorem dX1_adjectives_1 : decode cX1_adjectives 1 = .ok (.aload_n 0, 1) := by decide +kernel
theorem dX1_adjectives_2 : decode cX1_adjectives 2 = .ok (.iload_n 1, 1) := by decide +kernel
theorem dX1_adjectives_3 : decode cX1_adjectives 3 = .ok (.invokevirtual 466, 3) := by decide +kernel
theorem dX1_adjectives_6 : decode cX1_adjectives 6 = .ok (.invokevirtual 478, 3) := by decide +kernel
theorem dX1_adjectives_9 : decode cX1_adjectives 9 = .ok (.istore_n 2, 1) := by decide +kernel
theorem dX1_adjectives_10 : decode cX1_adjectives 10 = .ok (.aload_n 0, 1) := by decide +kernel
theorem dX1_adjectives_11 : decode cX1_adjectives 11 = .ok (.getfield 1, 3) := by decide +kernel
theorem dX1_adjectives_14 : decode cX1_adjectives 14 = .ok (.getfield 390, 3) := by decide +kernel
theorem dX1_adjectives_17 : decode cX1_adjectives 17 = .ok (.istore_n 3, 1) := by decide +kernel
theorem dX1_adjectives_18 : decode cX1_adjectives 18 = .ok (.aload_n 0, 1) := by decide +kernel
theorem dX1_adjectives_19 : decode cX1_adjectives 19 = .ok (.getfield 1, 3) := by decide +kernel
theorem dX1_adjectives_22 : decode cX1_adjectives 22 = .ok (.getfield 393, 3) := by decide +kernel
theorem dX1_adjectives_25 : decode cX1_adjectives 25 = .ok (.istore 4, 2) := by decide +kernel
theorem dX1_adjectives_27 : decode cX1_adjectives 27 = .ok (.aload_n 0, 1) := by decide +kernel
theorem dX1_adjectives_28 : decode cX1_adjectives 28 = .ok (.iload_n 2, 1) := by decide +kernel
theorem dX1_adjectives_29 : decode cX1_adjectives 29 = .ok (.invokevirtual 125, 3) := by decide +kernel
theorem dX1_adjectives_32 : decode cX1_adjectives 32 = .ok (.istore 5, 2) := by decide +kernel
theorem dX1_adjectives_34 : decode cX1_adjectives 34 = .ok (.iconst 0, 1) := by decide +kernel
theorem dX1_adjectives_35 : decode cX1_adjectives 35 = .ok (.istore 6, 2) := by decide +kernel
theorem dX1_adjectives_37 : decode cX1_adjectives 37 = .ok (.iconst 1, 1) := by decide +kernel
theorem dX1_adjectives_38 : decode cX1_adjectives 38 = .ok (.istore 7, 2) := by decide +kernel
theorem dX1_adjectives_40 : decode cX1_adjectives 40 = .ok (.iload 7, 2) := by decide +kernel
theorem dX1_adjectives_42 : decode cX1_adjectives 42 = .ok (.aload_n 0, 1) := by decide +kernel
theorem dX1_adjectives_43 : decode cX1_adjectives 43 = .ok (.getfield 1, 3) := by decide +kernel
theorem dX1_adjectives_46 : decode cX1_adjectives 46 = .ok (.getfield 32, 3) := by decide +kernel
theorem dX1_adjectives_49 : decode cX1_adjectives 49 = .ok (.iload 5, 2) := by decide +kernel
theorem dX1_adjectives_51 : decode cX1_adjectives 51 = .ok (.iaload, 1) := by decide +kernel
theorem dX1_adjectives_52 : decode cX1_adjectives 52 = .ok (.if_icmp .ge 27, 3) := by decide +kernel
theorem dX1_adjectives_55 : decode cX1_adjectives 55 = .ok (.iload 6, 2) := by decide +kernel
theorem dX1_adjectives_57 : decode cX1_adjectives 57 = .ok (.iconst 1, 1) := by decide +kernel
theorem dX1_adjectives_58 : decode cX1_adjectives 58 = .ok (.aload_n 0, 1) := by decide +kernel
theorem dX1_adjectives_59 : decode cX1_adjectives 59 = .ok (.getfield 1, 3) := by decide +kernel
theorem dX1_adjectives_62 : decode cX1_adjectives 62 = .ok (.iload 5, 2) := by decide +kernel
theorem dX1_adjectives_64 : decode cX1_adjectives 64 = .ok (.iload 7, 2) := by decide +kernel
theorem dX1_adjectives_66 : decode cX1_adjectives 66 = .ok (.invokevirtual 28, 3) := by decide +kernel
theorem dX1_adjectives_69 : decode cX1_adjectives 69 = .ok (.ishl, 1) := by decide +kernel
theorem dX1_adjectives_70 : decode cX1_adjectives 70 = .ok (.ior, 1) := by decide +kernel
theorem dX1_adjectives_71 : decode cX1_adjectives 71 = .ok (.istore 6, 2) := by decide +kernel
theorem dX1_adjectives_73 : decode cX1_adjectives 73 = .ok (.iinc 7 1, 3) := by decide +kernel
theorem dX1_adjectives_76 : decode cX1_adjectives 76 = .ok (.goto (-36), 3) := by decide +kernel
theorem dX1_adjectives_79 : decode cX1_adjectives 79 = .ok (.aload_n 0, 1) := by decide +kernel
theorem dX1_adjectives_80 : decode cX1_adjectives 80 = .ok (.iload_n 3, 1) := by decide +kernel
theorem dX1_adjectives_81 : decode cX1_adjectives 81 = .ok (.iload 4, 2) := by decide +kernel
theorem dX1_adjectives_83 : decode cX1_adjectives 83 = .ok (.aload_n 0, 1) := by decide +kernel
theorem dX1_adjectives_84 : decode cX1_adjectives 84 = .ok (.getfield 333, 3) := by decide +kernel
theorem dX1_adjectives_87 : decode cX1_adjectives 87 = .ok (.invokevirtual 399, 3) := by decide +kernel
