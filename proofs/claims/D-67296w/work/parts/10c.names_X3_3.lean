set_option maxRecDepth 100000
theorem dX3_counted_17 : decode cX3_counted 17 = .ok (.istore 4, 2) := by decide +kernel
theorem dX3_counted_19 : decode cX3_counted 19 = .ok (.aload_n 0, 1) := by decide +kernel
theorem dX3_counted_20 : decode cX3_counted 20 = .ok (.getfield 242, 3) := by decide +kernel
theorem dX3_counted_23 : decode cX3_counted 23 = .ok (.iload_n 1, 1) := by decide +kernel
theorem dX3_counted_24 : decode cX3_counted 24 = .ok (.iaload, 1) := by decide +kernel
theorem dX3_counted_25 : decode cX3_counted 25 = .ok (.istore 5, 2) := by decide +kernel
theorem dX3_counted_27 : decode cX3_counted 27 = .ok (.iload 5, 2) := by decide +kernel
theorem dX3_counted_29 : decode cX3_counted 29 = .ok (.ifCond .le 94, 3) := by decide +kernel
theorem dX3_counted_32 : decode cX3_counted 32 = .ok (.aload_n 0, 1) := by decide +kernel
theorem dX3_counted_33 : decode cX3_counted 33 = .ok (.getfield 239, 3) := by decide +kernel
theorem dX3_counted_36 : decode cX3_counted 36 = .ok (.iload_n 1, 1) := by decide +kernel
theorem dX3_counted_37 : decode cX3_counted 37 = .ok (.iaload, 1) := by decide +kernel
theorem dX3_counted_38 : decode cX3_counted 38 = .ok (.iconst 2, 1) := by decide +kernel
theorem dX3_counted_39 : decode cX3_counted 39 = .ok (.if_icmp .ne 22, 3) := by decide +kernel
theorem dX3_counted_42 : decode cX3_counted 42 = .ok (.ldc2_w 270, 3) := by decide +kernel
theorem dX3_counted_45 : decode cX3_counted 45 = .ok (.lload_n 2, 1) := by decide +kernel
theorem dX3_counted_46 : decode cX3_counted 46 = .ok (.aload_n 0, 1) := by decide +kernel
theorem dX3_counted_47 : decode cX3_counted 47 = .ok (.getfield 251, 3) := by decide +kernel
theorem dX3_counted_50 : decode cX3_counted 50 = .ok (.iload 5, 2) := by decide +kernel
theorem dX3_counted_52 : decode cX3_counted 52 = .ok (.laload, 1) := by decide +kernel
theorem dX3_counted_53 : decode cX3_counted 53 = .ok (.ladd, 1) := by decide +kernel
theorem dX3_counted_54 : decode cX3_counted 54 = .ok (.invokestatic 272, 3) := by decide +kernel
theorem dX3_counted_57 : decode cX3_counted 57 = .ok (.lstore_n 2, 1) := by decide +kernel
theorem dX3_counted_58 : decode cX3_counted 58 = .ok (.goto 53, 3) := by decide +kernel
theorem dX3_counted_61 : decode cX3_counted 61 = .ok (.aload_n 0, 1) := by decide +kernel
theorem dX3_counted_62 : decode cX3_counted 62 = .ok (.getfield 251, 3) := by decide +kernel
theorem dX3_counted_65 : decode cX3_counted 65 = .ok (.iload 5, 2) := by decide +kernel
theorem dX3_counted_67 : decode cX3_counted 67 = .ok (.laload, 1) := by decide +kernel
theorem dX3_counted_68 : decode cX3_counted 68 = .ok (.lconst 0, 1) := by decide +kernel
theorem dX3_counted_69 : decode cX3_counted 69 = .ok (.lcmp, 1) := by decide +kernel
theorem dX3_counted_70 : decode cX3_counted 70 = .ok (.ifCond .ne 9, 3) := by decide +kernel
theorem dX3_counted_73 : decode cX3_counted 73 = .ok (.iconst 1, 1) := by decide +kernel
theorem dX3_counted_74 : decode cX3_counted 74 = .ok (.istore 4, 2) := by decide +kernel
theorem dX3_counted_76 : decode cX3_counted 76 = .ok (.goto 35, 3) := by decide +kernel
theorem dX3_counted_79 : decode cX3_counted 79 = .ok (.lload_n 2, 1) := by decide +kernel
theorem dX3_counted_80 : decode cX3_counted 80 = .ok (.ldc2_w 270, 3) := by decide +kernel
theorem dX3_counted_83 : decode cX3_counted 83 = .ok (.aload_n 0, 1) := by decide +kernel
theorem dX3_counted_84 : decode cX3_counted 84 = .ok (.getfield 251, 3) := by decide +kernel
theorem dX3_counted_87 : decode cX3_counted 87 = .ok (.iload 5, 2) := by decide +kernel
theorem dX3_counted_89 : decode cX3_counted 89 = .ok (.laload, 1) := by decide +kernel
theorem dX3_counted_90 : decode cX3_counted 90 = .ok (.ldiv, 1) := by decide +kernel
theorem dX3_counted_91 : decode cX3_counted 91 = .ok (.lcmp, 1) := by decide +kernel
theorem dX3_counted_92 : decode cX3_counted 92 = .ok (.ifCond .lt 9, 3) := by decide +kernel
theorem dX3_counted_95 : decode cX3_counted 95 = .ok (.ldc2_w 270, 3) := by decide +kernel
theorem dX3_counted_98 : decode cX3_counted 98 = .ok (.goto 12, 3) := by decide +kernel
theorem dX3_counted_101 : decode cX3_counted 101 = .ok (.lload_n 2, 1) := by decide +kernel
theorem dX3_counted_102 : decode cX3_counted 102 = .ok (.aload_n 0, 1) := by decide +kernel
theorem dX3_counted_103 : decode cX3_counted 103 = .ok (.getfield 251, 3) := by decide +kernel
theorem dX3_counted_106 : decode cX3_counted 106 = .ok (.iload 5, 2) := by decide +kernel
theorem dX3_counted_108 : decode cX3_counted 108 = .ok (.laload, 1) := by decide +kernel
theorem dX3_counted_109 : decode cX3_counted 109 = .ok (.lmul, 1) := by decide +kernel
theorem dX3_counted_110 : decode cX3_counted 110 = .ok (.lstore_n 2, 1) := by decide +kernel
theorem dX3_counted_111 : decode cX3_counted 111 = .ok (.aload_n 0, 1) := by decide +kernel
theorem dX3_counted_112 : decode cX3_counted 112 = .ok (.getfield 245, 3) := by decide +kernel
theorem dX3_counted_115 : decode cX3_counted 115 = .ok (.iload 5, 2) := by decide +kernel
theorem dX3_counted_117 : decode cX3_counted 117 = .ok (.iaload, 1) := by decide +kernel
theorem dX3_counted_118 : decode cX3_counted 118 = .ok (.istore 5, 2) := by decide +kernel
theorem dX3_counted_120 : decode cX3_counted 120 = .ok (.goto (-93), 3) := by decide +kernel
theorem dX3_counted_123 : decode cX3_counted 123 = .ok (.aload_n 0, 1) := by decide +kernel
theorem dX3_counted_124 : decode cX3_counted 124 = .ok (.getfield 251, 3) := by decide +kernel
theorem dX3_counted_127 : decode cX3_counted 127 = .ok (.iload_n 1, 1) := by decide +kernel
theorem dX3_counted_128 : decode cX3_counted 128 = .ok (.iload 4, 2) := by decide +kernel
theorem dX3_counted_130 : decode cX3_counted 130 = .ok (.ifCond .eq 7, 3) := by decide +kernel
theorem dX3_counted_133 : decode cX3_counted 133 = .ok (.lconst 0, 1) := by decide +kernel
theorem dX3_counted_134 : decode cX3_counted 134 = .ok (.goto 4, 3) := by decide +kernel
theorem dX3_counted_137 : decode cX3_counted 137 = .ok (.lload_n 2, 1) := by decide +kernel
theorem dX3_counted_138 : decode cX3_counted 138 = .ok (.lastore, 1) := by decide +kernel
theorem dX3_counted_139 : decode cX3_counted 139 = .ok (.iload_n 1, 1) := by decide +kernel
theorem dX3_counted_140 : decode cX3_counted 140 = .ok (.ireturn, 1) := by decide +kernel
abbrev cX3_hang : ByteArray := prog_4_method_47_code
def yX3_hang : MethodName := ⟨RX3, "hang", "(III)I"⟩
theorem dX3_hang_0 : decode cX3_hang 0 = .ok (.iload_n 2, 1) := by decide +kernel
theorem dX3_hang_1 : decode cX3_hang 1 = .ok (.ifCond .ne 13, 3) := by decide +kernel
theorem dX3_hang_4 : decode cX3_hang 4 = .ok (.aload_n 0, 1) := by decide +kernel
theorem dX3_hang_5 : decode cX3_hang 5 = .ok (.getfield 242, 3) := by decide +kernel
theorem dX3_hang_8 : decode cX3_hang 8 = .ok (.iload_n 1, 1) := by decide +kernel
theorem dX3_hang_9 : decode cX3_hang 9 = .ok (.iload_n 3, 1) := by decide +kernel
theorem dX3_hang_10 : decode cX3_hang 10 = .ok (.iastore, 1) := by decide +kernel
theorem dX3_hang_11 : decode cX3_hang 11 = .ok (.goto 10, 3) := by decide +kernel
theorem dX3_hang_14 : decode cX3_hang 14 = .ok (.aload_n 0, 1) := by decide +kernel
theorem dX3_hang_15 : decode cX3_hang 15 = .ok (.getfield 245, 3) := by decide +kernel
theorem dX3_hang_18 : decode cX3_hang 18 = .ok (.iload_n 2, 1) := by decide +kernel
theorem dX3_hang_19 : decode cX3_hang 19 = .ok (.iload_n 3, 1) := by decide +kernel
theorem dX3_hang_20 : decode cX3_hang 20 = .ok (.iastore, 1) := by decide +kernel
theorem dX3_hang_21 : decode cX3_hang 21 = .ok (.iload_n 3, 1) := by decide +kernel
theorem dX3_hang_22 : decode cX3_hang 22 = .ok (.ireturn, 1) := by decide +kernel
abbrev cX3_put : ByteArray := prog_4_method_22_code
def yX3_put : MethodName := ⟨RX3, "put", "(III)I"⟩
theorem dX3_put_0 : decode cX3_put 0 = .ok (.aload_n 0, 1) := by decide +kernel
theorem dX3_put_1 : decode cX3_put 1 = .ok (.getfield 48, 3) := by decide +kernel
theorem dX3_put_4 : decode cX3_put 4 = .ok (.iload_n 1, 1) := by decide +kernel
theorem dX3_put_5 : decode cX3_put 5 = .ok (.iaload, 1) := by decide +kernel
theorem dX3_put_6 : decode cX3_put 6 = .ok (.iload_n 2, 1) := by decide +kernel
theorem dX3_put_7 : decode cX3_put 7 = .ok (.if_icmp .gt 5, 3) := by decide +kernel
theorem dX3_put_10 : decode cX3_put 10 = .ok (.iload_n 1, 1) := by decide +kernel
theorem dX3_put_11 : decode cX3_put 11 = .ok (.ireturn, 1) := by decide +kernel
theorem dX3_put_12 : decode cX3_put 12 = .ok (.aload_n 0, 1) := by decide +kernel
theorem dX3_put_13 : decode cX3_put 13 = .ok (.getfield 33, 3) := by decide +kernel
theorem dX3_put_16 : decode cX3_put 16 = .ok (.iload_n 1, 1) := by decide +kernel
theorem dX3_put_17 : decode cX3_put 17 = .ok (.iaload, 1) := by decide +kernel
theorem dX3_put_18 : decode cX3_put 18 = .ok (.istore 4, 2) := by decide +kernel
theorem dX3_put_20 : decode cX3_put 20 = .ok (.iload 4, 2) := by decide +kernel
theorem dX3_put_22 : decode cX3_put 22 = .ok (.iconst 1, 1) := by decide +kernel
theorem dX3_put_23 : decode cX3_put 23 = .ok (.if_icmp .ne 35, 3) := by decide +kernel
theorem dX3_put_26 : decode cX3_put 26 = .ok (.aload_n 0, 1) := by decide +kernel
theorem dX3_put_27 : decode cX3_put 27 = .ok (.iload_n 1, 1) := by decide +kernel
theorem dX3_put_28 : decode cX3_put 28 = .ok (.iconst 0, 1) := by decide +kernel
theorem dX3_put_29 : decode cX3_put 29 = .ok (.invokevirtual 65, 3) := by decide +kernel
theorem dX3_put_32 : decode cX3_put 32 = .ok (.istore 5, 2) := by decide +kernel
theorem dX3_put_34 : decode cX3_put 34 = .ok (.iload 5, 2) := by decide +kernel
theorem dX3_put_36 : decode cX3_put 36 = .ok (.iload_n 2, 1) := by decide +kernel
theorem dX3_put_37 : decode cX3_put 37 = .ok (.if_icmp .ne 12, 3) := by decide +kernel
theorem dX3_put_40 : decode cX3_put 40 = .ok (.aload_n 0, 1) := by decide +kernel
theorem dX3_put_41 : decode cX3_put 41 = .ok (.iload_n 3, 1) := by decide +kernel
theorem dX3_put_42 : decode cX3_put 42 = .ok (.iload_n 2, 1) := by decide +kernel
theorem dX3_put_43 : decode cX3_put 43 = .ok (.invokevirtual 103, 3) := by decide +kernel
theorem dX3_put_46 : decode cX3_put 46 = .ok (.goto 11, 3) := by decide +kernel
theorem dX3_put_49 : decode cX3_put 49 = .ok (.aload_n 0, 1) := by decide +kernel
theorem dX3_put_50 : decode cX3_put 50 = .ok (.iload 5, 2) := by decide +kernel
theorem dX3_put_52 : decode cX3_put 52 = .ok (.iconst 1, 1) := by decide +kernel
theorem dX3_put_53 : decode cX3_put 53 = .ok (.isub, 1) := by decide +kernel
theorem dX3_put_54 : decode cX3_put 54 = .ok (.invokevirtual 106, 3) := by decide +kernel
theorem dX3_put_57 : decode cX3_put 57 = .ok (.ireturn, 1) := by decide +kernel
theorem dX3_put_58 : decode cX3_put 58 = .ok (.aload_n 0, 1) := by decide +kernel
theorem dX3_put_59 : decode cX3_put 59 = .ok (.getfield 17, 3) := by decide +kernel
theorem dX3_put_62 : decode cX3_put 62 = .ok (.istore 5, 2) := by decide +kernel
theorem dX3_put_64 : decode cX3_put 64 = .ok (.iconst 0, 1) := by decide +kernel
theorem dX3_put_65 : decode cX3_put 65 = .ok (.istore 6, 2) := by decide +kernel
theorem dX3_put_67 : decode cX3_put 67 = .ok (.iload 6, 2) := by decide +kernel
theorem dX3_put_69 : decode cX3_put 69 = .ok (.aload_n 0, 1) := by decide +kernel
theorem dX3_put_70 : decode cX3_put 70 = .ok (.getfield 36, 3) := by decide +kernel
theorem dX3_put_73 : decode cX3_put 73 = .ok (.iload_n 1, 1) := by decide +kernel
theorem dX3_put_74 : decode cX3_put 74 = .ok (.iaload, 1) := by decide +kernel
theorem dX3_put_75 : decode cX3_put 75 = .ok (.if_icmp .ge 69, 3) := by decide +kernel
theorem dX3_put_78 : decode cX3_put 78 = .ok (.aload_n 0, 1) := by decide +kernel
theorem dX3_put_79 : decode cX3_put 79 = .ok (.iload_n 1, 1) := by decide +kernel
theorem dX3_put_80 : decode cX3_put 80 = .ok (.iload 6, 2) := by decide +kernel
theorem dX3_put_82 : decode cX3_put 82 = .ok (.invokevirtual 109, 3) := by decide +kernel
theorem dX3_put_85 : decode cX3_put 85 = .ok (.istore 7, 2) := by decide +kernel
theorem dX3_put_87 : decode cX3_put 87 = .ok (.aload_n 0, 1) := by decide +kernel
theorem dX3_put_88 : decode cX3_put 88 = .ok (.iload 7, 2) := by decide +kernel
theorem dX3_put_90 : decode cX3_put 90 = .ok (.ifCond .eq 38, 3) := by decide +kernel
theorem dX3_put_93 : decode cX3_put 93 = .ok (.aload_n 0, 1) := by decide +kernel
theorem dX3_put_94 : decode cX3_put 94 = .ok (.aload_n 0, 1) := by decide +kernel
theorem dX3_put_95 : decode cX3_put 95 = .ok (.iload_n 1, 1) := by decide +kernel
theorem dX3_put_96 : decode cX3_put 96 = .ok (.iload 6, 2) := by decide +kernel
theorem dX3_put_98 : decode cX3_put 98 = .ok (.invokevirtual 65, 3) := by decide +kernel
theorem dX3_put_101 : decode cX3_put 101 = .ok (.iload 4, 2) := by decide +kernel
theorem dX3_put_103 : decode cX3_put 103 = .ok (.bipush 17, 2) := by decide +kernel
theorem dX3_put_105 : decode cX3_put 105 = .ok (.if_icmp .ne 15, 3) := by decide +kernel
theorem dX3_put_108 : decode cX3_put 108 = .ok (.iload 6, 2) := by decide +kernel
theorem dX3_put_110 : decode cX3_put 110 = .ok (.iconst 1, 1) := by decide +kernel
theorem dX3_put_111 : decode cX3_put 111 = .ok (.if_icmp .ne 9, 3) := by decide +kernel
theorem dX3_put_114 : decode cX3_put 114 = .ok (.iload_n 2, 1) := by decide +kernel
theorem dX3_put_115 : decode cX3_put 115 = .ok (.iconst 1, 1) := by decide +kernel
theorem dX3_put_116 : decode cX3_put 116 = .ok (.iadd, 1) := by decide +kernel
theorem dX3_put_117 : decode cX3_put 117 = .ok (.goto 4, 3) := by decide +kernel
theorem dX3_put_120 : decode cX3_put 120 = .ok (.iload_n 2, 1) := by decide +kernel
theorem dX3_put_121 : decode cX3_put 121 = .ok (.iload_n 3, 1) := by decide +kernel
theorem dX3_put_122 : decode cX3_put 122 = .ok (.invokevirtual 113, 3) := by decide +kernel
theorem dX3_put_125 : decode cX3_put 125 = .ok (.goto 10, 3) := by decide +kernel
theorem dX3_put_128 : decode cX3_put 128 = .ok (.aload_n 0, 1) := by decide +kernel
theorem dX3_put_129 : decode cX3_put 129 = .ok (.iload_n 1, 1) := by decide +kernel
theorem dX3_put_130 : decode cX3_put 130 = .ok (.iload 6, 2) := by decide +kernel
theorem dX3_put_132 : decode cX3_put 132 = .ok (.invokevirtual 65, 3) := by decide +kernel
theorem dX3_put_135 : decode cX3_put 135 = .ok (.invokevirtual 72, 3) := by decide +kernel
theorem dX3_put_138 : decode cX3_put 138 = .ok (.iinc 6 1, 3) := by decide +kernel
theorem dX3_put_141 : decode cX3_put 141 = .ok (.goto (-74), 3) := by decide +kernel
theorem dX3_put_144 : decode cX3_put 144 = .ok (.aload_n 0, 1) := by decide +kernel
theorem dX3_put_145 : decode cX3_put 145 = .ok (.iload_n 1, 1) := by decide +kernel
theorem dX3_put_146 : decode cX3_put 146 = .ok (.iload 5, 2) := by decide +kernel
theorem dX3_put_148 : decode cX3_put 148 = .ok (.invokevirtual 116, 3) := by decide +kernel
theorem dX3_put_151 : decode cX3_put 151 = .ok (.ireturn, 1) := by decide +kernel
abbrev cX3_lift : ByteArray := prog_4_method_24_code
def yX3_lift : MethodName := ⟨RX3, "lift", "(II)I"⟩
theorem dX3_lift_0 : decode cX3_lift 0 = .ok (.iload_n 2, 1) := by decide +kernel
theorem dX3_lift_1 : decode cX3_lift 1 = .ok (.ifCond .eq 12, 3) := by decide +kernel
theorem dX3_lift_4 : decode cX3_lift 4 = .ok (.aload_n 0, 1) := by decide +kernel
theorem dX3_lift_5 : decode cX3_lift 5 = .ok (.getfield 48, 3) := by decide +kernel
theorem dX3_lift_8 : decode cX3_lift 8 = .ok (.iload_n 1, 1) := by decide +kernel
theorem dX3_lift_9 : decode cX3_lift 9 = .ok (.iaload, 1) := by decide +kernel
theorem dX3_lift_10 : decode cX3_lift 10 = .ok (.ifCond .ne 7, 3) := by decide +kernel
theorem dX3_lift_13 : decode cX3_lift 13 = .ok (.iload_n 1, 1) := by decide +kernel
theorem dX3_lift_14 : decode cX3_lift 14 = .ok (.goto 10, 3) := by decide +kernel
theorem dX3_lift_17 : decode cX3_lift 17 = .ok (.aload_n 0, 1) := by decide +kernel
theorem dX3_lift_18 : decode cX3_lift 18 = .ok (.iload_n 1, 1) := by decide +kernel
theorem dX3_lift_19 : decode cX3_lift 19 = .ok (.iload_n 2, 1) := by decide +kernel
theorem dX3_lift_20 : decode cX3_lift 20 = .ok (.iconst 0, 1) := by decide +kernel
theorem dX3_lift_21 : decode cX3_lift 21 = .ok (.invokevirtual 119, 3) := by decide +kernel
theorem dX3_lift_24 : decode cX3_lift 24 = .ok (.ireturn, 1) := by decide +kernel
abbrev cX3_lift_2 : ByteArray := prog_4_method_25_code
def yX3_lift_2 : MethodName := ⟨RX3, "lift", "(III)I"⟩
theorem dX3_lift_2_0 : decode cX3_lift_2 0 = .ok (.aload_n 0, 1) := by decide +kernel
theorem dX3_lift_2_1 : decode cX3_lift_2 1 = .ok (.getfield 48, 3) := by decide +kernel
theorem dX3_lift_2_4 : decode cX3_lift_2 4 = .ok (.iload_n 1, 1) := by decide +kernel
theorem dX3_lift_2_5 : decode cX3_lift_2 5 = .ok (.iaload, 1) := by decide +kernel
theorem dX3_lift_2_6 : decode cX3_lift_2 6 = .ok (.iload_n 3, 1) := by decide +kernel
theorem dX3_lift_2_7 : decode cX3_lift_2 7 = .ok (.if_icmp .gt 5, 3) := by decide +kernel
theorem dX3_lift_2_10 : decode cX3_lift_2 10 = .ok (.iload_n 1, 1) := by decide +kernel
theorem dX3_lift_2_11 : decode cX3_lift_2 11 = .ok (.ireturn, 1) := by decide +kernel
theorem dX3_lift_2_12 : decode cX3_lift_2 12 = .ok (.aload_n 0, 1) := by decide +kernel
theorem dX3_lift_2_13 : decode cX3_lift_2 13 = .ok (.getfield 33, 3) := by decide +kernel
theorem dX3_lift_2_16 : decode cX3_lift_2 16 = .ok (.iload_n 1, 1) := by decide +kernel
theorem dX3_lift_2_17 : decode cX3_lift_2 17 = .ok (.iaload, 1) := by decide +kernel
theorem dX3_lift_2_18 : decode cX3_lift_2 18 = .ok (.iconst 1, 1) := by decide +kernel
theorem dX3_lift_2_19 : decode cX3_lift_2 19 = .ok (.if_icmp .ne 16, 3) := by decide +kernel
theorem dX3_lift_2_22 : decode cX3_lift_2 22 = .ok (.aload_n 0, 1) := by decide +kernel
theorem dX3_lift_2_23 : decode cX3_lift_2 23 = .ok (.aload_n 0, 1) := by decide +kernel
theorem dX3_lift_2_24 : decode cX3_lift_2 24 = .ok (.iload_n 1, 1) := by decide +kernel
theorem dX3_lift_2_25 : decode cX3_lift_2 25 = .ok (.iconst 0, 1) := by decide +kernel
theorem dX3_lift_2_26 : decode cX3_lift_2 26 = .ok (.invokevirtual 65, 3) := by decide +kernel
theorem dX3_lift_2_29 : decode cX3_lift_2 29 = .ok (.iload_n 2, 1) := by decide +kernel
theorem dX3_lift_2_30 : decode cX3_lift_2 30 = .ok (.iadd, 1) := by decide +kernel
theorem dX3_lift_2_31 : decode cX3_lift_2 31 = .ok (.invokevirtual 106, 3) := by decide +kernel
theorem dX3_lift_2_34 : decode cX3_lift_2 34 = .ok (.ireturn, 1) := by decide +kernel
theorem dX3_lift_2_35 : decode cX3_lift_2 35 = .ok (.aload_n 0, 1) := by decide +kernel
theorem dX3_lift_2_36 : decode cX3_lift_2 36 = .ok (.getfield 17, 3) := by decide +kernel
theorem dX3_lift_2_39 : decode cX3_lift_2 39 = .ok (.istore 4, 2) := by decide +kernel
theorem dX3_lift_2_41 : decode cX3_lift_2 41 = .ok (.iconst 0, 1) := by decide +kernel
theorem dX3_lift_2_42 : decode cX3_lift_2 42 = .ok (.istore 5, 2) := by decide +kernel
theorem dX3_lift_2_44 : decode cX3_lift_2 44 = .ok (.iload 5, 2) := by decide +kernel
theorem dX3_lift_2_46 : decode cX3_lift_2 46 = .ok (.aload_n 0, 1) := by decide +kernel
theorem dX3_lift_2_47 : decode cX3_lift_2 47 = .ok (.getfield 36, 3) := by decide +kernel
theorem dX3_lift_2_50 : decode cX3_lift_2 50 = .ok (.iload_n 1, 1) := by decide +kernel
theorem dX3_lift_2_51 : decode cX3_lift_2 51 = .ok (.iaload, 1) := by decide +kernel
theorem dX3_lift_2_52 : decode cX3_lift_2 52 = .ok (.if_icmp .ge 69, 3) := by decide +kernel
theorem dX3_lift_2_55 : decode cX3_lift_2 55 = .ok (.aload_n 0, 1) := by decide +kernel
theorem dX3_lift_2_56 : decode cX3_lift_2 56 = .ok (.aload_n 0, 1) := by decide +kernel
theorem dX3_lift_2_57 : decode cX3_lift_2 57 = .ok (.iload_n 1, 1) := by decide +kernel
theorem dX3_lift_2_58 : decode cX3_lift_2 58 = .ok (.iload 5, 2) := by decide +kernel
theorem dX3_lift_2_60 : decode cX3_lift_2 60 = .ok (.invokevirtual 109, 3) := by decide +kernel
theorem dX3_lift_2_63 : decode cX3_lift_2 63 = .ok (.ifCond .eq 42, 3) := by decide +kernel
theorem dX3_lift_2_66 : decode cX3_lift_2 66 = .ok (.aload_n 0, 1) := by decide +kernel
theorem dX3_lift_2_67 : decode cX3_lift_2 67 = .ok (.aload_n 0, 1) := by decide +kernel
theorem dX3_lift_2_68 : decode cX3_lift_2 68 = .ok (.iload_n 1, 1) := by decide +kernel
theorem dX3_lift_2_69 : decode cX3_lift_2 69 = .ok (.iload 5, 2) := by decide +kernel
theorem dX3_lift_2_71 : decode cX3_lift_2 71 = .ok (.invokevirtual 65, 3) := by decide +kernel
theorem dX3_lift_2_74 : decode cX3_lift_2 74 = .ok (.iload_n 2, 1) := by decide +kernel
theorem dX3_lift_2_75 : decode cX3_lift_2 75 = .ok (.aload_n 0, 1) := by decide +kernel
theorem dX3_lift_2_76 : decode cX3_lift_2 76 = .ok (.getfield 33, 3) := by decide +kernel
theorem dX3_lift_2_79 : decode cX3_lift_2 79 = .ok (.iload_n 1, 1) := by decide +kernel
theorem dX3_lift_2_80 : decode cX3_lift_2 80 = .ok (.iaload, 1) := by decide +kernel
theorem dX3_lift_2_81 : decode cX3_lift_2 81 = .ok (.bipush 17, 2) := by decide +kernel
theorem dX3_lift_2_83 : decode cX3_lift_2 83 = .ok (.if_icmp .ne 15, 3) := by decide +kernel
theorem dX3_lift_2_86 : decode cX3_lift_2 86 = .ok (.iload 5, 2) := by decide +kernel
theorem dX3_lift_2_88 : decode cX3_lift_2 88 = .ok (.iconst 1, 1) := by decide +kernel
theorem dX3_lift_2_89 : decode cX3_lift_2 89 = .ok (.if_icmp .ne 9, 3) := by decide +kernel
theorem dX3_lift_2_92 : decode cX3_lift_2 92 = .ok (.iload_n 3, 1) := by decide +kernel
theorem dX3_lift_2_93 : decode cX3_lift_2 93 = .ok (.iconst 1, 1) := by decide +kernel
theorem dX3_lift_2_94 : decode cX3_lift_2 94 = .ok (.iadd, 1) := by decide +kernel
theorem dX3_lift_2_95 : decode cX3_lift_2 95 = .ok (.goto 4, 3) := by decide +kernel
theorem dX3_lift_2_98 : decode cX3_lift_2 98 = .ok (.iload_n 3, 1) := by decide +kernel
theorem dX3_lift_2_99 : decode cX3_lift_2 99 = .ok (.invokevirtual 119, 3) := by decide +kernel
theorem dX3_lift_2_102 : decode cX3_lift_2 102 = .ok (.goto 10, 3) := by decide +kernel
theorem dX3_lift_2_105 : decode cX3_lift_2 105 = .ok (.aload_n 0, 1) := by decide +kernel
theorem dX3_lift_2_106 : decode cX3_lift_2 106 = .ok (.iload_n 1, 1) := by decide +kernel
theorem dX3_lift_2_107 : decode cX3_lift_2 107 = .ok (.iload 5, 2) := by decide +kernel
theorem dX3_lift_2_109 : decode cX3_lift_2 109 = .ok (.invokevirtual 65, 3) := by decide +kernel
theorem dX3_lift_2_112 : decode cX3_lift_2 112 = .ok (.invokevirtual 72, 3) := by decide +kernel
theorem dX3_lift_2_115 : decode cX3_lift_2 115 = .ok (.iinc 5 1, 3) := by decide +kernel
theorem dX3_lift_2_118 : decode cX3_lift_2 118 = .ok (.goto (-74), 3) := by decide +kernel
theorem dX3_lift_2_121 : decode cX3_lift_2 121 = .ok (.aload_n 0, 1) := by decide +kernel
theorem dX3_lift_2_122 : decode cX3_lift_2 122 = .ok (.iload_n 1, 1) := by decide +kernel
theorem dX3_lift_2_123 : decode cX3_lift_2 123 = .ok (.iload 4, 2) := by decide +kernel
theorem dX3_lift_2_125 : decode cX3_lift_2 125 = .ok (.invokevirtual 116, 3) := by decide +kernel
theorem dX3_lift_2_128 : decode cX3_lift_2 128 = .ok (.ireturn, 1) := by decide +kernel
abbrev cX3_caseOf : ByteArray := prog_4_method_73_code
def yX3_caseOf : MethodName := ⟨RX3, "caseOf", "(IJ)I"⟩
theorem dX3_caseOf_0 : decode cX3_caseOf 0 = .ok (.aload_n 0, 1) := by decide +kernel
theorem dX3_caseOf_1 : decode cX3_caseOf 1 = .ok (.dup, 1) := by decide +kernel
theorem dX3_caseOf_2 : decode cX3_caseOf 2 = .ok (.getfield 307, 3) := by decide +kernel
theorem dX3_caseOf_5 : decode cX3_caseOf 5 = .ok (.iconst 1, 1) := by decide +kernel
theorem dX3_caseOf_6 : decode cX3_caseOf 6 = .ok (.iadd, 1) := by decide +kernel
theorem dX3_caseOf_7 : decode cX3_caseOf 7 = .ok (.putfield 307, 3) := by decide +kernel
theorem dX3_caseOf_10 : decode cX3_caseOf 10 = .ok (.aload_n 0, 1) := by decide +kernel
theorem dX3_caseOf_11 : decode cX3_caseOf 11 = .ok (.iconst 0, 1) := by decide +kernel
theorem dX3_caseOf_12 : decode cX3_caseOf 12 = .ok (.putfield 313, 3) := by decide +kernel
theorem dX3_caseOf_15 : decode cX3_caseOf 15 = .ok (.aload_n 0, 1) := by decide +kernel
theorem dX3_caseOf_16 : decode cX3_caseOf 16 = .ok (.iconst 0, 1) := by decide +kernel
theorem dX3_caseOf_17 : decode cX3_caseOf 17 = .ok (.putfield 338, 3) := by decide +kernel
theorem dX3_caseOf_20 : decode cX3_caseOf 20 = .ok (.aload_n 0, 1) := by decide +kernel
theorem dX3_caseOf_21 : decode cX3_caseOf 21 = .ok (.iconst 0, 1) := by decide +kernel
theorem dX3_caseOf_22 : decode cX3_caseOf 22 = .ok (.putfield 346, 3) := by decide +kernel
theorem dX3_caseOf_25 : decode cX3_caseOf 25 = .ok (.aload_n 0, 1) := by decide +kernel
theorem dX3_caseOf_26 : decode cX3_caseOf 26 = .ok (.iconst 0, 1) := by decide +kernel
theorem dX3_caseOf_27 : decode cX3_caseOf 27 = .ok (.putfield 361, 3) := by decide +kernel
theorem dX3_caseOf_30 : decode cX3_caseOf 30 = .ok (.aload_n 0, 1) := by decide +kernel
theorem dX3_caseOf_31 : decode cX3_caseOf 31 = .ok (.iconst 0, 1) := by decide +kernel
theorem dX3_caseOf_32 : decode cX3_caseOf 32 = .ok (.putfield 376, 3) := by decide +kernel
theorem dX3_caseOf_35 : decode cX3_caseOf 35 = .ok (.aload_n 0, 1) := by decide +kernel
theorem dX3_caseOf_36 : decode cX3_caseOf 36 = .ok (.iconst 0, 1) := by decide +kernel
theorem dX3_caseOf_37 : decode cX3_caseOf 37 = .ok (.putfield 379, 3) := by decide +kernel
theorem dX3_caseOf_40 : decode cX3_caseOf 40 = .ok (.aload_n 0, 1) := by decide +kernel
theorem dX3_caseOf_41 : decode cX3_caseOf 41 = .ok (.iload_n 1, 1) := by decide +kernel
theorem dX3_caseOf_42 : decode cX3_caseOf 42 = .ok (.lload_n 2, 1) := by decide +kernel
theorem dX3_caseOf_43 : decode cX3_caseOf 43 = .ok (.invokevirtual 279, 3) := by decide +kernel
theorem dX3_caseOf_46 : decode cX3_caseOf 46 = .ok (.iconst 0, 1) := by decide +kernel
theorem dX3_caseOf_47 : decode cX3_caseOf 47 = .ok (.istore 4, 2) := by decide +kernel
theorem dX3_caseOf_49 : decode cX3_caseOf 49 = .ok (.iload 4, 2) := by decide +kernel
theorem dX3_caseOf_51 : decode cX3_caseOf 51 = .ok (.aload_n 0, 1) := by decide +kernel
theorem dX3_caseOf_52 : decode cX3_caseOf 52 = .ok (.getfield 313, 3) := by decide +kernel
theorem dX3_caseOf_55 : decode cX3_caseOf 55 = .ok (.if_icmp .ge 29, 3) := by decide +kernel
theorem dX3_caseOf_58 : decode cX3_caseOf 58 = .ok (.aload_n 0, 1) := by decide +kernel
theorem dX3_caseOf_59 : decode cX3_caseOf 59 = .ok (.getfield 338, 3) := by decide +kernel
theorem dX3_caseOf_62 : decode cX3_caseOf 62 = .ok (.bipush 100, 2) := by decide +kernel
theorem dX3_caseOf_64 : decode cX3_caseOf 64 = .ok (.if_icmp .gt 20, 3) := by decide +kernel
theorem dX3_caseOf_67 : decode cX3_caseOf 67 = .ok (.aload_n 0, 1) := by decide +kernel
theorem dX3_caseOf_68 : decode cX3_caseOf 68 = .ok (.aload_n 0, 1) := by decide +kernel
theorem dX3_caseOf_69 : decode cX3_caseOf 69 = .ok (.getfield 310, 3) := by decide +kernel
theorem dX3_caseOf_72 : decode cX3_caseOf 72 = .ok (.iload 4, 2) := by decide +kernel
theorem dX3_caseOf_74 : decode cX3_caseOf 74 = .ok (.iaload, 1) := by decide +kernel
theorem dX3_caseOf_75 : decode cX3_caseOf 75 = .ok (.invokevirtual 341, 3) := by decide +kernel
theorem dX3_caseOf_78 : decode cX3_caseOf 78 = .ok (.iinc 4 1, 3) := by decide +kernel
theorem dX3_caseOf_81 : decode cX3_caseOf 81 = .ok (.goto (-32), 3) := by decide +kernel
theorem dX3_caseOf_84 : decode cX3_caseOf 84 = .ok (.aload_n 0, 1) := by decide +kernel
theorem dX3_caseOf_85 : decode cX3_caseOf 85 = .ok (.aload_n 0, 1) := by decide +kernel
theorem dX3_caseOf_86 : decode cX3_caseOf 86 = .ok (.getfield 338, 3) := by decide +kernel
theorem dX3_caseOf_89 : decode cX3_caseOf 89 = .ok (.putfield 420, 3) := by decide +kernel
theorem dX3_caseOf_92 : decode cX3_caseOf 92 = .ok (.aload_n 0, 1) := by decide +kernel
theorem dX3_caseOf_93 : decode cX3_caseOf 93 = .ok (.iconst 0, 1) := by decide +kernel
theorem dX3_caseOf_94 : decode cX3_caseOf 94 = .ok (.putfield 423, 3) := by decide +kernel
theorem dX3_caseOf_97 : decode cX3_caseOf 97 = .ok (.iconst 1, 1) := by decide +kernel
theorem dX3_caseOf_98 : decode cX3_caseOf 98 = .ok (.istore 4, 2) := by decide +kernel
theorem dX3_caseOf_100 : decode cX3_caseOf 100 = .ok (.aload_n 0, 1) := by decide +kernel
theorem dX3_caseOf_101 : decode cX3_caseOf 101 = .ok (.invokevirtual 426, 3) := by decide +kernel
theorem dX3_caseOf_104 : decode cX3_caseOf 104 = .ok (.aload_n 0, 1) := by decide +kernel
theorem dX3_caseOf_105 : decode cX3_caseOf 105 = .ok (.getfield 338, 3) := by decide +kernel
theorem dX3_caseOf_108 : decode cX3_caseOf 108 = .ok (.bipush 100, 2) := by decide +kernel
theorem dX3_caseOf_110 : decode cX3_caseOf 110 = .ok (.if_icmp .le 5, 3) := by decide +kernel
theorem dX3_caseOf_113 : decode cX3_caseOf 113 = .ok (.iconst 2, 1) := by decide +kernel
theorem dX3_caseOf_114 : decode cX3_caseOf 114 = .ok (.ireturn, 1) := by decide +kernel
theorem dX3_caseOf_115 : decode cX3_caseOf 115 = .ok (.aload_n 0, 1) := by decide +kernel
theorem dX3_caseOf_116 : decode cX3_caseOf 116 = .ok (.invokevirtual 429, 3) := by decide +kernel
theorem dX3_caseOf_119 : decode cX3_caseOf 119 = .ok (.ifCond .eq 5, 3) := by decide +kernel
theorem dX3_caseOf_122 : decode cX3_caseOf 122 = .ok (.iconst 1, 1) := by decide +kernel
theorem dX3_caseOf_123 : decode cX3_caseOf 123 = .ok (.ireturn, 1) := by decide +kernel
theorem dX3_caseOf_124 : decode cX3_caseOf 124 = .ok (.aload_n 0, 1) := by decide +kernel
theorem dX3_caseOf_125 : decode cX3_caseOf 125 = .ok (.getfield 313, 3) := by decide +kernel
theorem dX3_caseOf_128 : decode cX3_caseOf 128 = .ok (.istore 5, 2) := by decide +kernel
theorem dX3_caseOf_130 : decode cX3_caseOf 130 = .ok (.aload_n 0, 1) := by decide +kernel
theorem dX3_caseOf_131 : decode cX3_caseOf 131 = .ok (.getfield 423, 3) := by decide +kernel
theorem dX3_caseOf_134 : decode cX3_caseOf 134 = .ok (.istore 6, 2) := by decide +kernel
theorem dX3_caseOf_136 : decode cX3_caseOf 136 = .ok (.aload_n 0, 1) := by decide +kernel
theorem dX3_caseOf_137 : decode cX3_caseOf 137 = .ok (.iload 5, 2) := by decide +kernel
theorem dX3_caseOf_139 : decode cX3_caseOf 139 = .ok (.iload 6, 2) := by decide +kernel
theorem dX3_caseOf_141 : decode cX3_caseOf 141 = .ok (.invokevirtual 433, 3) := by decide +kernel
theorem dX3_caseOf_144 : decode cX3_caseOf 144 = .ok (.aload_n 0, 1) := by decide +kernel
theorem dX3_caseOf_145 : decode cX3_caseOf 145 = .ok (.getfield 313, 3) := by decide +kernel
theorem dX3_caseOf_148 : decode cX3_caseOf 148 = .ok (.iload 5, 2) := by decide +kernel
theorem dX3_caseOf_150 : decode cX3_caseOf 150 = .ok (.if_icmp .ne 5, 3) := by decide +kernel
theorem dX3_caseOf_153 : decode cX3_caseOf 153 = .ok (.iconst 0, 1) := by decide +kernel
theorem dX3_caseOf_154 : decode cX3_caseOf 154 = .ok (.ireturn, 1) := by decide +kernel
theorem dX3_caseOf_155 : decode cX3_caseOf 155 = .ok (.iload 6, 2) := by decide +kernel
theorem dX3_caseOf_157 : decode cX3_caseOf 157 = .ok (.istore 7, 2) := by decide +kernel
theorem dX3_caseOf_159 : decode cX3_caseOf 159 = .ok (.iload 7, 2) := by decide +kernel
theorem dX3_caseOf_161 : decode cX3_caseOf 161 = .ok (.aload_n 0, 1) := by decide +kernel
theorem dX3_caseOf_162 : decode cX3_caseOf 162 = .ok (.getfield 423, 3) := by decide +kernel
theorem dX3_caseOf_165 : decode cX3_caseOf 165 = .ok (.if_icmp .ge 20, 3) := by decide +kernel
theorem dX3_caseOf_168 : decode cX3_caseOf 168 = .ok (.aload_n 0, 1) := by decide +kernel
theorem dX3_caseOf_169 : decode cX3_caseOf 169 = .ok (.aload_n 0, 1) := by decide +kernel
theorem dX3_caseOf_170 : decode cX3_caseOf 170 = .ok (.getfield 436, 3) := by decide +kernel
theorem dX3_caseOf_173 : decode cX3_caseOf 173 = .ok (.iload 7, 2) := by decide +kernel
theorem dX3_caseOf_175 : decode cX3_caseOf 175 = .ok (.iaload, 1) := by decide +kernel
theorem dX3_caseOf_176 : decode cX3_caseOf 176 = .ok (.invokevirtual 341, 3) := by decide +kernel
theorem dX3_caseOf_179 : decode cX3_caseOf 179 = .ok (.iinc 7 1, 3) := by decide +kernel
theorem dX3_caseOf_182 : decode cX3_caseOf 182 = .ok (.goto (-23), 3) := by decide +kernel
theorem dX3_caseOf_185 : decode cX3_caseOf 185 = .ok (.iload 4, 2) := by decide +kernel
theorem dX3_caseOf_187 : decode cX3_caseOf 187 = .ok (.bipush 17, 2) := by decide +kernel
theorem dX3_caseOf_189 : decode cX3_caseOf 189 = .ok (.if_icmp .eq 13, 3) := by decide +kernel
theorem dX3_caseOf_192 : decode cX3_caseOf 192 = .ok (.aload_n 0, 1) := by decide +kernel
theorem dX3_caseOf_193 : decode cX3_caseOf 193 = .ok (.getfield 313, 3) := by decide +kernel
theorem dX3_caseOf_196 : decode cX3_caseOf 196 = .ok (.sipush 400, 3) := by decide +kernel
theorem dX3_caseOf_199 : decode cX3_caseOf 199 = .ok (.if_icmp .le 5, 3) := by decide +kernel
theorem dX3_caseOf_202 : decode cX3_caseOf 202 = .ok (.iconst 2, 1) := by decide +kernel
theorem dX3_caseOf_203 : decode cX3_caseOf 203 = .ok (.ireturn, 1) := by decide +kernel
theorem dX3_caseOf_204 : decode cX3_caseOf 204 = .ok (.iinc 4 1, 3) := by decide +kernel
theorem dX3_caseOf_207 : decode cX3_caseOf 207 = .ok (.goto (-107), 3) := by decide +kernel
abbrev cX3_leavesOf : ByteArray := prog_4_method_49_code
def yX3_leavesOf : MethodName := ⟨RX3, "leavesOf", "(IJ)V"⟩
theorem dX3_leavesOf_0 : decode cX3_leavesOf 0 = .ok (.aload_n 0, 1) := by decide +kernel
theorem dX3_leavesOf_1 : decode cX3_leavesOf 1 = .ok (.getfield 239, 3) := by decide +kernel
theorem dX3_leavesOf_4 : decode cX3_leavesOf 4 = .ok (.iload_n 1, 1) := by decide +kernel
theorem dX3_leavesOf_5 : decode cX3_leavesOf 5 = .ok (.iaload, 1) := by decide +kernel
theorem dX3_leavesOf_6 : decode cX3_leavesOf 6 = .ok (.iconst 3, 1) := by decide +kernel
theorem dX3_leavesOf_7 : decode cX3_leavesOf 7 = .ok (.if_icmp .ne 14, 3) := by decide +kernel
theorem dX3_leavesOf_10 : decode cX3_leavesOf 10 = .ok (.aload_n 0, 1) := by decide +kernel
theorem dX3_leavesOf_11 : decode cX3_leavesOf 11 = .ok (.aload_n 0, 1) := by decide +kernel
theorem dX3_leavesOf_12 : decode cX3_leavesOf 12 = .ok (.getfield 248, 3) := by decide +kernel
theorem dX3_leavesOf_15 : decode cX3_leavesOf 15 = .ok (.iload_n 1, 1) := by decide +kernel
theorem dX3_leavesOf_16 : decode cX3_leavesOf 16 = .ok (.iaload, 1) := by decide +kernel
theorem dX3_leavesOf_17 : decode cX3_leavesOf 17 = .ok (.invokevirtual 276, 3) := by decide +kernel
theorem dX3_leavesOf_20 : decode cX3_leavesOf 20 = .ok (.return_, 1) := by decide +kernel
theorem dX3_leavesOf_21 : decode cX3_leavesOf 21 = .ok (.aload_n 0, 1) := by decide +kernel
theorem dX3_leavesOf_22 : decode cX3_leavesOf 22 = .ok (.getfield 242, 3) := by decide +kernel
theorem dX3_leavesOf_25 : decode cX3_leavesOf 25 = .ok (.iload_n 1, 1) := by decide +kernel
theorem dX3_leavesOf_26 : decode cX3_leavesOf 26 = .ok (.iaload, 1) := by decide +kernel
theorem dX3_leavesOf_27 : decode cX3_leavesOf 27 = .ok (.istore 4, 2) := by decide +kernel
theorem dX3_leavesOf_29 : decode cX3_leavesOf 29 = .ok (.iload 4, 2) := by decide +kernel
theorem dX3_leavesOf_31 : decode cX3_leavesOf 31 = .ok (.ifCond .le 83, 3) := by decide +kernel
theorem dX3_leavesOf_34 : decode cX3_leavesOf 34 = .ok (.aload_n 0, 1) := by decide +kernel
theorem dX3_leavesOf_35 : decode cX3_leavesOf 35 = .ok (.getfield 239, 3) := by decide +kernel
theorem dX3_leavesOf_38 : decode cX3_leavesOf 38 = .ok (.iload_n 1, 1) := by decide +kernel
theorem dX3_leavesOf_39 : decode cX3_leavesOf 39 = .ok (.iaload, 1) := by decide +kernel
theorem dX3_leavesOf_40 : decode cX3_leavesOf 40 = .ok (.iconst 1, 1) := by decide +kernel
theorem dX3_leavesOf_41 : decode cX3_leavesOf 41 = .ok (.if_icmp .ne 31, 3) := by decide +kernel
theorem dX3_leavesOf_44 : decode cX3_leavesOf 44 = .ok (.aload_n 0, 1) := by decide +kernel
theorem dX3_leavesOf_45 : decode cX3_leavesOf 45 = .ok (.iload 4, 2) := by decide +kernel
theorem dX3_leavesOf_47 : decode cX3_leavesOf 47 = .ok (.lload_n 2, 1) := by decide +kernel
theorem dX3_leavesOf_48 : decode cX3_leavesOf 48 = .ok (.aload_n 0, 1) := by decide +kernel
theorem dX3_leavesOf_49 : decode cX3_leavesOf 49 = .ok (.getfield 251, 3) := by decide +kernel
theorem dX3_leavesOf_52 : decode cX3_leavesOf 52 = .ok (.iload 4, 2) := by decide +kernel
theorem dX3_leavesOf_54 : decode cX3_leavesOf 54 = .ok (.laload, 1) := by decide +kernel
theorem dX3_leavesOf_55 : decode cX3_leavesOf 55 = .ok (.lrem, 1) := by decide +kernel
theorem dX3_leavesOf_56 : decode cX3_leavesOf 56 = .ok (.invokevirtual 279, 3) := by decide +kernel
theorem dX3_leavesOf_59 : decode cX3_leavesOf 59 = .ok (.lload_n 2, 1) := by decide +kernel
theorem dX3_leavesOf_60 : decode cX3_leavesOf 60 = .ok (.aload_n 0, 1) := by decide +kernel
theorem dX3_leavesOf_61 : decode cX3_leavesOf 61 = .ok (.getfield 251, 3) := by decide +kernel
theorem dX3_leavesOf_64 : decode cX3_leavesOf 64 = .ok (.iload 4, 2) := by decide +kernel
theorem dX3_leavesOf_66 : decode cX3_leavesOf 66 = .ok (.laload, 1) := by decide +kernel
theorem dX3_leavesOf_67 : decode cX3_leavesOf 67 = .ok (.ldiv, 1) := by decide +kernel
theorem dX3_leavesOf_68 : decode cX3_leavesOf 68 = .ok (.lstore_n 2, 1) := by decide +kernel
theorem dX3_leavesOf_69 : decode cX3_leavesOf 69 = .ok (.goto 33, 3) := by decide +kernel
theorem dX3_leavesOf_72 : decode cX3_leavesOf 72 = .ok (.lload_n 2, 1) := by decide +kernel
theorem dX3_leavesOf_73 : decode cX3_leavesOf 73 = .ok (.aload_n 0, 1) := by decide +kernel
theorem dX3_leavesOf_74 : decode cX3_leavesOf 74 = .ok (.getfield 251, 3) := by decide +kernel
theorem dX3_leavesOf_77 : decode cX3_leavesOf 77 = .ok (.iload 4, 2) := by decide +kernel
theorem dX3_leavesOf_79 : decode cX3_leavesOf 79 = .ok (.laload, 1) := by decide +kernel
theorem dX3_leavesOf_80 : decode cX3_leavesOf 80 = .ok (.lcmp, 1) := by decide +kernel
theorem dX3_leavesOf_81 : decode cX3_leavesOf 81 = .ok (.ifCond .ge 11, 3) := by decide +kernel
theorem dX3_leavesOf_84 : decode cX3_leavesOf 84 = .ok (.aload_n 0, 1) := by decide +kernel
theorem dX3_leavesOf_85 : decode cX3_leavesOf 85 = .ok (.iload 4, 2) := by decide +kernel
theorem dX3_leavesOf_87 : decode cX3_leavesOf 87 = .ok (.lload_n 2, 1) := by decide +kernel
theorem dX3_leavesOf_88 : decode cX3_leavesOf 88 = .ok (.invokevirtual 279, 3) := by decide +kernel
theorem dX3_leavesOf_91 : decode cX3_leavesOf 91 = .ok (.return_, 1) := by decide +kernel
theorem dX3_leavesOf_92 : decode cX3_leavesOf 92 = .ok (.lload_n 2, 1) := by decide +kernel
theorem dX3_leavesOf_93 : decode cX3_leavesOf 93 = .ok (.aload_n 0, 1) := by decide +kernel
theorem dX3_leavesOf_94 : decode cX3_leavesOf 94 = .ok (.getfield 251, 3) := by decide +kernel
theorem dX3_leavesOf_97 : decode cX3_leavesOf 97 = .ok (.iload 4, 2) := by decide +kernel
theorem dX3_leavesOf_99 : decode cX3_leavesOf 99 = .ok (.laload, 1) := by decide +kernel
theorem dX3_leavesOf_100 : decode cX3_leavesOf 100 = .ok (.lsub, 1) := by decide +kernel
theorem dX3_leavesOf_101 : decode cX3_leavesOf 101 = .ok (.lstore_n 2, 1) := by decide +kernel
theorem dX3_leavesOf_102 : decode cX3_leavesOf 102 = .ok (.aload_n 0, 1) := by decide +kernel
theorem dX3_leavesOf_103 : decode cX3_leavesOf 103 = .ok (.getfield 245, 3) := by decide +kernel
theorem dX3_leavesOf_106 : decode cX3_leavesOf 106 = .ok (.iload 4, 2) := by decide +kernel
theorem dX3_leavesOf_108 : decode cX3_leavesOf 108 = .ok (.iaload, 1) := by decide +kernel
theorem dX3_leavesOf_109 : decode cX3_leavesOf 109 = .ok (.istore 4, 2) := by decide +kernel
theorem dX3_leavesOf_111 : decode cX3_leavesOf 111 = .ok (.goto (-82), 3) := by decide +kernel
theorem dX3_leavesOf_114 : decode cX3_leavesOf 114 = .ok (.return_, 1) := by decide +kernel
abbrev cX3_knows : ByteArray := prog_4_method_51_code
def yX3_knows : MethodName := ⟨RX3, "knows", "(I)V"⟩
theorem dX3_knows_0 : decode cX3_knows 0 = .ok (.aload_n 0, 1) := by decide +kernel
theorem dX3_knows_1 : decode cX3_knows 1 = .ok (.aload_n 0, 1) := by decide +kernel
theorem dX3_knows_2 : decode cX3_knows 2 = .ok (.getfield 304, 3) := by decide +kernel
theorem dX3_knows_5 : decode cX3_knows 5 = .ok (.aload_n 0, 1) := by decide +kernel
theorem dX3_knows_6 : decode cX3_knows 6 = .ok (.getfield 42, 3) := by decide +kernel
theorem dX3_knows_9 : decode cX3_knows 9 = .ok (.invokestatic 20, 3) := by decide +kernel
theorem dX3_knows_12 : decode cX3_knows 12 = .ok (.putfield 304, 3) := by decide +kernel
theorem dX3_knows_15 : decode cX3_knows 15 = .ok (.aload_n 0, 1) := by decide +kernel
theorem dX3_knows_16 : decode cX3_knows 16 = .ok (.getfield 304, 3) := by decide +kernel
theorem dX3_knows_19 : decode cX3_knows 19 = .ok (.iload_n 1, 1) := by decide +kernel
theorem dX3_knows_20 : decode cX3_knows 20 = .ok (.iaload, 1) := by decide +kernel
theorem dX3_knows_21 : decode cX3_knows 21 = .ok (.aload_n 0, 1) := by decide +kernel
theorem dX3_knows_22 : decode cX3_knows 22 = .ok (.getfield 307, 3) := by decide +kernel
theorem dX3_knows_25 : decode cX3_knows 25 = .ok (.if_icmp .ne 4, 3) := by decide +kernel
theorem dX3_knows_28 : decode cX3_knows 28 = .ok (.return_, 1) := by decide +kernel
theorem dX3_knows_29 : decode cX3_knows 29 = .ok (.aload_n 0, 1) := by decide +kernel
theorem dX3_knows_30 : decode cX3_knows 30 = .ok (.getfield 304, 3) := by decide +kernel
theorem dX3_knows_33 : decode cX3_knows 33 = .ok (.iload_n 1, 1) := by decide +kernel
theorem dX3_knows_34 : decode cX3_knows 34 = .ok (.aload_n 0, 1) := by decide +kernel
theorem dX3_knows_35 : decode cX3_knows 35 = .ok (.getfield 307, 3) := by decide +kernel
theorem dX3_knows_38 : decode cX3_knows 38 = .ok (.iastore, 1) := by decide +kernel
theorem dX3_knows_39 : decode cX3_knows 39 = .ok (.aload_n 0, 1) := by decide +kernel
theorem dX3_knows_40 : decode cX3_knows 40 = .ok (.aload_n 0, 1) := by decide +kernel
theorem dX3_knows_41 : decode cX3_knows 41 = .ok (.getfield 310, 3) := by decide +kernel
theorem dX3_knows_44 : decode cX3_knows 44 = .ok (.aload_n 0, 1) := by decide +kernel
theorem dX3_knows_45 : decode cX3_knows 45 = .ok (.getfield 313, 3) := by decide +kernel
theorem dX3_knows_48 : decode cX3_knows 48 = .ok (.invokestatic 20, 3) := by decide +kernel
theorem dX3_knows_51 : decode cX3_knows 51 = .ok (.putfield 310, 3) := by decide +kernel
theorem dX3_knows_54 : decode cX3_knows 54 = .ok (.aload_n 0, 1) := by decide +kernel
theorem dX3_knows_55 : decode cX3_knows 55 = .ok (.getfield 310, 3) := by decide +kernel
theorem dX3_knows_58 : decode cX3_knows 58 = .ok (.aload_n 0, 1) := by decide +kernel
theorem dX3_knows_59 : decode cX3_knows 59 = .ok (.dup, 1) := by decide +kernel
theorem dX3_knows_60 : decode cX3_knows 60 = .ok (.getfield 313, 3) := by decide +kernel
theorem dX3_knows_63 : decode cX3_knows 63 = .ok (.dup_x1, 1) := by decide +kernel
theorem dX3_knows_64 : decode cX3_knows 64 = .ok (.iconst 1, 1) := by decide +kernel
theorem dX3_knows_65 : decode cX3_knows 65 = .ok (.iadd, 1) := by decide +kernel
theorem dX3_knows_66 : decode cX3_knows 66 = .ok (.putfield 313, 3) := by decide +kernel
theorem dX3_knows_69 : decode cX3_knows 69 = .ok (.iload_n 1, 1) := by decide +kernel
theorem dX3_knows_70 : decode cX3_knows 70 = .ok (.iastore, 1) := by decide +kernel
theorem dX3_knows_71 : decode cX3_knows 71 = .ok (.return_, 1) := by decide +kernel
abbrev cX3_terms : ByteArray := prog_4_method_57_code
def yX3_terms : MethodName := ⟨RX3, "terms", "(I)V"⟩
theorem dX3_terms_0 : decode cX3_terms 0 = .ok (.aload_n 0, 1) := by decide +kernel
theorem dX3_terms_1 : decode cX3_terms 1 = .ok (.getfield 33, 3) := by decide +kernel
theorem dX3_terms_4 : decode cX3_terms 4 = .ok (.iload_n 1, 1) := by decide +kernel
theorem dX3_terms_5 : decode cX3_terms 5 = .ok (.iaload, 1) := by decide +kernel
theorem dX3_terms_6 : decode cX3_terms 6 = .ok (.istore_n 2, 1) := by decide +kernel
theorem dX3_terms_7 : decode cX3_terms 7 = .ok (.iload_n 2, 1) := by decide +kernel
theorem dX3_terms_8 : decode cX3_terms 8 = .ok (.invokestatic 335, 3) := by decide +kernel
theorem dX3_terms_11 : decode cX3_terms 11 = .ok (.ifCond .eq 195, 3) := by decide +kernel
theorem dX3_terms_14 : decode cX3_terms 14 = .ok (.aload_n 0, 1) := by decide +kernel
theorem dX3_terms_15 : decode cX3_terms 15 = .ok (.getfield 48, 3) := by decide +kernel
theorem dX3_terms_18 : decode cX3_terms 18 = .ok (.iload_n 1, 1) := by decide +kernel
theorem dX3_terms_19 : decode cX3_terms 19 = .ok (.iaload, 1) := by decide +kernel
theorem dX3_terms_20 : decode cX3_terms 20 = .ok (.ifCond .ne 186, 3) := by decide +kernel
theorem dX3_terms_23 : decode cX3_terms 23 = .ok (.aload_n 0, 1) := by decide +kernel
theorem dX3_terms_24 : decode cX3_terms 24 = .ok (.iload_n 1, 1) := by decide +kernel
theorem dX3_terms_25 : decode cX3_terms 25 = .ok (.invokevirtual 325, 3) := by decide +kernel
theorem dX3_terms_28 : decode cX3_terms 28 = .ok (.ifCond .ge 12, 3) := by decide +kernel
theorem dX3_terms_31 : decode cX3_terms 31 = .ok (.aload_n 0, 1) := by decide +kernel
theorem dX3_terms_32 : decode cX3_terms 32 = .ok (.getfield 338, 3) := by decide +kernel
theorem dX3_terms_35 : decode cX3_terms 35 = .ok (.bipush 100, 2) := by decide +kernel
theorem dX3_terms_37 : decode cX3_terms 37 = .ok (.if_icmp .le 4, 3) := by decide +kernel
theorem dX3_terms_40 : decode cX3_terms 40 = .ok (.return_, 1) := by decide +kernel
theorem dX3_terms_41 : decode cX3_terms 41 = .ok (.iconst 0, 1) := by decide +kernel
theorem dX3_terms_42 : decode cX3_terms 42 = .ok (.istore_n 3, 1) := by decide +kernel
theorem dX3_terms_43 : decode cX3_terms 43 = .ok (.iload_n 3, 1) := by decide +kernel
theorem dX3_terms_44 : decode cX3_terms 44 = .ok (.aload_n 0, 1) := by decide +kernel
theorem dX3_terms_45 : decode cX3_terms 45 = .ok (.getfield 36, 3) := by decide +kernel
theorem dX3_terms_48 : decode cX3_terms 48 = .ok (.iload_n 1, 1) := by decide +kernel
theorem dX3_terms_49 : decode cX3_terms 49 = .ok (.iaload, 1) := by decide +kernel
theorem dX3_terms_50 : decode cX3_terms 50 = .ok (.if_icmp .ge 28, 3) := by decide +kernel
theorem dX3_terms_53 : decode cX3_terms 53 = .ok (.aload_n 0, 1) := by decide +kernel
theorem dX3_terms_54 : decode cX3_terms 54 = .ok (.iload_n 1, 1) := by decide +kernel
theorem dX3_terms_55 : decode cX3_terms 55 = .ok (.iload_n 3, 1) := by decide +kernel
theorem dX3_terms_56 : decode cX3_terms 56 = .ok (.invokevirtual 109, 3) := by decide +kernel
theorem dX3_terms_59 : decode cX3_terms 59 = .ok (.ifCond .eq 13, 3) := by decide +kernel
theorem dX3_terms_62 : decode cX3_terms 62 = .ok (.aload_n 0, 1) := by decide +kernel
theorem dX3_terms_63 : decode cX3_terms 63 = .ok (.aload_n 0, 1) := by decide +kernel
theorem dX3_terms_64 : decode cX3_terms 64 = .ok (.iload_n 1, 1) := by decide +kernel
theorem dX3_terms_65 : decode cX3_terms 65 = .ok (.iload_n 3, 1) := by decide +kernel
theorem dX3_terms_66 : decode cX3_terms 66 = .ok (.invokevirtual 65, 3) := by decide +kernel
theorem dX3_terms_69 : decode cX3_terms 69 = .ok (.invokevirtual 341, 3) := by decide +kernel
theorem dX3_terms_72 : decode cX3_terms 72 = .ok (.iinc 3 1, 3) := by decide +kernel
theorem dX3_terms_75 : decode cX3_terms 75 = .ok (.goto (-32), 3) := by decide +kernel
theorem dX3_terms_78 : decode cX3_terms 78 = .ok (.aload_n 0, 1) := by decide +kernel
theorem dX3_terms_79 : decode cX3_terms 79 = .ok (.iload_n 1, 1) := by decide +kernel
theorem dX3_terms_80 : decode cX3_terms 80 = .ok (.invokevirtual 325, 3) := by decide +kernel
theorem dX3_terms_83 : decode cX3_terms 83 = .ok (.ifCond .lt 4, 3) := by decide +kernel
theorem dX3_terms_86 : decode cX3_terms 86 = .ok (.return_, 1) := by decide +kernel
theorem dX3_terms_87 : decode cX3_terms 87 = .ok (.aload_n 0, 1) := by decide +kernel
theorem dX3_terms_88 : decode cX3_terms 88 = .ok (.aload_n 0, 1) := by decide +kernel
theorem dX3_terms_89 : decode cX3_terms 89 = .ok (.getfield 316, 3) := by decide +kernel
theorem dX3_terms_92 : decode cX3_terms 92 = .ok (.aload_n 0, 1) := by decide +kernel
theorem dX3_terms_93 : decode cX3_terms 93 = .ok (.getfield 42, 3) := by decide +kernel
theorem dX3_terms_96 : decode cX3_terms 96 = .ok (.invokestatic 20, 3) := by decide +kernel
theorem dX3_terms_99 : decode cX3_terms 99 = .ok (.putfield 316, 3) := by decide +kernel
theorem dX3_terms_102 : decode cX3_terms 102 = .ok (.aload_n 0, 1) := by decide +kernel
theorem dX3_terms_103 : decode cX3_terms 103 = .ok (.aload_n 0, 1) := by decide +kernel
theorem dX3_terms_104 : decode cX3_terms 104 = .ok (.getfield 319, 3) := by decide +kernel
theorem dX3_terms_107 : decode cX3_terms 107 = .ok (.aload_n 0, 1) := by decide +kernel
theorem dX3_terms_108 : decode cX3_terms 108 = .ok (.getfield 42, 3) := by decide +kernel
theorem dX3_terms_111 : decode cX3_terms 111 = .ok (.invokestatic 20, 3) := by decide +kernel
theorem dX3_terms_114 : decode cX3_terms 114 = .ok (.putfield 319, 3) := by decide +kernel
theorem dX3_terms_117 : decode cX3_terms 117 = .ok (.aload_n 0, 1) := by decide +kernel
theorem dX3_terms_118 : decode cX3_terms 118 = .ok (.aload_n 0, 1) := by decide +kernel
theorem dX3_terms_119 : decode cX3_terms 119 = .ok (.getfield 344, 3) := by decide +kernel
theorem dX3_terms_122 : decode cX3_terms 122 = .ok (.aload_n 0, 1) := by decide +kernel
theorem dX3_terms_123 : decode cX3_terms 123 = .ok (.getfield 338, 3) := by decide +kernel
theorem dX3_terms_126 : decode cX3_terms 126 = .ok (.invokestatic 20, 3) := by decide +kernel
theorem dX3_terms_129 : decode cX3_terms 129 = .ok (.putfield 344, 3) := by decide +kernel
theorem dX3_terms_132 : decode cX3_terms 132 = .ok (.aload_n 0, 1) := by decide +kernel
theorem dX3_terms_133 : decode cX3_terms 133 = .ok (.aload_n 0, 1) := by decide +kernel
theorem dX3_terms_134 : decode cX3_terms 134 = .ok (.getfield 322, 3) := by decide +kernel
theorem dX3_terms_137 : decode cX3_terms 137 = .ok (.aload_n 0, 1) := by decide +kernel
theorem dX3_terms_138 : decode cX3_terms 138 = .ok (.getfield 338, 3) := by decide +kernel
theorem dX3_terms_141 : decode cX3_terms 141 = .ok (.invokestatic 20, 3) := by decide +kernel
theorem dX3_terms_144 : decode cX3_terms 144 = .ok (.putfield 322, 3) := by decide +kernel
theorem dX3_terms_147 : decode cX3_terms 147 = .ok (.aload_n 0, 1) := by decide +kernel
theorem dX3_terms_148 : decode cX3_terms 148 = .ok (.getfield 316, 3) := by decide +kernel
theorem dX3_terms_151 : decode cX3_terms 151 = .ok (.iload_n 1, 1) := by decide +kernel
theorem dX3_terms_152 : decode cX3_terms 152 = .ok (.aload_n 0, 1) := by decide +kernel
theorem dX3_terms_153 : decode cX3_terms 153 = .ok (.getfield 307, 3) := by decide +kernel
theorem dX3_terms_156 : decode cX3_terms 156 = .ok (.iastore, 1) := by decide +kernel
theorem dX3_terms_157 : decode cX3_terms 157 = .ok (.aload_n 0, 1) := by decide +kernel
theorem dX3_terms_158 : decode cX3_terms 158 = .ok (.getfield 319, 3) := by decide +kernel
theorem dX3_terms_161 : decode cX3_terms 161 = .ok (.iload_n 1, 1) := by decide +kernel
theorem dX3_terms_162 : decode cX3_terms 162 = .ok (.aload_n 0, 1) := by decide +kernel
theorem dX3_terms_163 : decode cX3_terms 163 = .ok (.getfield 338, 3) := by decide +kernel
theorem dX3_terms_166 : decode cX3_terms 166 = .ok (.iastore, 1) := by decide +kernel
theorem dX3_terms_167 : decode cX3_terms 167 = .ok (.aload_n 0, 1) := by decide +kernel
theorem dX3_terms_168 : decode cX3_terms 168 = .ok (.getfield 344, 3) := by decide +kernel
theorem dX3_terms_171 : decode cX3_terms 171 = .ok (.aload_n 0, 1) := by decide +kernel
theorem dX3_terms_172 : decode cX3_terms 172 = .ok (.getfield 338, 3) := by decide +kernel
theorem dX3_terms_175 : decode cX3_terms 175 = .ok (.iload_n 1, 1) := by decide +kernel
theorem dX3_terms_176 : decode cX3_terms 176 = .ok (.iastore, 1) := by decide +kernel
theorem dX3_terms_177 : decode cX3_terms 177 = .ok (.aload_n 0, 1) := by decide +kernel
theorem dX3_terms_178 : decode cX3_terms 178 = .ok (.getfield 322, 3) := by decide +kernel
theorem dX3_terms_181 : decode cX3_terms 181 = .ok (.aload_n 0, 1) := by decide +kernel
theorem dX3_terms_182 : decode cX3_terms 182 = .ok (.getfield 338, 3) := by decide +kernel
theorem dX3_terms_185 : decode cX3_terms 185 = .ok (.aload_n 0, 1) := by decide +kernel
theorem dX3_terms_186 : decode cX3_terms 186 = .ok (.getfield 338, 3) := by decide +kernel
theorem dX3_terms_189 : decode cX3_terms 189 = .ok (.iastore, 1) := by decide +kernel
theorem dX3_terms_190 : decode cX3_terms 190 = .ok (.aload_n 0, 1) := by decide +kernel
theorem dX3_terms_191 : decode cX3_terms 191 = .ok (.dup, 1) := by decide +kernel
theorem dX3_terms_192 : decode cX3_terms 192 = .ok (.getfield 338, 3) := by decide +kernel
theorem dX3_terms_195 : decode cX3_terms 195 = .ok (.iconst 1, 1) := by decide +kernel
theorem dX3_terms_196 : decode cX3_terms 196 = .ok (.iadd, 1) := by decide +kernel
theorem dX3_terms_197 : decode cX3_terms 197 = .ok (.putfield 338, 3) := by decide +kernel
theorem dX3_terms_200 : decode cX3_terms 200 = .ok (.aload_n 0, 1) := by decide +kernel
theorem dX3_terms_201 : decode cX3_terms 201 = .ok (.iconst 1, 1) := by decide +kernel
theorem dX3_terms_202 : decode cX3_terms 202 = .ok (.putfield 331, 3) := by decide +kernel
theorem dX3_terms_205 : decode cX3_terms 205 = .ok (.return_, 1) := by decide +kernel
theorem dX3_terms_206 : decode cX3_terms 206 = .ok (.iconst 0, 1) := by decide +kernel
theorem dX3_terms_207 : decode cX3_terms 207 = .ok (.istore_n 3, 1) := by decide +kernel
theorem dX3_terms_208 : decode cX3_terms 208 = .ok (.iload_n 3, 1) := by decide +kernel
theorem dX3_terms_209 : decode cX3_terms 209 = .ok (.aload_n 0, 1) := by decide +kernel
theorem dX3_terms_210 : decode cX3_terms 210 = .ok (.getfield 36, 3) := by decide +kernel
theorem dX3_terms_213 : decode cX3_terms 213 = .ok (.iload_n 1, 1) := by decide +kernel
theorem dX3_terms_214 : decode cX3_terms 214 = .ok (.iaload, 1) := by decide +kernel
theorem dX3_terms_215 : decode cX3_terms 215 = .ok (.if_icmp .ge 28, 3) := by decide +kernel
theorem dX3_terms_218 : decode cX3_terms 218 = .ok (.aload_n 0, 1) := by decide +kernel
theorem dX3_terms_219 : decode cX3_terms 219 = .ok (.iload_n 1, 1) := by decide +kernel
theorem dX3_terms_220 : decode cX3_terms 220 = .ok (.iload_n 3, 1) := by decide +kernel
theorem dX3_terms_221 : decode cX3_terms 221 = .ok (.invokevirtual 109, 3) := by decide +kernel
theorem dX3_terms_224 : decode cX3_terms 224 = .ok (.ifCond .eq 13, 3) := by decide +kernel
theorem dX3_terms_227 : decode cX3_terms 227 = .ok (.aload_n 0, 1) := by decide +kernel
theorem dX3_terms_228 : decode cX3_terms 228 = .ok (.aload_n 0, 1) := by decide +kernel
theorem dX3_terms_229 : decode cX3_terms 229 = .ok (.iload_n 1, 1) := by decide +kernel
theorem dX3_terms_230 : decode cX3_terms 230 = .ok (.iload_n 3, 1) := by decide +kernel
theorem dX3_terms_231 : decode cX3_terms 231 = .ok (.invokevirtual 65, 3) := by decide +kernel
theorem dX3_terms_234 : decode cX3_terms 234 = .ok (.invokevirtual 341, 3) := by decide +kernel
theorem dX3_terms_237 : decode cX3_terms 237 = .ok (.iinc 3 1, 3) := by decide +kernel
theorem dX3_terms_240 : decode cX3_terms 240 = .ok (.goto (-32), 3) := by decide +kernel
theorem dX3_terms_243 : decode cX3_terms 243 = .ok (.return_, 1) := by decide +kernel
abbrev cX3_isTerm : ByteArray := prog_4_method_56_code
def yX3_isTerm : MethodName := ⟨RX3, "isTerm", "(I)Z"⟩
theorem dX3_isTerm_0 : decode cX3_isTerm 0 = .ok (.iload_n 0, 1) := by decide +kernel
theorem dX3_isTerm_1 : decode cX3_isTerm 1 = .ok (.iconst 2, 1) := by decide +kernel
theorem dX3_isTerm_2 : decode cX3_isTerm 2 = .ok (.if_icmp .eq 13, 3) := by decide +kernel
theorem dX3_isTerm_5 : decode cX3_isTerm 5 = .ok (.iload_n 0, 1) := by decide +kernel
theorem dX3_isTerm_6 : decode cX3_isTerm 6 = .ok (.iconst 4, 1) := by decide +kernel
theorem dX3_isTerm_7 : decode cX3_isTerm 7 = .ok (.if_icmp .eq 8, 3) := by decide +kernel
theorem dX3_isTerm_10 : decode cX3_isTerm 10 = .ok (.iload_n 0, 1) := by decide +kernel
theorem dX3_isTerm_11 : decode cX3_isTerm 11 = .ok (.iconst 5, 1) := by decide +kernel
theorem dX3_isTerm_12 : decode cX3_isTerm 12 = .ok (.if_icmp .ne 7, 3) := by decide +kernel
theorem dX3_isTerm_15 : decode cX3_isTerm 15 = .ok (.iconst 1, 1) := by decide +kernel
theorem dX3_isTerm_16 : decode cX3_isTerm 16 = .ok (.goto 4, 3) := by decide +kernel
theorem dX3_isTerm_19 : decode cX3_isTerm 19 = .ok (.iconst 0, 1) := by decide +kernel
theorem dX3_isTerm_20 : decode cX3_isTerm 20 = .ok (.ireturn, 1) := by decide +kernel
abbrev cX3_indexOf : ByteArray := prog_4_method_52_code
def yX3_indexOf : MethodName := ⟨RX3, "indexOf", "(I)I"⟩
theorem dX3_indexOf_0 : decode cX3_indexOf 0 = .ok (.iload_n 1, 1) := by decide +kernel
theorem dX3_indexOf_1 : decode cX3_indexOf 1 = .ok (.aload_n 0, 1) := by decide +kernel
theorem dX3_indexOf_2 : decode cX3_indexOf 2 = .ok (.getfield 316, 3) := by decide +kernel
theorem dX3_indexOf_5 : decode cX3_indexOf 5 = .ok (.arraylength, 1) := by decide +kernel
theorem dX3_indexOf_6 : decode cX3_indexOf 6 = .ok (.if_icmp .ge 25, 3) := by decide +kernel
theorem dX3_indexOf_9 : decode cX3_indexOf 9 = .ok (.aload_n 0, 1) := by decide +kernel
theorem dX3_indexOf_10 : decode cX3_indexOf 10 = .ok (.getfield 316, 3) := by decide +kernel
theorem dX3_indexOf_13 : decode cX3_indexOf 13 = .ok (.iload_n 1, 1) := by decide +kernel
theorem dX3_indexOf_14 : decode cX3_indexOf 14 = .ok (.iaload, 1) := by decide +kernel
theorem dX3_indexOf_15 : decode cX3_indexOf 15 = .ok (.aload_n 0, 1) := by decide +kernel
theorem dX3_indexOf_16 : decode cX3_indexOf 16 = .ok (.getfield 307, 3) := by decide +kernel
theorem dX3_indexOf_19 : decode cX3_indexOf 19 = .ok (.if_icmp .ne 12, 3) := by decide +kernel
theorem dX3_indexOf_22 : decode cX3_indexOf 22 = .ok (.aload_n 0, 1) := by decide +kernel
theorem dX3_indexOf_23 : decode cX3_indexOf 23 = .ok (.getfield 319, 3) := by decide +kernel
theorem dX3_indexOf_26 : decode cX3_indexOf 26 = .ok (.iload_n 1, 1) := by decide +kernel
theorem dX3_indexOf_27 : decode cX3_indexOf 27 = .ok (.iaload, 1) := by decide +kernel
theorem dX3_indexOf_28 : decode cX3_indexOf 28 = .ok (.goto 4, 3) := by decide +kernel
theorem dX3_indexOf_31 : decode cX3_indexOf 31 = .ok (.iconst (-1), 1) := by decide +kernel
theorem dX3_indexOf_32 : decode cX3_indexOf 32 = .ok (.ireturn, 1) := by decide +kernel
abbrev cX3_closing : ByteArray := prog_4_method_67_code
def yX3_closing : MethodName := ⟨RX3, "closing", "()V"⟩
theorem dX3_closing_0 : decode cX3_closing 0 = .ok (.aload_n 0, 1) := by decide +kernel
theorem dX3_closing_1 : decode cX3_closing 1 = .ok (.iconst 0, 1) := by decide +kernel
theorem dX3_closing_2 : decode cX3_closing 2 = .ok (.putfield 331, 3) := by decide +kernel
theorem dX3_closing_5 : decode cX3_closing 5 = .ok (.aload_n 0, 1) := by decide +kernel
theorem dX3_closing_6 : decode cX3_closing 6 = .ok (.invokevirtual 398, 3) := by decide +kernel
theorem dX3_closing_9 : decode cX3_closing 9 = .ok (.aload_n 0, 1) := by decide +kernel
theorem dX3_closing_10 : decode cX3_closing 10 = .ok (.getfield 338, 3) := by decide +kernel
theorem dX3_closing_13 : decode cX3_closing 13 = .ok (.bipush 100, 2) := by decide +kernel
theorem dX3_closing_15 : decode cX3_closing 15 = .ok (.if_icmp .le 4, 3) := by decide +kernel
theorem dX3_closing_18 : decode cX3_closing 18 = .ok (.return_, 1) := by decide +kernel
theorem dX3_closing_19 : decode cX3_closing 19 = .ok (.iconst 0, 1) := by decide +kernel
theorem dX3_closing_20 : decode cX3_closing 20 = .ok (.istore_n 1, 1) := by decide +kernel
theorem dX3_closing_21 : decode cX3_closing 21 = .ok (.iload_n 1, 1) := by decide +kernel
theorem dX3_closing_22 : decode cX3_closing 22 = .ok (.aload_n 0, 1) := by decide +kernel
theorem dX3_closing_23 : decode cX3_closing 23 = .ok (.getfield 338, 3) := by decide +kernel
theorem dX3_closing_26 : decode cX3_closing 26 = .ok (.if_icmp .ge 85, 3) := by decide +kernel
theorem dX3_closing_29 : decode cX3_closing 29 = .ok (.aload_n 0, 1) := by decide +kernel
theorem dX3_closing_30 : decode cX3_closing 30 = .ok (.getfield 33, 3) := by decide +kernel
theorem dX3_closing_33 : decode cX3_closing 33 = .ok (.aload_n 0, 1) := by decide +kernel
theorem dX3_closing_34 : decode cX3_closing 34 = .ok (.getfield 344, 3) := by decide +kernel
theorem dX3_closing_37 : decode cX3_closing 37 = .ok (.iload_n 1, 1) := by decide +kernel
theorem dX3_closing_38 : decode cX3_closing 38 = .ok (.iaload, 1) := by decide +kernel
theorem dX3_closing_39 : decode cX3_closing 39 = .ok (.iaload, 1) := by decide +kernel
theorem dX3_closing_40 : decode cX3_closing 40 = .ok (.istore_n 2, 1) := by decide +kernel
theorem dX3_closing_41 : decode cX3_closing 41 = .ok (.iload_n 2, 1) := by decide +kernel
theorem dX3_closing_42 : decode cX3_closing 42 = .ok (.iconst 4, 1) := by decide +kernel
theorem dX3_closing_43 : decode cX3_closing 43 = .ok (.if_icmp .eq 11, 3) := by decide +kernel
theorem dX3_closing_46 : decode cX3_closing 46 = .ok (.iload_n 2, 1) := by decide +kernel
theorem dX3_closing_47 : decode cX3_closing 47 = .ok (.iconst 5, 1) := by decide +kernel
theorem dX3_closing_48 : decode cX3_closing 48 = .ok (.if_icmp .eq 6, 3) := by decide +kernel
theorem dX3_closing_51 : decode cX3_closing 51 = .ok (.goto 54, 3) := by decide +kernel
theorem dX3_closing_54 : decode cX3_closing 54 = .ok (.iconst 0, 1) := by decide +kernel
theorem dX3_closing_55 : decode cX3_closing 55 = .ok (.istore_n 3, 1) := by decide +kernel
theorem dX3_closing_56 : decode cX3_closing 56 = .ok (.iload_n 3, 1) := by decide +kernel
theorem dX3_closing_57 : decode cX3_closing 57 = .ok (.iload_n 1, 1) := by decide +kernel
theorem dX3_closing_58 : decode cX3_closing 58 = .ok (.if_icmp .ge 47, 3) := by decide +kernel
theorem dX3_closing_61 : decode cX3_closing 61 = .ok (.aload_n 0, 1) := by decide +kernel
theorem dX3_closing_62 : decode cX3_closing 62 = .ok (.iload_n 1, 1) := by decide +kernel
theorem dX3_closing_63 : decode cX3_closing 63 = .ok (.invokevirtual 328, 3) := by decide +kernel
theorem dX3_closing_66 : decode cX3_closing 66 = .ok (.aload_n 0, 1) := by decide +kernel
theorem dX3_closing_67 : decode cX3_closing 67 = .ok (.iload_n 3, 1) := by decide +kernel
theorem dX3_closing_68 : decode cX3_closing 68 = .ok (.invokevirtual 328, 3) := by decide +kernel
theorem dX3_closing_71 : decode cX3_closing 71 = .ok (.if_icmp .eq 28, 3) := by decide +kernel
theorem dX3_closing_74 : decode cX3_closing 74 = .ok (.aload_n 0, 1) := by decide +kernel
theorem dX3_closing_75 : decode cX3_closing 75 = .ok (.aload_n 0, 1) := by decide +kernel
theorem dX3_closing_76 : decode cX3_closing 76 = .ok (.getfield 344, 3) := by decide +kernel
theorem dX3_closing_79 : decode cX3_closing 79 = .ok (.iload_n 1, 1) := by decide +kernel
theorem dX3_closing_80 : decode cX3_closing 80 = .ok (.iaload, 1) := by decide +kernel
theorem dX3_closing_81 : decode cX3_closing 81 = .ok (.aload_n 0, 1) := by decide +kernel
theorem dX3_closing_82 : decode cX3_closing 82 = .ok (.getfield 344, 3) := by decide +kernel
theorem dX3_closing_85 : decode cX3_closing 85 = .ok (.iload_n 3, 1) := by decide +kernel
theorem dX3_closing_86 : decode cX3_closing 86 = .ok (.iaload, 1) := by decide +kernel
theorem dX3_closing_87 : decode cX3_closing 87 = .ok (.invokevirtual 401, 3) := by decide +kernel
theorem dX3_closing_90 : decode cX3_closing 90 = .ok (.ifCond .eq 9, 3) := by decide +kernel
theorem dX3_closing_93 : decode cX3_closing 93 = .ok (.aload_n 0, 1) := by decide +kernel
theorem dX3_closing_94 : decode cX3_closing 94 = .ok (.iload_n 1, 1) := by decide +kernel
theorem dX3_closing_95 : decode cX3_closing 95 = .ok (.iload_n 3, 1) := by decide +kernel
theorem dX3_closing_96 : decode cX3_closing 96 = .ok (.invokevirtual 382, 3) := by decide +kernel
theorem dX3_closing_99 : decode cX3_closing 99 = .ok (.iinc 3 1, 3) := by decide +kernel
theorem dX3_closing_102 : decode cX3_closing 102 = .ok (.goto (-46), 3) := by decide +kernel
theorem dX3_closing_105 : decode cX3_closing 105 = .ok (.iinc 1 1, 3) := by decide +kernel
theorem dX3_closing_108 : decode cX3_closing 108 = .ok (.goto (-87), 3) := by decide +kernel
theorem dX3_closing_111 : decode cX3_closing 111 = .ok (.aload_n 0, 1) := by decide +kernel
theorem dX3_closing_112 : decode cX3_closing 112 = .ok (.invokevirtual 404, 3) := by decide +kernel
theorem dX3_closing_115 : decode cX3_closing 115 = .ok (.aload_n 0, 1) := by decide +kernel
theorem dX3_closing_116 : decode cX3_closing 116 = .ok (.getfield 331, 3) := by decide +kernel
theorem dX3_closing_119 : decode cX3_closing 119 = .ok (.ifCond .eq 12, 3) := by decide +kernel
theorem dX3_closing_122 : decode cX3_closing 122 = .ok (.aload_n 0, 1) := by decide +kernel
theorem dX3_closing_123 : decode cX3_closing 123 = .ok (.getfield 338, 3) := by decide +kernel
theorem dX3_closing_126 : decode cX3_closing 126 = .ok (.bipush 100, 2) := by decide +kernel
theorem dX3_closing_128 : decode cX3_closing 128 = .ok (.if_icmp .le (-128), 3) := by decide +kernel
theorem dX3_closing_131 : decode cX3_closing 131 = .ok (.return_, 1) := by decide +kernel
abbrev cX3_takeIn : ByteArray := prog_4_method_63_code
def yX3_takeIn : MethodName := ⟨RX3, "takeIn", "()V"⟩
theorem dX3_takeIn_0 : decode cX3_takeIn 0 = .ok (.aload_n 0, 1) := by decide +kernel
theorem dX3_takeIn_1 : decode cX3_takeIn 1 = .ok (.getfield 376, 3) := by decide +kernel
theorem dX3_takeIn_4 : decode cX3_takeIn 4 = .ok (.aload_n 0, 1) := by decide +kernel
theorem dX3_takeIn_5 : decode cX3_takeIn 5 = .ok (.getfield 313, 3) := by decide +kernel
theorem dX3_takeIn_8 : decode cX3_takeIn 8 = .ok (.if_icmp .lt 14, 3) := by decide +kernel
theorem dX3_takeIn_11 : decode cX3_takeIn 11 = .ok (.aload_n 0, 1) := by decide +kernel
theorem dX3_takeIn_12 : decode cX3_takeIn 12 = .ok (.getfield 379, 3) := by decide +kernel
theorem dX3_takeIn_15 : decode cX3_takeIn 15 = .ok (.aload_n 0, 1) := by decide +kernel
theorem dX3_takeIn_16 : decode cX3_takeIn 16 = .ok (.getfield 338, 3) := by decide +kernel
theorem dX3_takeIn_19 : decode cX3_takeIn 19 = .ok (.if_icmp .ge 252, 3) := by decide +kernel
theorem dX3_takeIn_22 : decode cX3_takeIn 22 = .ok (.aload_n 0, 1) := by decide +kernel
theorem dX3_takeIn_23 : decode cX3_takeIn 23 = .ok (.getfield 338, 3) := by decide +kernel
theorem dX3_takeIn_26 : decode cX3_takeIn 26 = .ok (.bipush 100, 2) := by decide +kernel
theorem dX3_takeIn_28 : decode cX3_takeIn 28 = .ok (.if_icmp .gt 243, 3) := by decide +kernel
theorem dX3_takeIn_31 : decode cX3_takeIn 31 = .ok (.aload_n 0, 1) := by decide +kernel
theorem dX3_takeIn_32 : decode cX3_takeIn 32 = .ok (.iconst 1, 1) := by decide +kernel
theorem dX3_takeIn_33 : decode cX3_takeIn 33 = .ok (.putfield 331, 3) := by decide +kernel
theorem dX3_takeIn_36 : decode cX3_takeIn 36 = .ok (.aload_n 0, 1) := by decide +kernel
theorem dX3_takeIn_37 : decode cX3_takeIn 37 = .ok (.getfield 376, 3) := by decide +kernel
theorem dX3_takeIn_40 : decode cX3_takeIn 40 = .ok (.aload_n 0, 1) := by decide +kernel
theorem dX3_takeIn_41 : decode cX3_takeIn 41 = .ok (.getfield 313, 3) := by decide +kernel
theorem dX3_takeIn_44 : decode cX3_takeIn 44 = .ok (.if_icmp .ge 197, 3) := by decide +kernel
theorem dX3_takeIn_47 : decode cX3_takeIn 47 = .ok (.aload_n 0, 1) := by decide +kernel
theorem dX3_takeIn_48 : decode cX3_takeIn 48 = .ok (.getfield 310, 3) := by decide +kernel
theorem dX3_takeIn_51 : decode cX3_takeIn 51 = .ok (.aload_n 0, 1) := by decide +kernel
theorem dX3_takeIn_52 : decode cX3_takeIn 52 = .ok (.dup, 1) := by decide +kernel
theorem dX3_takeIn_53 : decode cX3_takeIn 53 = .ok (.getfield 376, 3) := by decide +kernel
theorem dX3_takeIn_56 : decode cX3_takeIn 56 = .ok (.dup_x1, 1) := by decide +kernel
theorem dX3_takeIn_57 : decode cX3_takeIn 57 = .ok (.iconst 1, 1) := by decide +kernel
theorem dX3_takeIn_58 : decode cX3_takeIn 58 = .ok (.iadd, 1) := by decide +kernel
theorem dX3_takeIn_59 : decode cX3_takeIn 59 = .ok (.putfield 376, 3) := by decide +kernel
theorem dX3_takeIn_62 : decode cX3_takeIn 62 = .ok (.iaload, 1) := by decide +kernel
theorem dX3_takeIn_63 : decode cX3_takeIn 63 = .ok (.istore_n 1, 1) := by decide +kernel
theorem dX3_takeIn_64 : decode cX3_takeIn 64 = .ok (.aload_n 0, 1) := by decide +kernel
theorem dX3_takeIn_65 : decode cX3_takeIn 65 = .ok (.iload_n 1, 1) := by decide +kernel
theorem dX3_takeIn_66 : decode cX3_takeIn 66 = .ok (.invokevirtual 341, 3) := by decide +kernel
theorem dX3_takeIn_69 : decode cX3_takeIn 69 = .ok (.aload_n 0, 1) := by decide +kernel
theorem dX3_takeIn_70 : decode cX3_takeIn 70 = .ok (.getfield 338, 3) := by decide +kernel
theorem dX3_takeIn_73 : decode cX3_takeIn 73 = .ok (.bipush 100, 2) := by decide +kernel
theorem dX3_takeIn_75 : decode cX3_takeIn 75 = .ok (.if_icmp .le 4, 3) := by decide +kernel
theorem dX3_takeIn_78 : decode cX3_takeIn 78 = .ok (.return_, 1) := by decide +kernel
theorem dX3_takeIn_79 : decode cX3_takeIn 79 = .ok (.aload_n 0, 1) := by decide +kernel
theorem dX3_takeIn_80 : decode cX3_takeIn 80 = .ok (.getfield 33, 3) := by decide +kernel
theorem dX3_takeIn_83 : decode cX3_takeIn 83 = .ok (.iload_n 1, 1) := by decide +kernel
theorem dX3_takeIn_84 : decode cX3_takeIn 84 = .ok (.iaload, 1) := by decide +kernel
theorem dX3_takeIn_85 : decode cX3_takeIn 85 = .ok (.bipush 15, 2) := by decide +kernel
theorem dX3_takeIn_87 : decode cX3_takeIn 87 = .ok (.if_icmp .ne 7, 3) := by decide +kernel
theorem dX3_takeIn_90 : decode cX3_takeIn 90 = .ok (.iconst 1, 1) := by decide +kernel
theorem dX3_takeIn_91 : decode cX3_takeIn 91 = .ok (.goto 4, 3) := by decide +kernel
theorem dX3_takeIn_94 : decode cX3_takeIn 94 = .ok (.iconst 0, 1) := by decide +kernel
theorem dX3_takeIn_95 : decode cX3_takeIn 95 = .ok (.istore_n 2, 1) := by decide +kernel
theorem dX3_takeIn_96 : decode cX3_takeIn 96 = .ok (.iload_n 2, 1) := by decide +kernel
theorem dX3_takeIn_97 : decode cX3_takeIn 97 = .ok (.ifCond .eq 12, 3) := by decide +kernel
theorem dX3_takeIn_100 : decode cX3_takeIn 100 = .ok (.aload_n 0, 1) := by decide +kernel
theorem dX3_takeIn_101 : decode cX3_takeIn 101 = .ok (.iload_n 1, 1) := by decide +kernel
theorem dX3_takeIn_102 : decode cX3_takeIn 102 = .ok (.iconst 0, 1) := by decide +kernel
theorem dX3_takeIn_103 : decode cX3_takeIn 103 = .ok (.invokevirtual 65, 3) := by decide +kernel
theorem dX3_takeIn_106 : decode cX3_takeIn 106 = .ok (.goto 4, 3) := by decide +kernel
theorem dX3_takeIn_109 : decode cX3_takeIn 109 = .ok (.iload_n 1, 1) := by decide +kernel
theorem dX3_takeIn_110 : decode cX3_takeIn 110 = .ok (.istore_n 3, 1) := by decide +kernel
theorem dX3_takeIn_111 : decode cX3_takeIn 111 = .ok (.aload_n 0, 1) := by decide +kernel
theorem dX3_takeIn_112 : decode cX3_takeIn 112 = .ok (.getfield 33, 3) := by decide +kernel
theorem dX3_takeIn_115 : decode cX3_takeIn 115 = .ok (.iload_n 3, 1) := by decide +kernel
theorem dX3_takeIn_116 : decode cX3_takeIn 116 = .ok (.iaload, 1) := by decide +kernel
theorem dX3_takeIn_117 : decode cX3_takeIn 117 = .ok (.bipush 9, 2) := by decide +kernel
theorem dX3_takeIn_119 : decode cX3_takeIn 119 = .ok (.if_icmp .ne 31, 3) := by decide +kernel
theorem dX3_takeIn_122 : decode cX3_takeIn 122 = .ok (.iload_n 2, 1) := by decide +kernel
theorem dX3_takeIn_123 : decode cX3_takeIn 123 = .ok (.ifCond .ne 27, 3) := by decide +kernel
theorem dX3_takeIn_126 : decode cX3_takeIn 126 = .ok (.aload_n 0, 1) := by decide +kernel
theorem dX3_takeIn_127 : decode cX3_takeIn 127 = .ok (.aload_n 0, 1) := by decide +kernel
theorem dX3_takeIn_128 : decode cX3_takeIn 128 = .ok (.aload_n 0, 1) := by decide +kernel
theorem dX3_takeIn_129 : decode cX3_takeIn 129 = .ok (.iload_n 3, 1) := by decide +kernel
theorem dX3_takeIn_130 : decode cX3_takeIn 130 = .ok (.iconst 0, 1) := by decide +kernel
theorem dX3_takeIn_131 : decode cX3_takeIn 131 = .ok (.invokevirtual 65, 3) := by decide +kernel
theorem dX3_takeIn_134 : decode cX3_takeIn 134 = .ok (.invokevirtual 325, 3) := by decide +kernel
theorem dX3_takeIn_137 : decode cX3_takeIn 137 = .ok (.aload_n 0, 1) := by decide +kernel
theorem dX3_takeIn_138 : decode cX3_takeIn 138 = .ok (.aload_n 0, 1) := by decide +kernel
theorem dX3_takeIn_139 : decode cX3_takeIn 139 = .ok (.iload_n 3, 1) := by decide +kernel
theorem dX3_takeIn_140 : decode cX3_takeIn 140 = .ok (.iconst 1, 1) := by decide +kernel
theorem dX3_takeIn_141 : decode cX3_takeIn 141 = .ok (.invokevirtual 65, 3) := by decide +kernel
theorem dX3_takeIn_144 : decode cX3_takeIn 144 = .ok (.invokevirtual 325, 3) := by decide +kernel
theorem dX3_takeIn_147 : decode cX3_takeIn 147 = .ok (.invokevirtual 382, 3) := by decide +kernel
theorem dX3_takeIn_150 : decode cX3_takeIn 150 = .ok (.aload_n 0, 1) := by decide +kernel
theorem dX3_takeIn_151 : decode cX3_takeIn 151 = .ok (.getfield 33, 3) := by decide +kernel
theorem dX3_takeIn_154 : decode cX3_takeIn 154 = .ok (.iload_n 3, 1) := by decide +kernel
theorem dX3_takeIn_155 : decode cX3_takeIn 155 = .ok (.iaload, 1) := by decide +kernel
theorem dX3_takeIn_156 : decode cX3_takeIn 156 = .ok (.bipush 12, 2) := by decide +kernel
theorem dX3_takeIn_158 : decode cX3_takeIn 158 = .ok (.if_icmp .ne 35, 3) := by decide +kernel
theorem dX3_takeIn_161 : decode cX3_takeIn 161 = .ok (.aload_n 0, 1) := by decide +kernel
theorem dX3_takeIn_162 : decode cX3_takeIn 162 = .ok (.aload_n 0, 1) := by decide +kernel
theorem dX3_takeIn_163 : decode cX3_takeIn 163 = .ok (.aload_n 0, 1) := by decide +kernel
theorem dX3_takeIn_164 : decode cX3_takeIn 164 = .ok (.iload_n 3, 1) := by decide +kernel
theorem dX3_takeIn_165 : decode cX3_takeIn 165 = .ok (.iconst 1, 1) := by decide +kernel
theorem dX3_takeIn_166 : decode cX3_takeIn 166 = .ok (.invokevirtual 65, 3) := by decide +kernel
theorem dX3_takeIn_169 : decode cX3_takeIn 169 = .ok (.invokevirtual 325, 3) := by decide +kernel
theorem dX3_takeIn_172 : decode cX3_takeIn 172 = .ok (.iconst 2, 1) := by decide +kernel
theorem dX3_takeIn_173 : decode cX3_takeIn 173 = .ok (.aload_n 0, 1) := by decide +kernel
theorem dX3_takeIn_174 : decode cX3_takeIn 174 = .ok (.iload_n 3, 1) := by decide +kernel
theorem dX3_takeIn_175 : decode cX3_takeIn 175 = .ok (.iconst 0, 1) := by decide +kernel
theorem dX3_takeIn_176 : decode cX3_takeIn 176 = .ok (.invokevirtual 65, 3) := by decide +kernel
theorem dX3_takeIn_179 : decode cX3_takeIn 179 = .ok (.imul, 1) := by decide +kernel
theorem dX3_takeIn_180 : decode cX3_takeIn 180 = .ok (.iload_n 2, 1) := by decide +kernel
theorem dX3_takeIn_181 : decode cX3_takeIn 181 = .ok (.ifCond .eq 7, 3) := by decide +kernel
theorem dX3_takeIn_184 : decode cX3_takeIn 184 = .ok (.iconst 1, 1) := by decide +kernel
theorem dX3_takeIn_185 : decode cX3_takeIn 185 = .ok (.goto 4, 3) := by decide +kernel
theorem dX3_takeIn_188 : decode cX3_takeIn 188 = .ok (.iconst 0, 1) := by decide +kernel
theorem dX3_takeIn_189 : decode cX3_takeIn 189 = .ok (.iadd, 1) := by decide +kernel
theorem dX3_takeIn_190 : decode cX3_takeIn 190 = .ok (.invokevirtual 385, 3) := by decide +kernel
theorem dX3_takeIn_193 : decode cX3_takeIn 193 = .ok (.aload_n 0, 1) := by decide +kernel
theorem dX3_takeIn_194 : decode cX3_takeIn 194 = .ok (.getfield 33, 3) := by decide +kernel
theorem dX3_takeIn_197 : decode cX3_takeIn 197 = .ok (.iload_n 3, 1) := by decide +kernel
theorem dX3_takeIn_198 : decode cX3_takeIn 198 = .ok (.iaload, 1) := by decide +kernel
theorem dX3_takeIn_199 : decode cX3_takeIn 199 = .ok (.bipush 13, 2) := by decide +kernel
theorem dX3_takeIn_201 : decode cX3_takeIn 201 = .ok (.if_icmp .ne (-201), 3) := by decide +kernel
theorem dX3_takeIn_204 : decode cX3_takeIn 204 = .ok (.iload_n 2, 1) := by decide +kernel
theorem dX3_takeIn_205 : decode cX3_takeIn 205 = .ok (.ifCond .ne (-205), 3) := by decide +kernel
theorem dX3_takeIn_208 : decode cX3_takeIn 208 = .ok (.aload_n 0, 1) := by decide +kernel
theorem dX3_takeIn_209 : decode cX3_takeIn 209 = .ok (.aload_n 0, 1) := by decide +kernel
theorem dX3_takeIn_210 : decode cX3_takeIn 210 = .ok (.aload_n 0, 1) := by decide +kernel
theorem dX3_takeIn_211 : decode cX3_takeIn 211 = .ok (.iload_n 3, 1) := by decide +kernel
theorem dX3_takeIn_212 : decode cX3_takeIn 212 = .ok (.iconst 2, 1) := by decide +kernel
theorem dX3_takeIn_213 : decode cX3_takeIn 213 = .ok (.invokevirtual 65, 3) := by decide +kernel
theorem dX3_takeIn_216 : decode cX3_takeIn 216 = .ok (.invokevirtual 325, 3) := by decide +kernel
theorem dX3_takeIn_219 : decode cX3_takeIn 219 = .ok (.aload_n 0, 1) := by decide +kernel
theorem dX3_takeIn_220 : decode cX3_takeIn 220 = .ok (.aload_n 0, 1) := by decide +kernel
theorem dX3_takeIn_221 : decode cX3_takeIn 221 = .ok (.iload_n 3, 1) := by decide +kernel
theorem dX3_takeIn_222 : decode cX3_takeIn 222 = .ok (.iconst 0, 1) := by decide +kernel
theorem dX3_takeIn_223 : decode cX3_takeIn 223 = .ok (.invokevirtual 65, 3) := by decide +kernel
theorem dX3_takeIn_226 : decode cX3_takeIn 226 = .ok (.aload_n 0, 1) := by decide +kernel
theorem dX3_takeIn_227 : decode cX3_takeIn 227 = .ok (.iload_n 3, 1) := by decide +kernel
theorem dX3_takeIn_228 : decode cX3_takeIn 228 = .ok (.iconst 1, 1) := by decide +kernel
theorem dX3_takeIn_229 : decode cX3_takeIn 229 = .ok (.invokevirtual 65, 3) := by decide +kernel
theorem dX3_takeIn_232 : decode cX3_takeIn 232 = .ok (.invokevirtual 388, 3) := by decide +kernel
theorem dX3_takeIn_235 : decode cX3_takeIn 235 = .ok (.invokevirtual 391, 3) := by decide +kernel
theorem dX3_takeIn_238 : decode cX3_takeIn 238 = .ok (.goto (-238), 3) := by decide +kernel
theorem dX3_takeIn_241 : decode cX3_takeIn 241 = .ok (.aload_n 0, 1) := by decide +kernel
theorem dX3_takeIn_242 : decode cX3_takeIn 242 = .ok (.dup, 1) := by decide +kernel
theorem dX3_takeIn_243 : decode cX3_takeIn 243 = .ok (.getfield 379, 3) := by decide +kernel
theorem dX3_takeIn_246 : decode cX3_takeIn 246 = .ok (.dup_x1, 1) := by decide +kernel
theorem dX3_takeIn_247 : decode cX3_takeIn 247 = .ok (.iconst 1, 1) := by decide +kernel
theorem dX3_takeIn_248 : decode cX3_takeIn 248 = .ok (.iadd, 1) := by decide +kernel
theorem dX3_takeIn_249 : decode cX3_takeIn 249 = .ok (.putfield 379, 3) := by decide +kernel
theorem dX3_takeIn_252 : decode cX3_takeIn 252 = .ok (.istore_n 1, 1) := by decide +kernel
theorem dX3_takeIn_253 : decode cX3_takeIn 253 = .ok (.aload_n 0, 1) := by decide +kernel
theorem dX3_takeIn_254 : decode cX3_takeIn 254 = .ok (.iload_n 1, 1) := by decide +kernel
theorem dX3_takeIn_255 : decode cX3_takeIn 255 = .ok (.aload_n 0, 1) := by decide +kernel
theorem dX3_takeIn_256 : decode cX3_takeIn 256 = .ok (.aload_n 0, 1) := by decide +kernel
theorem dX3_takeIn_257 : decode cX3_takeIn 257 = .ok (.getfield 344, 3) := by decide +kernel
theorem dX3_takeIn_260 : decode cX3_takeIn 260 = .ok (.iload_n 1, 1) := by decide +kernel
theorem dX3_takeIn_261 : decode cX3_takeIn 261 = .ok (.iaload, 1) := by decide +kernel
theorem dX3_takeIn_262 : decode cX3_takeIn 262 = .ok (.invokevirtual 190, 3) := by decide +kernel
theorem dX3_takeIn_265 : decode cX3_takeIn 265 = .ok (.invokevirtual 391, 3) := by decide +kernel
theorem dX3_takeIn_268 : decode cX3_takeIn 268 = .ok (.goto (-268), 3) := by decide +kernel
theorem dX3_takeIn_271 : decode cX3_takeIn 271 = .ok (.return_, 1) := by decide +kernel
abbrev cX3_join_2 : ByteArray := prog_4_method_55_code
def yX3_join_2 : MethodName := ⟨RX3, "join", "(II)V"⟩
theorem dX3_join_2_0 : decode cX3_join_2 0 = .ok (.aload_n 0, 1) := by decide +kernel
theorem dX3_join_2_1 : decode cX3_join_2 1 = .ok (.iload_n 1, 1) := by decide +kernel
theorem dX3_join_2_2 : decode cX3_join_2 2 = .ok (.invokevirtual 328, 3) := by decide +kernel
theorem dX3_join_2_5 : decode cX3_join_2 5 = .ok (.istore_n 3, 1) := by decide +kernel
theorem dX3_join_2_6 : decode cX3_join_2 6 = .ok (.aload_n 0, 1) := by decide +kernel
theorem dX3_join_2_7 : decode cX3_join_2 7 = .ok (.iload_n 2, 1) := by decide +kernel
theorem dX3_join_2_8 : decode cX3_join_2 8 = .ok (.invokevirtual 328, 3) := by decide +kernel
theorem dX3_join_2_11 : decode cX3_join_2 11 = .ok (.istore 4, 2) := by decide +kernel
theorem dX3_join_2_13 : decode cX3_join_2 13 = .ok (.iload_n 3, 1) := by decide +kernel
theorem dX3_join_2_14 : decode cX3_join_2 14 = .ok (.iload 4, 2) := by decide +kernel
theorem dX3_join_2_16 : decode cX3_join_2 16 = .ok (.if_icmp .ne 4, 3) := by decide +kernel
theorem dX3_join_2_19 : decode cX3_join_2 19 = .ok (.return_, 1) := by decide +kernel
theorem dX3_join_2_20 : decode cX3_join_2 20 = .ok (.aload_n 0, 1) := by decide +kernel
theorem dX3_join_2_21 : decode cX3_join_2 21 = .ok (.getfield 322, 3) := by decide +kernel
theorem dX3_join_2_24 : decode cX3_join_2 24 = .ok (.iload_n 3, 1) := by decide +kernel
theorem dX3_join_2_25 : decode cX3_join_2 25 = .ok (.iload 4, 2) := by decide +kernel
theorem dX3_join_2_27 : decode cX3_join_2 27 = .ok (.if_icmp .le 7, 3) := by decide +kernel
theorem dX3_join_2_30 : decode cX3_join_2 30 = .ok (.iload_n 3, 1) := by decide +kernel
theorem dX3_join_2_31 : decode cX3_join_2 31 = .ok (.goto 5, 3) := by decide +kernel
theorem dX3_join_2_34 : decode cX3_join_2 34 = .ok (.iload 4, 2) := by decide +kernel
theorem dX3_join_2_36 : decode cX3_join_2 36 = .ok (.iload_n 3, 1) := by decide +kernel
theorem dX3_join_2_37 : decode cX3_join_2 37 = .ok (.iload 4, 2) := by decide +kernel
theorem dX3_join_2_39 : decode cX3_join_2 39 = .ok (.if_icmp .le 8, 3) := by decide +kernel
theorem dX3_join_2_42 : decode cX3_join_2 42 = .ok (.iload 4, 2) := by decide +kernel
theorem dX3_join_2_44 : decode cX3_join_2 44 = .ok (.goto 4, 3) := by decide +kernel
theorem dX3_join_2_47 : decode cX3_join_2 47 = .ok (.iload_n 3, 1) := by decide +kernel
theorem dX3_join_2_48 : decode cX3_join_2 48 = .ok (.iastore, 1) := by decide +kernel
theorem dX3_join_2_49 : decode cX3_join_2 49 = .ok (.aload_n 0, 1) := by decide +kernel
theorem dX3_join_2_50 : decode cX3_join_2 50 = .ok (.iconst 1, 1) := by decide +kernel
theorem dX3_join_2_51 : decode cX3_join_2 51 = .ok (.putfield 331, 3) := by decide +kernel
theorem dX3_join_2_54 : decode cX3_join_2 54 = .ok (.return_, 1) := by decide +kernel
abbrev cX3_top : ByteArray := prog_4_method_53_code
def yX3_top : MethodName := ⟨RX3, "top", "(I)I"⟩
theorem dX3_top_0 : decode cX3_top 0 = .ok (.aload_n 0, 1) := by decide +kernel
theorem dX3_top_1 : decode cX3_top 1 = .ok (.getfield 322, 3) := by decide +kernel
theorem dX3_top_4 : decode cX3_top 4 = .ok (.iload_n 1, 1) := by decide +kernel
theorem dX3_top_5 : decode cX3_top 5 = .ok (.iaload, 1) := by decide +kernel
theorem dX3_top_6 : decode cX3_top 6 = .ok (.iload_n 1, 1) := by decide +kernel
theorem dX3_top_7 : decode cX3_top 7 = .ok (.if_icmp .eq 13, 3) := by decide +kernel
theorem dX3_top_10 : decode cX3_top 10 = .ok (.aload_n 0, 1) := by decide +kernel
theorem dX3_top_11 : decode cX3_top 11 = .ok (.getfield 322, 3) := by decide +kernel
theorem dX3_top_14 : decode cX3_top 14 = .ok (.iload_n 1, 1) := by decide +kernel
theorem dX3_top_15 : decode cX3_top 15 = .ok (.iaload, 1) := by decide +kernel
theorem dX3_top_16 : decode cX3_top 16 = .ok (.istore_n 1, 1) := by decide +kernel
theorem dX3_top_17 : decode cX3_top 17 = .ok (.goto (-17), 3) := by decide +kernel
theorem dX3_top_20 : decode cX3_top 20 = .ok (.iload_n 1, 1) := by decide +kernel
theorem dX3_top_21 : decode cX3_top 21 = .ok (.ireturn, 1) := by decide +kernel
abbrev cX3_adj : ByteArray := prog_4_method_61_code
def yX3_adj : MethodName := ⟨RX3, "adj", "(II)V"⟩
theorem dX3_adj_0 : decode cX3_adj 0 = .ok (.aload_n 0, 1) := by decide +kernel
theorem dX3_adj_1 : decode cX3_adj 1 = .ok (.iload_n 1, 1) := by decide +kernel
theorem dX3_adj_2 : decode cX3_adj 2 = .ok (.iload_n 2, 1) := by decide +kernel
theorem dX3_adj_3 : decode cX3_adj 3 = .ok (.invokevirtual 373, 3) := by decide +kernel
theorem dX3_adj_6 : decode cX3_adj 6 = .ok (.ifCond .eq 4, 3) := by decide +kernel
theorem dX3_adj_9 : decode cX3_adj 9 = .ok (.return_, 1) := by decide +kernel
theorem dX3_adj_10 : decode cX3_adj 10 = .ok (.aload_n 0, 1) := by decide +kernel
theorem dX3_adj_11 : decode cX3_adj 11 = .ok (.aload_n 0, 1) := by decide +kernel
theorem dX3_adj_12 : decode cX3_adj 12 = .ok (.getfield 367, 3) := by decide +kernel
theorem dX3_adj_15 : decode cX3_adj 15 = .ok (.aload_n 0, 1) := by decide +kernel
theorem dX3_adj_16 : decode cX3_adj 16 = .ok (.getfield 361, 3) := by decide +kernel
theorem dX3_adj_19 : decode cX3_adj 19 = .ok (.invokestatic 20, 3) := by decide +kernel
theorem dX3_adj_22 : decode cX3_adj 22 = .ok (.putfield 367, 3) := by decide +kernel
theorem dX3_adj_25 : decode cX3_adj 25 = .ok (.aload_n 0, 1) := by decide +kernel
theorem dX3_adj_26 : decode cX3_adj 26 = .ok (.aload_n 0, 1) := by decide +kernel
theorem dX3_adj_27 : decode cX3_adj 27 = .ok (.getfield 364, 3) := by decide +kernel
theorem dX3_adj_30 : decode cX3_adj 30 = .ok (.aload_n 0, 1) := by decide +kernel
theorem dX3_adj_31 : decode cX3_adj 31 = .ok (.getfield 361, 3) := by decide +kernel
theorem dX3_adj_34 : decode cX3_adj 34 = .ok (.invokestatic 20, 3) := by decide +kernel
theorem dX3_adj_37 : decode cX3_adj 37 = .ok (.putfield 364, 3) := by decide +kernel
theorem dX3_adj_40 : decode cX3_adj 40 = .ok (.aload_n 0, 1) := by decide +kernel
theorem dX3_adj_41 : decode cX3_adj 41 = .ok (.getfield 367, 3) := by decide +kernel
theorem dX3_adj_44 : decode cX3_adj 44 = .ok (.aload_n 0, 1) := by decide +kernel
theorem dX3_adj_45 : decode cX3_adj 45 = .ok (.getfield 361, 3) := by decide +kernel
theorem dX3_adj_48 : decode cX3_adj 48 = .ok (.iload_n 1, 1) := by decide +kernel
theorem dX3_adj_49 : decode cX3_adj 49 = .ok (.iastore, 1) := by decide +kernel
theorem dX3_adj_50 : decode cX3_adj 50 = .ok (.aload_n 0, 1) := by decide +kernel
theorem dX3_adj_51 : decode cX3_adj 51 = .ok (.getfield 364, 3) := by decide +kernel
theorem dX3_adj_54 : decode cX3_adj 54 = .ok (.aload_n 0, 1) := by decide +kernel
theorem dX3_adj_55 : decode cX3_adj 55 = .ok (.dup, 1) := by decide +kernel
theorem dX3_adj_56 : decode cX3_adj 56 = .ok (.getfield 361, 3) := by decide +kernel
theorem dX3_adj_59 : decode cX3_adj 59 = .ok (.dup_x1, 1) := by decide +kernel
theorem dX3_adj_60 : decode cX3_adj 60 = .ok (.iconst 1, 1) := by decide +kernel
theorem dX3_adj_61 : decode cX3_adj 61 = .ok (.iadd, 1) := by decide +kernel
theorem dX3_adj_62 : decode cX3_adj 62 = .ok (.putfield 361, 3) := by decide +kernel
theorem dX3_adj_65 : decode cX3_adj 65 = .ok (.iload_n 2, 1) := by decide +kernel
theorem dX3_adj_66 : decode cX3_adj 66 = .ok (.iastore, 1) := by decide +kernel
theorem dX3_adj_67 : decode cX3_adj 67 = .ok (.aload_n 0, 1) := by decide +kernel
theorem dX3_adj_68 : decode cX3_adj 68 = .ok (.iconst 1, 1) := by decide +kernel
theorem dX3_adj_69 : decode cX3_adj 69 = .ok (.putfield 331, 3) := by decide +kernel
theorem dX3_adj_72 : decode cX3_adj 72 = .ok (.return_, 1) := by decide +kernel
abbrev cX3_hasAdj : ByteArray := prog_4_method_59_code
def yX3_hasAdj : MethodName := ⟨RX3, "hasAdj", "(II)Z"⟩
theorem dX3_hasAdj_0 : decode cX3_hasAdj 0 = .ok (.iconst 0, 1) := by decide +kernel
theorem dX3_hasAdj_1 : decode cX3_hasAdj 1 = .ok (.istore_n 3, 1) := by decide +kernel
theorem dX3_hasAdj_2 : decode cX3_hasAdj 2 = .ok (.iload_n 3, 1) := by decide +kernel
theorem dX3_hasAdj_3 : decode cX3_hasAdj 3 = .ok (.aload_n 0, 1) := by decide +kernel
theorem dX3_hasAdj_4 : decode cX3_hasAdj 4 = .ok (.getfield 361, 3) := by decide +kernel
theorem dX3_hasAdj_7 : decode cX3_hasAdj 7 = .ok (.if_icmp .ge 39, 3) := by decide +kernel
theorem dX3_hasAdj_10 : decode cX3_hasAdj 10 = .ok (.aload_n 0, 1) := by decide +kernel
theorem dX3_hasAdj_11 : decode cX3_hasAdj 11 = .ok (.getfield 364, 3) := by decide +kernel
theorem dX3_hasAdj_14 : decode cX3_hasAdj 14 = .ok (.iload_n 3, 1) := by decide +kernel
theorem dX3_hasAdj_15 : decode cX3_hasAdj 15 = .ok (.iaload, 1) := by decide +kernel
theorem dX3_hasAdj_16 : decode cX3_hasAdj 16 = .ok (.iload_n 2, 1) := by decide +kernel
theorem dX3_hasAdj_17 : decode cX3_hasAdj 17 = .ok (.if_icmp .ne 23, 3) := by decide +kernel
theorem dX3_hasAdj_20 : decode cX3_hasAdj 20 = .ok (.aload_n 0, 1) := by decide +kernel
theorem dX3_hasAdj_21 : decode cX3_hasAdj 21 = .ok (.aload_n 0, 1) := by decide +kernel
theorem dX3_hasAdj_22 : decode cX3_hasAdj 22 = .ok (.getfield 367, 3) := by decide +kernel
theorem dX3_hasAdj_25 : decode cX3_hasAdj 25 = .ok (.iload_n 3, 1) := by decide +kernel
theorem dX3_hasAdj_26 : decode cX3_hasAdj 26 = .ok (.iaload, 1) := by decide +kernel
theorem dX3_hasAdj_27 : decode cX3_hasAdj 27 = .ok (.invokevirtual 328, 3) := by decide +kernel
theorem dX3_hasAdj_30 : decode cX3_hasAdj 30 = .ok (.aload_n 0, 1) := by decide +kernel
theorem dX3_hasAdj_31 : decode cX3_hasAdj 31 = .ok (.iload_n 1, 1) := by decide +kernel
theorem dX3_hasAdj_32 : decode cX3_hasAdj 32 = .ok (.invokevirtual 328, 3) := by decide +kernel
theorem dX3_hasAdj_35 : decode cX3_hasAdj 35 = .ok (.if_icmp .ne 5, 3) := by decide +kernel
theorem dX3_hasAdj_38 : decode cX3_hasAdj 38 = .ok (.iconst 1, 1) := by decide +kernel
theorem dX3_hasAdj_39 : decode cX3_hasAdj 39 = .ok (.ireturn, 1) := by decide +kernel
theorem dX3_hasAdj_40 : decode cX3_hasAdj 40 = .ok (.iinc 3 1, 3) := by decide +kernel
theorem dX3_hasAdj_43 : decode cX3_hasAdj 43 = .ok (.goto (-41), 3) := by decide +kernel
theorem dX3_hasAdj_46 : decode cX3_hasAdj 46 = .ok (.iconst 0, 1) := by decide +kernel
theorem dX3_hasAdj_47 : decode cX3_hasAdj 47 = .ok (.ireturn, 1) := by decide +kernel
abbrev cX3_hasType : ByteArray := prog_4_method_64_code
def yX3_hasType : MethodName := ⟨RX3, "hasType", "(II)V"⟩
theorem dX3_hasType_0 : decode cX3_hasType 0 = .ok (.iload_n 2, 1) := by decide +kernel
theorem dX3_hasType_1 : decode cX3_hasType 1 = .ok (.istore_n 3, 1) := by decide +kernel
theorem dX3_hasType_2 : decode cX3_hasType 2 = .ok (.iload_n 3, 1) := by decide +kernel
theorem dX3_hasType_3 : decode cX3_hasType 3 = .ok (.ifCond .le 99, 3) := by decide +kernel
theorem dX3_hasType_6 : decode cX3_hasType 6 = .ok (.aload_n 0, 1) := by decide +kernel
theorem dX3_hasType_7 : decode cX3_hasType 7 = .ok (.iload_n 3, 1) := by decide +kernel
theorem dX3_hasType_8 : decode cX3_hasType 8 = .ok (.iconst 1, 1) := by decide +kernel
theorem dX3_hasType_9 : decode cX3_hasType 9 = .ok (.invokevirtual 65, 3) := by decide +kernel
theorem dX3_hasType_12 : decode cX3_hasType 12 = .ok (.ifCond .le 13, 3) := by decide +kernel
theorem dX3_hasType_15 : decode cX3_hasType 15 = .ok (.aload_n 0, 1) := by decide +kernel
theorem dX3_hasType_16 : decode cX3_hasType 16 = .ok (.aload_n 0, 1) := by decide +kernel
theorem dX3_hasType_17 : decode cX3_hasType 17 = .ok (.iload_n 3, 1) := by decide +kernel
theorem dX3_hasType_18 : decode cX3_hasType 18 = .ok (.iconst 1, 1) := by decide +kernel
theorem dX3_hasType_19 : decode cX3_hasType 19 = .ok (.invokevirtual 65, 3) := by decide +kernel
theorem dX3_hasType_22 : decode cX3_hasType 22 = .ok (.invokevirtual 341, 3) := by decide +kernel
theorem dX3_hasType_25 : decode cX3_hasType 25 = .ok (.aload_n 0, 1) := by decide +kernel
theorem dX3_hasType_26 : decode cX3_hasType 26 = .ok (.getfield 338, 3) := by decide +kernel
theorem dX3_hasType_29 : decode cX3_hasType 29 = .ok (.bipush 100, 2) := by decide +kernel
theorem dX3_hasType_31 : decode cX3_hasType 31 = .ok (.if_icmp .le 4, 3) := by decide +kernel
theorem dX3_hasType_34 : decode cX3_hasType 34 = .ok (.return_, 1) := by decide +kernel
theorem dX3_hasType_35 : decode cX3_hasType 35 = .ok (.aload_n 0, 1) := by decide +kernel
theorem dX3_hasType_36 : decode cX3_hasType 36 = .ok (.iload_n 3, 1) := by decide +kernel
theorem dX3_hasType_37 : decode cX3_hasType 37 = .ok (.iconst 0, 1) := by decide +kernel
theorem dX3_hasType_38 : decode cX3_hasType 38 = .ok (.invokevirtual 65, 3) := by decide +kernel
theorem dX3_hasType_41 : decode cX3_hasType 41 = .ok (.ifCond .eq 20, 3) := by decide +kernel
theorem dX3_hasType_44 : decode cX3_hasType 44 = .ok (.aload_n 0, 1) := by decide +kernel
theorem dX3_hasType_45 : decode cX3_hasType 45 = .ok (.iload_n 1, 1) := by decide +kernel
theorem dX3_hasType_46 : decode cX3_hasType 46 = .ok (.aload_n 0, 1) := by decide +kernel
theorem dX3_hasType_47 : decode cX3_hasType 47 = .ok (.iload_n 3, 1) := by decide +kernel
theorem dX3_hasType_48 : decode cX3_hasType 48 = .ok (.iconst 0, 1) := by decide +kernel
theorem dX3_hasType_49 : decode cX3_hasType 49 = .ok (.invokevirtual 65, 3) := by decide +kernel
theorem dX3_hasType_52 : decode cX3_hasType 52 = .ok (.aload_n 0, 1) := by decide +kernel
theorem dX3_hasType_53 : decode cX3_hasType 53 = .ok (.iload_n 3, 1) := by decide +kernel
theorem dX3_hasType_54 : decode cX3_hasType 54 = .ok (.iconst 1, 1) := by decide +kernel
theorem dX3_hasType_55 : decode cX3_hasType 55 = .ok (.invokevirtual 65, 3) := by decide +kernel
theorem dX3_hasType_58 : decode cX3_hasType 58 = .ok (.invokevirtual 394, 3) := by decide +kernel
theorem dX3_hasType_61 : decode cX3_hasType 61 = .ok (.iconst 2, 1) := by decide +kernel
theorem dX3_hasType_62 : decode cX3_hasType 62 = .ok (.istore 4, 2) := by decide +kernel
theorem dX3_hasType_64 : decode cX3_hasType 64 = .ok (.iload 4, 2) := by decide +kernel
theorem dX3_hasType_66 : decode cX3_hasType 66 = .ok (.aload_n 0, 1) := by decide +kernel
theorem dX3_hasType_67 : decode cX3_hasType 67 = .ok (.getfield 36, 3) := by decide +kernel
theorem dX3_hasType_70 : decode cX3_hasType 70 = .ok (.iload_n 3, 1) := by decide +kernel
theorem dX3_hasType_71 : decode cX3_hasType 71 = .ok (.iaload, 1) := by decide +kernel
theorem dX3_hasType_72 : decode cX3_hasType 72 = .ok (.if_icmp .ge 21, 3) := by decide +kernel
theorem dX3_hasType_75 : decode cX3_hasType 75 = .ok (.aload_n 0, 1) := by decide +kernel
theorem dX3_hasType_76 : decode cX3_hasType 76 = .ok (.iload_n 1, 1) := by decide +kernel
theorem dX3_hasType_77 : decode cX3_hasType 77 = .ok (.aload_n 0, 1) := by decide +kernel
theorem dX3_hasType_78 : decode cX3_hasType 78 = .ok (.iload_n 3, 1) := by decide +kernel
theorem dX3_hasType_79 : decode cX3_hasType 79 = .ok (.iload 4, 2) := by decide +kernel
theorem dX3_hasType_81 : decode cX3_hasType 81 = .ok (.invokevirtual 65, 3) := by decide +kernel
theorem dX3_hasType_84 : decode cX3_hasType 84 = .ok (.invokevirtual 385, 3) := by decide +kernel
theorem dX3_hasType_87 : decode cX3_hasType 87 = .ok (.iinc 4 1, 3) := by decide +kernel
theorem dX3_hasType_90 : decode cX3_hasType 90 = .ok (.goto (-26), 3) := by decide +kernel
theorem dX3_hasType_93 : decode cX3_hasType 93 = .ok (.aload_n 0, 1) := by decide +kernel
theorem dX3_hasType_94 : decode cX3_hasType 94 = .ok (.iload_n 3, 1) := by decide +kernel
theorem dX3_hasType_95 : decode cX3_hasType 95 = .ok (.invokevirtual 162, 3) := by decide +kernel
theorem dX3_hasType_98 : decode cX3_hasType 98 = .ok (.istore_n 3, 1) := by decide +kernel
theorem dX3_hasType_99 : decode cX3_hasType 99 = .ok (.goto (-97), 3) := by decide +kernel
theorem dX3_hasType_102 : decode cX3_hasType 102 = .ok (.return_, 1) := by decide +kernel
abbrev cX3_mode_2 : ByteArray := prog_4_method_60_code
def yX3_mode_2 : MethodName := ⟨RX3, "mode", "(III)V"⟩
theorem dX3_mode_2_0 : decode cX3_mode_2 0 = .ok (.aload_n 0, 1) := by decide +kernel
theorem dX3_mode_2_1 : decode cX3_mode_2 1 = .ok (.iload_n 1, 1) := by decide +kernel
theorem dX3_mode_2_2 : decode cX3_mode_2 2 = .ok (.iload_n 2, 1) := by decide +kernel
theorem dX3_mode_2_3 : decode cX3_mode_2 3 = .ok (.iload_n 3, 1) := by decide +kernel
theorem dX3_mode_2_4 : decode cX3_mode_2 4 = .ok (.invokevirtual 370, 3) := by decide +kernel
theorem dX3_mode_2_7 : decode cX3_mode_2 7 = .ok (.ifCond .eq 4, 3) := by decide +kernel
theorem dX3_mode_2_10 : decode cX3_mode_2 10 = .ok (.return_, 1) := by decide +kernel
theorem dX3_mode_2_11 : decode cX3_mode_2 11 = .ok (.aload_n 0, 1) := by decide +kernel
theorem dX3_mode_2_12 : decode cX3_mode_2 12 = .ok (.aload_n 0, 1) := by decide +kernel
theorem dX3_mode_2_13 : decode cX3_mode_2 13 = .ok (.getfield 352, 3) := by decide +kernel
theorem dX3_mode_2_16 : decode cX3_mode_2 16 = .ok (.aload_n 0, 1) := by decide +kernel
theorem dX3_mode_2_17 : decode cX3_mode_2 17 = .ok (.getfield 346, 3) := by decide +kernel
theorem dX3_mode_2_20 : decode cX3_mode_2 20 = .ok (.invokestatic 20, 3) := by decide +kernel
theorem dX3_mode_2_23 : decode cX3_mode_2 23 = .ok (.putfield 352, 3) := by decide +kernel
theorem dX3_mode_2_26 : decode cX3_mode_2 26 = .ok (.aload_n 0, 1) := by decide +kernel
theorem dX3_mode_2_27 : decode cX3_mode_2 27 = .ok (.aload_n 0, 1) := by decide +kernel
theorem dX3_mode_2_28 : decode cX3_mode_2 28 = .ok (.getfield 349, 3) := by decide +kernel
theorem dX3_mode_2_31 : decode cX3_mode_2 31 = .ok (.aload_n 0, 1) := by decide +kernel
theorem dX3_mode_2_32 : decode cX3_mode_2 32 = .ok (.getfield 346, 3) := by decide +kernel
theorem dX3_mode_2_35 : decode cX3_mode_2 35 = .ok (.invokestatic 20, 3) := by decide +kernel
theorem dX3_mode_2_38 : decode cX3_mode_2 38 = .ok (.putfield 349, 3) := by decide +kernel
theorem dX3_mode_2_41 : decode cX3_mode_2 41 = .ok (.aload_n 0, 1) := by decide +kernel
theorem dX3_mode_2_42 : decode cX3_mode_2 42 = .ok (.aload_n 0, 1) := by decide +kernel
theorem dX3_mode_2_43 : decode cX3_mode_2 43 = .ok (.getfield 355, 3) := by decide +kernel
theorem dX3_mode_2_46 : decode cX3_mode_2 46 = .ok (.aload_n 0, 1) := by decide +kernel
theorem dX3_mode_2_47 : decode cX3_mode_2 47 = .ok (.getfield 346, 3) := by decide +kernel
theorem dX3_mode_2_50 : decode cX3_mode_2 50 = .ok (.invokestatic 20, 3) := by decide +kernel
theorem dX3_mode_2_53 : decode cX3_mode_2 53 = .ok (.putfield 355, 3) := by decide +kernel
theorem dX3_mode_2_56 : decode cX3_mode_2 56 = .ok (.aload_n 0, 1) := by decide +kernel
theorem dX3_mode_2_57 : decode cX3_mode_2 57 = .ok (.getfield 352, 3) := by decide +kernel
theorem dX3_mode_2_60 : decode cX3_mode_2 60 = .ok (.aload_n 0, 1) := by decide +kernel
theorem dX3_mode_2_61 : decode cX3_mode_2 61 = .ok (.getfield 346, 3) := by decide +kernel
theorem dX3_mode_2_64 : decode cX3_mode_2 64 = .ok (.iload_n 1, 1) := by decide +kernel
theorem dX3_mode_2_65 : decode cX3_mode_2 65 = .ok (.iastore, 1) := by decide +kernel
theorem dX3_mode_2_66 : decode cX3_mode_2 66 = .ok (.aload_n 0, 1) := by decide +kernel
theorem dX3_mode_2_67 : decode cX3_mode_2 67 = .ok (.getfield 349, 3) := by decide +kernel
theorem dX3_mode_2_70 : decode cX3_mode_2 70 = .ok (.aload_n 0, 1) := by decide +kernel
theorem dX3_mode_2_71 : decode cX3_mode_2 71 = .ok (.getfield 346, 3) := by decide +kernel
theorem dX3_mode_2_74 : decode cX3_mode_2 74 = .ok (.iload_n 2, 1) := by decide +kernel
theorem dX3_mode_2_75 : decode cX3_mode_2 75 = .ok (.iastore, 1) := by decide +kernel
theorem dX3_mode_2_76 : decode cX3_mode_2 76 = .ok (.aload_n 0, 1) := by decide +kernel
theorem dX3_mode_2_77 : decode cX3_mode_2 77 = .ok (.getfield 355, 3) := by decide +kernel
theorem dX3_mode_2_80 : decode cX3_mode_2 80 = .ok (.aload_n 0, 1) := by decide +kernel
theorem dX3_mode_2_81 : decode cX3_mode_2 81 = .ok (.dup, 1) := by decide +kernel
theorem dX3_mode_2_82 : decode cX3_mode_2 82 = .ok (.getfield 346, 3) := by decide +kernel
theorem dX3_mode_2_85 : decode cX3_mode_2 85 = .ok (.dup_x1, 1) := by decide +kernel
theorem dX3_mode_2_86 : decode cX3_mode_2 86 = .ok (.iconst 1, 1) := by decide +kernel
theorem dX3_mode_2_87 : decode cX3_mode_2 87 = .ok (.iadd, 1) := by decide +kernel
theorem dX3_mode_2_88 : decode cX3_mode_2 88 = .ok (.putfield 346, 3) := by decide +kernel
theorem dX3_mode_2_91 : decode cX3_mode_2 91 = .ok (.iload_n 3, 1) := by decide +kernel
theorem dX3_mode_2_92 : decode cX3_mode_2 92 = .ok (.iastore, 1) := by decide +kernel
theorem dX3_mode_2_93 : decode cX3_mode_2 93 = .ok (.aload_n 0, 1) := by decide +kernel
theorem dX3_mode_2_94 : decode cX3_mode_2 94 = .ok (.iconst 1, 1) := by decide +kernel
theorem dX3_mode_2_95 : decode cX3_mode_2 95 = .ok (.putfield 331, 3) := by decide +kernel
theorem dX3_mode_2_98 : decode cX3_mode_2 98 = .ok (.return_, 1) := by decide +kernel
abbrev cX3_hasHere : ByteArray := prog_4_method_58_code
def yX3_hasHere : MethodName := ⟨RX3, "hasHere", "(III)Z"⟩
theorem dX3_hasHere_0 : decode cX3_hasHere 0 = .ok (.iload_n 2, 1) := by decide +kernel
theorem dX3_hasHere_1 : decode cX3_hasHere 1 = .ok (.ifCond .ne 5, 3) := by decide +kernel
theorem dX3_hasHere_4 : decode cX3_hasHere 4 = .ok (.iconst 1, 1) := by decide +kernel
theorem dX3_hasHere_5 : decode cX3_hasHere 5 = .ok (.ireturn, 1) := by decide +kernel
theorem dX3_hasHere_6 : decode cX3_hasHere 6 = .ok (.iconst 0, 1) := by decide +kernel
theorem dX3_hasHere_7 : decode cX3_hasHere 7 = .ok (.istore 4, 2) := by decide +kernel
theorem dX3_hasHere_9 : decode cX3_hasHere 9 = .ok (.iload 4, 2) := by decide +kernel
theorem dX3_hasHere_11 : decode cX3_hasHere 11 = .ok (.aload_n 0, 1) := by decide +kernel
theorem dX3_hasHere_12 : decode cX3_hasHere 12 = .ok (.getfield 346, 3) := by decide +kernel
theorem dX3_hasHere_15 : decode cX3_hasHere 15 = .ok (.if_icmp .ge 56, 3) := by decide +kernel
theorem dX3_hasHere_18 : decode cX3_hasHere 18 = .ok (.aload_n 0, 1) := by decide +kernel
theorem dX3_hasHere_19 : decode cX3_hasHere 19 = .ok (.getfield 349, 3) := by decide +kernel
theorem dX3_hasHere_22 : decode cX3_hasHere 22 = .ok (.iload 4, 2) := by decide +kernel
theorem dX3_hasHere_24 : decode cX3_hasHere 24 = .ok (.iaload, 1) := by decide +kernel
theorem dX3_hasHere_25 : decode cX3_hasHere 25 = .ok (.iload_n 2, 1) := by decide +kernel
theorem dX3_hasHere_26 : decode cX3_hasHere 26 = .ok (.if_icmp .ne 39, 3) := by decide +kernel
theorem dX3_hasHere_29 : decode cX3_hasHere 29 = .ok (.aload_n 0, 1) := by decide +kernel
theorem dX3_hasHere_30 : decode cX3_hasHere 30 = .ok (.aload_n 0, 1) := by decide +kernel
theorem dX3_hasHere_31 : decode cX3_hasHere 31 = .ok (.getfield 352, 3) := by decide +kernel
theorem dX3_hasHere_34 : decode cX3_hasHere 34 = .ok (.iload 4, 2) := by decide +kernel
theorem dX3_hasHere_36 : decode cX3_hasHere 36 = .ok (.iaload, 1) := by decide +kernel
theorem dX3_hasHere_37 : decode cX3_hasHere 37 = .ok (.invokevirtual 328, 3) := by decide +kernel
theorem dX3_hasHere_40 : decode cX3_hasHere 40 = .ok (.aload_n 0, 1) := by decide +kernel
theorem dX3_hasHere_41 : decode cX3_hasHere 41 = .ok (.iload_n 1, 1) := by decide +kernel
theorem dX3_hasHere_42 : decode cX3_hasHere 42 = .ok (.invokevirtual 328, 3) := by decide +kernel
theorem dX3_hasHere_45 : decode cX3_hasHere 45 = .ok (.if_icmp .ne 20, 3) := by decide +kernel
theorem dX3_hasHere_48 : decode cX3_hasHere 48 = .ok (.aload_n 0, 1) := by decide +kernel
theorem dX3_hasHere_49 : decode cX3_hasHere 49 = .ok (.aload_n 0, 1) := by decide +kernel
theorem dX3_hasHere_50 : decode cX3_hasHere 50 = .ok (.getfield 355, 3) := by decide +kernel
theorem dX3_hasHere_53 : decode cX3_hasHere 53 = .ok (.iload 4, 2) := by decide +kernel
theorem dX3_hasHere_55 : decode cX3_hasHere 55 = .ok (.iaload, 1) := by decide +kernel
theorem dX3_hasHere_56 : decode cX3_hasHere 56 = .ok (.iload_n 3, 1) := by decide +kernel
theorem dX3_hasHere_57 : decode cX3_hasHere 57 = .ok (.invokevirtual 358, 3) := by decide +kernel
theorem dX3_hasHere_60 : decode cX3_hasHere 60 = .ok (.ifCond .eq 5, 3) := by decide +kernel
theorem dX3_hasHere_63 : decode cX3_hasHere 63 = .ok (.iconst 1, 1) := by decide +kernel
theorem dX3_hasHere_64 : decode cX3_hasHere 64 = .ok (.ireturn, 1) := by decide +kernel
theorem dX3_hasHere_65 : decode cX3_hasHere 65 = .ok (.iinc 4 1, 3) := by decide +kernel
theorem dX3_hasHere_68 : decode cX3_hasHere 68 = .ok (.goto (-59), 3) := by decide +kernel
theorem dX3_hasHere_71 : decode cX3_hasHere 71 = .ok (.iconst 0, 1) := by decide +kernel
theorem dX3_hasHere_72 : decode cX3_hasHere 72 = .ok (.ireturn, 1) := by decide +kernel
abbrev cX3_equal : ByteArray := prog_4_method_54_code
def yX3_equal : MethodName := ⟨RX3, "equal", "(II)Z"⟩
theorem dX3_equal_0 : decode cX3_equal 0 = .ok (.iload_n 1, 1) := by decide +kernel
theorem dX3_equal_1 : decode cX3_equal 1 = .ok (.iload_n 2, 1) := by decide +kernel
theorem dX3_equal_2 : decode cX3_equal 2 = .ok (.if_icmp .ne 5, 3) := by decide +kernel
theorem dX3_equal_5 : decode cX3_equal 5 = .ok (.iconst 1, 1) := by decide +kernel
theorem dX3_equal_6 : decode cX3_equal 6 = .ok (.ireturn, 1) := by decide +kernel
theorem dX3_equal_7 : decode cX3_equal 7 = .ok (.iload_n 1, 1) := by decide +kernel
theorem dX3_equal_8 : decode cX3_equal 8 = .ok (.ifCond .eq 7, 3) := by decide +kernel
theorem dX3_equal_11 : decode cX3_equal 11 = .ok (.iload_n 2, 1) := by decide +kernel
theorem dX3_equal_12 : decode cX3_equal 12 = .ok (.ifCond .ne 5, 3) := by decide +kernel
theorem dX3_equal_15 : decode cX3_equal 15 = .ok (.iconst 0, 1) := by decide +kernel
theorem dX3_equal_16 : decode cX3_equal 16 = .ok (.ireturn, 1) := by decide +kernel
theorem dX3_equal_17 : decode cX3_equal 17 = .ok (.aload_n 0, 1) := by decide +kernel
theorem dX3_equal_18 : decode cX3_equal 18 = .ok (.iload_n 1, 1) := by decide +kernel
theorem dX3_equal_19 : decode cX3_equal 19 = .ok (.invokevirtual 325, 3) := by decide +kernel
theorem dX3_equal_22 : decode cX3_equal 22 = .ok (.istore_n 3, 1) := by decide +kernel
theorem dX3_equal_23 : decode cX3_equal 23 = .ok (.aload_n 0, 1) := by decide +kernel
theorem dX3_equal_24 : decode cX3_equal 24 = .ok (.iload_n 2, 1) := by decide +kernel
theorem dX3_equal_25 : decode cX3_equal 25 = .ok (.invokevirtual 325, 3) := by decide +kernel
theorem dX3_equal_28 : decode cX3_equal 28 = .ok (.istore 4, 2) := by decide +kernel
theorem dX3_equal_30 : decode cX3_equal 30 = .ok (.iload_n 3, 1) := by decide +kernel
theorem dX3_equal_31 : decode cX3_equal 31 = .ok (.ifCond .lt 26, 3) := by decide +kernel
theorem dX3_equal_34 : decode cX3_equal 34 = .ok (.iload 4, 2) := by decide +kernel
theorem dX3_equal_36 : decode cX3_equal 36 = .ok (.ifCond .lt 21, 3) := by decide +kernel
theorem dX3_equal_39 : decode cX3_equal 39 = .ok (.aload_n 0, 1) := by decide +kernel
theorem dX3_equal_40 : decode cX3_equal 40 = .ok (.iload_n 3, 1) := by decide +kernel
theorem dX3_equal_41 : decode cX3_equal 41 = .ok (.invokevirtual 328, 3) := by decide +kernel
theorem dX3_equal_44 : decode cX3_equal 44 = .ok (.aload_n 0, 1) := by decide +kernel
theorem dX3_equal_45 : decode cX3_equal 45 = .ok (.iload 4, 2) := by decide +kernel
theorem dX3_equal_47 : decode cX3_equal 47 = .ok (.invokevirtual 328, 3) := by decide +kernel
theorem dX3_equal_50 : decode cX3_equal 50 = .ok (.if_icmp .ne 7, 3) := by decide +kernel
theorem dX3_equal_53 : decode cX3_equal 53 = .ok (.iconst 1, 1) := by decide +kernel
theorem dX3_equal_54 : decode cX3_equal 54 = .ok (.goto 4, 3) := by decide +kernel
theorem dX3_equal_57 : decode cX3_equal 57 = .ok (.iconst 0, 1) := by decide +kernel
theorem dX3_equal_58 : decode cX3_equal 58 = .ok (.ireturn, 1) := by decide +kernel
abbrev cX3_parent : ByteArray := prog_4_method_33_code
def yX3_parent : MethodName := ⟨RX3, "parent", "(I)I"⟩
theorem dX3_parent_0 : decode cX3_parent 0 = .ok (.aload_n 0, 1) := by decide +kernel
theorem dX3_parent_1 : decode cX3_parent 1 = .ok (.iload_n 1, 1) := by decide +kernel
theorem dX3_parent_2 : decode cX3_parent 2 = .ok (.iconst 0, 1) := by decide +kernel
theorem dX3_parent_3 : decode cX3_parent 3 = .ok (.invokevirtual 65, 3) := by decide +kernel
theorem dX3_parent_6 : decode cX3_parent 6 = .ok (.istore_n 2, 1) := by decide +kernel
theorem dX3_parent_7 : decode cX3_parent 7 = .ok (.iload_n 2, 1) := by decide +kernel
theorem dX3_parent_8 : decode cX3_parent 8 = .ok (.ifCond .ne 5, 3) := by decide +kernel
theorem dX3_parent_11 : decode cX3_parent 11 = .ok (.iconst 0, 1) := by decide +kernel
theorem dX3_parent_12 : decode cX3_parent 12 = .ok (.ireturn, 1) := by decide +kernel
theorem dX3_parent_13 : decode cX3_parent 13 = .ok (.aload_n 0, 1) := by decide +kernel
theorem dX3_parent_14 : decode cX3_parent 14 = .ok (.iconst 0, 1) := by decide +kernel
theorem dX3_parent_15 : decode cX3_parent 15 = .ok (.putfield 124, 3) := by decide +kernel
theorem dX3_parent_18 : decode cX3_parent 18 = .ok (.aload_n 0, 1) := by decide +kernel
theorem dX3_parent_19 : decode cX3_parent 19 = .ok (.iload_n 1, 1) := by decide +kernel
theorem dX3_parent_20 : decode cX3_parent 20 = .ok (.iconst 1, 1) := by decide +kernel
theorem dX3_parent_21 : decode cX3_parent 21 = .ok (.invokevirtual 65, 3) := by decide +kernel
theorem dX3_parent_24 : decode cX3_parent 24 = .ok (.ifCond .le 27, 3) := by decide +kernel
theorem dX3_parent_27 : decode cX3_parent 27 = .ok (.aload_n 0, 1) := by decide +kernel
theorem dX3_parent_28 : decode cX3_parent 28 = .ok (.getfield 130, 3) := by decide +kernel
theorem dX3_parent_31 : decode cX3_parent 31 = .ok (.iconst 0, 1) := by decide +kernel
theorem dX3_parent_32 : decode cX3_parent 32 = .ok (.iconst 0, 1) := by decide +kernel
theorem dX3_parent_33 : decode cX3_parent 33 = .ok (.iastore, 1) := by decide +kernel
theorem dX3_parent_34 : decode cX3_parent 34 = .ok (.aload_n 0, 1) := by decide +kernel
theorem dX3_parent_35 : decode cX3_parent 35 = .ok (.getfield 133, 3) := by decide +kernel
theorem dX3_parent_38 : decode cX3_parent 38 = .ok (.iconst 0, 1) := by decide +kernel
theorem dX3_parent_39 : decode cX3_parent 39 = .ok (.aload_n 0, 1) := by decide +kernel
theorem dX3_parent_40 : decode cX3_parent 40 = .ok (.iload_n 1, 1) := by decide +kernel
theorem dX3_parent_41 : decode cX3_parent 41 = .ok (.iconst 1, 1) := by decide +kernel
theorem dX3_parent_42 : decode cX3_parent 42 = .ok (.invokevirtual 65, 3) := by decide +kernel
theorem dX3_parent_45 : decode cX3_parent 45 = .ok (.iastore, 1) := by decide +kernel
theorem dX3_parent_46 : decode cX3_parent 46 = .ok (.aload_n 0, 1) := by decide +kernel
theorem dX3_parent_47 : decode cX3_parent 47 = .ok (.iconst 1, 1) := by decide +kernel
theorem dX3_parent_48 : decode cX3_parent 48 = .ok (.putfield 124, 3) := by decide +kernel
theorem dX3_parent_51 : decode cX3_parent 51 = .ok (.aload_n 0, 1) := by decide +kernel
theorem dX3_parent_52 : decode cX3_parent 52 = .ok (.aload_n 0, 1) := by decide +kernel
theorem dX3_parent_53 : decode cX3_parent 53 = .ok (.getfield 156, 3) := by decide +kernel
theorem dX3_parent_56 : decode cX3_parent 56 = .ok (.iload_n 2, 1) := by decide +kernel
theorem dX3_parent_57 : decode cX3_parent 57 = .ok (.iaload, 1) := by decide +kernel
theorem dX3_parent_58 : decode cX3_parent 58 = .ok (.invokevirtual 154, 3) := by decide +kernel
theorem dX3_parent_61 : decode cX3_parent 61 = .ok (.ireturn, 1) := by decide +kernel
abbrev cX3_move : ByteArray := prog_4_method_27_code
def yX3_move : MethodName := ⟨RX3, "move", "(I)I"⟩
theorem dX3_move_0 : decode cX3_move 0 = .ok (.aload_n 0, 1) := by decide +kernel
theorem dX3_move_1 : decode cX3_move 1 = .ok (.getfield 124, 3) := by decide +kernel
theorem dX3_move_4 : decode cX3_move 4 = .ok (.ifCond .ne 7, 3) := by decide +kernel
theorem dX3_move_7 : decode cX3_move 7 = .ok (.iload_n 1, 1) := by decide +kernel
theorem dX3_move_8 : decode cX3_move 8 = .ok (.goto 9, 3) := by decide +kernel
theorem dX3_move_11 : decode cX3_move 11 = .ok (.aload_n 0, 1) := by decide +kernel
theorem dX3_move_12 : decode cX3_move 12 = .ok (.iload_n 1, 1) := by decide +kernel
theorem dX3_move_13 : decode cX3_move 13 = .ok (.iconst 0, 1) := by decide +kernel
theorem dX3_move_14 : decode cX3_move 14 = .ok (.invokevirtual 127, 3) := by decide +kernel
theorem dX3_move_17 : decode cX3_move 17 = .ok (.ireturn, 1) := by decide +kernel
abbrev cX3_move_2 : ByteArray := prog_4_method_28_code
def yX3_move_2 : MethodName := ⟨RX3, "move", "(II)I"⟩
theorem dX3_move_2_0 : decode cX3_move_2 0 = .ok (.aload_n 0, 1) := by decide +kernel
theorem dX3_move_2_1 : decode cX3_move_2 1 = .ok (.getfield 33, 3) := by decide +kernel
theorem dX3_move_2_4 : decode cX3_move_2 4 = .ok (.iload_n 1, 1) := by decide +kernel
theorem dX3_move_2_5 : decode cX3_move_2 5 = .ok (.iaload, 1) := by decide +kernel
theorem dX3_move_2_6 : decode cX3_move_2 6 = .ok (.istore_n 3, 1) := by decide +kernel
theorem dX3_move_2_7 : decode cX3_move_2 7 = .ok (.iload_n 3, 1) := by decide +kernel
theorem dX3_move_2_8 : decode cX3_move_2 8 = .ok (.iconst 2, 1) := by decide +kernel
theorem dX3_move_2_9 : decode cX3_move_2 9 = .ok (.if_icmp .ne 52, 3) := by decide +kernel
theorem dX3_move_2_12 : decode cX3_move_2 12 = .ok (.iconst 0, 1) := by decide +kernel
theorem dX3_move_2_13 : decode cX3_move_2 13 = .ok (.istore 4, 2) := by decide +kernel
theorem dX3_move_2_15 : decode cX3_move_2 15 = .ok (.iload 4, 2) := by decide +kernel
theorem dX3_move_2_17 : decode cX3_move_2 17 = .ok (.aload_n 0, 1) := by decide +kernel
theorem dX3_move_2_18 : decode cX3_move_2 18 = .ok (.getfield 124, 3) := by decide +kernel
theorem dX3_move_2_21 : decode cX3_move_2 21 = .ok (.if_icmp .ge 38, 3) := by decide +kernel
theorem dX3_move_2_24 : decode cX3_move_2 24 = .ok (.aload_n 0, 1) := by decide +kernel
theorem dX3_move_2_25 : decode cX3_move_2 25 = .ok (.getfield 130, 3) := by decide +kernel
theorem dX3_move_2_28 : decode cX3_move_2 28 = .ok (.iload 4, 2) := by decide +kernel
theorem dX3_move_2_30 : decode cX3_move_2 30 = .ok (.iaload, 1) := by decide +kernel
theorem dX3_move_2_31 : decode cX3_move_2 31 = .ok (.aload_n 0, 1) := by decide +kernel
theorem dX3_move_2_32 : decode cX3_move_2 32 = .ok (.iload_n 1, 1) := by decide +kernel
theorem dX3_move_2_33 : decode cX3_move_2 33 = .ok (.iconst 0, 1) := by decide +kernel
theorem dX3_move_2_34 : decode cX3_move_2 34 = .ok (.invokevirtual 65, 3) := by decide +kernel
theorem dX3_move_2_37 : decode cX3_move_2 37 = .ok (.if_icmp .ne 16, 3) := by decide +kernel
theorem dX3_move_2_40 : decode cX3_move_2 40 = .ok (.aload_n 0, 1) := by decide +kernel
theorem dX3_move_2_41 : decode cX3_move_2 41 = .ok (.aload_n 0, 1) := by decide +kernel
theorem dX3_move_2_42 : decode cX3_move_2 42 = .ok (.getfield 133, 3) := by decide +kernel
theorem dX3_move_2_45 : decode cX3_move_2 45 = .ok (.iload 4, 2) := by decide +kernel
theorem dX3_move_2_47 : decode cX3_move_2 47 = .ok (.iaload, 1) := by decide +kernel
theorem dX3_move_2_48 : decode cX3_move_2 48 = .ok (.iload_n 2, 1) := by decide +kernel
theorem dX3_move_2_49 : decode cX3_move_2 49 = .ok (.invokevirtual 103, 3) := by decide +kernel
theorem dX3_move_2_52 : decode cX3_move_2 52 = .ok (.ireturn, 1) := by decide +kernel
theorem dX3_move_2_53 : decode cX3_move_2 53 = .ok (.iinc 4 1, 3) := by decide +kernel
theorem dX3_move_2_56 : decode cX3_move_2 56 = .ok (.goto (-41), 3) := by decide +kernel
theorem dX3_move_2_59 : decode cX3_move_2 59 = .ok (.iload_n 1, 1) := by decide +kernel
theorem dX3_move_2_60 : decode cX3_move_2 60 = .ok (.ireturn, 1) := by decide +kernel
theorem dX3_move_2_61 : decode cX3_move_2 61 = .ok (.iload_n 3, 1) := by decide +kernel
theorem dX3_move_2_62 : decode cX3_move_2 62 = .ok (.iconst 3, 1) := by decide +kernel
theorem dX3_move_2_63 : decode cX3_move_2 63 = .ok (.if_icmp .eq 14, 3) := by decide +kernel
theorem dX3_move_2_66 : decode cX3_move_2 66 = .ok (.iload_n 3, 1) := by decide +kernel
theorem dX3_move_2_67 : decode cX3_move_2 67 = .ok (.bipush 8, 2) := by decide +kernel
theorem dX3_move_2_69 : decode cX3_move_2 69 = .ok (.if_icmp .eq 8, 3) := by decide +kernel
theorem dX3_move_2_72 : decode cX3_move_2 72 = .ok (.iload_n 3, 1) := by decide +kernel
theorem dX3_move_2_73 : decode cX3_move_2 73 = .ok (.iconst 1, 1) := by decide +kernel
theorem dX3_move_2_74 : decode cX3_move_2 74 = .ok (.if_icmp .ne 5, 3) := by decide +kernel
theorem dX3_move_2_77 : decode cX3_move_2 77 = .ok (.iload_n 1, 1) := by decide +kernel
theorem dX3_move_2_78 : decode cX3_move_2 78 = .ok (.ireturn, 1) := by decide +kernel
theorem dX3_move_2_79 : decode cX3_move_2 79 = .ok (.aload_n 0, 1) := by decide +kernel
theorem dX3_move_2_80 : decode cX3_move_2 80 = .ok (.getfield 17, 3) := by decide +kernel
theorem dX3_move_2_83 : decode cX3_move_2 83 = .ok (.istore 4, 2) := by decide +kernel
theorem dX3_move_2_85 : decode cX3_move_2 85 = .ok (.iconst 0, 1) := by decide +kernel
theorem dX3_move_2_86 : decode cX3_move_2 86 = .ok (.istore 5, 2) := by decide +kernel
theorem dX3_move_2_88 : decode cX3_move_2 88 = .ok (.iload 5, 2) := by decide +kernel
theorem dX3_move_2_90 : decode cX3_move_2 90 = .ok (.aload_n 0, 1) := by decide +kernel
theorem dX3_move_2_91 : decode cX3_move_2 91 = .ok (.getfield 36, 3) := by decide +kernel
theorem dX3_move_2_94 : decode cX3_move_2 94 = .ok (.iload_n 1, 1) := by decide +kernel
theorem dX3_move_2_95 : decode cX3_move_2 95 = .ok (.iaload, 1) := by decide +kernel
theorem dX3_move_2_96 : decode cX3_move_2 96 = .ok (.if_icmp .ge 63, 3) := by decide +kernel
theorem dX3_move_2_99 : decode cX3_move_2 99 = .ok (.aload_n 0, 1) := by decide +kernel
theorem dX3_move_2_100 : decode cX3_move_2 100 = .ok (.aload_n 0, 1) := by decide +kernel
theorem dX3_move_2_101 : decode cX3_move_2 101 = .ok (.iload_n 1, 1) := by decide +kernel
theorem dX3_move_2_102 : decode cX3_move_2 102 = .ok (.iload 5, 2) := by decide +kernel
theorem dX3_move_2_104 : decode cX3_move_2 104 = .ok (.invokevirtual 109, 3) := by decide +kernel
theorem dX3_move_2_107 : decode cX3_move_2 107 = .ok (.ifCond .eq 36, 3) := by decide +kernel
theorem dX3_move_2_110 : decode cX3_move_2 110 = .ok (.aload_n 0, 1) := by decide +kernel
theorem dX3_move_2_111 : decode cX3_move_2 111 = .ok (.aload_n 0, 1) := by decide +kernel
theorem dX3_move_2_112 : decode cX3_move_2 112 = .ok (.iload_n 1, 1) := by decide +kernel
theorem dX3_move_2_113 : decode cX3_move_2 113 = .ok (.iload 5, 2) := by decide +kernel
theorem dX3_move_2_115 : decode cX3_move_2 115 = .ok (.invokevirtual 65, 3) := by decide +kernel
theorem dX3_move_2_118 : decode cX3_move_2 118 = .ok (.iload_n 3, 1) := by decide +kernel
theorem dX3_move_2_119 : decode cX3_move_2 119 = .ok (.bipush 17, 2) := by decide +kernel
theorem dX3_move_2_121 : decode cX3_move_2 121 = .ok (.if_icmp .ne 15, 3) := by decide +kernel
theorem dX3_move_2_124 : decode cX3_move_2 124 = .ok (.iload 5, 2) := by decide +kernel
theorem dX3_move_2_126 : decode cX3_move_2 126 = .ok (.iconst 1, 1) := by decide +kernel
theorem dX3_move_2_127 : decode cX3_move_2 127 = .ok (.if_icmp .ne 9, 3) := by decide +kernel
theorem dX3_move_2_130 : decode cX3_move_2 130 = .ok (.iload_n 2, 1) := by decide +kernel
theorem dX3_move_2_131 : decode cX3_move_2 131 = .ok (.iconst 1, 1) := by decide +kernel
theorem dX3_move_2_132 : decode cX3_move_2 132 = .ok (.iadd, 1) := by decide +kernel
theorem dX3_move_2_133 : decode cX3_move_2 133 = .ok (.goto 4, 3) := by decide +kernel
theorem dX3_move_2_136 : decode cX3_move_2 136 = .ok (.iload_n 2, 1) := by decide +kernel
theorem dX3_move_2_137 : decode cX3_move_2 137 = .ok (.invokevirtual 127, 3) := by decide +kernel
theorem dX3_move_2_140 : decode cX3_move_2 140 = .ok (.goto 10, 3) := by decide +kernel
theorem dX3_move_2_143 : decode cX3_move_2 143 = .ok (.aload_n 0, 1) := by decide +kernel
theorem dX3_move_2_144 : decode cX3_move_2 144 = .ok (.iload_n 1, 1) := by decide +kernel
theorem dX3_move_2_145 : decode cX3_move_2 145 = .ok (.iload 5, 2) := by decide +kernel
theorem dX3_move_2_147 : decode cX3_move_2 147 = .ok (.invokevirtual 65, 3) := by decide +kernel
theorem dX3_move_2_150 : decode cX3_move_2 150 = .ok (.invokevirtual 72, 3) := by decide +kernel
theorem dX3_move_2_153 : decode cX3_move_2 153 = .ok (.iinc 5 1, 3) := by decide +kernel
theorem dX3_move_2_156 : decode cX3_move_2 156 = .ok (.goto (-68), 3) := by decide +kernel
theorem dX3_move_2_159 : decode cX3_move_2 159 = .ok (.aload_n 0, 1) := by decide +kernel
theorem dX3_move_2_160 : decode cX3_move_2 160 = .ok (.iload_n 1, 1) := by decide +kernel
theorem dX3_move_2_161 : decode cX3_move_2 161 = .ok (.iload 4, 2) := by decide +kernel
theorem dX3_move_2_163 : decode cX3_move_2 163 = .ok (.invokevirtual 116, 3) := by decide +kernel
theorem dX3_move_2_166 : decode cX3_move_2 166 = .ok (.ireturn, 1) := by decide +kernel
abbrev cX3_typeOf : ByteArray := prog_4_method_32_code
def yX3_typeOf : MethodName := ⟨RX3, "typeOf", "(I)I"⟩
theorem dX3_typeOf_0 : decode cX3_typeOf 0 = .ok (.aload_n 0, 1) := by decide +kernel
theorem dX3_typeOf_1 : decode cX3_typeOf 1 = .ok (.getfield 33, 3) := by decide +kernel
theorem dX3_typeOf_4 : decode cX3_typeOf 4 = .ok (.iload_n 1, 1) := by decide +kernel
theorem dX3_typeOf_5 : decode cX3_typeOf 5 = .ok (.iaload, 1) := by decide +kernel
theorem dX3_typeOf_6 : decode cX3_typeOf 6 = .ok (.iconst 2, 1) := by decide +kernel
theorem dX3_typeOf_7 : decode cX3_typeOf 7 = .ok (.if_icmp .ne 15, 3) := by decide +kernel
theorem dX3_typeOf_10 : decode cX3_typeOf 10 = .ok (.aload_n 0, 1) := by decide +kernel
theorem dX3_typeOf_11 : decode cX3_typeOf 11 = .ok (.getfield 145, 3) := by decide +kernel
theorem dX3_typeOf_14 : decode cX3_typeOf 14 = .ok (.aload_n 0, 1) := by decide +kernel
theorem dX3_typeOf_15 : decode cX3_typeOf 15 = .ok (.iload_n 1, 1) := by decide +kernel
theorem dX3_typeOf_16 : decode cX3_typeOf 16 = .ok (.iconst 0, 1) := by decide +kernel
theorem dX3_typeOf_17 : decode cX3_typeOf 17 = .ok (.invokevirtual 65, 3) := by decide +kernel
theorem dX3_typeOf_20 : decode cX3_typeOf 20 = .ok (.iaload, 1) := by decide +kernel
theorem dX3_typeOf_21 : decode cX3_typeOf 21 = .ok (.ireturn, 1) := by decide +kernel
theorem dX3_typeOf_22 : decode cX3_typeOf 22 = .ok (.aload_n 0, 1) := by decide +kernel
theorem dX3_typeOf_23 : decode cX3_typeOf 23 = .ok (.getfield 33, 3) := by decide +kernel
theorem dX3_typeOf_26 : decode cX3_typeOf 26 = .ok (.iload_n 1, 1) := by decide +kernel
theorem dX3_typeOf_27 : decode cX3_typeOf 27 = .ok (.iaload, 1) := by decide +kernel
theorem dX3_typeOf_28 : decode cX3_typeOf 28 = .ok (.iconst 5, 1) := by decide +kernel
theorem dX3_typeOf_29 : decode cX3_typeOf 29 = .ok (.if_icmp .ne 10, 3) := by decide +kernel
theorem dX3_typeOf_32 : decode cX3_typeOf 32 = .ok (.aload_n 0, 1) := by decide +kernel
theorem dX3_typeOf_33 : decode cX3_typeOf 33 = .ok (.iload_n 1, 1) := by decide +kernel
theorem dX3_typeOf_34 : decode cX3_typeOf 34 = .ok (.iconst 0, 1) := by decide +kernel
theorem dX3_typeOf_35 : decode cX3_typeOf 35 = .ok (.invokevirtual 65, 3) := by decide +kernel
theorem dX3_typeOf_38 : decode cX3_typeOf 38 = .ok (.ireturn, 1) := by decide +kernel
theorem dX3_typeOf_39 : decode cX3_typeOf 39 = .ok (.aload_n 0, 1) := by decide +kernel
theorem dX3_typeOf_40 : decode cX3_typeOf 40 = .ok (.iload_n 1, 1) := by decide +kernel
theorem dX3_typeOf_41 : decode cX3_typeOf 41 = .ok (.invokevirtual 148, 3) := by decide +kernel
theorem dX3_typeOf_44 : decode cX3_typeOf 44 = .ok (.aload_n 0, 1) := by decide +kernel
theorem dX3_typeOf_45 : decode cX3_typeOf 45 = .ok (.aload_n 0, 1) := by decide +kernel
theorem dX3_typeOf_46 : decode cX3_typeOf 46 = .ok (.getfield 151, 3) := by decide +kernel
theorem dX3_typeOf_49 : decode cX3_typeOf 49 = .ok (.aload_n 0, 1) := by decide +kernel
theorem dX3_typeOf_50 : decode cX3_typeOf 50 = .ok (.iload_n 1, 1) := by decide +kernel
theorem dX3_typeOf_51 : decode cX3_typeOf 51 = .ok (.iconst 0, 1) := by decide +kernel
theorem dX3_typeOf_52 : decode cX3_typeOf 52 = .ok (.invokevirtual 65, 3) := by decide +kernel
theorem dX3_typeOf_55 : decode cX3_typeOf 55 = .ok (.iaload, 1) := by decide +kernel
theorem dX3_typeOf_56 : decode cX3_typeOf 56 = .ok (.invokevirtual 154, 3) := by decide +kernel
theorem dX3_typeOf_59 : decode cX3_typeOf 59 = .ok (.ireturn, 1) := by decide +kernel
abbrev cX3_moveLoci : ByteArray := prog_4_method_31_code
def yX3_moveLoci : MethodName := ⟨RX3, "moveLoci", "(I)V"⟩
theorem dX3_moveLoci_0 : decode cX3_moveLoci 0 = .ok (.aload_n 0, 1) := by decide +kernel
theorem dX3_moveLoci_1 : decode cX3_moveLoci 1 = .ok (.aload_n 0, 1) := by decide +kernel
theorem dX3_moveLoci_2 : decode cX3_moveLoci 2 = .ok (.getfield 36, 3) := by decide +kernel
theorem dX3_moveLoci_5 : decode cX3_moveLoci 5 = .ok (.iload_n 1, 1) := by decide +kernel
theorem dX3_moveLoci_6 : decode cX3_moveLoci 6 = .ok (.iaload, 1) := by decide +kernel
theorem dX3_moveLoci_7 : decode cX3_moveLoci 7 = .ok (.iconst 1, 1) := by decide +kernel
theorem dX3_moveLoci_8 : decode cX3_moveLoci 8 = .ok (.isub, 1) := by decide +kernel
theorem dX3_moveLoci_9 : decode cX3_moveLoci 9 = .ok (.putfield 124, 3) := by decide +kernel
theorem dX3_moveLoci_12 : decode cX3_moveLoci 12 = .ok (.iconst 0, 1) := by decide +kernel
theorem dX3_moveLoci_13 : decode cX3_moveLoci 13 = .ok (.istore_n 2, 1) := by decide +kernel
theorem dX3_moveLoci_14 : decode cX3_moveLoci 14 = .ok (.iload_n 2, 1) := by decide +kernel
theorem dX3_moveLoci_15 : decode cX3_moveLoci 15 = .ok (.aload_n 0, 1) := by decide +kernel
theorem dX3_moveLoci_16 : decode cX3_moveLoci 16 = .ok (.getfield 124, 3) := by decide +kernel
theorem dX3_moveLoci_19 : decode cX3_moveLoci 19 = .ok (.if_icmp .ge 30, 3) := by decide +kernel
theorem dX3_moveLoci_22 : decode cX3_moveLoci 22 = .ok (.aload_n 0, 1) := by decide +kernel
theorem dX3_moveLoci_23 : decode cX3_moveLoci 23 = .ok (.getfield 130, 3) := by decide +kernel
theorem dX3_moveLoci_26 : decode cX3_moveLoci 26 = .ok (.iload_n 2, 1) := by decide +kernel
theorem dX3_moveLoci_27 : decode cX3_moveLoci 27 = .ok (.iload_n 2, 1) := by decide +kernel
theorem dX3_moveLoci_28 : decode cX3_moveLoci 28 = .ok (.iastore, 1) := by decide +kernel
theorem dX3_moveLoci_29 : decode cX3_moveLoci 29 = .ok (.aload_n 0, 1) := by decide +kernel
theorem dX3_moveLoci_30 : decode cX3_moveLoci 30 = .ok (.getfield 133, 3) := by decide +kernel
theorem dX3_moveLoci_33 : decode cX3_moveLoci 33 = .ok (.iload_n 2, 1) := by decide +kernel
theorem dX3_moveLoci_34 : decode cX3_moveLoci 34 = .ok (.aload_n 0, 1) := by decide +kernel
theorem dX3_moveLoci_35 : decode cX3_moveLoci 35 = .ok (.iload_n 1, 1) := by decide +kernel
theorem dX3_moveLoci_36 : decode cX3_moveLoci 36 = .ok (.iconst 1, 1) := by decide +kernel
theorem dX3_moveLoci_37 : decode cX3_moveLoci 37 = .ok (.iload_n 2, 1) := by decide +kernel
theorem dX3_moveLoci_38 : decode cX3_moveLoci 38 = .ok (.iadd, 1) := by decide +kernel
theorem dX3_moveLoci_39 : decode cX3_moveLoci 39 = .ok (.invokevirtual 65, 3) := by decide +kernel
theorem dX3_moveLoci_42 : decode cX3_moveLoci 42 = .ok (.iastore, 1) := by decide +kernel
theorem dX3_moveLoci_43 : decode cX3_moveLoci 43 = .ok (.iinc 2 1, 3) := by decide +kernel
theorem dX3_moveLoci_46 : decode cX3_moveLoci 46 = .ok (.goto (-32), 3) := by decide +kernel
theorem dX3_moveLoci_49 : decode cX3_moveLoci 49 = .ok (.return_, 1) := by decide +kernel
abbrev cX3_isCongruent : ByteArray := prog_4_method_65_code
def yX3_isCongruent : MethodName := ⟨RX3, "isCongruent", "(II)Z"⟩
theorem dX3_isCongruent_0 : decode cX3_isCongruent 0 = .ok (.aload_n 0, 1) := by decide +kernel
theorem dX3_isCongruent_1 : decode cX3_isCongruent 1 = .ok (.getfield 33, 3) := by decide +kernel
theorem dX3_isCongruent_4 : decode cX3_isCongruent 4 = .ok (.iload_n 1, 1) := by decide +kernel
theorem dX3_isCongruent_5 : decode cX3_isCongruent 5 = .ok (.iaload, 1) := by decide +kernel
theorem dX3_isCongruent_6 : decode cX3_isCongruent 6 = .ok (.istore_n 3, 1) := by decide +kernel
theorem dX3_isCongruent_7 : decode cX3_isCongruent 7 = .ok (.iload_n 3, 1) := by decide +kernel
theorem dX3_isCongruent_8 : decode cX3_isCongruent 8 = .ok (.aload_n 0, 1) := by decide +kernel
theorem dX3_isCongruent_9 : decode cX3_isCongruent 9 = .ok (.getfield 33, 3) := by decide +kernel
theorem dX3_isCongruent_12 : decode cX3_isCongruent 12 = .ok (.iload_n 2, 1) := by decide +kernel
theorem dX3_isCongruent_13 : decode cX3_isCongruent 13 = .ok (.iaload, 1) := by decide +kernel
theorem dX3_isCongruent_14 : decode cX3_isCongruent 14 = .ok (.if_icmp .ne 28, 3) := by decide +kernel
theorem dX3_isCongruent_17 : decode cX3_isCongruent 17 = .ok (.aload_n 0, 1) := by decide +kernel
theorem dX3_isCongruent_18 : decode cX3_isCongruent 18 = .ok (.getfield 36, 3) := by decide +kernel
theorem dX3_isCongruent_21 : decode cX3_isCongruent 21 = .ok (.iload_n 1, 1) := by decide +kernel
theorem dX3_isCongruent_22 : decode cX3_isCongruent 22 = .ok (.iaload, 1) := by decide +kernel
theorem dX3_isCongruent_23 : decode cX3_isCongruent 23 = .ok (.aload_n 0, 1) := by decide +kernel
theorem dX3_isCongruent_24 : decode cX3_isCongruent 24 = .ok (.getfield 36, 3) := by decide +kernel
theorem dX3_isCongruent_27 : decode cX3_isCongruent 27 = .ok (.iload_n 2, 1) := by decide +kernel
theorem dX3_isCongruent_28 : decode cX3_isCongruent 28 = .ok (.iaload, 1) := by decide +kernel
theorem dX3_isCongruent_29 : decode cX3_isCongruent 29 = .ok (.if_icmp .ne 13, 3) := by decide +kernel
theorem dX3_isCongruent_32 : decode cX3_isCongruent 32 = .ok (.iload_n 3, 1) := by decide +kernel
theorem dX3_isCongruent_33 : decode cX3_isCongruent 33 = .ok (.iconst 4, 1) := by decide +kernel
theorem dX3_isCongruent_34 : decode cX3_isCongruent 34 = .ok (.if_icmp .eq 10, 3) := by decide +kernel
theorem dX3_isCongruent_37 : decode cX3_isCongruent 37 = .ok (.iload_n 3, 1) := by decide +kernel
theorem dX3_isCongruent_38 : decode cX3_isCongruent 38 = .ok (.iconst 5, 1) := by decide +kernel
theorem dX3_isCongruent_39 : decode cX3_isCongruent 39 = .ok (.if_icmp .eq 5, 3) := by decide +kernel
theorem dX3_isCongruent_42 : decode cX3_isCongruent 42 = .ok (.iconst 0, 1) := by decide +kernel
theorem dX3_isCongruent_43 : decode cX3_isCongruent 43 = .ok (.ireturn, 1) := by decide +kernel
theorem dX3_isCongruent_44 : decode cX3_isCongruent 44 = .ok (.iload_n 3, 1) := by decide +kernel
theorem dX3_isCongruent_45 : decode cX3_isCongruent 45 = .ok (.iconst 5, 1) := by decide +kernel
theorem dX3_isCongruent_46 : decode cX3_isCongruent 46 = .ok (.if_icmp .ne 116, 3) := by decide +kernel
theorem dX3_isCongruent_49 : decode cX3_isCongruent 49 = .ok (.aload_n 0, 1) := by decide +kernel
theorem dX3_isCongruent_50 : decode cX3_isCongruent 50 = .ok (.iload_n 1, 1) := by decide +kernel
theorem dX3_isCongruent_51 : decode cX3_isCongruent 51 = .ok (.iconst 0, 1) := by decide +kernel
theorem dX3_isCongruent_52 : decode cX3_isCongruent 52 = .ok (.invokevirtual 65, 3) := by decide +kernel
theorem dX3_isCongruent_55 : decode cX3_isCongruent 55 = .ok (.istore 4, 2) := by decide +kernel
theorem dX3_isCongruent_57 : decode cX3_isCongruent 57 = .ok (.aload_n 0, 1) := by decide +kernel
theorem dX3_isCongruent_58 : decode cX3_isCongruent 58 = .ok (.iload_n 2, 1) := by decide +kernel
theorem dX3_isCongruent_59 : decode cX3_isCongruent 59 = .ok (.iconst 0, 1) := by decide +kernel
theorem dX3_isCongruent_60 : decode cX3_isCongruent 60 = .ok (.invokevirtual 65, 3) := by decide +kernel
theorem dX3_isCongruent_63 : decode cX3_isCongruent 63 = .ok (.istore 5, 2) := by decide +kernel
theorem dX3_isCongruent_65 : decode cX3_isCongruent 65 = .ok (.aload_n 0, 1) := by decide +kernel
theorem dX3_isCongruent_66 : decode cX3_isCongruent 66 = .ok (.getfield 36, 3) := by decide +kernel
theorem dX3_isCongruent_69 : decode cX3_isCongruent 69 = .ok (.iload 4, 2) := by decide +kernel
theorem dX3_isCongruent_71 : decode cX3_isCongruent 71 = .ok (.iaload, 1) := by decide +kernel
theorem dX3_isCongruent_72 : decode cX3_isCongruent 72 = .ok (.aload_n 0, 1) := by decide +kernel
theorem dX3_isCongruent_73 : decode cX3_isCongruent 73 = .ok (.getfield 36, 3) := by decide +kernel
theorem dX3_isCongruent_76 : decode cX3_isCongruent 76 = .ok (.iload 5, 2) := by decide +kernel
theorem dX3_isCongruent_78 : decode cX3_isCongruent 78 = .ok (.iaload, 1) := by decide +kernel
theorem dX3_isCongruent_79 : decode cX3_isCongruent 79 = .ok (.if_icmp .ne 20, 3) := by decide +kernel
theorem dX3_isCongruent_82 : decode cX3_isCongruent 82 = .ok (.aload_n 0, 1) := by decide +kernel
theorem dX3_isCongruent_83 : decode cX3_isCongruent 83 = .ok (.iload 4, 2) := by decide +kernel
theorem dX3_isCongruent_85 : decode cX3_isCongruent 85 = .ok (.iconst 0, 1) := by decide +kernel
theorem dX3_isCongruent_86 : decode cX3_isCongruent 86 = .ok (.invokevirtual 65, 3) := by decide +kernel
theorem dX3_isCongruent_89 : decode cX3_isCongruent 89 = .ok (.aload_n 0, 1) := by decide +kernel
theorem dX3_isCongruent_90 : decode cX3_isCongruent 90 = .ok (.iload 5, 2) := by decide +kernel
theorem dX3_isCongruent_92 : decode cX3_isCongruent 92 = .ok (.iconst 0, 1) := by decide +kernel
theorem dX3_isCongruent_93 : decode cX3_isCongruent 93 = .ok (.invokevirtual 65, 3) := by decide +kernel
theorem dX3_isCongruent_96 : decode cX3_isCongruent 96 = .ok (.if_icmp .eq 5, 3) := by decide +kernel
theorem dX3_isCongruent_99 : decode cX3_isCongruent 99 = .ok (.iconst 0, 1) := by decide +kernel
theorem dX3_isCongruent_100 : decode cX3_isCongruent 100 = .ok (.ireturn, 1) := by decide +kernel
