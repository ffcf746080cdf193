set_option maxRecDepth 100000
theorem dX1_gives_1 : decode cX1_gives 1 = .ok (.ifCond .lt 15, 3) := by decide +kernel
theorem dX1_gives_4 : decode cX1_gives 4 = .ok (.iload_n 1, 1) := by decide +kernel
theorem dX1_gives_5 : decode cX1_gives 5 = .ok (.aload_n 0, 1) := by decide +kernel
theorem dX1_gives_6 : decode cX1_gives 6 = .ok (.getfield 460, 3) := by decide +kernel
theorem dX1_gives_9 : decode cX1_gives 9 = .ok (.if_icmp .ge 7, 3) := by decide +kernel
theorem dX1_gives_12 : decode cX1_gives 12 = .ok (.iconst 1, 1) := by decide +kernel
theorem dX1_gives_13 : decode cX1_gives 13 = .ok (.goto 4, 3) := by decide +kernel
theorem dX1_gives_16 : decode cX1_gives 16 = .ok (.iconst 0, 1) := by decide +kernel
theorem dX1_gives_17 : decode cX1_gives 17 = .ok (.invokestatic 440, 3) := by decide +kernel
theorem dX1_gives_20 : decode cX1_gives 20 = .ok (.aload_n 0, 1) := by decide +kernel
theorem dX1_gives_21 : decode cX1_gives 21 = .ok (.iload_n 1, 1) := by decide +kernel
theorem dX1_gives_22 : decode cX1_gives 22 = .ok (.iconst 0, 1) := by decide +kernel
theorem dX1_gives_23 : decode cX1_gives 23 = .ok (.iload_n 2, 1) := by decide +kernel
theorem dX1_gives_24 : decode cX1_gives 24 = .ok (.invokevirtual 513, 3) := by decide +kernel
theorem dX1_gives_27 : decode cX1_gives 27 = .ok (.istore 5, 2) := by decide +kernel
theorem dX1_gives_29 : decode cX1_gives 29 = .ok (.aload_n 0, 1) := by decide +kernel
theorem dX1_gives_30 : decode cX1_gives 30 = .ok (.iload_n 1, 1) := by decide +kernel
theorem dX1_gives_31 : decode cX1_gives 31 = .ok (.iconst 1, 1) := by decide +kernel
theorem dX1_gives_32 : decode cX1_gives 32 = .ok (.iload_n 3, 1) := by decide +kernel
theorem dX1_gives_33 : decode cX1_gives 33 = .ok (.invokevirtual 513, 3) := by decide +kernel
theorem dX1_gives_36 : decode cX1_gives 36 = .ok (.istore 6, 2) := by decide +kernel
theorem dX1_gives_38 : decode cX1_gives 38 = .ok (.aload_n 0, 1) := by decide +kernel
theorem dX1_gives_39 : decode cX1_gives 39 = .ok (.iload 4, 2) := by decide +kernel
theorem dX1_gives_41 : decode cX1_gives 41 = .ok (.invokevirtual 469, 3) := by decide +kernel
theorem dX1_gives_44 : decode cX1_gives 44 = .ok (.aload_n 0, 1) := by decide +kernel
theorem dX1_gives_45 : decode cX1_gives 45 = .ok (.getfield 80, 3) := by decide +kernel
theorem dX1_gives_48 : decode cX1_gives 48 = .ok (.bipush 30, 2) := by decide +kernel
theorem dX1_gives_50 : decode cX1_gives 50 = .ok (.if_icmp .ge 7, 3) := by decide +kernel
theorem dX1_gives_53 : decode cX1_gives 53 = .ok (.iconst 1, 1) := by decide +kernel
theorem dX1_gives_54 : decode cX1_gives 54 = .ok (.goto 4, 3) := by decide +kernel
theorem dX1_gives_57 : decode cX1_gives 57 = .ok (.iconst 0, 1) := by decide +kernel
theorem dX1_gives_58 : decode cX1_gives 58 = .ok (.invokestatic 458, 3) := by decide +kernel
theorem dX1_gives_61 : decode cX1_gives 61 = .ok (.aload_n 0, 1) := by decide +kernel
theorem dX1_gives_62 : decode cX1_gives 62 = .ok (.iconst 1, 1) := by decide +kernel
theorem dX1_gives_63 : decode cX1_gives 63 = .ok (.iload_n 1, 1) := by decide +kernel
theorem dX1_gives_64 : decode cX1_gives 64 = .ok (.iload 5, 2) := by decide +kernel
theorem dX1_gives_66 : decode cX1_gives 66 = .ok (.iload 6, 2) := by decide +kernel
theorem dX1_gives_68 : decode cX1_gives 68 = .ok (.aload_n 0, 1) := by decide +kernel
theorem dX1_gives_69 : decode cX1_gives 69 = .ok (.iconst 0, 1) := by decide +kernel
theorem dX1_gives_70 : decode cX1_gives 70 = .ok (.iconst 0, 1) := by decide +kernel
theorem dX1_gives_71 : decode cX1_gives 71 = .ok (.iload 4, 2) := by decide +kernel
theorem dX1_gives_73 : decode cX1_gives 73 = .ok (.invokevirtual 472, 3) := by decide +kernel
theorem dX1_gives_76 : decode cX1_gives 76 = .ok (.invokevirtual 510, 3) := by decide +kernel
theorem dX1_gives_79 : decode cX1_gives 79 = .ok (.ireturn, 1) := by decide +kernel
abbrev cX1_place : ByteArray := prog_1_method_85_code
def yX1_place : MethodName := ⟨RX1, "place", "(III)I"⟩
theorem dX1_place_0 : decode cX1_place 0 = .ok (.aload_n 0, 1) := by decide +kernel
theorem dX1_place_1 : decode cX1_place 1 = .ok (.getfield 422, 3) := by decide +kernel
theorem dX1_place_4 : decode cX1_place 4 = .ok (.iload_n 1, 1) := by decide +kernel
theorem dX1_place_5 : decode cX1_place 5 = .ok (.iaload, 1) := by decide +kernel
theorem dX1_place_6 : decode cX1_place 6 = .ok (.iload_n 2, 1) := by decide +kernel
theorem dX1_place_7 : decode cX1_place 7 = .ok (.if_icmp .le 7, 3) := by decide +kernel
theorem dX1_place_10 : decode cX1_place 10 = .ok (.iconst 1, 1) := by decide +kernel
theorem dX1_place_11 : decode cX1_place 11 = .ok (.goto 4, 3) := by decide +kernel
theorem dX1_place_14 : decode cX1_place 14 = .ok (.iconst 0, 1) := by decide +kernel
theorem dX1_place_15 : decode cX1_place 15 = .ok (.iload_n 3, 1) := by decide +kernel
theorem dX1_place_16 : decode cX1_place 16 = .ok (.iconst (-1), 1) := by decide +kernel
theorem dX1_place_17 : decode cX1_place 17 = .ok (.if_icmp .eq 7, 3) := by decide +kernel
theorem dX1_place_20 : decode cX1_place 20 = .ok (.iconst 1, 1) := by decide +kernel
theorem dX1_place_21 : decode cX1_place 21 = .ok (.goto 4, 3) := by decide +kernel
theorem dX1_place_24 : decode cX1_place 24 = .ok (.iconst 0, 1) := by decide +kernel
theorem dX1_place_25 : decode cX1_place 25 = .ok (.if_icmp .ne 7, 3) := by decide +kernel
theorem dX1_place_28 : decode cX1_place 28 = .ok (.iconst 1, 1) := by decide +kernel
theorem dX1_place_29 : decode cX1_place 29 = .ok (.goto 4, 3) := by decide +kernel
theorem dX1_place_32 : decode cX1_place 32 = .ok (.iconst 0, 1) := by decide +kernel
theorem dX1_place_33 : decode cX1_place 33 = .ok (.invokestatic 440, 3) := by decide +kernel
theorem dX1_place_36 : decode cX1_place 36 = .ok (.iload_n 3, 1) := by decide +kernel
theorem dX1_place_37 : decode cX1_place 37 = .ok (.iconst (-1), 1) := by decide +kernel
theorem dX1_place_38 : decode cX1_place 38 = .ok (.if_icmp .ne 5, 3) := by decide +kernel
theorem dX1_place_41 : decode cX1_place 41 = .ok (.iconst 0, 1) := by decide +kernel
theorem dX1_place_42 : decode cX1_place 42 = .ok (.ireturn, 1) := by decide +kernel
theorem dX1_place_43 : decode cX1_place 43 = .ok (.aload_n 0, 1) := by decide +kernel
theorem dX1_place_44 : decode cX1_place 44 = .ok (.iload_n 3, 1) := by decide +kernel
theorem dX1_place_45 : decode cX1_place 45 = .ok (.invokevirtual 455, 3) := by decide +kernel
theorem dX1_place_48 : decode cX1_place 48 = .ok (.istore 4, 2) := by decide +kernel
theorem dX1_place_50 : decode cX1_place 50 = .ok (.aload_n 0, 1) := by decide +kernel
theorem dX1_place_51 : decode cX1_place 51 = .ok (.iload 4, 2) := by decide +kernel
theorem dX1_place_53 : decode cX1_place 53 = .ok (.invokevirtual 447, 3) := by decide +kernel
theorem dX1_place_56 : decode cX1_place 56 = .ok (.aload_n 0, 1) := by decide +kernel
theorem dX1_place_57 : decode cX1_place 57 = .ok (.getfield 422, 3) := by decide +kernel
theorem dX1_place_60 : decode cX1_place 60 = .ok (.iload_n 1, 1) := by decide +kernel
theorem dX1_place_61 : decode cX1_place 61 = .ok (.iaload, 1) := by decide +kernel
theorem dX1_place_62 : decode cX1_place 62 = .ok (.if_icmp .ge 7, 3) := by decide +kernel
theorem dX1_place_65 : decode cX1_place 65 = .ok (.iconst 1, 1) := by decide +kernel
theorem dX1_place_66 : decode cX1_place 66 = .ok (.goto 4, 3) := by decide +kernel
theorem dX1_place_69 : decode cX1_place 69 = .ok (.iconst 0, 1) := by decide +kernel
theorem dX1_place_70 : decode cX1_place 70 = .ok (.invokestatic 440, 3) := by decide +kernel
theorem dX1_place_73 : decode cX1_place 73 = .ok (.iload 4, 2) := by decide +kernel
theorem dX1_place_75 : decode cX1_place 75 = .ok (.ireturn, 1) := by decide +kernel
abbrev cX1_reduce : ByteArray := prog_1_method_87_code
def yX1_reduce : MethodName := ⟨RX1, "reduce", "(IIII)I"⟩
theorem dX1_reduce_0 : decode cX1_reduce 0 = .ok (.iload_n 1, 1) := by decide +kernel
theorem dX1_reduce_1 : decode cX1_reduce 1 = .ok (.ifCond .lt 15, 3) := by decide +kernel
theorem dX1_reduce_4 : decode cX1_reduce 4 = .ok (.iload_n 1, 1) := by decide +kernel
theorem dX1_reduce_5 : decode cX1_reduce 5 = .ok (.aload_n 0, 1) := by decide +kernel
theorem dX1_reduce_6 : decode cX1_reduce 6 = .ok (.getfield 460, 3) := by decide +kernel
theorem dX1_reduce_9 : decode cX1_reduce 9 = .ok (.if_icmp .ge 7, 3) := by decide +kernel
theorem dX1_reduce_12 : decode cX1_reduce 12 = .ok (.iconst 1, 1) := by decide +kernel
theorem dX1_reduce_13 : decode cX1_reduce 13 = .ok (.goto 4, 3) := by decide +kernel
theorem dX1_reduce_16 : decode cX1_reduce 16 = .ok (.iconst 0, 1) := by decide +kernel
theorem dX1_reduce_17 : decode cX1_reduce 17 = .ok (.invokestatic 440, 3) := by decide +kernel
theorem dX1_reduce_20 : decode cX1_reduce 20 = .ok (.aload_n 0, 1) := by decide +kernel
theorem dX1_reduce_21 : decode cX1_reduce 21 = .ok (.iload_n 1, 1) := by decide +kernel
theorem dX1_reduce_22 : decode cX1_reduce 22 = .ok (.iconst 0, 1) := by decide +kernel
theorem dX1_reduce_23 : decode cX1_reduce 23 = .ok (.iload_n 2, 1) := by decide +kernel
theorem dX1_reduce_24 : decode cX1_reduce 24 = .ok (.invokevirtual 513, 3) := by decide +kernel
theorem dX1_reduce_27 : decode cX1_reduce 27 = .ok (.istore 5, 2) := by decide +kernel
theorem dX1_reduce_29 : decode cX1_reduce 29 = .ok (.aload_n 0, 1) := by decide +kernel
theorem dX1_reduce_30 : decode cX1_reduce 30 = .ok (.iload_n 1, 1) := by decide +kernel
theorem dX1_reduce_31 : decode cX1_reduce 31 = .ok (.iconst 1, 1) := by decide +kernel
theorem dX1_reduce_32 : decode cX1_reduce 32 = .ok (.iload_n 3, 1) := by decide +kernel
theorem dX1_reduce_33 : decode cX1_reduce 33 = .ok (.invokevirtual 513, 3) := by decide +kernel
theorem dX1_reduce_36 : decode cX1_reduce 36 = .ok (.istore 6, 2) := by decide +kernel
theorem dX1_reduce_38 : decode cX1_reduce 38 = .ok (.aload_n 0, 1) := by decide +kernel
theorem dX1_reduce_39 : decode cX1_reduce 39 = .ok (.iload 4, 2) := by decide +kernel
theorem dX1_reduce_41 : decode cX1_reduce 41 = .ok (.invokevirtual 466, 3) := by decide +kernel
theorem dX1_reduce_44 : decode cX1_reduce 44 = .ok (.istore 7, 2) := by decide +kernel
theorem dX1_reduce_46 : decode cX1_reduce 46 = .ok (.aload_n 0, 1) := by decide +kernel
theorem dX1_reduce_47 : decode cX1_reduce 47 = .ok (.iload 7, 2) := by decide +kernel
theorem dX1_reduce_49 : decode cX1_reduce 49 = .ok (.invokevirtual 447, 3) := by decide +kernel
theorem dX1_reduce_52 : decode cX1_reduce 52 = .ok (.aload_n 0, 1) := by decide +kernel
theorem dX1_reduce_53 : decode cX1_reduce 53 = .ok (.getfield 422, 3) := by decide +kernel
theorem dX1_reduce_56 : decode cX1_reduce 56 = .ok (.iload_n 1, 1) := by decide +kernel
theorem dX1_reduce_57 : decode cX1_reduce 57 = .ok (.iaload, 1) := by decide +kernel
theorem dX1_reduce_58 : decode cX1_reduce 58 = .ok (.if_icmp .ge 7, 3) := by decide +kernel
theorem dX1_reduce_61 : decode cX1_reduce 61 = .ok (.iconst 1, 1) := by decide +kernel
theorem dX1_reduce_62 : decode cX1_reduce 62 = .ok (.goto 4, 3) := by decide +kernel
theorem dX1_reduce_65 : decode cX1_reduce 65 = .ok (.iconst 0, 1) := by decide +kernel
theorem dX1_reduce_66 : decode cX1_reduce 66 = .ok (.invokestatic 440, 3) := by decide +kernel
theorem dX1_reduce_69 : decode cX1_reduce 69 = .ok (.aload_n 0, 1) := by decide +kernel
theorem dX1_reduce_70 : decode cX1_reduce 70 = .ok (.iconst 2, 1) := by decide +kernel
theorem dX1_reduce_71 : decode cX1_reduce 71 = .ok (.iload_n 1, 1) := by decide +kernel
theorem dX1_reduce_72 : decode cX1_reduce 72 = .ok (.iload 5, 2) := by decide +kernel
theorem dX1_reduce_74 : decode cX1_reduce 74 = .ok (.iload 6, 2) := by decide +kernel
theorem dX1_reduce_76 : decode cX1_reduce 76 = .ok (.iload 7, 2) := by decide +kernel
theorem dX1_reduce_78 : decode cX1_reduce 78 = .ok (.invokevirtual 510, 3) := by decide +kernel
theorem dX1_reduce_81 : decode cX1_reduce 81 = .ok (.ireturn, 1) := by decide +kernel
abbrev cX1_premise : ByteArray := prog_1_method_88_code
def yX1_premise : MethodName := ⟨RX1, "premise", "(I)I"⟩
theorem dX1_premise_0 : decode cX1_premise 0 = .ok (.aload_n 0, 1) := by decide +kernel
theorem dX1_premise_1 : decode cX1_premise 1 = .ok (.iload_n 1, 1) := by decide +kernel
theorem dX1_premise_2 : decode cX1_premise 2 = .ok (.invokevirtual 490, 3) := by decide +kernel
theorem dX1_premise_5 : decode cX1_premise 5 = .ok (.istore_n 2, 1) := by decide +kernel
theorem dX1_premise_6 : decode cX1_premise 6 = .ok (.aload_n 0, 1) := by decide +kernel
theorem dX1_premise_7 : decode cX1_premise 7 = .ok (.getfield 516, 3) := by decide +kernel
theorem dX1_premise_10 : decode cX1_premise 10 = .ok (.bipush 20, 2) := by decide +kernel
theorem dX1_premise_12 : decode cX1_premise 12 = .ok (.if_icmp .ge 7, 3) := by decide +kernel
theorem dX1_premise_15 : decode cX1_premise 15 = .ok (.iconst 1, 1) := by decide +kernel
theorem dX1_premise_16 : decode cX1_premise 16 = .ok (.goto 4, 3) := by decide +kernel
theorem dX1_premise_19 : decode cX1_premise 19 = .ok (.iconst 0, 1) := by decide +kernel
theorem dX1_premise_20 : decode cX1_premise 20 = .ok (.invokestatic 458, 3) := by decide +kernel
theorem dX1_premise_23 : decode cX1_premise 23 = .ok (.aload_n 0, 1) := by decide +kernel
theorem dX1_premise_24 : decode cX1_premise 24 = .ok (.getfield 428, 3) := by decide +kernel
theorem dX1_premise_27 : decode cX1_premise 27 = .ok (.aload_n 0, 1) := by decide +kernel
theorem dX1_premise_28 : decode cX1_premise 28 = .ok (.getfield 516, 3) := by decide +kernel
theorem dX1_premise_31 : decode cX1_premise 31 = .ok (.iload_n 2, 1) := by decide +kernel
theorem dX1_premise_32 : decode cX1_premise 32 = .ok (.iastore, 1) := by decide +kernel
theorem dX1_premise_33 : decode cX1_premise 33 = .ok (.aload_n 0, 1) := by decide +kernel
theorem dX1_premise_34 : decode cX1_premise 34 = .ok (.dup, 1) := by decide +kernel
theorem dX1_premise_35 : decode cX1_premise 35 = .ok (.getfield 516, 3) := by decide +kernel
theorem dX1_premise_38 : decode cX1_premise 38 = .ok (.iconst 1, 1) := by decide +kernel
theorem dX1_premise_39 : decode cX1_premise 39 = .ok (.iadd, 1) := by decide +kernel
theorem dX1_premise_40 : decode cX1_premise 40 = .ok (.putfield 516, 3) := by decide +kernel
theorem dX1_premise_43 : decode cX1_premise 43 = .ok (.aload_n 0, 1) := by decide +kernel
theorem dX1_premise_44 : decode cX1_premise 44 = .ok (.getfield 516, 3) := by decide +kernel
theorem dX1_premise_47 : decode cX1_premise 47 = .ok (.ireturn, 1) := by decide +kernel
abbrev cX1_check : ByteArray := prog_1_method_90_code
def yX1_check : MethodName := ⟨RX1, "check", "(I)I"⟩
theorem dX1_check_0 : decode cX1_check 0 = .ok (.aload_n 0, 1) := by decide +kernel
theorem dX1_check_1 : decode cX1_check 1 = .ok (.iload_n 1, 1) := by decide +kernel
theorem dX1_check_2 : decode cX1_check 2 = .ok (.invokevirtual 490, 3) := by decide +kernel
theorem dX1_check_5 : decode cX1_check 5 = .ok (.istore_n 2, 1) := by decide +kernel
theorem dX1_check_6 : decode cX1_check 6 = .ok (.aload_n 0, 1) := by decide +kernel
theorem dX1_check_7 : decode cX1_check 7 = .ok (.getfield 1, 3) := by decide +kernel
theorem dX1_check_10 : decode cX1_check 10 = .ok (.getfield 390, 3) := by decide +kernel
theorem dX1_check_13 : decode cX1_check 13 = .ok (.istore_n 3, 1) := by decide +kernel
theorem dX1_check_14 : decode cX1_check 14 = .ok (.aload_n 0, 1) := by decide +kernel
theorem dX1_check_15 : decode cX1_check 15 = .ok (.getfield 1, 3) := by decide +kernel
theorem dX1_check_18 : decode cX1_check 18 = .ok (.getfield 393, 3) := by decide +kernel
theorem dX1_check_21 : decode cX1_check 21 = .ok (.istore 4, 2) := by decide +kernel
theorem dX1_check_23 : decode cX1_check 23 = .ok (.aload_n 0, 1) := by decide +kernel
theorem dX1_check_24 : decode cX1_check 24 = .ok (.getfield 333, 3) := by decide +kernel
theorem dX1_check_27 : decode cX1_check 27 = .ok (.istore 5, 2) := by decide +kernel
theorem dX1_check_29 : decode cX1_check 29 = .ok (.aload_n 0, 1) := by decide +kernel
theorem dX1_check_30 : decode cX1_check 30 = .ok (.getfield 1, 3) := by decide +kernel
theorem dX1_check_33 : decode cX1_check 33 = .ok (.getfield 7, 3) := by decide +kernel
theorem dX1_check_36 : decode cX1_check 36 = .ok (.istore 6, 2) := by decide +kernel
theorem dX1_check_38 : decode cX1_check 38 = .ok (.iconst 0, 1) := by decide +kernel
theorem dX1_check_39 : decode cX1_check 39 = .ok (.istore 7, 2) := by decide +kernel
theorem dX1_check_41 : decode cX1_check 41 = .ok (.iload 7, 2) := by decide +kernel
theorem dX1_check_43 : decode cX1_check 43 = .ok (.aload_n 0, 1) := by decide +kernel
theorem dX1_check_44 : decode cX1_check 44 = .ok (.getfield 516, 3) := by decide +kernel
theorem dX1_check_47 : decode cX1_check 47 = .ok (.if_icmp .ge 23, 3) := by decide +kernel
theorem dX1_check_50 : decode cX1_check 50 = .ok (.aload_n 0, 1) := by decide +kernel
theorem dX1_check_51 : decode cX1_check 51 = .ok (.getfield 1, 3) := by decide +kernel
theorem dX1_check_54 : decode cX1_check 54 = .ok (.aload_n 0, 1) := by decide +kernel
theorem dX1_check_55 : decode cX1_check 55 = .ok (.getfield 428, 3) := by decide +kernel
theorem dX1_check_58 : decode cX1_check 58 = .ok (.iload 7, 2) := by decide +kernel
theorem dX1_check_60 : decode cX1_check 60 = .ok (.iaload, 1) := by decide +kernel
theorem dX1_check_61 : decode cX1_check 61 = .ok (.invokevirtual 17, 3) := by decide +kernel
theorem dX1_check_64 : decode cX1_check 64 = .ok (.iinc 7 1, 3) := by decide +kernel
theorem dX1_check_67 : decode cX1_check 67 = .ok (.goto (-26), 3) := by decide +kernel
theorem dX1_check_70 : decode cX1_check 70 = .ok (.aload_n 0, 1) := by decide +kernel
theorem dX1_check_71 : decode cX1_check 71 = .ok (.getfield 1, 3) := by decide +kernel
theorem dX1_check_74 : decode cX1_check 74 = .ok (.iload_n 2, 1) := by decide +kernel
theorem dX1_check_75 : decode cX1_check 75 = .ok (.invokevirtual 263, 3) := by decide +kernel
theorem dX1_check_78 : decode cX1_check 78 = .ok (.istore 7, 2) := by decide +kernel
theorem dX1_check_80 : decode cX1_check 80 = .ok (.aload_n 0, 1) := by decide +kernel
theorem dX1_check_81 : decode cX1_check 81 = .ok (.getfield 1, 3) := by decide +kernel
theorem dX1_check_84 : decode cX1_check 84 = .ok (.iload 7, 2) := by decide +kernel
theorem dX1_check_86 : decode cX1_check 86 = .ok (.invokevirtual 17, 3) := by decide +kernel
theorem dX1_check_89 : decode cX1_check 89 = .ok (.aload_n 0, 1) := by decide +kernel
theorem dX1_check_90 : decode cX1_check 90 = .ok (.getfield 1, 3) := by decide +kernel
theorem dX1_check_93 : decode cX1_check 93 = .ok (.iload 6, 2) := by decide +kernel
theorem dX1_check_95 : decode cX1_check 95 = .ok (.invokevirtual 374, 3) := by decide +kernel
theorem dX1_check_98 : decode cX1_check 98 = .ok (.istore 8, 2) := by decide +kernel
theorem dX1_check_100 : decode cX1_check 100 = .ok (.aload_n 0, 1) := by decide +kernel
theorem dX1_check_101 : decode cX1_check 101 = .ok (.iconst 1, 1) := by decide +kernel
theorem dX1_check_102 : decode cX1_check 102 = .ok (.putfield 377, 3) := by decide +kernel
theorem dX1_check_105 : decode cX1_check 105 = .ok (.aload_n 0, 1) := by decide +kernel
theorem dX1_check_106 : decode cX1_check 106 = .ok (.aload_n 0, 1) := by decide +kernel
theorem dX1_check_107 : decode cX1_check 107 = .ok (.iload 8, 2) := by decide +kernel
theorem dX1_check_109 : decode cX1_check 109 = .ok (.iconst 0, 1) := by decide +kernel
theorem dX1_check_110 : decode cX1_check 110 = .ok (.invokevirtual 362, 3) := by decide +kernel
theorem dX1_check_113 : decode cX1_check 113 = .ok (.putfield 519, 3) := by decide +kernel
theorem dX1_check_116 : decode cX1_check 116 = .ok (.aload_n 0, 1) := by decide +kernel
theorem dX1_check_117 : decode cX1_check 117 = .ok (.getfield 519, 3) := by decide +kernel
theorem dX1_check_120 : decode cX1_check 120 = .ok (.bipush 40, 2) := by decide +kernel
theorem dX1_check_122 : decode cX1_check 122 = .ok (.if_icmp .le 11, 3) := by decide +kernel
theorem dX1_check_125 : decode cX1_check 125 = .ok (.aload_n 0, 1) := by decide +kernel
theorem dX1_check_126 : decode cX1_check 126 = .ok (.iconst 2, 1) := by decide +kernel
theorem dX1_check_127 : decode cX1_check 127 = .ok (.putfield 377, 3) := by decide +kernel
theorem dX1_check_130 : decode cX1_check 130 = .ok (.goto 32, 3) := by decide +kernel
theorem dX1_check_133 : decode cX1_check 133 = .ok (.aload_n 0, 1) := by decide +kernel
theorem dX1_check_134 : decode cX1_check 134 = .ok (.iconst 0, 1) := by decide +kernel
theorem dX1_check_135 : decode cX1_check 135 = .ok (.putfield 353, 3) := by decide +kernel
theorem dX1_check_138 : decode cX1_check 138 = .ok (.aload_n 0, 1) := by decide +kernel
theorem dX1_check_139 : decode cX1_check 139 = .ok (.iload 8, 2) := by decide +kernel
theorem dX1_check_141 : decode cX1_check 141 = .ok (.invokevirtual 371, 3) := by decide +kernel
theorem dX1_check_144 : decode cX1_check 144 = .ok (.istore 9, 2) := by decide +kernel
theorem dX1_check_146 : decode cX1_check 146 = .ok (.aload_n 0, 1) := by decide +kernel
theorem dX1_check_147 : decode cX1_check 147 = .ok (.iload 9, 2) := by decide +kernel
theorem dX1_check_149 : decode cX1_check 149 = .ok (.iconst (-1), 1) := by decide +kernel
theorem dX1_check_150 : decode cX1_check 150 = .ok (.invokevirtual 380, 3) := by decide +kernel
theorem dX1_check_153 : decode cX1_check 153 = .ok (.istore 10, 2) := by decide +kernel
theorem dX1_check_155 : decode cX1_check 155 = .ok (.aload_n 0, 1) := by decide +kernel
theorem dX1_check_156 : decode cX1_check 156 = .ok (.iload 10, 2) := by decide +kernel
theorem dX1_check_158 : decode cX1_check 158 = .ok (.iconst 0, 1) := by decide +kernel
theorem dX1_check_159 : decode cX1_check 159 = .ok (.invokevirtual 383, 3) := by decide +kernel
theorem dX1_check_162 : decode cX1_check 162 = .ok (.aload_n 0, 1) := by decide +kernel
theorem dX1_check_163 : decode cX1_check 163 = .ok (.iload_n 3, 1) := by decide +kernel
theorem dX1_check_164 : decode cX1_check 164 = .ok (.iload 4, 2) := by decide +kernel
theorem dX1_check_166 : decode cX1_check 166 = .ok (.iload 5, 2) := by decide +kernel
theorem dX1_check_168 : decode cX1_check 168 = .ok (.invokevirtual 399, 3) := by decide +kernel
theorem dX1_check_171 : decode cX1_check 171 = .ok (.aload_n 0, 1) := by decide +kernel
theorem dX1_check_172 : decode cX1_check 172 = .ok (.getfield 377, 3) := by decide +kernel
theorem dX1_check_175 : decode cX1_check 175 = .ok (.ireturn, 1) := by decide +kernel
abbrev cX1_casesOf : ByteArray := prog_1_method_52_code
def yX1_casesOf : MethodName := ⟨RX1, "casesOf", "(IZ)I"⟩
theorem dX1_casesOf_0 : decode cX1_casesOf 0 = .ok (.aload_n 0, 1) := by decide +kernel
theorem dX1_casesOf_1 : decode cX1_casesOf 1 = .ok (.getfield 1, 3) := by decide +kernel
theorem dX1_casesOf_4 : decode cX1_casesOf 4 = .ok (.getfield 39, 3) := by decide +kernel
theorem dX1_casesOf_7 : decode cX1_casesOf 7 = .ok (.iload_n 1, 1) := by decide +kernel
theorem dX1_casesOf_8 : decode cX1_casesOf 8 = .ok (.iaload, 1) := by decide +kernel
theorem dX1_casesOf_9 : decode cX1_casesOf 9 = .ok (.tableswitch 190 9 18 #[55, 190, 190, 190, 190, 190, 190, 65, 88, 167], 55) := by decide +kernel
theorem dX1_casesOf_64 : decode cX1_casesOf 64 = .ok (.iload_n 2, 1) := by decide +kernel
theorem dX1_casesOf_65 : decode cX1_casesOf 65 = .ok (.ifCond .eq 7, 3) := by decide +kernel
theorem dX1_casesOf_68 : decode cX1_casesOf 68 = .ok (.iconst 0, 1) := by decide +kernel
theorem dX1_casesOf_69 : decode cX1_casesOf 69 = .ok (.goto 4, 3) := by decide +kernel
theorem dX1_casesOf_72 : decode cX1_casesOf 72 = .ok (.iconst 1, 1) := by decide +kernel
theorem dX1_casesOf_73 : decode cX1_casesOf 73 = .ok (.ireturn, 1) := by decide +kernel
theorem dX1_casesOf_74 : decode cX1_casesOf 74 = .ok (.aload_n 0, 1) := by decide +kernel
theorem dX1_casesOf_75 : decode cX1_casesOf 75 = .ok (.aload_n 0, 1) := by decide +kernel
theorem dX1_casesOf_76 : decode cX1_casesOf 76 = .ok (.getfield 1, 3) := by decide +kernel
theorem dX1_casesOf_79 : decode cX1_casesOf 79 = .ok (.iload_n 1, 1) := by decide +kernel
theorem dX1_casesOf_80 : decode cX1_casesOf 80 = .ok (.iconst 0, 1) := by decide +kernel
theorem dX1_casesOf_81 : decode cX1_casesOf 81 = .ok (.invokevirtual 28, 3) := by decide +kernel
theorem dX1_casesOf_84 : decode cX1_casesOf 84 = .ok (.iload_n 2, 1) := by decide +kernel
theorem dX1_casesOf_85 : decode cX1_casesOf 85 = .ok (.ifCond .ne 7, 3) := by decide +kernel
theorem dX1_casesOf_88 : decode cX1_casesOf 88 = .ok (.iconst 1, 1) := by decide +kernel
theorem dX1_casesOf_89 : decode cX1_casesOf 89 = .ok (.goto 4, 3) := by decide +kernel
theorem dX1_casesOf_92 : decode cX1_casesOf 92 = .ok (.iconst 0, 1) := by decide +kernel
theorem dX1_casesOf_93 : decode cX1_casesOf 93 = .ok (.invokevirtual 362, 3) := by decide +kernel
theorem dX1_casesOf_96 : decode cX1_casesOf 96 = .ok (.ireturn, 1) := by decide +kernel
theorem dX1_casesOf_97 : decode cX1_casesOf 97 = .ok (.iload_n 2, 1) := by decide +kernel
theorem dX1_casesOf_98 : decode cX1_casesOf 98 = .ok (.ifCond .eq 7, 3) := by decide +kernel
theorem dX1_casesOf_101 : decode cX1_casesOf 101 = .ok (.lconst 0, 1) := by decide +kernel
theorem dX1_casesOf_102 : decode cX1_casesOf 102 = .ok (.goto 4, 3) := by decide +kernel
theorem dX1_casesOf_105 : decode cX1_casesOf 105 = .ok (.lconst 1, 1) := by decide +kernel
theorem dX1_casesOf_106 : decode cX1_casesOf 106 = .ok (.lstore_n 3, 1) := by decide +kernel
theorem dX1_casesOf_107 : decode cX1_casesOf 107 = .ok (.iconst 0, 1) := by decide +kernel
theorem dX1_casesOf_108 : decode cX1_casesOf 108 = .ok (.istore 5, 2) := by decide +kernel
theorem dX1_casesOf_110 : decode cX1_casesOf 110 = .ok (.iload 5, 2) := by decide +kernel
theorem dX1_casesOf_112 : decode cX1_casesOf 112 = .ok (.aload_n 0, 1) := by decide +kernel
theorem dX1_casesOf_113 : decode cX1_casesOf 113 = .ok (.getfield 1, 3) := by decide +kernel
theorem dX1_casesOf_116 : decode cX1_casesOf 116 = .ok (.getfield 32, 3) := by decide +kernel
theorem dX1_casesOf_119 : decode cX1_casesOf 119 = .ok (.iload_n 1, 1) := by decide +kernel
theorem dX1_casesOf_120 : decode cX1_casesOf 120 = .ok (.iaload, 1) := by decide +kernel
theorem dX1_casesOf_121 : decode cX1_casesOf 121 = .ok (.if_icmp .ge 52, 3) := by decide +kernel
theorem dX1_casesOf_124 : decode cX1_casesOf 124 = .ok (.aload_n 0, 1) := by decide +kernel
theorem dX1_casesOf_125 : decode cX1_casesOf 125 = .ok (.aload_n 0, 1) := by decide +kernel
theorem dX1_casesOf_126 : decode cX1_casesOf 126 = .ok (.getfield 1, 3) := by decide +kernel
theorem dX1_casesOf_129 : decode cX1_casesOf 129 = .ok (.iload_n 1, 1) := by decide +kernel
theorem dX1_casesOf_130 : decode cX1_casesOf 130 = .ok (.iload 5, 2) := by decide +kernel
theorem dX1_casesOf_132 : decode cX1_casesOf 132 = .ok (.invokevirtual 28, 3) := by decide +kernel
theorem dX1_casesOf_135 : decode cX1_casesOf 135 = .ok (.iload_n 2, 1) := by decide +kernel
theorem dX1_casesOf_136 : decode cX1_casesOf 136 = .ok (.invokevirtual 362, 3) := by decide +kernel
theorem dX1_casesOf_139 : decode cX1_casesOf 139 = .ok (.istore 6, 2) := by decide +kernel
theorem dX1_casesOf_141 : decode cX1_casesOf 141 = .ok (.iload_n 2, 1) := by decide +kernel
theorem dX1_casesOf_142 : decode cX1_casesOf 142 = .ok (.ifCond .eq 11, 3) := by decide +kernel
theorem dX1_casesOf_145 : decode cX1_casesOf 145 = .ok (.lload_n 3, 1) := by decide +kernel
theorem dX1_casesOf_146 : decode cX1_casesOf 146 = .ok (.iload 6, 2) := by decide +kernel
theorem dX1_casesOf_148 : decode cX1_casesOf 148 = .ok (.i2l, 1) := by decide +kernel
theorem dX1_casesOf_149 : decode cX1_casesOf 149 = .ok (.ladd, 1) := by decide +kernel
theorem dX1_casesOf_150 : decode cX1_casesOf 150 = .ok (.goto 8, 3) := by decide +kernel
theorem dX1_casesOf_153 : decode cX1_casesOf 153 = .ok (.lload_n 3, 1) := by decide +kernel
theorem dX1_casesOf_154 : decode cX1_casesOf 154 = .ok (.iload 6, 2) := by decide +kernel
theorem dX1_casesOf_156 : decode cX1_casesOf 156 = .ok (.i2l, 1) := by decide +kernel
theorem dX1_casesOf_157 : decode cX1_casesOf 157 = .ok (.lmul, 1) := by decide +kernel
theorem dX1_casesOf_158 : decode cX1_casesOf 158 = .ok (.lstore_n 3, 1) := by decide +kernel
theorem dX1_casesOf_159 : decode cX1_casesOf 159 = .ok (.lload_n 3, 1) := by decide +kernel
theorem dX1_casesOf_160 : decode cX1_casesOf 160 = .ok (.ldc2_w 366, 3) := by decide +kernel
theorem dX1_casesOf_163 : decode cX1_casesOf 163 = .ok (.invokestatic 368, 3) := by decide +kernel
theorem dX1_casesOf_166 : decode cX1_casesOf 166 = .ok (.lstore_n 3, 1) := by decide +kernel
theorem dX1_casesOf_167 : decode cX1_casesOf 167 = .ok (.iinc 5 1, 3) := by decide +kernel
theorem dX1_casesOf_170 : decode cX1_casesOf 170 = .ok (.goto (-60), 3) := by decide +kernel
theorem dX1_casesOf_173 : decode cX1_casesOf 173 = .ok (.lload_n 3, 1) := by decide +kernel
theorem dX1_casesOf_174 : decode cX1_casesOf 174 = .ok (.l2i, 1) := by decide +kernel
theorem dX1_casesOf_175 : decode cX1_casesOf 175 = .ok (.ireturn, 1) := by decide +kernel
theorem dX1_casesOf_176 : decode cX1_casesOf 176 = .ok (.iload_n 2, 1) := by decide +kernel
theorem dX1_casesOf_177 : decode cX1_casesOf 177 = .ok (.ifCond .eq 20, 3) := by decide +kernel
theorem dX1_casesOf_180 : decode cX1_casesOf 180 = .ok (.aload_n 0, 1) := by decide +kernel
theorem dX1_casesOf_181 : decode cX1_casesOf 181 = .ok (.aload_n 0, 1) := by decide +kernel
theorem dX1_casesOf_182 : decode cX1_casesOf 182 = .ok (.getfield 1, 3) := by decide +kernel
theorem dX1_casesOf_185 : decode cX1_casesOf 185 = .ok (.iload_n 1, 1) := by decide +kernel
theorem dX1_casesOf_186 : decode cX1_casesOf 186 = .ok (.iconst 1, 1) := by decide +kernel
theorem dX1_casesOf_187 : decode cX1_casesOf 187 = .ok (.invokevirtual 28, 3) := by decide +kernel
theorem dX1_casesOf_190 : decode cX1_casesOf 190 = .ok (.iconst 1, 1) := by decide +kernel
theorem dX1_casesOf_191 : decode cX1_casesOf 191 = .ok (.invokevirtual 362, 3) := by decide +kernel
theorem dX1_casesOf_194 : decode cX1_casesOf 194 = .ok (.goto 4, 3) := by decide +kernel
theorem dX1_casesOf_197 : decode cX1_casesOf 197 = .ok (.iconst 1, 1) := by decide +kernel
theorem dX1_casesOf_198 : decode cX1_casesOf 198 = .ok (.ireturn, 1) := by decide +kernel
theorem dX1_casesOf_199 : decode cX1_casesOf 199 = .ok (.iconst 1, 1) := by decide +kernel
theorem dX1_casesOf_200 : decode cX1_casesOf 200 = .ok (.ireturn, 1) := by decide +kernel
abbrev cX1_open : ByteArray := prog_1_method_53_code
def yX1_open : MethodName := ⟨RX1, "open", "(I)I"⟩
theorem dX1_open_0 : decode cX1_open 0 = .ok (.aload_n 0, 1) := by decide +kernel
theorem dX1_open_1 : decode cX1_open 1 = .ok (.getfield 1, 3) := by decide +kernel
theorem dX1_open_4 : decode cX1_open 4 = .ok (.getfield 39, 3) := by decide +kernel
theorem dX1_open_7 : decode cX1_open 7 = .ok (.iload_n 1, 1) := by decide +kernel
theorem dX1_open_8 : decode cX1_open 8 = .ok (.iaload, 1) := by decide +kernel
theorem dX1_open_9 : decode cX1_open 9 = .ok (.istore_n 2, 1) := by decide +kernel
theorem dX1_open_10 : decode cX1_open 10 = .ok (.iload_n 2, 1) := by decide +kernel
theorem dX1_open_11 : decode cX1_open 11 = .ok (.bipush 17, 2) := by decide +kernel
theorem dX1_open_13 : decode cX1_open 13 = .ok (.if_icmp .ne 68, 3) := by decide +kernel
theorem dX1_open_16 : decode cX1_open 16 = .ok (.aload_n 0, 1) := by decide +kernel
theorem dX1_open_17 : decode cX1_open 17 = .ok (.getfield 1, 3) := by decide +kernel
theorem dX1_open_20 : decode cX1_open 20 = .ok (.getfield 7, 3) := by decide +kernel
theorem dX1_open_23 : decode cX1_open 23 = .ok (.istore_n 3, 1) := by decide +kernel
theorem dX1_open_24 : decode cX1_open 24 = .ok (.iconst 0, 1) := by decide +kernel
theorem dX1_open_25 : decode cX1_open 25 = .ok (.istore 4, 2) := by decide +kernel
theorem dX1_open_27 : decode cX1_open 27 = .ok (.iload 4, 2) := by decide +kernel
theorem dX1_open_29 : decode cX1_open 29 = .ok (.aload_n 0, 1) := by decide +kernel
theorem dX1_open_30 : decode cX1_open 30 = .ok (.getfield 1, 3) := by decide +kernel
theorem dX1_open_33 : decode cX1_open 33 = .ok (.getfield 32, 3) := by decide +kernel
theorem dX1_open_36 : decode cX1_open 36 = .ok (.iload_n 1, 1) := by decide +kernel
theorem dX1_open_37 : decode cX1_open 37 = .ok (.iaload, 1) := by decide +kernel
theorem dX1_open_38 : decode cX1_open 38 = .ok (.if_icmp .ge 34, 3) := by decide +kernel
theorem dX1_open_41 : decode cX1_open 41 = .ok (.aload_n 0, 1) := by decide +kernel
theorem dX1_open_42 : decode cX1_open 42 = .ok (.aload_n 0, 1) := by decide +kernel
theorem dX1_open_43 : decode cX1_open 43 = .ok (.getfield 1, 3) := by decide +kernel
theorem dX1_open_46 : decode cX1_open 46 = .ok (.iload_n 1, 1) := by decide +kernel
theorem dX1_open_47 : decode cX1_open 47 = .ok (.iload 4, 2) := by decide +kernel
theorem dX1_open_49 : decode cX1_open 49 = .ok (.invokevirtual 28, 3) := by decide +kernel
theorem dX1_open_52 : decode cX1_open 52 = .ok (.invokevirtual 371, 3) := by decide +kernel
theorem dX1_open_55 : decode cX1_open 55 = .ok (.istore 5, 2) := by decide +kernel
theorem dX1_open_57 : decode cX1_open 57 = .ok (.aload_n 0, 1) := by decide +kernel
theorem dX1_open_58 : decode cX1_open 58 = .ok (.getfield 1, 3) := by decide +kernel
theorem dX1_open_61 : decode cX1_open 61 = .ok (.iload 5, 2) := by decide +kernel
theorem dX1_open_63 : decode cX1_open 63 = .ok (.invokevirtual 17, 3) := by decide +kernel
theorem dX1_open_66 : decode cX1_open 66 = .ok (.iinc 4 1, 3) := by decide +kernel
theorem dX1_open_69 : decode cX1_open 69 = .ok (.goto (-42), 3) := by decide +kernel
theorem dX1_open_72 : decode cX1_open 72 = .ok (.aload_n 0, 1) := by decide +kernel
theorem dX1_open_73 : decode cX1_open 73 = .ok (.getfield 1, 3) := by decide +kernel
theorem dX1_open_76 : decode cX1_open 76 = .ok (.iload_n 3, 1) := by decide +kernel
theorem dX1_open_77 : decode cX1_open 77 = .ok (.invokevirtual 374, 3) := by decide +kernel
theorem dX1_open_80 : decode cX1_open 80 = .ok (.ireturn, 1) := by decide +kernel
theorem dX1_open_81 : decode cX1_open 81 = .ok (.iload_n 2, 1) := by decide +kernel
theorem dX1_open_82 : decode cX1_open 82 = .ok (.bipush 16, 2) := by decide +kernel
theorem dX1_open_84 : decode cX1_open 84 = .ok (.if_icmp .eq 5, 3) := by decide +kernel
theorem dX1_open_87 : decode cX1_open 87 = .ok (.iload_n 1, 1) := by decide +kernel
theorem dX1_open_88 : decode cX1_open 88 = .ok (.ireturn, 1) := by decide +kernel
theorem dX1_open_89 : decode cX1_open 89 = .ok (.aload_n 0, 1) := by decide +kernel
theorem dX1_open_90 : decode cX1_open 90 = .ok (.getfield 1, 3) := by decide +kernel
theorem dX1_open_93 : decode cX1_open 93 = .ok (.iload_n 1, 1) := by decide +kernel
theorem dX1_open_94 : decode cX1_open 94 = .ok (.iconst 0, 1) := by decide +kernel
theorem dX1_open_95 : decode cX1_open 95 = .ok (.invokevirtual 28, 3) := by decide +kernel
theorem dX1_open_98 : decode cX1_open 98 = .ok (.istore_n 3, 1) := by decide +kernel
theorem dX1_open_99 : decode cX1_open 99 = .ok (.aload_n 0, 1) := by decide +kernel
theorem dX1_open_100 : decode cX1_open 100 = .ok (.getfield 1, 3) := by decide +kernel
theorem dX1_open_103 : decode cX1_open 103 = .ok (.getfield 39, 3) := by decide +kernel
theorem dX1_open_106 : decode cX1_open 106 = .ok (.iload_n 3, 1) := by decide +kernel
theorem dX1_open_107 : decode cX1_open 107 = .ok (.iaload, 1) := by decide +kernel
theorem dX1_open_108 : decode cX1_open 108 = .ok (.bipush 17, 2) := by decide +kernel
theorem dX1_open_110 : decode cX1_open 110 = .ok (.if_icmp .ne 80, 3) := by decide +kernel
theorem dX1_open_113 : decode cX1_open 113 = .ok (.aload_n 0, 1) := by decide +kernel
theorem dX1_open_114 : decode cX1_open 114 = .ok (.getfield 1, 3) := by decide +kernel
theorem dX1_open_117 : decode cX1_open 117 = .ok (.getfield 7, 3) := by decide +kernel
theorem dX1_open_120 : decode cX1_open 120 = .ok (.istore 4, 2) := by decide +kernel
theorem dX1_open_122 : decode cX1_open 122 = .ok (.iconst 0, 1) := by decide +kernel
theorem dX1_open_123 : decode cX1_open 123 = .ok (.istore 5, 2) := by decide +kernel
theorem dX1_open_125 : decode cX1_open 125 = .ok (.iload 5, 2) := by decide +kernel
theorem dX1_open_127 : decode cX1_open 127 = .ok (.aload_n 0, 1) := by decide +kernel
theorem dX1_open_128 : decode cX1_open 128 = .ok (.getfield 1, 3) := by decide +kernel
theorem dX1_open_131 : decode cX1_open 131 = .ok (.getfield 32, 3) := by decide +kernel
theorem dX1_open_134 : decode cX1_open 134 = .ok (.iload_n 3, 1) := by decide +kernel
theorem dX1_open_135 : decode cX1_open 135 = .ok (.iaload, 1) := by decide +kernel
theorem dX1_open_136 : decode cX1_open 136 = .ok (.if_icmp .ge 41, 3) := by decide +kernel
theorem dX1_open_139 : decode cX1_open 139 = .ok (.aload_n 0, 1) := by decide +kernel
theorem dX1_open_140 : decode cX1_open 140 = .ok (.aload_n 0, 1) := by decide +kernel
theorem dX1_open_141 : decode cX1_open 141 = .ok (.getfield 1, 3) := by decide +kernel
theorem dX1_open_144 : decode cX1_open 144 = .ok (.aload_n 0, 1) := by decide +kernel
theorem dX1_open_145 : decode cX1_open 145 = .ok (.getfield 1, 3) := by decide +kernel
theorem dX1_open_148 : decode cX1_open 148 = .ok (.iload_n 3, 1) := by decide +kernel
theorem dX1_open_149 : decode cX1_open 149 = .ok (.iload 5, 2) := by decide +kernel
theorem dX1_open_151 : decode cX1_open 151 = .ok (.invokevirtual 28, 3) := by decide +kernel
theorem dX1_open_154 : decode cX1_open 154 = .ok (.invokevirtual 263, 3) := by decide +kernel
theorem dX1_open_157 : decode cX1_open 157 = .ok (.invokevirtual 371, 3) := by decide +kernel
theorem dX1_open_160 : decode cX1_open 160 = .ok (.istore 6, 2) := by decide +kernel
theorem dX1_open_162 : decode cX1_open 162 = .ok (.aload_n 0, 1) := by decide +kernel
theorem dX1_open_163 : decode cX1_open 163 = .ok (.getfield 1, 3) := by decide +kernel
theorem dX1_open_166 : decode cX1_open 166 = .ok (.iload 6, 2) := by decide +kernel
theorem dX1_open_168 : decode cX1_open 168 = .ok (.invokevirtual 17, 3) := by decide +kernel
theorem dX1_open_171 : decode cX1_open 171 = .ok (.iinc 5 1, 3) := by decide +kernel
theorem dX1_open_174 : decode cX1_open 174 = .ok (.goto (-49), 3) := by decide +kernel
theorem dX1_open_177 : decode cX1_open 177 = .ok (.aload_n 0, 1) := by decide +kernel
theorem dX1_open_178 : decode cX1_open 178 = .ok (.getfield 1, 3) := by decide +kernel
theorem dX1_open_181 : decode cX1_open 181 = .ok (.bipush 30, 2) := by decide +kernel
theorem dX1_open_183 : decode cX1_open 183 = .ok (.iconst 0, 1) := by decide +kernel
theorem dX1_open_184 : decode cX1_open 184 = .ok (.iload 4, 2) := by decide +kernel
theorem dX1_open_186 : decode cX1_open 186 = .ok (.invokevirtual 21, 3) := by decide +kernel
theorem dX1_open_189 : decode cX1_open 189 = .ok (.ireturn, 1) := by decide +kernel
theorem dX1_open_190 : decode cX1_open 190 = .ok (.aload_n 0, 1) := by decide +kernel
theorem dX1_open_191 : decode cX1_open 191 = .ok (.getfield 1, 3) := by decide +kernel
theorem dX1_open_194 : decode cX1_open 194 = .ok (.getfield 39, 3) := by decide +kernel
theorem dX1_open_197 : decode cX1_open 197 = .ok (.iload_n 3, 1) := by decide +kernel
theorem dX1_open_198 : decode cX1_open 198 = .ok (.iaload, 1) := by decide +kernel
theorem dX1_open_199 : decode cX1_open 199 = .ok (.bipush 18, 2) := by decide +kernel
theorem dX1_open_201 : decode cX1_open 201 = .ok (.if_icmp .eq 5, 3) := by decide +kernel
theorem dX1_open_204 : decode cX1_open 204 = .ok (.iload_n 1, 1) := by decide +kernel
theorem dX1_open_205 : decode cX1_open 205 = .ok (.ireturn, 1) := by decide +kernel
theorem dX1_open_206 : decode cX1_open 206 = .ok (.aload_n 0, 1) := by decide +kernel
theorem dX1_open_207 : decode cX1_open 207 = .ok (.aload_n 0, 1) := by decide +kernel
theorem dX1_open_208 : decode cX1_open 208 = .ok (.getfield 1, 3) := by decide +kernel
theorem dX1_open_211 : decode cX1_open 211 = .ok (.iload_n 3, 1) := by decide +kernel
theorem dX1_open_212 : decode cX1_open 212 = .ok (.iconst 0, 1) := by decide +kernel
theorem dX1_open_213 : decode cX1_open 213 = .ok (.invokevirtual 28, 3) := by decide +kernel
theorem dX1_open_216 : decode cX1_open 216 = .ok (.invokevirtual 293, 3) := by decide +kernel
theorem dX1_open_219 : decode cX1_open 219 = .ok (.istore 4, 2) := by decide +kernel
theorem dX1_open_221 : decode cX1_open 221 = .ok (.aload_n 0, 1) := by decide +kernel
theorem dX1_open_222 : decode cX1_open 222 = .ok (.getfield 1, 3) := by decide +kernel
theorem dX1_open_225 : decode cX1_open 225 = .ok (.aload_n 0, 1) := by decide +kernel
theorem dX1_open_226 : decode cX1_open 226 = .ok (.getfield 1, 3) := by decide +kernel
theorem dX1_open_229 : decode cX1_open 229 = .ok (.iload_n 3, 1) := by decide +kernel
theorem dX1_open_230 : decode cX1_open 230 = .ok (.iconst 1, 1) := by decide +kernel
theorem dX1_open_231 : decode cX1_open 231 = .ok (.invokevirtual 28, 3) := by decide +kernel
theorem dX1_open_234 : decode cX1_open 234 = .ok (.iload 4, 2) := by decide +kernel
theorem dX1_open_236 : decode cX1_open 236 = .ok (.invokevirtual 287, 3) := by decide +kernel
theorem dX1_open_239 : decode cX1_open 239 = .ok (.istore 5, 2) := by decide +kernel
theorem dX1_open_241 : decode cX1_open 241 = .ok (.aload_n 0, 1) := by decide +kernel
theorem dX1_open_242 : decode cX1_open 242 = .ok (.aload_n 0, 1) := by decide +kernel
theorem dX1_open_243 : decode cX1_open 243 = .ok (.getfield 1, 3) := by decide +kernel
theorem dX1_open_246 : decode cX1_open 246 = .ok (.iload 5, 2) := by decide +kernel
theorem dX1_open_248 : decode cX1_open 248 = .ok (.invokevirtual 263, 3) := by decide +kernel
theorem dX1_open_251 : decode cX1_open 251 = .ok (.invokevirtual 371, 3) := by decide +kernel
theorem dX1_open_254 : decode cX1_open 254 = .ok (.ireturn, 1) := by decide +kernel
abbrev cX1_pend : ByteArray := prog_1_method_51_code
def yX1_pend : MethodName := ⟨RX1, "pend", "(II)I"⟩
theorem dX1_pend_0 : decode cX1_pend 0 = .ok (.aload_n 0, 1) := by decide +kernel
theorem dX1_pend_1 : decode cX1_pend 1 = .ok (.getfield 353, 3) := by decide +kernel
theorem dX1_pend_4 : decode cX1_pend 4 = .ok (.aload_n 0, 1) := by decide +kernel
theorem dX1_pend_5 : decode cX1_pend 5 = .ok (.getfield 356, 3) := by decide +kernel
theorem dX1_pend_8 : decode cX1_pend 8 = .ok (.arraylength, 1) := by decide +kernel
theorem dX1_pend_9 : decode cX1_pend 9 = .ok (.if_icmp .ne 37, 3) := by decide +kernel
theorem dX1_pend_12 : decode cX1_pend 12 = .ok (.aload_n 0, 1) := by decide +kernel
theorem dX1_pend_13 : decode cX1_pend 13 = .ok (.aload_n 0, 1) := by decide +kernel
theorem dX1_pend_14 : decode cX1_pend 14 = .ok (.getfield 356, 3) := by decide +kernel
theorem dX1_pend_17 : decode cX1_pend 17 = .ok (.iconst 2, 1) := by decide +kernel
theorem dX1_pend_18 : decode cX1_pend 18 = .ok (.aload_n 0, 1) := by decide +kernel
theorem dX1_pend_19 : decode cX1_pend 19 = .ok (.getfield 353, 3) := by decide +kernel
theorem dX1_pend_22 : decode cX1_pend 22 = .ok (.imul, 1) := by decide +kernel
theorem dX1_pend_23 : decode cX1_pend 23 = .ok (.invokestatic 112, 3) := by decide +kernel
theorem dX1_pend_26 : decode cX1_pend 26 = .ok (.putfield 356, 3) := by decide +kernel
theorem dX1_pend_29 : decode cX1_pend 29 = .ok (.aload_n 0, 1) := by decide +kernel
theorem dX1_pend_30 : decode cX1_pend 30 = .ok (.aload_n 0, 1) := by decide +kernel
theorem dX1_pend_31 : decode cX1_pend 31 = .ok (.getfield 359, 3) := by decide +kernel
theorem dX1_pend_34 : decode cX1_pend 34 = .ok (.iconst 2, 1) := by decide +kernel
theorem dX1_pend_35 : decode cX1_pend 35 = .ok (.aload_n 0, 1) := by decide +kernel
theorem dX1_pend_36 : decode cX1_pend 36 = .ok (.getfield 353, 3) := by decide +kernel
theorem dX1_pend_39 : decode cX1_pend 39 = .ok (.imul, 1) := by decide +kernel
theorem dX1_pend_40 : decode cX1_pend 40 = .ok (.invokestatic 112, 3) := by decide +kernel
theorem dX1_pend_43 : decode cX1_pend 43 = .ok (.putfield 359, 3) := by decide +kernel
theorem dX1_pend_46 : decode cX1_pend 46 = .ok (.aload_n 0, 1) := by decide +kernel
theorem dX1_pend_47 : decode cX1_pend 47 = .ok (.getfield 356, 3) := by decide +kernel
theorem dX1_pend_50 : decode cX1_pend 50 = .ok (.aload_n 0, 1) := by decide +kernel
theorem dX1_pend_51 : decode cX1_pend 51 = .ok (.getfield 353, 3) := by decide +kernel
theorem dX1_pend_54 : decode cX1_pend 54 = .ok (.iload_n 1, 1) := by decide +kernel
theorem dX1_pend_55 : decode cX1_pend 55 = .ok (.iastore, 1) := by decide +kernel
theorem dX1_pend_56 : decode cX1_pend 56 = .ok (.aload_n 0, 1) := by decide +kernel
theorem dX1_pend_57 : decode cX1_pend 57 = .ok (.getfield 359, 3) := by decide +kernel
theorem dX1_pend_60 : decode cX1_pend 60 = .ok (.aload_n 0, 1) := by decide +kernel
theorem dX1_pend_61 : decode cX1_pend 61 = .ok (.getfield 353, 3) := by decide +kernel
theorem dX1_pend_64 : decode cX1_pend 64 = .ok (.iload_n 2, 1) := by decide +kernel
theorem dX1_pend_65 : decode cX1_pend 65 = .ok (.iastore, 1) := by decide +kernel
theorem dX1_pend_66 : decode cX1_pend 66 = .ok (.aload_n 0, 1) := by decide +kernel
theorem dX1_pend_67 : decode cX1_pend 67 = .ok (.dup, 1) := by decide +kernel
theorem dX1_pend_68 : decode cX1_pend 68 = .ok (.getfield 353, 3) := by decide +kernel
theorem dX1_pend_71 : decode cX1_pend 71 = .ok (.iconst 1, 1) := by decide +kernel
theorem dX1_pend_72 : decode cX1_pend 72 = .ok (.iadd, 1) := by decide +kernel
theorem dX1_pend_73 : decode cX1_pend 73 = .ok (.putfield 353, 3) := by decide +kernel
theorem dX1_pend_76 : decode cX1_pend 76 = .ok (.aload_n 0, 1) := by decide +kernel
theorem dX1_pend_77 : decode cX1_pend 77 = .ok (.getfield 353, 3) := by decide +kernel
theorem dX1_pend_80 : decode cX1_pend 80 = .ok (.iconst 1, 1) := by decide +kernel
theorem dX1_pend_81 : decode cX1_pend 81 = .ok (.isub, 1) := by decide +kernel
theorem dX1_pend_82 : decode cX1_pend 82 = .ok (.ireturn, 1) := by decide +kernel
abbrev cX1_split : ByteArray := prog_1_method_54_code
def yX1_split : MethodName := ⟨RX1, "split", "(II)V"⟩
theorem dX1_split_0 : decode cX1_split 0 = .ok (.iload_n 1, 1) := by decide +kernel
theorem dX1_split_1 : decode cX1_split 1 = .ok (.istore_n 3, 1) := by decide +kernel
theorem dX1_split_2 : decode cX1_split 2 = .ok (.iload_n 2, 1) := by decide +kernel
theorem dX1_split_3 : decode cX1_split 3 = .ok (.istore 4, 2) := by decide +kernel
theorem dX1_split_5 : decode cX1_split 5 = .ok (.iload_n 3, 1) := by decide +kernel
theorem dX1_split_6 : decode cX1_split 6 = .ok (.ifCond .lt 218, 3) := by decide +kernel
theorem dX1_split_9 : decode cX1_split 9 = .ok (.aload_n 0, 1) := by decide +kernel
theorem dX1_split_10 : decode cX1_split 10 = .ok (.getfield 377, 3) := by decide +kernel
theorem dX1_split_13 : decode cX1_split 13 = .ok (.ifCond .eq 211, 3) := by decide +kernel
theorem dX1_split_16 : decode cX1_split 16 = .ok (.aload_n 0, 1) := by decide +kernel
theorem dX1_split_17 : decode cX1_split 17 = .ok (.getfield 356, 3) := by decide +kernel
theorem dX1_split_20 : decode cX1_split 20 = .ok (.iload_n 3, 1) := by decide +kernel
theorem dX1_split_21 : decode cX1_split 21 = .ok (.iaload, 1) := by decide +kernel
theorem dX1_split_22 : decode cX1_split 22 = .ok (.istore 5, 2) := by decide +kernel
theorem dX1_split_24 : decode cX1_split 24 = .ok (.aload_n 0, 1) := by decide +kernel
theorem dX1_split_25 : decode cX1_split 25 = .ok (.getfield 359, 3) := by decide +kernel
theorem dX1_split_28 : decode cX1_split 28 = .ok (.iload_n 3, 1) := by decide +kernel
theorem dX1_split_29 : decode cX1_split 29 = .ok (.iaload, 1) := by decide +kernel
theorem dX1_split_30 : decode cX1_split 30 = .ok (.istore_n 3, 1) := by decide +kernel
theorem dX1_split_31 : decode cX1_split 31 = .ok (.aload_n 0, 1) := by decide +kernel
theorem dX1_split_32 : decode cX1_split 32 = .ok (.getfield 1, 3) := by decide +kernel
theorem dX1_split_35 : decode cX1_split 35 = .ok (.getfield 39, 3) := by decide +kernel
theorem dX1_split_38 : decode cX1_split 38 = .ok (.iload 5, 2) := by decide +kernel
theorem dX1_split_40 : decode cX1_split 40 = .ok (.iaload, 1) := by decide +kernel
theorem dX1_split_41 : decode cX1_split 41 = .ok (.istore 6, 2) := by decide +kernel
theorem dX1_split_43 : decode cX1_split 43 = .ok (.iload 6, 2) := by decide +kernel
theorem dX1_split_45 : decode cX1_split 45 = .ok (.bipush 17, 2) := by decide +kernel
theorem dX1_split_47 : decode cX1_split 47 = .ok (.if_icmp .ne 47, 3) := by decide +kernel
theorem dX1_split_50 : decode cX1_split 50 = .ok (.iconst 0, 1) := by decide +kernel
theorem dX1_split_51 : decode cX1_split 51 = .ok (.istore 7, 2) := by decide +kernel
theorem dX1_split_53 : decode cX1_split 53 = .ok (.iload 7, 2) := by decide +kernel
theorem dX1_split_55 : decode cX1_split 55 = .ok (.aload_n 0, 1) := by decide +kernel
theorem dX1_split_56 : decode cX1_split 56 = .ok (.getfield 1, 3) := by decide +kernel
theorem dX1_split_59 : decode cX1_split 59 = .ok (.getfield 32, 3) := by decide +kernel
theorem dX1_split_62 : decode cX1_split 62 = .ok (.iload 5, 2) := by decide +kernel
theorem dX1_split_64 : decode cX1_split 64 = .ok (.iaload, 1) := by decide +kernel
theorem dX1_split_65 : decode cX1_split 65 = .ok (.if_icmp .ge 26, 3) := by decide +kernel
theorem dX1_split_68 : decode cX1_split 68 = .ok (.aload_n 0, 1) := by decide +kernel
theorem dX1_split_69 : decode cX1_split 69 = .ok (.aload_n 0, 1) := by decide +kernel
theorem dX1_split_70 : decode cX1_split 70 = .ok (.getfield 1, 3) := by decide +kernel
theorem dX1_split_73 : decode cX1_split 73 = .ok (.iload 5, 2) := by decide +kernel
theorem dX1_split_75 : decode cX1_split 75 = .ok (.iload 7, 2) := by decide +kernel
theorem dX1_split_77 : decode cX1_split 77 = .ok (.invokevirtual 28, 3) := by decide +kernel
theorem dX1_split_80 : decode cX1_split 80 = .ok (.iload_n 3, 1) := by decide +kernel
theorem dX1_split_81 : decode cX1_split 81 = .ok (.invokevirtual 380, 3) := by decide +kernel
theorem dX1_split_84 : decode cX1_split 84 = .ok (.istore_n 3, 1) := by decide +kernel
theorem dX1_split_85 : decode cX1_split 85 = .ok (.iinc 7 1, 3) := by decide +kernel
theorem dX1_split_88 : decode cX1_split 88 = .ok (.goto (-35), 3) := by decide +kernel
theorem dX1_split_91 : decode cX1_split 91 = .ok (.goto 130, 3) := by decide +kernel
theorem dX1_split_94 : decode cX1_split 94 = .ok (.iload 6, 2) := by decide +kernel
theorem dX1_split_96 : decode cX1_split 96 = .ok (.bipush 30, 2) := by decide +kernel
theorem dX1_split_98 : decode cX1_split 98 = .ok (.if_icmp .ne 61, 3) := by decide +kernel
theorem dX1_split_101 : decode cX1_split 101 = .ok (.iconst 0, 1) := by decide +kernel
theorem dX1_split_102 : decode cX1_split 102 = .ok (.istore 7, 2) := by decide +kernel
theorem dX1_split_104 : decode cX1_split 104 = .ok (.iload 7, 2) := by decide +kernel
theorem dX1_split_106 : decode cX1_split 106 = .ok (.aload_n 0, 1) := by decide +kernel
theorem dX1_split_107 : decode cX1_split 107 = .ok (.getfield 1, 3) := by decide +kernel
theorem dX1_split_110 : decode cX1_split 110 = .ok (.getfield 32, 3) := by decide +kernel
theorem dX1_split_113 : decode cX1_split 113 = .ok (.iload 5, 2) := by decide +kernel
theorem dX1_split_115 : decode cX1_split 115 = .ok (.iaload, 1) := by decide +kernel
theorem dX1_split_116 : decode cX1_split 116 = .ok (.if_icmp .ge 42, 3) := by decide +kernel
theorem dX1_split_119 : decode cX1_split 119 = .ok (.aload_n 0, 1) := by decide +kernel
theorem dX1_split_120 : decode cX1_split 120 = .ok (.getfield 377, 3) := by decide +kernel
theorem dX1_split_123 : decode cX1_split 123 = .ok (.ifCond .eq 35, 3) := by decide +kernel
theorem dX1_split_126 : decode cX1_split 126 = .ok (.aload_n 0, 1) := by decide +kernel
theorem dX1_split_127 : decode cX1_split 127 = .ok (.aload_n 0, 1) := by decide +kernel
theorem dX1_split_128 : decode cX1_split 128 = .ok (.getfield 1, 3) := by decide +kernel
theorem dX1_split_131 : decode cX1_split 131 = .ok (.iload 5, 2) := by decide +kernel
theorem dX1_split_133 : decode cX1_split 133 = .ok (.iload 7, 2) := by decide +kernel
theorem dX1_split_135 : decode cX1_split 135 = .ok (.invokevirtual 28, 3) := by decide +kernel
theorem dX1_split_138 : decode cX1_split 138 = .ok (.iload_n 3, 1) := by decide +kernel
theorem dX1_split_139 : decode cX1_split 139 = .ok (.invokevirtual 380, 3) := by decide +kernel
theorem dX1_split_142 : decode cX1_split 142 = .ok (.istore 8, 2) := by decide +kernel
theorem dX1_split_144 : decode cX1_split 144 = .ok (.aload_n 0, 1) := by decide +kernel
theorem dX1_split_145 : decode cX1_split 145 = .ok (.iload 8, 2) := by decide +kernel
theorem dX1_split_147 : decode cX1_split 147 = .ok (.iload 4, 2) := by decide +kernel
theorem dX1_split_149 : decode cX1_split 149 = .ok (.invokevirtual 383, 3) := by decide +kernel
theorem dX1_split_152 : decode cX1_split 152 = .ok (.iinc 7 1, 3) := by decide +kernel
theorem dX1_split_155 : decode cX1_split 155 = .ok (.goto (-51), 3) := by decide +kernel
theorem dX1_split_158 : decode cX1_split 158 = .ok (.return_, 1) := by decide +kernel
theorem dX1_split_159 : decode cX1_split 159 = .ok (.iload 5, 2) := by decide +kernel
theorem dX1_split_161 : decode cX1_split 161 = .ok (.aload_n 0, 1) := by decide +kernel
theorem dX1_split_162 : decode cX1_split 162 = .ok (.getfield 1, 3) := by decide +kernel
theorem dX1_split_165 : decode cX1_split 165 = .ok (.getfield 266, 3) := by decide +kernel
theorem dX1_split_168 : decode cX1_split 168 = .ok (.if_icmp .ne 4, 3) := by decide +kernel
theorem dX1_split_171 : decode cX1_split 171 = .ok (.return_, 1) := by decide +kernel
theorem dX1_split_172 : decode cX1_split 172 = .ok (.iload 5, 2) := by decide +kernel
theorem dX1_split_174 : decode cX1_split 174 = .ok (.aload_n 0, 1) := by decide +kernel
theorem dX1_split_175 : decode cX1_split 175 = .ok (.getfield 1, 3) := by decide +kernel
theorem dX1_split_178 : decode cX1_split 178 = .ok (.getfield 387, 3) := by decide +kernel
theorem dX1_split_181 : decode cX1_split 181 = .ok (.if_icmp .eq 40, 3) := by decide +kernel
theorem dX1_split_184 : decode cX1_split 184 = .ok (.iload 4, 2) := by decide +kernel
theorem dX1_split_186 : decode cX1_split 186 = .ok (.aload_n 0, 1) := by decide +kernel
theorem dX1_split_187 : decode cX1_split 187 = .ok (.getfield 326, 3) := by decide +kernel
theorem dX1_split_190 : decode cX1_split 190 = .ok (.arraylength, 1) := by decide +kernel
theorem dX1_split_191 : decode cX1_split 191 = .ok (.if_icmp .ne 18, 3) := by decide +kernel
theorem dX1_split_194 : decode cX1_split 194 = .ok (.aload_n 0, 1) := by decide +kernel
theorem dX1_split_195 : decode cX1_split 195 = .ok (.aload_n 0, 1) := by decide +kernel
theorem dX1_split_196 : decode cX1_split 196 = .ok (.getfield 326, 3) := by decide +kernel
theorem dX1_split_199 : decode cX1_split 199 = .ok (.iconst 2, 1) := by decide +kernel
theorem dX1_split_200 : decode cX1_split 200 = .ok (.iload 4, 2) := by decide +kernel
theorem dX1_split_202 : decode cX1_split 202 = .ok (.imul, 1) := by decide +kernel
theorem dX1_split_203 : decode cX1_split 203 = .ok (.invokestatic 112, 3) := by decide +kernel
theorem dX1_split_206 : decode cX1_split 206 = .ok (.putfield 326, 3) := by decide +kernel
theorem dX1_split_209 : decode cX1_split 209 = .ok (.aload_n 0, 1) := by decide +kernel
theorem dX1_split_210 : decode cX1_split 210 = .ok (.getfield 326, 3) := by decide +kernel
theorem dX1_split_213 : decode cX1_split 213 = .ok (.iload 4, 2) := by decide +kernel
theorem dX1_split_215 : decode cX1_split 215 = .ok (.iload 5, 2) := by decide +kernel
theorem dX1_split_217 : decode cX1_split 217 = .ok (.iastore, 1) := by decide +kernel
theorem dX1_split_218 : decode cX1_split 218 = .ok (.iinc 4 1, 3) := by decide +kernel
theorem dX1_split_221 : decode cX1_split 221 = .ok (.goto (-216), 3) := by decide +kernel
theorem dX1_split_224 : decode cX1_split 224 = .ok (.aload_n 0, 1) := by decide +kernel
theorem dX1_split_225 : decode cX1_split 225 = .ok (.getfield 377, 3) := by decide +kernel
theorem dX1_split_228 : decode cX1_split 228 = .ok (.ifCond .ne 4, 3) := by decide +kernel
theorem dX1_split_231 : decode cX1_split 231 = .ok (.return_, 1) := by decide +kernel
theorem dX1_split_232 : decode cX1_split 232 = .ok (.aload_n 0, 1) := by decide +kernel
theorem dX1_split_233 : decode cX1_split 233 = .ok (.getfield 1, 3) := by decide +kernel
theorem dX1_split_236 : decode cX1_split 236 = .ok (.getfield 390, 3) := by decide +kernel
theorem dX1_split_239 : decode cX1_split 239 = .ok (.istore 5, 2) := by decide +kernel
theorem dX1_split_241 : decode cX1_split 241 = .ok (.aload_n 0, 1) := by decide +kernel
theorem dX1_split_242 : decode cX1_split 242 = .ok (.getfield 1, 3) := by decide +kernel
theorem dX1_split_245 : decode cX1_split 245 = .ok (.getfield 393, 3) := by decide +kernel
theorem dX1_split_248 : decode cX1_split 248 = .ok (.istore 6, 2) := by decide +kernel
theorem dX1_split_250 : decode cX1_split 250 = .ok (.aload_n 0, 1) := by decide +kernel
theorem dX1_split_251 : decode cX1_split 251 = .ok (.getfield 333, 3) := by decide +kernel
theorem dX1_split_254 : decode cX1_split 254 = .ok (.istore 7, 2) := by decide +kernel
theorem dX1_split_256 : decode cX1_split 256 = .ok (.aload_n 0, 1) := by decide +kernel
theorem dX1_split_257 : decode cX1_split 257 = .ok (.iconst 0, 1) := by decide +kernel
theorem dX1_split_258 : decode cX1_split 258 = .ok (.iload 4, 2) := by decide +kernel
theorem dX1_split_260 : decode cX1_split 260 = .ok (.invokevirtual 396, 3) := by decide +kernel
theorem dX1_split_263 : decode cX1_split 263 = .ok (.istore 8, 2) := by decide +kernel
theorem dX1_split_265 : decode cX1_split 265 = .ok (.aload_n 0, 1) := by decide +kernel
theorem dX1_split_266 : decode cX1_split 266 = .ok (.iload 5, 2) := by decide +kernel
theorem dX1_split_268 : decode cX1_split 268 = .ok (.iload 6, 2) := by decide +kernel
theorem dX1_split_270 : decode cX1_split 270 = .ok (.iload 7, 2) := by decide +kernel
theorem dX1_split_272 : decode cX1_split 272 = .ok (.invokevirtual 399, 3) := by decide +kernel
theorem dX1_split_275 : decode cX1_split 275 = .ok (.iload 8, 2) := by decide +kernel
theorem dX1_split_277 : decode cX1_split 277 = .ok (.iconst 1, 1) := by decide +kernel
theorem dX1_split_278 : decode cX1_split 278 = .ok (.if_icmp .eq 9, 3) := by decide +kernel
theorem dX1_split_281 : decode cX1_split 281 = .ok (.aload_n 0, 1) := by decide +kernel
theorem dX1_split_282 : decode cX1_split 282 = .ok (.iload 8, 2) := by decide +kernel
theorem dX1_split_284 : decode cX1_split 284 = .ok (.putfield 377, 3) := by decide +kernel
theorem dX1_split_287 : decode cX1_split 287 = .ok (.return_, 1) := by decide +kernel
abbrev cX1_refuted : ByteArray := prog_1_method_48_code
def yX1_refuted : MethodName := ⟨RX1, "refuted", "(II)I"⟩
theorem dX1_refuted_0 : decode cX1_refuted 0 = .ok (.aload_n 0, 1) := by decide +kernel
theorem dX1_refuted_1 : decode cX1_refuted 1 = .ok (.dup, 1) := by decide +kernel
theorem dX1_refuted_2 : decode cX1_refuted 2 = .ok (.getfield 143, 3) := by decide +kernel
theorem dX1_refuted_5 : decode cX1_refuted 5 = .ok (.iconst 1, 1) := by decide +kernel
theorem dX1_refuted_6 : decode cX1_refuted 6 = .ok (.iadd, 1) := by decide +kernel
theorem dX1_refuted_7 : decode cX1_refuted 7 = .ok (.putfield 143, 3) := by decide +kernel
theorem dX1_refuted_10 : decode cX1_refuted 10 = .ok (.aload_n 0, 1) := by decide +kernel
theorem dX1_refuted_11 : decode cX1_refuted 11 = .ok (.iconst 0, 1) := by decide +kernel
theorem dX1_refuted_12 : decode cX1_refuted 12 = .ok (.putfield 223, 3) := by decide +kernel
theorem dX1_refuted_15 : decode cX1_refuted 15 = .ok (.aload_n 0, 1) := by decide +kernel
theorem dX1_refuted_16 : decode cX1_refuted 16 = .ok (.iconst 0, 1) := by decide +kernel
theorem dX1_refuted_17 : decode cX1_refuted 17 = .ok (.putfield 163, 3) := by decide +kernel
theorem dX1_refuted_20 : decode cX1_refuted 20 = .ok (.aload_n 0, 1) := by decide +kernel
theorem dX1_refuted_21 : decode cX1_refuted 21 = .ok (.iconst 0, 1) := by decide +kernel
theorem dX1_refuted_22 : decode cX1_refuted 22 = .ok (.putfield 184, 3) := by decide +kernel
theorem dX1_refuted_25 : decode cX1_refuted 25 = .ok (.aload_n 0, 1) := by decide +kernel
theorem dX1_refuted_26 : decode cX1_refuted 26 = .ok (.iconst 0, 1) := by decide +kernel
theorem dX1_refuted_27 : decode cX1_refuted 27 = .ok (.putfield 196, 3) := by decide +kernel
theorem dX1_refuted_30 : decode cX1_refuted 30 = .ok (.aload_n 0, 1) := by decide +kernel
theorem dX1_refuted_31 : decode cX1_refuted 31 = .ok (.iconst 0, 1) := by decide +kernel
theorem dX1_refuted_32 : decode cX1_refuted 32 = .ok (.putfield 159, 3) := by decide +kernel
theorem dX1_refuted_35 : decode cX1_refuted 35 = .ok (.iload_n 1, 1) := by decide +kernel
theorem dX1_refuted_36 : decode cX1_refuted 36 = .ok (.istore_n 3, 1) := by decide +kernel
theorem dX1_refuted_37 : decode cX1_refuted 37 = .ok (.iload_n 3, 1) := by decide +kernel
theorem dX1_refuted_38 : decode cX1_refuted 38 = .ok (.iload_n 2, 1) := by decide +kernel
theorem dX1_refuted_39 : decode cX1_refuted 39 = .ok (.if_icmp .ge 19, 3) := by decide +kernel
theorem dX1_refuted_42 : decode cX1_refuted 42 = .ok (.aload_n 0, 1) := by decide +kernel
theorem dX1_refuted_43 : decode cX1_refuted 43 = .ok (.aload_n 0, 1) := by decide +kernel
theorem dX1_refuted_44 : decode cX1_refuted 44 = .ok (.getfield 326, 3) := by decide +kernel
theorem dX1_refuted_47 : decode cX1_refuted 47 = .ok (.iload_n 3, 1) := by decide +kernel
theorem dX1_refuted_48 : decode cX1_refuted 48 = .ok (.iaload, 1) := by decide +kernel
theorem dX1_refuted_49 : decode cX1_refuted 49 = .ok (.invokevirtual 305, 3) := by decide +kernel
theorem dX1_refuted_52 : decode cX1_refuted 52 = .ok (.iinc 3 1, 3) := by decide +kernel
theorem dX1_refuted_55 : decode cX1_refuted 55 = .ok (.goto (-18), 3) := by decide +kernel
theorem dX1_refuted_58 : decode cX1_refuted 58 = .ok (.iconst 0, 1) := by decide +kernel
theorem dX1_refuted_59 : decode cX1_refuted 59 = .ok (.istore_n 3, 1) := by decide +kernel
theorem dX1_refuted_60 : decode cX1_refuted 60 = .ok (.iload_n 3, 1) := by decide +kernel
theorem dX1_refuted_61 : decode cX1_refuted 61 = .ok (.aload_n 0, 1) := by decide +kernel
theorem dX1_refuted_62 : decode cX1_refuted 62 = .ok (.getfield 223, 3) := by decide +kernel
theorem dX1_refuted_65 : decode cX1_refuted 65 = .ok (.if_icmp .ge 26, 3) := by decide +kernel
theorem dX1_refuted_68 : decode cX1_refuted 68 = .ok (.aload_n 0, 1) := by decide +kernel
theorem dX1_refuted_69 : decode cX1_refuted 69 = .ok (.getfield 159, 3) := by decide +kernel
theorem dX1_refuted_72 : decode cX1_refuted 72 = .ok (.ifCond .ne 19, 3) := by decide +kernel
theorem dX1_refuted_75 : decode cX1_refuted 75 = .ok (.aload_n 0, 1) := by decide +kernel
theorem dX1_refuted_76 : decode cX1_refuted 76 = .ok (.aload_n 0, 1) := by decide +kernel
theorem dX1_refuted_77 : decode cX1_refuted 77 = .ok (.getfield 226, 3) := by decide +kernel
theorem dX1_refuted_80 : decode cX1_refuted 80 = .ok (.iload_n 3, 1) := by decide +kernel
theorem dX1_refuted_81 : decode cX1_refuted 81 = .ok (.iaload, 1) := by decide +kernel
theorem dX1_refuted_82 : decode cX1_refuted 82 = .ok (.invokevirtual 220, 3) := by decide +kernel
theorem dX1_refuted_85 : decode cX1_refuted 85 = .ok (.iinc 3 1, 3) := by decide +kernel
theorem dX1_refuted_88 : decode cX1_refuted 88 = .ok (.goto (-28), 3) := by decide +kernel
theorem dX1_refuted_91 : decode cX1_refuted 91 = .ok (.aload_n 0, 1) := by decide +kernel
theorem dX1_refuted_92 : decode cX1_refuted 92 = .ok (.getfield 223, 3) := by decide +kernel
theorem dX1_refuted_95 : decode cX1_refuted 95 = .ok (.istore_n 3, 1) := by decide +kernel
theorem dX1_refuted_96 : decode cX1_refuted 96 = .ok (.aload_n 0, 1) := by decide +kernel
theorem dX1_refuted_97 : decode cX1_refuted 97 = .ok (.aload_n 0, 1) := by decide +kernel
theorem dX1_refuted_98 : decode cX1_refuted 98 = .ok (.invokevirtual 329, 3) := by decide +kernel
theorem dX1_refuted_101 : decode cX1_refuted 101 = .ok (.putfield 272, 3) := by decide +kernel
theorem dX1_refuted_104 : decode cX1_refuted 104 = .ok (.aload_n 0, 1) := by decide +kernel
theorem dX1_refuted_105 : decode cX1_refuted 105 = .ok (.aload_n 0, 1) := by decide +kernel
theorem dX1_refuted_106 : decode cX1_refuted 106 = .ok (.getfield 333, 3) := by decide +kernel
theorem dX1_refuted_109 : decode cX1_refuted 109 = .ok (.putfield 314, 3) := by decide +kernel
theorem dX1_refuted_112 : decode cX1_refuted 112 = .ok (.aload_n 0, 1) := by decide +kernel
theorem dX1_refuted_113 : decode cX1_refuted 113 = .ok (.iconst 0, 1) := by decide +kernel
theorem dX1_refuted_114 : decode cX1_refuted 114 = .ok (.putfield 308, 3) := by decide +kernel
theorem dX1_refuted_117 : decode cX1_refuted 117 = .ok (.iconst 1, 1) := by decide +kernel
theorem dX1_refuted_118 : decode cX1_refuted 118 = .ok (.istore 4, 2) := by decide +kernel
theorem dX1_refuted_120 : decode cX1_refuted 120 = .ok (.iload_n 3, 1) := by decide +kernel
theorem dX1_refuted_121 : decode cX1_refuted 121 = .ok (.aload_n 0, 1) := by decide +kernel
theorem dX1_refuted_122 : decode cX1_refuted 122 = .ok (.getfield 223, 3) := by decide +kernel
theorem dX1_refuted_125 : decode cX1_refuted 125 = .ok (.if_icmp .ge 26, 3) := by decide +kernel
theorem dX1_refuted_128 : decode cX1_refuted 128 = .ok (.aload_n 0, 1) := by decide +kernel
theorem dX1_refuted_129 : decode cX1_refuted 129 = .ok (.getfield 159, 3) := by decide +kernel
theorem dX1_refuted_132 : decode cX1_refuted 132 = .ok (.ifCond .ne 19, 3) := by decide +kernel
theorem dX1_refuted_135 : decode cX1_refuted 135 = .ok (.aload_n 0, 1) := by decide +kernel
theorem dX1_refuted_136 : decode cX1_refuted 136 = .ok (.aload_n 0, 1) := by decide +kernel
theorem dX1_refuted_137 : decode cX1_refuted 137 = .ok (.getfield 226, 3) := by decide +kernel
theorem dX1_refuted_140 : decode cX1_refuted 140 = .ok (.iload_n 3, 1) := by decide +kernel
theorem dX1_refuted_141 : decode cX1_refuted 141 = .ok (.iaload, 1) := by decide +kernel
theorem dX1_refuted_142 : decode cX1_refuted 142 = .ok (.invokevirtual 220, 3) := by decide +kernel
theorem dX1_refuted_145 : decode cX1_refuted 145 = .ok (.iinc 3 1, 3) := by decide +kernel
theorem dX1_refuted_148 : decode cX1_refuted 148 = .ok (.goto (-28), 3) := by decide +kernel
theorem dX1_refuted_151 : decode cX1_refuted 151 = .ok (.iconst 0, 1) := by decide +kernel
theorem dX1_refuted_152 : decode cX1_refuted 152 = .ok (.istore 5, 2) := by decide +kernel
theorem dX1_refuted_154 : decode cX1_refuted 154 = .ok (.iload 5, 2) := by decide +kernel
theorem dX1_refuted_156 : decode cX1_refuted 156 = .ok (.aload_n 0, 1) := by decide +kernel
theorem dX1_refuted_157 : decode cX1_refuted 157 = .ok (.getfield 308, 3) := by decide +kernel
theorem dX1_refuted_160 : decode cX1_refuted 160 = .ok (.if_icmp .ge 27, 3) := by decide +kernel
theorem dX1_refuted_163 : decode cX1_refuted 163 = .ok (.aload_n 0, 1) := by decide +kernel
theorem dX1_refuted_164 : decode cX1_refuted 164 = .ok (.getfield 159, 3) := by decide +kernel
theorem dX1_refuted_167 : decode cX1_refuted 167 = .ok (.ifCond .ne 20, 3) := by decide +kernel
theorem dX1_refuted_170 : decode cX1_refuted 170 = .ok (.aload_n 0, 1) := by decide +kernel
theorem dX1_refuted_171 : decode cX1_refuted 171 = .ok (.aload_n 0, 1) := by decide +kernel
theorem dX1_refuted_172 : decode cX1_refuted 172 = .ok (.getfield 311, 3) := by decide +kernel
theorem dX1_refuted_175 : decode cX1_refuted 175 = .ok (.iload 5, 2) := by decide +kernel
theorem dX1_refuted_177 : decode cX1_refuted 177 = .ok (.iaload, 1) := by decide +kernel
theorem dX1_refuted_178 : decode cX1_refuted 178 = .ok (.invokevirtual 172, 3) := by decide +kernel
theorem dX1_refuted_181 : decode cX1_refuted 181 = .ok (.iinc 5 1, 3) := by decide +kernel
theorem dX1_refuted_184 : decode cX1_refuted 184 = .ok (.goto (-30), 3) := by decide +kernel
theorem dX1_refuted_187 : decode cX1_refuted 187 = .ok (.aload_n 0, 1) := by decide +kernel
theorem dX1_refuted_188 : decode cX1_refuted 188 = .ok (.iconst 0, 1) := by decide +kernel
theorem dX1_refuted_189 : decode cX1_refuted 189 = .ok (.putfield 308, 3) := by decide +kernel
theorem dX1_refuted_192 : decode cX1_refuted 192 = .ok (.aload_n 0, 1) := by decide +kernel
theorem dX1_refuted_193 : decode cX1_refuted 193 = .ok (.getfield 159, 3) := by decide +kernel
theorem dX1_refuted_196 : decode cX1_refuted 196 = .ok (.ifCond .ne 7, 3) := by decide +kernel
theorem dX1_refuted_199 : decode cX1_refuted 199 = .ok (.aload_n 0, 1) := by decide +kernel
theorem dX1_refuted_200 : decode cX1_refuted 200 = .ok (.invokevirtual 336, 3) := by decide +kernel
theorem dX1_refuted_203 : decode cX1_refuted 203 = .ok (.aload_n 0, 1) := by decide +kernel
theorem dX1_refuted_204 : decode cX1_refuted 204 = .ok (.getfield 159, 3) := by decide +kernel
theorem dX1_refuted_207 : decode cX1_refuted 207 = .ok (.ifCond .eq 5, 3) := by decide +kernel
theorem dX1_refuted_210 : decode cX1_refuted 210 = .ok (.iconst 2, 1) := by decide +kernel
theorem dX1_refuted_211 : decode cX1_refuted 211 = .ok (.ireturn, 1) := by decide +kernel
theorem dX1_refuted_212 : decode cX1_refuted 212 = .ok (.aload_n 0, 1) := by decide +kernel
theorem dX1_refuted_213 : decode cX1_refuted 213 = .ok (.invokevirtual 340, 3) := by decide +kernel
theorem dX1_refuted_216 : decode cX1_refuted 216 = .ok (.ifCond .eq 5, 3) := by decide +kernel
theorem dX1_refuted_219 : decode cX1_refuted 219 = .ok (.iconst 1, 1) := by decide +kernel
theorem dX1_refuted_220 : decode cX1_refuted 220 = .ok (.ireturn, 1) := by decide +kernel
theorem dX1_refuted_221 : decode cX1_refuted 221 = .ok (.aload_n 0, 1) := by decide +kernel
theorem dX1_refuted_222 : decode cX1_refuted 222 = .ok (.iconst 0, 1) := by decide +kernel
theorem dX1_refuted_223 : decode cX1_refuted 223 = .ok (.putfield 299, 3) := by decide +kernel
theorem dX1_refuted_226 : decode cX1_refuted 226 = .ok (.aload_n 0, 1) := by decide +kernel
theorem dX1_refuted_227 : decode cX1_refuted 227 = .ok (.invokevirtual 344, 3) := by decide +kernel
theorem dX1_refuted_230 : decode cX1_refuted 230 = .ok (.ifCond .ne 5, 3) := by decide +kernel
theorem dX1_refuted_233 : decode cX1_refuted 233 = .ok (.iconst 0, 1) := by decide +kernel
theorem dX1_refuted_234 : decode cX1_refuted 234 = .ok (.ireturn, 1) := by decide +kernel
theorem dX1_refuted_235 : decode cX1_refuted 235 = .ok (.aload_n 0, 1) := by decide +kernel
theorem dX1_refuted_236 : decode cX1_refuted 236 = .ok (.getfield 159, 3) := by decide +kernel
theorem dX1_refuted_239 : decode cX1_refuted 239 = .ok (.ifCond .ne 10, 3) := by decide +kernel
theorem dX1_refuted_242 : decode cX1_refuted 242 = .ok (.iload 4, 2) := by decide +kernel
theorem dX1_refuted_244 : decode cX1_refuted 244 = .ok (.bipush 16, 2) := by decide +kernel
theorem dX1_refuted_246 : decode cX1_refuted 246 = .ok (.if_icmp .le 5, 3) := by decide +kernel
theorem dX1_refuted_249 : decode cX1_refuted 249 = .ok (.iconst 2, 1) := by decide +kernel
theorem dX1_refuted_250 : decode cX1_refuted 250 = .ok (.ireturn, 1) := by decide +kernel
theorem dX1_refuted_251 : decode cX1_refuted 251 = .ok (.iinc 4 1, 3) := by decide +kernel
theorem dX1_refuted_254 : decode cX1_refuted 254 = .ok (.goto (-134), 3) := by decide +kernel
abbrev cX1_know : ByteArray := prog_1_method_29_code
def yX1_know : MethodName := ⟨RX1, "know", "(I)V"⟩
theorem dX1_know_0 : decode cX1_know 0 = .ok (.aload_n 0, 1) := by decide +kernel
theorem dX1_know_1 : decode cX1_know 1 = .ok (.iload_n 1, 1) := by decide +kernel
theorem dX1_know_2 : decode cX1_know 2 = .ok (.invokevirtual 166, 3) := by decide +kernel
theorem dX1_know_5 : decode cX1_know 5 = .ok (.aload_n 0, 1) := by decide +kernel
theorem dX1_know_6 : decode cX1_know 6 = .ok (.getfield 131, 3) := by decide +kernel
theorem dX1_know_9 : decode cX1_know 9 = .ok (.iload_n 1, 1) := by decide +kernel
theorem dX1_know_10 : decode cX1_know 10 = .ok (.iaload, 1) := by decide +kernel
theorem dX1_know_11 : decode cX1_know 11 = .ok (.aload_n 0, 1) := by decide +kernel
theorem dX1_know_12 : decode cX1_know 12 = .ok (.getfield 143, 3) := by decide +kernel
theorem dX1_know_15 : decode cX1_know 15 = .ok (.if_icmp .ne 4, 3) := by decide +kernel
theorem dX1_know_18 : decode cX1_know 18 = .ok (.return_, 1) := by decide +kernel
theorem dX1_know_19 : decode cX1_know 19 = .ok (.aload_n 0, 1) := by decide +kernel
theorem dX1_know_20 : decode cX1_know 20 = .ok (.getfield 131, 3) := by decide +kernel
theorem dX1_know_23 : decode cX1_know 23 = .ok (.iload_n 1, 1) := by decide +kernel
theorem dX1_know_24 : decode cX1_know 24 = .ok (.aload_n 0, 1) := by decide +kernel
theorem dX1_know_25 : decode cX1_know 25 = .ok (.getfield 143, 3) := by decide +kernel
theorem dX1_know_28 : decode cX1_know 28 = .ok (.iastore, 1) := by decide +kernel
theorem dX1_know_29 : decode cX1_know 29 = .ok (.aload_n 0, 1) := by decide +kernel
theorem dX1_know_30 : decode cX1_know 30 = .ok (.getfield 223, 3) := by decide +kernel
theorem dX1_know_33 : decode cX1_know 33 = .ok (.aload_n 0, 1) := by decide +kernel
theorem dX1_know_34 : decode cX1_know 34 = .ok (.getfield 226, 3) := by decide +kernel
theorem dX1_know_37 : decode cX1_know 37 = .ok (.arraylength, 1) := by decide +kernel
theorem dX1_know_38 : decode cX1_know 38 = .ok (.if_icmp .ne 20, 3) := by decide +kernel
theorem dX1_know_41 : decode cX1_know 41 = .ok (.aload_n 0, 1) := by decide +kernel
theorem dX1_know_42 : decode cX1_know 42 = .ok (.aload_n 0, 1) := by decide +kernel
theorem dX1_know_43 : decode cX1_know 43 = .ok (.getfield 226, 3) := by decide +kernel
theorem dX1_know_46 : decode cX1_know 46 = .ok (.iconst 2, 1) := by decide +kernel
theorem dX1_know_47 : decode cX1_know 47 = .ok (.aload_n 0, 1) := by decide +kernel
theorem dX1_know_48 : decode cX1_know 48 = .ok (.getfield 223, 3) := by decide +kernel
theorem dX1_know_51 : decode cX1_know 51 = .ok (.imul, 1) := by decide +kernel
theorem dX1_know_52 : decode cX1_know 52 = .ok (.invokestatic 112, 3) := by decide +kernel
theorem dX1_know_55 : decode cX1_know 55 = .ok (.putfield 226, 3) := by decide +kernel
theorem dX1_know_58 : decode cX1_know 58 = .ok (.aload_n 0, 1) := by decide +kernel
theorem dX1_know_59 : decode cX1_know 59 = .ok (.getfield 226, 3) := by decide +kernel
theorem dX1_know_62 : decode cX1_know 62 = .ok (.aload_n 0, 1) := by decide +kernel
theorem dX1_know_63 : decode cX1_know 63 = .ok (.getfield 223, 3) := by decide +kernel
theorem dX1_know_66 : decode cX1_know 66 = .ok (.iload_n 1, 1) := by decide +kernel
theorem dX1_know_67 : decode cX1_know 67 = .ok (.iastore, 1) := by decide +kernel
theorem dX1_know_68 : decode cX1_know 68 = .ok (.aload_n 0, 1) := by decide +kernel
theorem dX1_know_69 : decode cX1_know 69 = .ok (.dup, 1) := by decide +kernel
theorem dX1_know_70 : decode cX1_know 70 = .ok (.getfield 223, 3) := by decide +kernel
theorem dX1_know_73 : decode cX1_know 73 = .ok (.iconst 1, 1) := by decide +kernel
theorem dX1_know_74 : decode cX1_know 74 = .ok (.iadd, 1) := by decide +kernel
theorem dX1_know_75 : decode cX1_know 75 = .ok (.putfield 223, 3) := by decide +kernel
theorem dX1_know_78 : decode cX1_know 78 = .ok (.return_, 1) := by decide +kernel
abbrev cX1_room_2 : ByteArray := prog_1_method_15_code
def yX1_room_2 : MethodName := ⟨RX1, "room", "(I)V"⟩
theorem dX1_room_2_0 : decode cX1_room_2 0 = .ok (.iload_n 1, 1) := by decide +kernel
theorem dX1_room_2_1 : decode cX1_room_2 1 = .ok (.aload_n 0, 1) := by decide +kernel
theorem dX1_room_2_2 : decode cX1_room_2 2 = .ok (.getfield 131, 3) := by decide +kernel
theorem dX1_room_2_5 : decode cX1_room_2 5 = .ok (.arraylength, 1) := by decide +kernel
theorem dX1_room_2_6 : decode cX1_room_2 6 = .ok (.if_icmp .ge 4, 3) := by decide +kernel
theorem dX1_room_2_9 : decode cX1_room_2 9 = .ok (.return_, 1) := by decide +kernel
theorem dX1_room_2_10 : decode cX1_room_2 10 = .ok (.iload_n 1, 1) := by decide +kernel
theorem dX1_room_2_11 : decode cX1_room_2 11 = .ok (.iconst 1, 1) := by decide +kernel
theorem dX1_room_2_12 : decode cX1_room_2 12 = .ok (.iadd, 1) := by decide +kernel
theorem dX1_room_2_13 : decode cX1_room_2 13 = .ok (.aload_n 0, 1) := by decide +kernel
theorem dX1_room_2_14 : decode cX1_room_2 14 = .ok (.getfield 131, 3) := by decide +kernel
theorem dX1_room_2_17 : decode cX1_room_2 17 = .ok (.arraylength, 1) := by decide +kernel
theorem dX1_room_2_18 : decode cX1_room_2 18 = .ok (.aload_n 0, 1) := by decide +kernel
theorem dX1_room_2_19 : decode cX1_room_2 19 = .ok (.getfield 131, 3) := by decide +kernel
theorem dX1_room_2_22 : decode cX1_room_2 22 = .ok (.arraylength, 1) := by decide +kernel
theorem dX1_room_2_23 : decode cX1_room_2 23 = .ok (.iconst 2, 1) := by decide +kernel
theorem dX1_room_2_24 : decode cX1_room_2 24 = .ok (.idiv, 1) := by decide +kernel
theorem dX1_room_2_25 : decode cX1_room_2 25 = .ok (.iadd, 1) := by decide +kernel
theorem dX1_room_2_26 : decode cX1_room_2 26 = .ok (.invokestatic 107, 3) := by decide +kernel
theorem dX1_room_2_29 : decode cX1_room_2 29 = .ok (.istore_n 2, 1) := by decide +kernel
theorem dX1_room_2_30 : decode cX1_room_2 30 = .ok (.aload_n 0, 1) := by decide +kernel
theorem dX1_room_2_31 : decode cX1_room_2 31 = .ok (.aload_n 0, 1) := by decide +kernel
theorem dX1_room_2_32 : decode cX1_room_2 32 = .ok (.getfield 131, 3) := by decide +kernel
theorem dX1_room_2_35 : decode cX1_room_2 35 = .ok (.iload_n 2, 1) := by decide +kernel
theorem dX1_room_2_36 : decode cX1_room_2 36 = .ok (.invokestatic 112, 3) := by decide +kernel
theorem dX1_room_2_39 : decode cX1_room_2 39 = .ok (.putfield 131, 3) := by decide +kernel
theorem dX1_room_2_42 : decode cX1_room_2 42 = .ok (.aload_n 0, 1) := by decide +kernel
theorem dX1_room_2_43 : decode cX1_room_2 43 = .ok (.aload_n 0, 1) := by decide +kernel
theorem dX1_room_2_44 : decode cX1_room_2 44 = .ok (.getfield 134, 3) := by decide +kernel
theorem dX1_room_2_47 : decode cX1_room_2 47 = .ok (.iload_n 2, 1) := by decide +kernel
theorem dX1_room_2_48 : decode cX1_room_2 48 = .ok (.invokestatic 112, 3) := by decide +kernel
theorem dX1_room_2_51 : decode cX1_room_2 51 = .ok (.putfield 134, 3) := by decide +kernel
theorem dX1_room_2_54 : decode cX1_room_2 54 = .ok (.aload_n 0, 1) := by decide +kernel
theorem dX1_room_2_55 : decode cX1_room_2 55 = .ok (.aload_n 0, 1) := by decide +kernel
theorem dX1_room_2_56 : decode cX1_room_2 56 = .ok (.getfield 137, 3) := by decide +kernel
theorem dX1_room_2_59 : decode cX1_room_2 59 = .ok (.iload_n 2, 1) := by decide +kernel
theorem dX1_room_2_60 : decode cX1_room_2 60 = .ok (.invokestatic 112, 3) := by decide +kernel
theorem dX1_room_2_63 : decode cX1_room_2 63 = .ok (.putfield 137, 3) := by decide +kernel
theorem dX1_room_2_66 : decode cX1_room_2 66 = .ok (.aload_n 0, 1) := by decide +kernel
theorem dX1_room_2_67 : decode cX1_room_2 67 = .ok (.aload_n 0, 1) := by decide +kernel
theorem dX1_room_2_68 : decode cX1_room_2 68 = .ok (.getfield 140, 3) := by decide +kernel
theorem dX1_room_2_71 : decode cX1_room_2 71 = .ok (.iload_n 2, 1) := by decide +kernel
theorem dX1_room_2_72 : decode cX1_room_2 72 = .ok (.invokestatic 112, 3) := by decide +kernel
theorem dX1_room_2_75 : decode cX1_room_2 75 = .ok (.putfield 140, 3) := by decide +kernel
theorem dX1_room_2_78 : decode cX1_room_2 78 = .ok (.return_, 1) := by decide +kernel
abbrev cX1_termsOf : ByteArray := prog_1_method_28_code
def yX1_termsOf : MethodName := ⟨RX1, "termsOf", "(I)V"⟩
theorem dX1_termsOf_0 : decode cX1_termsOf 0 = .ok (.aload_n 0, 1) := by decide +kernel
theorem dX1_termsOf_1 : decode cX1_termsOf 1 = .ok (.getfield 1, 3) := by decide +kernel
theorem dX1_termsOf_4 : decode cX1_termsOf 4 = .ok (.getfield 39, 3) := by decide +kernel
theorem dX1_termsOf_7 : decode cX1_termsOf 7 = .ok (.iload_n 1, 1) := by decide +kernel
theorem dX1_termsOf_8 : decode cX1_termsOf 8 = .ok (.iaload, 1) := by decide +kernel
theorem dX1_termsOf_9 : decode cX1_termsOf 9 = .ok (.invokestatic 214, 3) := by decide +kernel
theorem dX1_termsOf_12 : decode cX1_termsOf 12 = .ok (.ifCond .eq 21, 3) := by decide +kernel
theorem dX1_termsOf_15 : decode cX1_termsOf 15 = .ok (.aload_n 0, 1) := by decide +kernel
theorem dX1_termsOf_16 : decode cX1_termsOf 16 = .ok (.getfield 1, 3) := by decide +kernel
theorem dX1_termsOf_19 : decode cX1_termsOf 19 = .ok (.getfield 217, 3) := by decide +kernel
theorem dX1_termsOf_22 : decode cX1_termsOf 22 = .ok (.iload_n 1, 1) := by decide +kernel
theorem dX1_termsOf_23 : decode cX1_termsOf 23 = .ok (.iaload, 1) := by decide +kernel
theorem dX1_termsOf_24 : decode cX1_termsOf 24 = .ok (.ifCond .ne 9, 3) := by decide +kernel
theorem dX1_termsOf_27 : decode cX1_termsOf 27 = .ok (.aload_n 0, 1) := by decide +kernel
theorem dX1_termsOf_28 : decode cX1_termsOf 28 = .ok (.iload_n 1, 1) := by decide +kernel
theorem dX1_termsOf_29 : decode cX1_termsOf 29 = .ok (.invokevirtual 172, 3) := by decide +kernel
theorem dX1_termsOf_32 : decode cX1_termsOf 32 = .ok (.return_, 1) := by decide +kernel
theorem dX1_termsOf_33 : decode cX1_termsOf 33 = .ok (.aload_n 0, 1) := by decide +kernel
theorem dX1_termsOf_34 : decode cX1_termsOf 34 = .ok (.getfield 1, 3) := by decide +kernel
theorem dX1_termsOf_37 : decode cX1_termsOf 37 = .ok (.getfield 39, 3) := by decide +kernel
theorem dX1_termsOf_40 : decode cX1_termsOf 40 = .ok (.iload_n 1, 1) := by decide +kernel
theorem dX1_termsOf_41 : decode cX1_termsOf 41 = .ok (.iaload, 1) := by decide +kernel
theorem dX1_termsOf_42 : decode cX1_termsOf 42 = .ok (.bipush 8, 2) := by decide +kernel
theorem dX1_termsOf_44 : decode cX1_termsOf 44 = .ok (.if_icmp .ne 7, 3) := by decide +kernel
theorem dX1_termsOf_47 : decode cX1_termsOf 47 = .ok (.iconst 1, 1) := by decide +kernel
theorem dX1_termsOf_48 : decode cX1_termsOf 48 = .ok (.goto 12, 3) := by decide +kernel
theorem dX1_termsOf_51 : decode cX1_termsOf 51 = .ok (.aload_n 0, 1) := by decide +kernel
theorem dX1_termsOf_52 : decode cX1_termsOf 52 = .ok (.getfield 1, 3) := by decide +kernel
theorem dX1_termsOf_55 : decode cX1_termsOf 55 = .ok (.getfield 32, 3) := by decide +kernel
theorem dX1_termsOf_58 : decode cX1_termsOf 58 = .ok (.iload_n 1, 1) := by decide +kernel
theorem dX1_termsOf_59 : decode cX1_termsOf 59 = .ok (.iaload, 1) := by decide +kernel
theorem dX1_termsOf_60 : decode cX1_termsOf 60 = .ok (.istore_n 2, 1) := by decide +kernel
theorem dX1_termsOf_61 : decode cX1_termsOf 61 = .ok (.iconst 0, 1) := by decide +kernel
theorem dX1_termsOf_62 : decode cX1_termsOf 62 = .ok (.istore_n 3, 1) := by decide +kernel
theorem dX1_termsOf_63 : decode cX1_termsOf 63 = .ok (.iload_n 3, 1) := by decide +kernel
theorem dX1_termsOf_64 : decode cX1_termsOf 64 = .ok (.iload_n 2, 1) := by decide +kernel
theorem dX1_termsOf_65 : decode cX1_termsOf 65 = .ok (.if_icmp .ge 41, 3) := by decide +kernel
theorem dX1_termsOf_68 : decode cX1_termsOf 68 = .ok (.aload_n 0, 1) := by decide +kernel
theorem dX1_termsOf_69 : decode cX1_termsOf 69 = .ok (.getfield 159, 3) := by decide +kernel
theorem dX1_termsOf_72 : decode cX1_termsOf 72 = .ok (.ifCond .ne 34, 3) := by decide +kernel
theorem dX1_termsOf_75 : decode cX1_termsOf 75 = .ok (.aload_n 0, 1) := by decide +kernel
theorem dX1_termsOf_76 : decode cX1_termsOf 76 = .ok (.getfield 1, 3) := by decide +kernel
theorem dX1_termsOf_79 : decode cX1_termsOf 79 = .ok (.iload_n 1, 1) := by decide +kernel
theorem dX1_termsOf_80 : decode cX1_termsOf 80 = .ok (.iload_n 3, 1) := by decide +kernel
theorem dX1_termsOf_81 : decode cX1_termsOf 81 = .ok (.invokevirtual 28, 3) := by decide +kernel
theorem dX1_termsOf_84 : decode cX1_termsOf 84 = .ok (.ifCond .eq 16, 3) := by decide +kernel
theorem dX1_termsOf_87 : decode cX1_termsOf 87 = .ok (.aload_n 0, 1) := by decide +kernel
theorem dX1_termsOf_88 : decode cX1_termsOf 88 = .ok (.aload_n 0, 1) := by decide +kernel
theorem dX1_termsOf_89 : decode cX1_termsOf 89 = .ok (.getfield 1, 3) := by decide +kernel
theorem dX1_termsOf_92 : decode cX1_termsOf 92 = .ok (.iload_n 1, 1) := by decide +kernel
theorem dX1_termsOf_93 : decode cX1_termsOf 93 = .ok (.iload_n 3, 1) := by decide +kernel
theorem dX1_termsOf_94 : decode cX1_termsOf 94 = .ok (.invokevirtual 28, 3) := by decide +kernel
theorem dX1_termsOf_97 : decode cX1_termsOf 97 = .ok (.invokevirtual 220, 3) := by decide +kernel
theorem dX1_termsOf_100 : decode cX1_termsOf 100 = .ok (.iinc 3 1, 3) := by decide +kernel
theorem dX1_termsOf_103 : decode cX1_termsOf 103 = .ok (.goto (-40), 3) := by decide +kernel
theorem dX1_termsOf_106 : decode cX1_termsOf 106 = .ok (.return_, 1) := by decide +kernel
abbrev cX1_atHand : ByteArray := prog_1_method_21_code
def yX1_atHand : MethodName := ⟨RX1, "atHand", "(I)V"⟩
theorem dX1_atHand_0 : decode cX1_atHand 0 = .ok (.aload_n 0, 1) := by decide +kernel
theorem dX1_atHand_1 : decode cX1_atHand 1 = .ok (.iload_n 1, 1) := by decide +kernel
theorem dX1_atHand_2 : decode cX1_atHand 2 = .ok (.invokevirtual 149, 3) := by decide +kernel
theorem dX1_atHand_5 : decode cX1_atHand 5 = .ok (.ifCond .ne 10, 3) := by decide +kernel
theorem dX1_atHand_8 : decode cX1_atHand 8 = .ok (.aload_n 0, 1) := by decide +kernel
theorem dX1_atHand_9 : decode cX1_atHand 9 = .ok (.getfield 159, 3) := by decide +kernel
theorem dX1_atHand_12 : decode cX1_atHand 12 = .ok (.ifCond .eq 4, 3) := by decide +kernel
theorem dX1_atHand_15 : decode cX1_atHand 15 = .ok (.return_, 1) := by decide +kernel
theorem dX1_atHand_16 : decode cX1_atHand 16 = .ok (.aload_n 0, 1) := by decide +kernel
theorem dX1_atHand_17 : decode cX1_atHand 17 = .ok (.getfield 163, 3) := by decide +kernel
theorem dX1_atHand_20 : decode cX1_atHand 20 = .ok (.bipush 100, 2) := by decide +kernel
theorem dX1_atHand_22 : decode cX1_atHand 22 = .ok (.if_icmp .ne 9, 3) := by decide +kernel
theorem dX1_atHand_25 : decode cX1_atHand 25 = .ok (.aload_n 0, 1) := by decide +kernel
theorem dX1_atHand_26 : decode cX1_atHand 26 = .ok (.iconst 1, 1) := by decide +kernel
theorem dX1_atHand_27 : decode cX1_atHand 27 = .ok (.putfield 159, 3) := by decide +kernel
theorem dX1_atHand_30 : decode cX1_atHand 30 = .ok (.return_, 1) := by decide +kernel
theorem dX1_atHand_31 : decode cX1_atHand 31 = .ok (.aload_n 0, 1) := by decide +kernel
theorem dX1_atHand_32 : decode cX1_atHand 32 = .ok (.iload_n 1, 1) := by decide +kernel
theorem dX1_atHand_33 : decode cX1_atHand 33 = .ok (.invokevirtual 166, 3) := by decide +kernel
theorem dX1_atHand_36 : decode cX1_atHand 36 = .ok (.aload_n 0, 1) := by decide +kernel
theorem dX1_atHand_37 : decode cX1_atHand 37 = .ok (.getfield 140, 3) := by decide +kernel
theorem dX1_atHand_40 : decode cX1_atHand 40 = .ok (.iload_n 1, 1) := by decide +kernel
theorem dX1_atHand_41 : decode cX1_atHand 41 = .ok (.aload_n 0, 1) := by decide +kernel
theorem dX1_atHand_42 : decode cX1_atHand 42 = .ok (.getfield 143, 3) := by decide +kernel
theorem dX1_atHand_45 : decode cX1_atHand 45 = .ok (.iastore, 1) := by decide +kernel
theorem dX1_atHand_46 : decode cX1_atHand 46 = .ok (.aload_n 0, 1) := by decide +kernel
theorem dX1_atHand_47 : decode cX1_atHand 47 = .ok (.getfield 137, 3) := by decide +kernel
theorem dX1_atHand_50 : decode cX1_atHand 50 = .ok (.iload_n 1, 1) := by decide +kernel
theorem dX1_atHand_51 : decode cX1_atHand 51 = .ok (.aload_n 0, 1) := by decide +kernel
theorem dX1_atHand_52 : decode cX1_atHand 52 = .ok (.getfield 163, 3) := by decide +kernel
theorem dX1_atHand_55 : decode cX1_atHand 55 = .ok (.iastore, 1) := by decide +kernel
theorem dX1_atHand_56 : decode cX1_atHand 56 = .ok (.aload_n 0, 1) := by decide +kernel
theorem dX1_atHand_57 : decode cX1_atHand 57 = .ok (.getfield 169, 3) := by decide +kernel
theorem dX1_atHand_60 : decode cX1_atHand 60 = .ok (.aload_n 0, 1) := by decide +kernel
theorem dX1_atHand_61 : decode cX1_atHand 61 = .ok (.getfield 163, 3) := by decide +kernel
theorem dX1_atHand_64 : decode cX1_atHand 64 = .ok (.iload_n 1, 1) := by decide +kernel
theorem dX1_atHand_65 : decode cX1_atHand 65 = .ok (.iastore, 1) := by decide +kernel
theorem dX1_atHand_66 : decode cX1_atHand 66 = .ok (.aload_n 0, 1) := by decide +kernel
theorem dX1_atHand_67 : decode cX1_atHand 67 = .ok (.getfield 146, 3) := by decide +kernel
theorem dX1_atHand_70 : decode cX1_atHand 70 = .ok (.aload_n 0, 1) := by decide +kernel
theorem dX1_atHand_71 : decode cX1_atHand 71 = .ok (.getfield 163, 3) := by decide +kernel
theorem dX1_atHand_74 : decode cX1_atHand 74 = .ok (.aload_n 0, 1) := by decide +kernel
theorem dX1_atHand_75 : decode cX1_atHand 75 = .ok (.getfield 163, 3) := by decide +kernel
theorem dX1_atHand_78 : decode cX1_atHand 78 = .ok (.iastore, 1) := by decide +kernel
theorem dX1_atHand_79 : decode cX1_atHand 79 = .ok (.aload_n 0, 1) := by decide +kernel
theorem dX1_atHand_80 : decode cX1_atHand 80 = .ok (.dup, 1) := by decide +kernel
theorem dX1_atHand_81 : decode cX1_atHand 81 = .ok (.getfield 163, 3) := by decide +kernel
theorem dX1_atHand_84 : decode cX1_atHand 84 = .ok (.iconst 1, 1) := by decide +kernel
theorem dX1_atHand_85 : decode cX1_atHand 85 = .ok (.iadd, 1) := by decide +kernel
theorem dX1_atHand_86 : decode cX1_atHand 86 = .ok (.putfield 163, 3) := by decide +kernel
theorem dX1_atHand_89 : decode cX1_atHand 89 = .ok (.aload_n 0, 1) := by decide +kernel
theorem dX1_atHand_90 : decode cX1_atHand 90 = .ok (.getfield 1, 3) := by decide +kernel
theorem dX1_atHand_93 : decode cX1_atHand 93 = .ok (.getfield 39, 3) := by decide +kernel
theorem dX1_atHand_96 : decode cX1_atHand 96 = .ok (.iload_n 1, 1) := by decide +kernel
theorem dX1_atHand_97 : decode cX1_atHand 97 = .ok (.iaload, 1) := by decide +kernel
theorem dX1_atHand_98 : decode cX1_atHand 98 = .ok (.iconst 5, 1) := by decide +kernel
theorem dX1_atHand_99 : decode cX1_atHand 99 = .ok (.if_icmp .ne 39, 3) := by decide +kernel
theorem dX1_atHand_102 : decode cX1_atHand 102 = .ok (.aload_n 0, 1) := by decide +kernel
theorem dX1_atHand_103 : decode cX1_atHand 103 = .ok (.aload_n 0, 1) := by decide +kernel
theorem dX1_atHand_104 : decode cX1_atHand 104 = .ok (.getfield 1, 3) := by decide +kernel
theorem dX1_atHand_107 : decode cX1_atHand 107 = .ok (.iload_n 1, 1) := by decide +kernel
theorem dX1_atHand_108 : decode cX1_atHand 108 = .ok (.iconst 0, 1) := by decide +kernel
theorem dX1_atHand_109 : decode cX1_atHand 109 = .ok (.invokevirtual 28, 3) := by decide +kernel
theorem dX1_atHand_112 : decode cX1_atHand 112 = .ok (.invokevirtual 58, 3) := by decide +kernel
theorem dX1_atHand_115 : decode cX1_atHand 115 = .ok (.ifCond .eq 57, 3) := by decide +kernel
theorem dX1_atHand_118 : decode cX1_atHand 118 = .ok (.aload_n 0, 1) := by decide +kernel
theorem dX1_atHand_119 : decode cX1_atHand 119 = .ok (.aload_n 0, 1) := by decide +kernel
theorem dX1_atHand_120 : decode cX1_atHand 120 = .ok (.aload_n 0, 1) := by decide +kernel
theorem dX1_atHand_121 : decode cX1_atHand 121 = .ok (.getfield 1, 3) := by decide +kernel
theorem dX1_atHand_124 : decode cX1_atHand 124 = .ok (.iload_n 1, 1) := by decide +kernel
theorem dX1_atHand_125 : decode cX1_atHand 125 = .ok (.iconst 0, 1) := by decide +kernel
theorem dX1_atHand_126 : decode cX1_atHand 126 = .ok (.invokevirtual 28, 3) := by decide +kernel
theorem dX1_atHand_129 : decode cX1_atHand 129 = .ok (.invokevirtual 58, 3) := by decide +kernel
theorem dX1_atHand_132 : decode cX1_atHand 132 = .ok (.invokevirtual 172, 3) := by decide +kernel
theorem dX1_atHand_135 : decode cX1_atHand 135 = .ok (.goto 37, 3) := by decide +kernel
theorem dX1_atHand_138 : decode cX1_atHand 138 = .ok (.iconst 0, 1) := by decide +kernel
theorem dX1_atHand_139 : decode cX1_atHand 139 = .ok (.istore_n 2, 1) := by decide +kernel
theorem dX1_atHand_140 : decode cX1_atHand 140 = .ok (.iload_n 2, 1) := by decide +kernel
theorem dX1_atHand_141 : decode cX1_atHand 141 = .ok (.aload_n 0, 1) := by decide +kernel
theorem dX1_atHand_142 : decode cX1_atHand 142 = .ok (.getfield 1, 3) := by decide +kernel
theorem dX1_atHand_145 : decode cX1_atHand 145 = .ok (.getfield 32, 3) := by decide +kernel
theorem dX1_atHand_148 : decode cX1_atHand 148 = .ok (.iload_n 1, 1) := by decide +kernel
theorem dX1_atHand_149 : decode cX1_atHand 149 = .ok (.iaload, 1) := by decide +kernel
theorem dX1_atHand_150 : decode cX1_atHand 150 = .ok (.if_icmp .ge 22, 3) := by decide +kernel
theorem dX1_atHand_153 : decode cX1_atHand 153 = .ok (.aload_n 0, 1) := by decide +kernel
theorem dX1_atHand_154 : decode cX1_atHand 154 = .ok (.aload_n 0, 1) := by decide +kernel
theorem dX1_atHand_155 : decode cX1_atHand 155 = .ok (.getfield 1, 3) := by decide +kernel
theorem dX1_atHand_158 : decode cX1_atHand 158 = .ok (.iload_n 1, 1) := by decide +kernel
theorem dX1_atHand_159 : decode cX1_atHand 159 = .ok (.iload_n 2, 1) := by decide +kernel
theorem dX1_atHand_160 : decode cX1_atHand 160 = .ok (.invokevirtual 28, 3) := by decide +kernel
theorem dX1_atHand_163 : decode cX1_atHand 163 = .ok (.invokevirtual 172, 3) := by decide +kernel
theorem dX1_atHand_166 : decode cX1_atHand 166 = .ok (.iinc 2 1, 3) := by decide +kernel
theorem dX1_atHand_169 : decode cX1_atHand 169 = .ok (.goto (-29), 3) := by decide +kernel
theorem dX1_atHand_172 : decode cX1_atHand 172 = .ok (.aload_n 0, 1) := by decide +kernel
theorem dX1_atHand_173 : decode cX1_atHand 173 = .ok (.iload_n 1, 1) := by decide +kernel
theorem dX1_atHand_174 : decode cX1_atHand 174 = .ok (.aload_n 0, 1) := by decide +kernel
theorem dX1_atHand_175 : decode cX1_atHand 175 = .ok (.iload_n 1, 1) := by decide +kernel
theorem dX1_atHand_176 : decode cX1_atHand 176 = .ok (.invokevirtual 74, 3) := by decide +kernel
theorem dX1_atHand_179 : decode cX1_atHand 179 = .ok (.invokevirtual 175, 3) := by decide +kernel
theorem dX1_atHand_182 : decode cX1_atHand 182 = .ok (.pop, 1) := by decide +kernel
theorem dX1_atHand_183 : decode cX1_atHand 183 = .ok (.return_, 1) := by decide +kernel
abbrev cX1_isAtHand : ByteArray := prog_1_method_16_code
def yX1_isAtHand : MethodName := ⟨RX1, "isAtHand", "(I)Z"⟩
theorem dX1_isAtHand_0 : decode cX1_isAtHand 0 = .ok (.iload_n 1, 1) := by decide +kernel
theorem dX1_isAtHand_1 : decode cX1_isAtHand 1 = .ok (.aload_n 0, 1) := by decide +kernel
theorem dX1_isAtHand_2 : decode cX1_isAtHand 2 = .ok (.getfield 140, 3) := by decide +kernel
theorem dX1_isAtHand_5 : decode cX1_isAtHand 5 = .ok (.arraylength, 1) := by decide +kernel
theorem dX1_isAtHand_6 : decode cX1_isAtHand 6 = .ok (.if_icmp .ge 20, 3) := by decide +kernel
theorem dX1_isAtHand_9 : decode cX1_isAtHand 9 = .ok (.aload_n 0, 1) := by decide +kernel
theorem dX1_isAtHand_10 : decode cX1_isAtHand 10 = .ok (.getfield 140, 3) := by decide +kernel
theorem dX1_isAtHand_13 : decode cX1_isAtHand 13 = .ok (.iload_n 1, 1) := by decide +kernel
theorem dX1_isAtHand_14 : decode cX1_isAtHand 14 = .ok (.iaload, 1) := by decide +kernel
theorem dX1_isAtHand_15 : decode cX1_isAtHand 15 = .ok (.aload_n 0, 1) := by decide +kernel
theorem dX1_isAtHand_16 : decode cX1_isAtHand 16 = .ok (.getfield 143, 3) := by decide +kernel
theorem dX1_isAtHand_19 : decode cX1_isAtHand 19 = .ok (.if_icmp .ne 7, 3) := by decide +kernel
theorem dX1_isAtHand_22 : decode cX1_isAtHand 22 = .ok (.iconst 1, 1) := by decide +kernel
theorem dX1_isAtHand_23 : decode cX1_isAtHand 23 = .ok (.goto 4, 3) := by decide +kernel
theorem dX1_isAtHand_26 : decode cX1_isAtHand 26 = .ok (.iconst 0, 1) := by decide +kernel
theorem dX1_isAtHand_27 : decode cX1_isAtHand 27 = .ok (.ireturn, 1) := by decide +kernel
abbrev cX1_typeOf : ByteArray := prog_1_method_7_code
def yX1_typeOf : MethodName := ⟨RX1, "typeOf", "(I)I"⟩
theorem dX1_typeOf_0 : decode cX1_typeOf 0 = .ok (.aload_n 0, 1) := by decide +kernel
theorem dX1_typeOf_1 : decode cX1_typeOf 1 = .ok (.getfield 1, 3) := by decide +kernel
theorem dX1_typeOf_4 : decode cX1_typeOf 4 = .ok (.getfield 39, 3) := by decide +kernel
theorem dX1_typeOf_7 : decode cX1_typeOf 7 = .ok (.iload_n 1, 1) := by decide +kernel
theorem dX1_typeOf_8 : decode cX1_typeOf 8 = .ok (.iaload, 1) := by decide +kernel
theorem dX1_typeOf_9 : decode cX1_typeOf 9 = .ok (.lookupswitch 110 #[(1, 27), (4, 42)], 27) := by decide +kernel
theorem dX1_typeOf_36 : decode cX1_typeOf 36 = .ok (.aload_n 0, 1) := by decide +kernel
theorem dX1_typeOf_37 : decode cX1_typeOf 37 = .ok (.getfield 42, 3) := by decide +kernel
theorem dX1_typeOf_40 : decode cX1_typeOf 40 = .ok (.aload_n 0, 1) := by decide +kernel
theorem dX1_typeOf_41 : decode cX1_typeOf 41 = .ok (.getfield 1, 3) := by decide +kernel
theorem dX1_typeOf_44 : decode cX1_typeOf 44 = .ok (.getfield 45, 3) := by decide +kernel
theorem dX1_typeOf_47 : decode cX1_typeOf 47 = .ok (.iload_n 1, 1) := by decide +kernel
theorem dX1_typeOf_48 : decode cX1_typeOf 48 = .ok (.iaload, 1) := by decide +kernel
theorem dX1_typeOf_49 : decode cX1_typeOf 49 = .ok (.iaload, 1) := by decide +kernel
theorem dX1_typeOf_50 : decode cX1_typeOf 50 = .ok (.ireturn, 1) := by decide +kernel
theorem dX1_typeOf_51 : decode cX1_typeOf 51 = .ok (.aload_n 0, 1) := by decide +kernel
theorem dX1_typeOf_52 : decode cX1_typeOf 52 = .ok (.getfield 1, 3) := by decide +kernel
theorem dX1_typeOf_55 : decode cX1_typeOf 55 = .ok (.getfield 32, 3) := by decide +kernel
theorem dX1_typeOf_58 : decode cX1_typeOf 58 = .ok (.iload_n 1, 1) := by decide +kernel
theorem dX1_typeOf_59 : decode cX1_typeOf 59 = .ok (.iaload, 1) := by decide +kernel
theorem dX1_typeOf_60 : decode cX1_typeOf 60 = .ok (.istore_n 2, 1) := by decide +kernel
theorem dX1_typeOf_61 : decode cX1_typeOf 61 = .ok (.aload_n 0, 1) := by decide +kernel
theorem dX1_typeOf_62 : decode cX1_typeOf 62 = .ok (.getfield 1, 3) := by decide +kernel
theorem dX1_typeOf_65 : decode cX1_typeOf 65 = .ok (.aload_n 0, 1) := by decide +kernel
theorem dX1_typeOf_66 : decode cX1_typeOf 66 = .ok (.getfield 48, 3) := by decide +kernel
theorem dX1_typeOf_69 : decode cX1_typeOf 69 = .ok (.aload_n 0, 1) := by decide +kernel
theorem dX1_typeOf_70 : decode cX1_typeOf 70 = .ok (.getfield 1, 3) := by decide +kernel
theorem dX1_typeOf_73 : decode cX1_typeOf 73 = .ok (.getfield 45, 3) := by decide +kernel
theorem dX1_typeOf_76 : decode cX1_typeOf 76 = .ok (.iload_n 1, 1) := by decide +kernel
theorem dX1_typeOf_77 : decode cX1_typeOf 77 = .ok (.iaload, 1) := by decide +kernel
theorem dX1_typeOf_78 : decode cX1_typeOf 78 = .ok (.iaload, 1) := by decide +kernel
theorem dX1_typeOf_79 : decode cX1_typeOf 79 = .ok (.iload_n 2, 1) := by decide +kernel
theorem dX1_typeOf_80 : decode cX1_typeOf 80 = .ok (.ifCond .le 15, 3) := by decide +kernel
theorem dX1_typeOf_83 : decode cX1_typeOf 83 = .ok (.aload_n 0, 1) := by decide +kernel
theorem dX1_typeOf_84 : decode cX1_typeOf 84 = .ok (.getfield 1, 3) := by decide +kernel
theorem dX1_typeOf_87 : decode cX1_typeOf 87 = .ok (.iload_n 1, 1) := by decide +kernel
theorem dX1_typeOf_88 : decode cX1_typeOf 88 = .ok (.iconst 0, 1) := by decide +kernel
theorem dX1_typeOf_89 : decode cX1_typeOf 89 = .ok (.invokevirtual 28, 3) := by decide +kernel
theorem dX1_typeOf_92 : decode cX1_typeOf 92 = .ok (.goto 4, 3) := by decide +kernel
theorem dX1_typeOf_95 : decode cX1_typeOf 95 = .ok (.iconst 0, 1) := by decide +kernel
theorem dX1_typeOf_96 : decode cX1_typeOf 96 = .ok (.iload_n 2, 1) := by decide +kernel
theorem dX1_typeOf_97 : decode cX1_typeOf 97 = .ok (.iconst 1, 1) := by decide +kernel
theorem dX1_typeOf_98 : decode cX1_typeOf 98 = .ok (.if_icmp .le 15, 3) := by decide +kernel
theorem dX1_typeOf_101 : decode cX1_typeOf 101 = .ok (.aload_n 0, 1) := by decide +kernel
theorem dX1_typeOf_102 : decode cX1_typeOf 102 = .ok (.getfield 1, 3) := by decide +kernel
theorem dX1_typeOf_105 : decode cX1_typeOf 105 = .ok (.iload_n 1, 1) := by decide +kernel
theorem dX1_typeOf_106 : decode cX1_typeOf 106 = .ok (.iconst 1, 1) := by decide +kernel
theorem dX1_typeOf_107 : decode cX1_typeOf 107 = .ok (.invokevirtual 28, 3) := by decide +kernel
theorem dX1_typeOf_110 : decode cX1_typeOf 110 = .ok (.goto 4, 3) := by decide +kernel
theorem dX1_typeOf_113 : decode cX1_typeOf 113 = .ok (.iconst 0, 1) := by decide +kernel
theorem dX1_typeOf_114 : decode cX1_typeOf 114 = .ok (.iconst 0, 1) := by decide +kernel
theorem dX1_typeOf_115 : decode cX1_typeOf 115 = .ok (.invokevirtual 51, 3) := by decide +kernel
theorem dX1_typeOf_118 : decode cX1_typeOf 118 = .ok (.ireturn, 1) := by decide +kernel
theorem dX1_typeOf_119 : decode cX1_typeOf 119 = .ok (.aload_n 0, 1) := by decide +kernel
theorem dX1_typeOf_120 : decode cX1_typeOf 120 = .ok (.getfield 1, 3) := by decide +kernel
theorem dX1_typeOf_123 : decode cX1_typeOf 123 = .ok (.iload_n 1, 1) := by decide +kernel
theorem dX1_typeOf_124 : decode cX1_typeOf 124 = .ok (.iconst 0, 1) := by decide +kernel
theorem dX1_typeOf_125 : decode cX1_typeOf 125 = .ok (.invokevirtual 28, 3) := by decide +kernel
theorem dX1_typeOf_128 : decode cX1_typeOf 128 = .ok (.ireturn, 1) := by decide +kernel
abbrev cX1_hasType : ByteArray := prog_1_method_22_code
def yX1_hasType : MethodName := ⟨RX1, "hasType", "(II)Z"⟩
theorem dX1_hasType_0 : decode cX1_hasType 0 = .ok (.iconst 0, 1) := by decide +kernel
theorem dX1_hasType_1 : decode cX1_hasType 1 = .ok (.istore_n 3, 1) := by decide +kernel
theorem dX1_hasType_2 : decode cX1_hasType 2 = .ok (.iload_n 2, 1) := by decide +kernel
theorem dX1_hasType_3 : decode cX1_hasType 3 = .ok (.istore 4, 2) := by decide +kernel
theorem dX1_hasType_5 : decode cX1_hasType 5 = .ok (.iload 4, 2) := by decide +kernel
theorem dX1_hasType_7 : decode cX1_hasType 7 = .ok (.ifCond .eq 92, 3) := by decide +kernel
theorem dX1_hasType_10 : decode cX1_hasType 10 = .ok (.aload_n 0, 1) := by decide +kernel
theorem dX1_hasType_11 : decode cX1_hasType 11 = .ok (.getfield 159, 3) := by decide +kernel
theorem dX1_hasType_14 : decode cX1_hasType 14 = .ok (.ifCond .ne 85, 3) := by decide +kernel
theorem dX1_hasType_17 : decode cX1_hasType 17 = .ok (.aload_n 0, 1) := by decide +kernel
theorem dX1_hasType_18 : decode cX1_hasType 18 = .ok (.iload_n 1, 1) := by decide +kernel
theorem dX1_hasType_19 : decode cX1_hasType 19 = .ok (.aload_n 0, 1) := by decide +kernel
theorem dX1_hasType_20 : decode cX1_hasType 20 = .ok (.getfield 1, 3) := by decide +kernel
theorem dX1_hasType_23 : decode cX1_hasType 23 = .ok (.getfield 45, 3) := by decide +kernel
theorem dX1_hasType_26 : decode cX1_hasType 26 = .ok (.iload 4, 2) := by decide +kernel
theorem dX1_hasType_28 : decode cX1_hasType 28 = .ok (.iaload, 1) := by decide +kernel
theorem dX1_hasType_29 : decode cX1_hasType 29 = .ok (.aload_n 0, 1) := by decide +kernel
theorem dX1_hasType_30 : decode cX1_hasType 30 = .ok (.iload 4, 2) := by decide +kernel
theorem dX1_hasType_32 : decode cX1_hasType 32 = .ok (.invokevirtual 58, 3) := by decide +kernel
theorem dX1_hasType_35 : decode cX1_hasType 35 = .ok (.invokevirtual 178, 3) := by decide +kernel
theorem dX1_hasType_38 : decode cX1_hasType 38 = .ok (.ifCond .eq 5, 3) := by decide +kernel
theorem dX1_hasType_41 : decode cX1_hasType 41 = .ok (.iconst 1, 1) := by decide +kernel
theorem dX1_hasType_42 : decode cX1_hasType 42 = .ok (.istore_n 3, 1) := by decide +kernel
theorem dX1_hasType_43 : decode cX1_hasType 43 = .ok (.iconst 1, 1) := by decide +kernel
theorem dX1_hasType_44 : decode cX1_hasType 44 = .ok (.istore 5, 2) := by decide +kernel
theorem dX1_hasType_46 : decode cX1_hasType 46 = .ok (.iload 5, 2) := by decide +kernel
theorem dX1_hasType_48 : decode cX1_hasType 48 = .ok (.aload_n 0, 1) := by decide +kernel
theorem dX1_hasType_49 : decode cX1_hasType 49 = .ok (.getfield 1, 3) := by decide +kernel
theorem dX1_hasType_52 : decode cX1_hasType 52 = .ok (.getfield 32, 3) := by decide +kernel
theorem dX1_hasType_55 : decode cX1_hasType 55 = .ok (.iload 4, 2) := by decide +kernel
theorem dX1_hasType_57 : decode cX1_hasType 57 = .ok (.iaload, 1) := by decide +kernel
theorem dX1_hasType_58 : decode cX1_hasType 58 = .ok (.if_icmp .ge 30, 3) := by decide +kernel
theorem dX1_hasType_61 : decode cX1_hasType 61 = .ok (.aload_n 0, 1) := by decide +kernel
theorem dX1_hasType_62 : decode cX1_hasType 62 = .ok (.iload_n 1, 1) := by decide +kernel
theorem dX1_hasType_63 : decode cX1_hasType 63 = .ok (.aload_n 0, 1) := by decide +kernel
theorem dX1_hasType_64 : decode cX1_hasType 64 = .ok (.getfield 1, 3) := by decide +kernel
theorem dX1_hasType_67 : decode cX1_hasType 67 = .ok (.iload 4, 2) := by decide +kernel
theorem dX1_hasType_69 : decode cX1_hasType 69 = .ok (.iload 5, 2) := by decide +kernel
theorem dX1_hasType_71 : decode cX1_hasType 71 = .ok (.invokevirtual 28, 3) := by decide +kernel
theorem dX1_hasType_74 : decode cX1_hasType 74 = .ok (.invokevirtual 181, 3) := by decide +kernel
theorem dX1_hasType_77 : decode cX1_hasType 77 = .ok (.ifCond .eq 5, 3) := by decide +kernel
theorem dX1_hasType_80 : decode cX1_hasType 80 = .ok (.iconst 1, 1) := by decide +kernel
theorem dX1_hasType_81 : decode cX1_hasType 81 = .ok (.istore_n 3, 1) := by decide +kernel
theorem dX1_hasType_82 : decode cX1_hasType 82 = .ok (.iinc 5 1, 3) := by decide +kernel
theorem dX1_hasType_85 : decode cX1_hasType 85 = .ok (.goto (-39), 3) := by decide +kernel
theorem dX1_hasType_88 : decode cX1_hasType 88 = .ok (.aload_n 0, 1) := by decide +kernel
theorem dX1_hasType_89 : decode cX1_hasType 89 = .ok (.iload 4, 2) := by decide +kernel
theorem dX1_hasType_91 : decode cX1_hasType 91 = .ok (.invokevirtual 62, 3) := by decide +kernel
theorem dX1_hasType_94 : decode cX1_hasType 94 = .ok (.istore 4, 2) := by decide +kernel
theorem dX1_hasType_96 : decode cX1_hasType 96 = .ok (.goto (-91), 3) := by decide +kernel
theorem dX1_hasType_99 : decode cX1_hasType 99 = .ok (.iload_n 3, 1) := by decide +kernel
theorem dX1_hasType_100 : decode cX1_hasType 100 = .ok (.ireturn, 1) := by decide +kernel
abbrev cX1_hasModeFact : ByteArray := prog_1_method_23_code
def yX1_hasModeFact : MethodName := ⟨RX1, "hasModeFact", "(III)Z"⟩
theorem dX1_hasModeFact_0 : decode cX1_hasModeFact 0 = .ok (.iconst 0, 1) := by decide +kernel
theorem dX1_hasModeFact_1 : decode cX1_hasModeFact 1 = .ok (.istore 4, 2) := by decide +kernel
theorem dX1_hasModeFact_3 : decode cX1_hasModeFact 3 = .ok (.iload 4, 2) := by decide +kernel
theorem dX1_hasModeFact_5 : decode cX1_hasModeFact 5 = .ok (.aload_n 0, 1) := by decide +kernel
theorem dX1_hasModeFact_6 : decode cX1_hasModeFact 6 = .ok (.getfield 184, 3) := by decide +kernel
theorem dX1_hasModeFact_9 : decode cX1_hasModeFact 9 = .ok (.if_icmp .ge 44, 3) := by decide +kernel
theorem dX1_hasModeFact_12 : decode cX1_hasModeFact 12 = .ok (.aload_n 0, 1) := by decide +kernel
theorem dX1_hasModeFact_13 : decode cX1_hasModeFact 13 = .ok (.getfield 187, 3) := by decide +kernel
theorem dX1_hasModeFact_16 : decode cX1_hasModeFact 16 = .ok (.iload 4, 2) := by decide +kernel
theorem dX1_hasModeFact_18 : decode cX1_hasModeFact 18 = .ok (.iaload, 1) := by decide +kernel
theorem dX1_hasModeFact_19 : decode cX1_hasModeFact 19 = .ok (.iload_n 1, 1) := by decide +kernel
theorem dX1_hasModeFact_20 : decode cX1_hasModeFact 20 = .ok (.if_icmp .ne 27, 3) := by decide +kernel
theorem dX1_hasModeFact_23 : decode cX1_hasModeFact 23 = .ok (.aload_n 0, 1) := by decide +kernel
theorem dX1_hasModeFact_24 : decode cX1_hasModeFact 24 = .ok (.getfield 190, 3) := by decide +kernel
theorem dX1_hasModeFact_27 : decode cX1_hasModeFact 27 = .ok (.iload 4, 2) := by decide +kernel
theorem dX1_hasModeFact_29 : decode cX1_hasModeFact 29 = .ok (.iaload, 1) := by decide +kernel
theorem dX1_hasModeFact_30 : decode cX1_hasModeFact 30 = .ok (.iload_n 2, 1) := by decide +kernel
theorem dX1_hasModeFact_31 : decode cX1_hasModeFact 31 = .ok (.if_icmp .ne 16, 3) := by decide +kernel
theorem dX1_hasModeFact_34 : decode cX1_hasModeFact 34 = .ok (.aload_n 0, 1) := by decide +kernel
theorem dX1_hasModeFact_35 : decode cX1_hasModeFact 35 = .ok (.getfield 193, 3) := by decide +kernel
theorem dX1_hasModeFact_38 : decode cX1_hasModeFact 38 = .ok (.iload 4, 2) := by decide +kernel
theorem dX1_hasModeFact_40 : decode cX1_hasModeFact 40 = .ok (.iaload, 1) := by decide +kernel
theorem dX1_hasModeFact_41 : decode cX1_hasModeFact 41 = .ok (.iload_n 3, 1) := by decide +kernel
theorem dX1_hasModeFact_42 : decode cX1_hasModeFact 42 = .ok (.if_icmp .ne 5, 3) := by decide +kernel
theorem dX1_hasModeFact_45 : decode cX1_hasModeFact 45 = .ok (.iconst 0, 1) := by decide +kernel
theorem dX1_hasModeFact_46 : decode cX1_hasModeFact 46 = .ok (.ireturn, 1) := by decide +kernel
theorem dX1_hasModeFact_47 : decode cX1_hasModeFact 47 = .ok (.iinc 4 1, 3) := by decide +kernel
theorem dX1_hasModeFact_50 : decode cX1_hasModeFact 50 = .ok (.goto (-47), 3) := by decide +kernel
theorem dX1_hasModeFact_53 : decode cX1_hasModeFact 53 = .ok (.aload_n 0, 1) := by decide +kernel
theorem dX1_hasModeFact_54 : decode cX1_hasModeFact 54 = .ok (.getfield 184, 3) := by decide +kernel
theorem dX1_hasModeFact_57 : decode cX1_hasModeFact 57 = .ok (.aload_n 0, 1) := by decide +kernel
theorem dX1_hasModeFact_58 : decode cX1_hasModeFact 58 = .ok (.getfield 187, 3) := by decide +kernel
theorem dX1_hasModeFact_61 : decode cX1_hasModeFact 61 = .ok (.arraylength, 1) := by decide +kernel
theorem dX1_hasModeFact_62 : decode cX1_hasModeFact 62 = .ok (.if_icmp .ne 54, 3) := by decide +kernel
theorem dX1_hasModeFact_65 : decode cX1_hasModeFact 65 = .ok (.aload_n 0, 1) := by decide +kernel
theorem dX1_hasModeFact_66 : decode cX1_hasModeFact 66 = .ok (.aload_n 0, 1) := by decide +kernel
theorem dX1_hasModeFact_67 : decode cX1_hasModeFact 67 = .ok (.getfield 187, 3) := by decide +kernel
theorem dX1_hasModeFact_70 : decode cX1_hasModeFact 70 = .ok (.iconst 2, 1) := by decide +kernel
theorem dX1_hasModeFact_71 : decode cX1_hasModeFact 71 = .ok (.aload_n 0, 1) := by decide +kernel
theorem dX1_hasModeFact_72 : decode cX1_hasModeFact 72 = .ok (.getfield 184, 3) := by decide +kernel
theorem dX1_hasModeFact_75 : decode cX1_hasModeFact 75 = .ok (.imul, 1) := by decide +kernel
theorem dX1_hasModeFact_76 : decode cX1_hasModeFact 76 = .ok (.invokestatic 112, 3) := by decide +kernel
theorem dX1_hasModeFact_79 : decode cX1_hasModeFact 79 = .ok (.putfield 187, 3) := by decide +kernel
theorem dX1_hasModeFact_82 : decode cX1_hasModeFact 82 = .ok (.aload_n 0, 1) := by decide +kernel
theorem dX1_hasModeFact_83 : decode cX1_hasModeFact 83 = .ok (.aload_n 0, 1) := by decide +kernel
theorem dX1_hasModeFact_84 : decode cX1_hasModeFact 84 = .ok (.getfield 190, 3) := by decide +kernel
theorem dX1_hasModeFact_87 : decode cX1_hasModeFact 87 = .ok (.iconst 2, 1) := by decide +kernel
theorem dX1_hasModeFact_88 : decode cX1_hasModeFact 88 = .ok (.aload_n 0, 1) := by decide +kernel
theorem dX1_hasModeFact_89 : decode cX1_hasModeFact 89 = .ok (.getfield 184, 3) := by decide +kernel
theorem dX1_hasModeFact_92 : decode cX1_hasModeFact 92 = .ok (.imul, 1) := by decide +kernel
theorem dX1_hasModeFact_93 : decode cX1_hasModeFact 93 = .ok (.invokestatic 112, 3) := by decide +kernel
theorem dX1_hasModeFact_96 : decode cX1_hasModeFact 96 = .ok (.putfield 190, 3) := by decide +kernel
theorem dX1_hasModeFact_99 : decode cX1_hasModeFact 99 = .ok (.aload_n 0, 1) := by decide +kernel
theorem dX1_hasModeFact_100 : decode cX1_hasModeFact 100 = .ok (.aload_n 0, 1) := by decide +kernel
theorem dX1_hasModeFact_101 : decode cX1_hasModeFact 101 = .ok (.getfield 193, 3) := by decide +kernel
theorem dX1_hasModeFact_104 : decode cX1_hasModeFact 104 = .ok (.iconst 2, 1) := by decide +kernel
theorem dX1_hasModeFact_105 : decode cX1_hasModeFact 105 = .ok (.aload_n 0, 1) := by decide +kernel
theorem dX1_hasModeFact_106 : decode cX1_hasModeFact 106 = .ok (.getfield 184, 3) := by decide +kernel
theorem dX1_hasModeFact_109 : decode cX1_hasModeFact 109 = .ok (.imul, 1) := by decide +kernel
theorem dX1_hasModeFact_110 : decode cX1_hasModeFact 110 = .ok (.invokestatic 112, 3) := by decide +kernel
theorem dX1_hasModeFact_113 : decode cX1_hasModeFact 113 = .ok (.putfield 193, 3) := by decide +kernel
theorem dX1_hasModeFact_116 : decode cX1_hasModeFact 116 = .ok (.aload_n 0, 1) := by decide +kernel
theorem dX1_hasModeFact_117 : decode cX1_hasModeFact 117 = .ok (.getfield 187, 3) := by decide +kernel
theorem dX1_hasModeFact_120 : decode cX1_hasModeFact 120 = .ok (.aload_n 0, 1) := by decide +kernel
theorem dX1_hasModeFact_121 : decode cX1_hasModeFact 121 = .ok (.getfield 184, 3) := by decide +kernel
theorem dX1_hasModeFact_124 : decode cX1_hasModeFact 124 = .ok (.iload_n 1, 1) := by decide +kernel
theorem dX1_hasModeFact_125 : decode cX1_hasModeFact 125 = .ok (.iastore, 1) := by decide +kernel
theorem dX1_hasModeFact_126 : decode cX1_hasModeFact 126 = .ok (.aload_n 0, 1) := by decide +kernel
theorem dX1_hasModeFact_127 : decode cX1_hasModeFact 127 = .ok (.getfield 190, 3) := by decide +kernel
theorem dX1_hasModeFact_130 : decode cX1_hasModeFact 130 = .ok (.aload_n 0, 1) := by decide +kernel
theorem dX1_hasModeFact_131 : decode cX1_hasModeFact 131 = .ok (.getfield 184, 3) := by decide +kernel
theorem dX1_hasModeFact_134 : decode cX1_hasModeFact 134 = .ok (.iload_n 2, 1) := by decide +kernel
theorem dX1_hasModeFact_135 : decode cX1_hasModeFact 135 = .ok (.iastore, 1) := by decide +kernel
theorem dX1_hasModeFact_136 : decode cX1_hasModeFact 136 = .ok (.aload_n 0, 1) := by decide +kernel
theorem dX1_hasModeFact_137 : decode cX1_hasModeFact 137 = .ok (.getfield 193, 3) := by decide +kernel
theorem dX1_hasModeFact_140 : decode cX1_hasModeFact 140 = .ok (.aload_n 0, 1) := by decide +kernel
theorem dX1_hasModeFact_141 : decode cX1_hasModeFact 141 = .ok (.getfield 184, 3) := by decide +kernel
theorem dX1_hasModeFact_144 : decode cX1_hasModeFact 144 = .ok (.iload_n 3, 1) := by decide +kernel
theorem dX1_hasModeFact_145 : decode cX1_hasModeFact 145 = .ok (.iastore, 1) := by decide +kernel
theorem dX1_hasModeFact_146 : decode cX1_hasModeFact 146 = .ok (.aload_n 0, 1) := by decide +kernel
theorem dX1_hasModeFact_147 : decode cX1_hasModeFact 147 = .ok (.dup, 1) := by decide +kernel
theorem dX1_hasModeFact_148 : decode cX1_hasModeFact 148 = .ok (.getfield 184, 3) := by decide +kernel
theorem dX1_hasModeFact_151 : decode cX1_hasModeFact 151 = .ok (.iconst 1, 1) := by decide +kernel
theorem dX1_hasModeFact_152 : decode cX1_hasModeFact 152 = .ok (.iadd, 1) := by decide +kernel
theorem dX1_hasModeFact_153 : decode cX1_hasModeFact 153 = .ok (.putfield 184, 3) := by decide +kernel
theorem dX1_hasModeFact_156 : decode cX1_hasModeFact 156 = .ok (.iload_n 3, 1) := by decide +kernel
theorem dX1_hasModeFact_157 : decode cX1_hasModeFact 157 = .ok (.ifCond .eq 8, 3) := by decide +kernel
theorem dX1_hasModeFact_160 : decode cX1_hasModeFact 160 = .ok (.aload_n 0, 1) := by decide +kernel
theorem dX1_hasModeFact_161 : decode cX1_hasModeFact 161 = .ok (.iload_n 3, 1) := by decide +kernel
theorem dX1_hasModeFact_162 : decode cX1_hasModeFact 162 = .ok (.invokevirtual 172, 3) := by decide +kernel
theorem dX1_hasModeFact_165 : decode cX1_hasModeFact 165 = .ok (.iconst 1, 1) := by decide +kernel
theorem dX1_hasModeFact_166 : decode cX1_hasModeFact 166 = .ok (.ireturn, 1) := by decide +kernel
abbrev cX1_adjectiveFact : ByteArray := prog_1_method_24_code
def yX1_adjectiveFact : MethodName := ⟨RX1, "adjectiveFact", "(II)Z"⟩
theorem dX1_adjectiveFact_0 : decode cX1_adjectiveFact 0 = .ok (.iconst 0, 1) := by decide +kernel
theorem dX1_adjectiveFact_1 : decode cX1_adjectiveFact 1 = .ok (.istore_n 3, 1) := by decide +kernel
theorem dX1_adjectiveFact_2 : decode cX1_adjectiveFact 2 = .ok (.iload_n 3, 1) := by decide +kernel
theorem dX1_adjectiveFact_3 : decode cX1_adjectiveFact 3 = .ok (.aload_n 0, 1) := by decide +kernel
theorem dX1_adjectiveFact_4 : decode cX1_adjectiveFact 4 = .ok (.getfield 196, 3) := by decide +kernel
theorem dX1_adjectiveFact_7 : decode cX1_adjectiveFact 7 = .ok (.if_icmp .ge 31, 3) := by decide +kernel
theorem dX1_adjectiveFact_10 : decode cX1_adjectiveFact 10 = .ok (.aload_n 0, 1) := by decide +kernel
theorem dX1_adjectiveFact_11 : decode cX1_adjectiveFact 11 = .ok (.getfield 199, 3) := by decide +kernel
theorem dX1_adjectiveFact_14 : decode cX1_adjectiveFact 14 = .ok (.iload_n 3, 1) := by decide +kernel
theorem dX1_adjectiveFact_15 : decode cX1_adjectiveFact 15 = .ok (.iaload, 1) := by decide +kernel
theorem dX1_adjectiveFact_16 : decode cX1_adjectiveFact 16 = .ok (.iload_n 1, 1) := by decide +kernel
theorem dX1_adjectiveFact_17 : decode cX1_adjectiveFact 17 = .ok (.if_icmp .ne 15, 3) := by decide +kernel
theorem dX1_adjectiveFact_20 : decode cX1_adjectiveFact 20 = .ok (.aload_n 0, 1) := by decide +kernel
theorem dX1_adjectiveFact_21 : decode cX1_adjectiveFact 21 = .ok (.getfield 202, 3) := by decide +kernel
theorem dX1_adjectiveFact_24 : decode cX1_adjectiveFact 24 = .ok (.iload_n 3, 1) := by decide +kernel
theorem dX1_adjectiveFact_25 : decode cX1_adjectiveFact 25 = .ok (.iaload, 1) := by decide +kernel
theorem dX1_adjectiveFact_26 : decode cX1_adjectiveFact 26 = .ok (.iload_n 2, 1) := by decide +kernel
theorem dX1_adjectiveFact_27 : decode cX1_adjectiveFact 27 = .ok (.if_icmp .ne 5, 3) := by decide +kernel
theorem dX1_adjectiveFact_30 : decode cX1_adjectiveFact 30 = .ok (.iconst 0, 1) := by decide +kernel
theorem dX1_adjectiveFact_31 : decode cX1_adjectiveFact 31 = .ok (.ireturn, 1) := by decide +kernel
theorem dX1_adjectiveFact_32 : decode cX1_adjectiveFact 32 = .ok (.iinc 3 1, 3) := by decide +kernel
theorem dX1_adjectiveFact_35 : decode cX1_adjectiveFact 35 = .ok (.goto (-33), 3) := by decide +kernel
theorem dX1_adjectiveFact_38 : decode cX1_adjectiveFact 38 = .ok (.aload_n 0, 1) := by decide +kernel
theorem dX1_adjectiveFact_39 : decode cX1_adjectiveFact 39 = .ok (.getfield 196, 3) := by decide +kernel
theorem dX1_adjectiveFact_42 : decode cX1_adjectiveFact 42 = .ok (.aload_n 0, 1) := by decide +kernel
theorem dX1_adjectiveFact_43 : decode cX1_adjectiveFact 43 = .ok (.getfield 199, 3) := by decide +kernel
theorem dX1_adjectiveFact_46 : decode cX1_adjectiveFact 46 = .ok (.arraylength, 1) := by decide +kernel
theorem dX1_adjectiveFact_47 : decode cX1_adjectiveFact 47 = .ok (.if_icmp .ne 37, 3) := by decide +kernel
theorem dX1_adjectiveFact_50 : decode cX1_adjectiveFact 50 = .ok (.aload_n 0, 1) := by decide +kernel
theorem dX1_adjectiveFact_51 : decode cX1_adjectiveFact 51 = .ok (.aload_n 0, 1) := by decide +kernel
theorem dX1_adjectiveFact_52 : decode cX1_adjectiveFact 52 = .ok (.getfield 199, 3) := by decide +kernel
theorem dX1_adjectiveFact_55 : decode cX1_adjectiveFact 55 = .ok (.iconst 2, 1) := by decide +kernel
theorem dX1_adjectiveFact_56 : decode cX1_adjectiveFact 56 = .ok (.aload_n 0, 1) := by decide +kernel
theorem dX1_adjectiveFact_57 : decode cX1_adjectiveFact 57 = .ok (.getfield 196, 3) := by decide +kernel
theorem dX1_adjectiveFact_60 : decode cX1_adjectiveFact 60 = .ok (.imul, 1) := by decide +kernel
theorem dX1_adjectiveFact_61 : decode cX1_adjectiveFact 61 = .ok (.invokestatic 112, 3) := by decide +kernel
theorem dX1_adjectiveFact_64 : decode cX1_adjectiveFact 64 = .ok (.putfield 199, 3) := by decide +kernel
theorem dX1_adjectiveFact_67 : decode cX1_adjectiveFact 67 = .ok (.aload_n 0, 1) := by decide +kernel
theorem dX1_adjectiveFact_68 : decode cX1_adjectiveFact 68 = .ok (.aload_n 0, 1) := by decide +kernel
theorem dX1_adjectiveFact_69 : decode cX1_adjectiveFact 69 = .ok (.getfield 202, 3) := by decide +kernel
theorem dX1_adjectiveFact_72 : decode cX1_adjectiveFact 72 = .ok (.iconst 2, 1) := by decide +kernel
theorem dX1_adjectiveFact_73 : decode cX1_adjectiveFact 73 = .ok (.aload_n 0, 1) := by decide +kernel
theorem dX1_adjectiveFact_74 : decode cX1_adjectiveFact 74 = .ok (.getfield 196, 3) := by decide +kernel
theorem dX1_adjectiveFact_77 : decode cX1_adjectiveFact 77 = .ok (.imul, 1) := by decide +kernel
theorem dX1_adjectiveFact_78 : decode cX1_adjectiveFact 78 = .ok (.invokestatic 112, 3) := by decide +kernel
theorem dX1_adjectiveFact_81 : decode cX1_adjectiveFact 81 = .ok (.putfield 202, 3) := by decide +kernel
theorem dX1_adjectiveFact_84 : decode cX1_adjectiveFact 84 = .ok (.aload_n 0, 1) := by decide +kernel
theorem dX1_adjectiveFact_85 : decode cX1_adjectiveFact 85 = .ok (.getfield 199, 3) := by decide +kernel
theorem dX1_adjectiveFact_88 : decode cX1_adjectiveFact 88 = .ok (.aload_n 0, 1) := by decide +kernel
theorem dX1_adjectiveFact_89 : decode cX1_adjectiveFact 89 = .ok (.getfield 196, 3) := by decide +kernel
theorem dX1_adjectiveFact_92 : decode cX1_adjectiveFact 92 = .ok (.iload_n 1, 1) := by decide +kernel
theorem dX1_adjectiveFact_93 : decode cX1_adjectiveFact 93 = .ok (.iastore, 1) := by decide +kernel
theorem dX1_adjectiveFact_94 : decode cX1_adjectiveFact 94 = .ok (.aload_n 0, 1) := by decide +kernel
theorem dX1_adjectiveFact_95 : decode cX1_adjectiveFact 95 = .ok (.getfield 202, 3) := by decide +kernel
theorem dX1_adjectiveFact_98 : decode cX1_adjectiveFact 98 = .ok (.aload_n 0, 1) := by decide +kernel
theorem dX1_adjectiveFact_99 : decode cX1_adjectiveFact 99 = .ok (.getfield 196, 3) := by decide +kernel
theorem dX1_adjectiveFact_102 : decode cX1_adjectiveFact 102 = .ok (.iload_n 2, 1) := by decide +kernel
theorem dX1_adjectiveFact_103 : decode cX1_adjectiveFact 103 = .ok (.iastore, 1) := by decide +kernel
theorem dX1_adjectiveFact_104 : decode cX1_adjectiveFact 104 = .ok (.aload_n 0, 1) := by decide +kernel
theorem dX1_adjectiveFact_105 : decode cX1_adjectiveFact 105 = .ok (.dup, 1) := by decide +kernel
theorem dX1_adjectiveFact_106 : decode cX1_adjectiveFact 106 = .ok (.getfield 196, 3) := by decide +kernel
theorem dX1_adjectiveFact_109 : decode cX1_adjectiveFact 109 = .ok (.iconst 1, 1) := by decide +kernel
theorem dX1_adjectiveFact_110 : decode cX1_adjectiveFact 110 = .ok (.iadd, 1) := by decide +kernel
theorem dX1_adjectiveFact_111 : decode cX1_adjectiveFact 111 = .ok (.putfield 196, 3) := by decide +kernel
theorem dX1_adjectiveFact_114 : decode cX1_adjectiveFact 114 = .ok (.iconst 1, 1) := by decide +kernel
theorem dX1_adjectiveFact_115 : decode cX1_adjectiveFact 115 = .ok (.ireturn, 1) := by decide +kernel
abbrev cX1_parent : ByteArray := prog_1_method_8_code
def yX1_parent : MethodName := ⟨RX1, "parent", "(I)I"⟩
theorem dX1_parent_0 : decode cX1_parent 0 = .ok (.aload_n 0, 1) := by decide +kernel
theorem dX1_parent_1 : decode cX1_parent 1 = .ok (.getfield 1, 3) := by decide +kernel
theorem dX1_parent_4 : decode cX1_parent 4 = .ok (.getfield 45, 3) := by decide +kernel
theorem dX1_parent_7 : decode cX1_parent 7 = .ok (.iload_n 1, 1) := by decide +kernel
theorem dX1_parent_8 : decode cX1_parent 8 = .ok (.iaload, 1) := by decide +kernel
theorem dX1_parent_9 : decode cX1_parent 9 = .ok (.ifCond .ne 7, 3) := by decide +kernel
theorem dX1_parent_12 : decode cX1_parent 12 = .ok (.iconst 0, 1) := by decide +kernel
theorem dX1_parent_13 : decode cX1_parent 13 = .ok (.goto 31, 3) := by decide +kernel
theorem dX1_parent_16 : decode cX1_parent 16 = .ok (.aload_n 0, 1) := by decide +kernel
theorem dX1_parent_17 : decode cX1_parent 17 = .ok (.getfield 1, 3) := by decide +kernel
theorem dX1_parent_20 : decode cX1_parent 20 = .ok (.aload_n 0, 1) := by decide +kernel
theorem dX1_parent_21 : decode cX1_parent 21 = .ok (.getfield 55, 3) := by decide +kernel
theorem dX1_parent_24 : decode cX1_parent 24 = .ok (.aload_n 0, 1) := by decide +kernel
theorem dX1_parent_25 : decode cX1_parent 25 = .ok (.getfield 1, 3) := by decide +kernel
theorem dX1_parent_28 : decode cX1_parent 28 = .ok (.getfield 45, 3) := by decide +kernel
theorem dX1_parent_31 : decode cX1_parent 31 = .ok (.iload_n 1, 1) := by decide +kernel
theorem dX1_parent_32 : decode cX1_parent 32 = .ok (.iaload, 1) := by decide +kernel
theorem dX1_parent_33 : decode cX1_parent 33 = .ok (.iaload, 1) := by decide +kernel
theorem dX1_parent_34 : decode cX1_parent 34 = .ok (.aload_n 0, 1) := by decide +kernel
theorem dX1_parent_35 : decode cX1_parent 35 = .ok (.iload_n 1, 1) := by decide +kernel
theorem dX1_parent_36 : decode cX1_parent 36 = .ok (.invokevirtual 58, 3) := by decide +kernel
theorem dX1_parent_39 : decode cX1_parent 39 = .ok (.iconst 0, 1) := by decide +kernel
theorem dX1_parent_40 : decode cX1_parent 40 = .ok (.iconst 0, 1) := by decide +kernel
theorem dX1_parent_41 : decode cX1_parent 41 = .ok (.invokevirtual 51, 3) := by decide +kernel
theorem dX1_parent_44 : decode cX1_parent 44 = .ok (.ireturn, 1) := by decide +kernel
abbrev cX1_firstsOf : ByteArray := prog_1_method_49_code
def yX1_firstsOf : MethodName := ⟨RX1, "firstsOf", "()I"⟩
theorem dX1_firstsOf_0 : decode cX1_firstsOf 0 = .ok (.iconst 0, 1) := by decide +kernel
theorem dX1_firstsOf_1 : decode cX1_firstsOf 1 = .ok (.istore_n 1, 1) := by decide +kernel
theorem dX1_firstsOf_2 : decode cX1_firstsOf 2 = .ok (.iconst 0, 1) := by decide +kernel
theorem dX1_firstsOf_3 : decode cX1_firstsOf 3 = .ok (.istore_n 2, 1) := by decide +kernel
theorem dX1_firstsOf_4 : decode cX1_firstsOf 4 = .ok (.iload_n 2, 1) := by decide +kernel
theorem dX1_firstsOf_5 : decode cX1_firstsOf 5 = .ok (.aload_n 0, 1) := by decide +kernel
theorem dX1_firstsOf_6 : decode cX1_firstsOf 6 = .ok (.getfield 163, 3) := by decide +kernel
theorem dX1_firstsOf_9 : decode cX1_firstsOf 9 = .ok (.if_icmp .ge 68, 3) := by decide +kernel
theorem dX1_firstsOf_12 : decode cX1_firstsOf 12 = .ok (.aload_n 0, 1) := by decide +kernel
theorem dX1_firstsOf_13 : decode cX1_firstsOf 13 = .ok (.getfield 169, 3) := by decide +kernel
theorem dX1_firstsOf_16 : decode cX1_firstsOf 16 = .ok (.iload_n 2, 1) := by decide +kernel
theorem dX1_firstsOf_17 : decode cX1_firstsOf 17 = .ok (.iaload, 1) := by decide +kernel
theorem dX1_firstsOf_18 : decode cX1_firstsOf 18 = .ok (.istore_n 3, 1) := by decide +kernel
theorem dX1_firstsOf_19 : decode cX1_firstsOf 19 = .ok (.aload_n 0, 1) := by decide +kernel
theorem dX1_firstsOf_20 : decode cX1_firstsOf 20 = .ok (.iload_n 3, 1) := by decide +kernel
theorem dX1_firstsOf_21 : decode cX1_firstsOf 21 = .ok (.invokevirtual 347, 3) := by decide +kernel
theorem dX1_firstsOf_24 : decode cX1_firstsOf 24 = .ok (.ifCond .ne 6, 3) := by decide +kernel
theorem dX1_firstsOf_27 : decode cX1_firstsOf 27 = .ok (.goto 44, 3) := by decide +kernel
theorem dX1_firstsOf_30 : decode cX1_firstsOf 30 = .ok (.aload_n 0, 1) := by decide +kernel
theorem dX1_firstsOf_31 : decode cX1_firstsOf 31 = .ok (.getfield 169, 3) := by decide +kernel
theorem dX1_firstsOf_34 : decode cX1_firstsOf 34 = .ok (.iload_n 1, 1) := by decide +kernel
theorem dX1_firstsOf_35 : decode cX1_firstsOf 35 = .ok (.iaload, 1) := by decide +kernel
theorem dX1_firstsOf_36 : decode cX1_firstsOf 36 = .ok (.istore 4, 2) := by decide +kernel
theorem dX1_firstsOf_38 : decode cX1_firstsOf 38 = .ok (.aload_n 0, 1) := by decide +kernel
theorem dX1_firstsOf_39 : decode cX1_firstsOf 39 = .ok (.getfield 169, 3) := by decide +kernel
theorem dX1_firstsOf_42 : decode cX1_firstsOf 42 = .ok (.iload_n 1, 1) := by decide +kernel
theorem dX1_firstsOf_43 : decode cX1_firstsOf 43 = .ok (.iload_n 3, 1) := by decide +kernel
theorem dX1_firstsOf_44 : decode cX1_firstsOf 44 = .ok (.iastore, 1) := by decide +kernel
theorem dX1_firstsOf_45 : decode cX1_firstsOf 45 = .ok (.aload_n 0, 1) := by decide +kernel
theorem dX1_firstsOf_46 : decode cX1_firstsOf 46 = .ok (.getfield 169, 3) := by decide +kernel
theorem dX1_firstsOf_49 : decode cX1_firstsOf 49 = .ok (.iload_n 2, 1) := by decide +kernel
theorem dX1_firstsOf_50 : decode cX1_firstsOf 50 = .ok (.iload 4, 2) := by decide +kernel
theorem dX1_firstsOf_52 : decode cX1_firstsOf 52 = .ok (.iastore, 1) := by decide +kernel
theorem dX1_firstsOf_53 : decode cX1_firstsOf 53 = .ok (.aload_n 0, 1) := by decide +kernel
theorem dX1_firstsOf_54 : decode cX1_firstsOf 54 = .ok (.getfield 137, 3) := by decide +kernel
theorem dX1_firstsOf_57 : decode cX1_firstsOf 57 = .ok (.iload_n 3, 1) := by decide +kernel
theorem dX1_firstsOf_58 : decode cX1_firstsOf 58 = .ok (.iload_n 1, 1) := by decide +kernel
theorem dX1_firstsOf_59 : decode cX1_firstsOf 59 = .ok (.iastore, 1) := by decide +kernel
theorem dX1_firstsOf_60 : decode cX1_firstsOf 60 = .ok (.aload_n 0, 1) := by decide +kernel
theorem dX1_firstsOf_61 : decode cX1_firstsOf 61 = .ok (.getfield 137, 3) := by decide +kernel
theorem dX1_firstsOf_64 : decode cX1_firstsOf 64 = .ok (.iload 4, 2) := by decide +kernel
theorem dX1_firstsOf_66 : decode cX1_firstsOf 66 = .ok (.iload_n 2, 1) := by decide +kernel
theorem dX1_firstsOf_67 : decode cX1_firstsOf 67 = .ok (.iastore, 1) := by decide +kernel
theorem dX1_firstsOf_68 : decode cX1_firstsOf 68 = .ok (.iinc 1 1, 3) := by decide +kernel
theorem dX1_firstsOf_71 : decode cX1_firstsOf 71 = .ok (.iinc 2 1, 3) := by decide +kernel
theorem dX1_firstsOf_74 : decode cX1_firstsOf 74 = .ok (.goto (-70), 3) := by decide +kernel
theorem dX1_firstsOf_77 : decode cX1_firstsOf 77 = .ok (.iload_n 1, 1) := by decide +kernel
theorem dX1_firstsOf_78 : decode cX1_firstsOf 78 = .ok (.ireturn, 1) := by decide +kernel
abbrev cX1_stands : ByteArray := prog_1_method_50_code
def yX1_stands : MethodName := ⟨RX1, "stands", "(I)Z"⟩
theorem dX1_stands_0 : decode cX1_stands 0 = .ok (.iconst 0, 1) := by decide +kernel
theorem dX1_stands_1 : decode cX1_stands 1 = .ok (.istore_n 2, 1) := by decide +kernel
theorem dX1_stands_2 : decode cX1_stands 2 = .ok (.iload_n 2, 1) := by decide +kernel
theorem dX1_stands_3 : decode cX1_stands 3 = .ok (.aload_n 0, 1) := by decide +kernel
theorem dX1_stands_4 : decode cX1_stands 4 = .ok (.getfield 223, 3) := by decide +kernel
theorem dX1_stands_7 : decode cX1_stands 7 = .ok (.if_icmp .ge 28, 3) := by decide +kernel
theorem dX1_stands_10 : decode cX1_stands 10 = .ok (.aload_n 0, 1) := by decide +kernel
theorem dX1_stands_11 : decode cX1_stands 11 = .ok (.getfield 1, 3) := by decide +kernel
theorem dX1_stands_14 : decode cX1_stands 14 = .ok (.aload_n 0, 1) := by decide +kernel
theorem dX1_stands_15 : decode cX1_stands 15 = .ok (.getfield 226, 3) := by decide +kernel
theorem dX1_stands_18 : decode cX1_stands 18 = .ok (.iload_n 2, 1) := by decide +kernel
theorem dX1_stands_19 : decode cX1_stands 19 = .ok (.iaload, 1) := by decide +kernel
theorem dX1_stands_20 : decode cX1_stands 20 = .ok (.iload_n 1, 1) := by decide +kernel
theorem dX1_stands_21 : decode cX1_stands 21 = .ok (.invokevirtual 350, 3) := by decide +kernel
theorem dX1_stands_24 : decode cX1_stands 24 = .ok (.ifCond .eq 5, 3) := by decide +kernel
theorem dX1_stands_27 : decode cX1_stands 27 = .ok (.iconst 1, 1) := by decide +kernel
theorem dX1_stands_28 : decode cX1_stands 28 = .ok (.ireturn, 1) := by decide +kernel
theorem dX1_stands_29 : decode cX1_stands 29 = .ok (.iinc 2 1, 3) := by decide +kernel
theorem dX1_stands_32 : decode cX1_stands 32 = .ok (.goto (-30), 3) := by decide +kernel
theorem dX1_stands_35 : decode cX1_stands 35 = .ok (.iconst 0, 1) := by decide +kernel
theorem dX1_stands_36 : decode cX1_stands 36 = .ok (.ireturn, 1) := by decide +kernel
abbrev cX1_close : ByteArray := prog_1_method_32_code
def yX1_close : MethodName := ⟨RX1, "close", "()V"⟩
theorem dX1_close_0 : decode cX1_close 0 = .ok (.iconst 1, 1) := by decide +kernel
theorem dX1_close_1 : decode cX1_close 1 = .ok (.istore_n 1, 1) := by decide +kernel
theorem dX1_close_2 : decode cX1_close 2 = .ok (.iload_n 1, 1) := by decide +kernel
theorem dX1_close_3 : decode cX1_close 3 = .ok (.ifCond .eq 401, 3) := by decide +kernel
theorem dX1_close_6 : decode cX1_close 6 = .ok (.aload_n 0, 1) := by decide +kernel
theorem dX1_close_7 : decode cX1_close 7 = .ok (.getfield 159, 3) := by decide +kernel
theorem dX1_close_10 : decode cX1_close 10 = .ok (.ifCond .ne 394, 3) := by decide +kernel
theorem dX1_close_13 : decode cX1_close 13 = .ok (.iconst 0, 1) := by decide +kernel
theorem dX1_close_14 : decode cX1_close 14 = .ok (.istore_n 1, 1) := by decide +kernel
theorem dX1_close_15 : decode cX1_close 15 = .ok (.iconst 0, 1) := by decide +kernel
theorem dX1_close_16 : decode cX1_close 16 = .ok (.istore_n 2, 1) := by decide +kernel
theorem dX1_close_17 : decode cX1_close 17 = .ok (.iload_n 2, 1) := by decide +kernel
theorem dX1_close_18 : decode cX1_close 18 = .ok (.aload_n 0, 1) := by decide +kernel
theorem dX1_close_19 : decode cX1_close 19 = .ok (.getfield 223, 3) := by decide +kernel
theorem dX1_close_22 : decode cX1_close 22 = .ok (.if_icmp .ge 223, 3) := by decide +kernel
