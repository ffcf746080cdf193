set_option maxRecDepth 100000
/-! RoundCheckLaw -/
def RX0 : String := "RoundCheckLaw"
abbrev cX0_mode : ByteArray := method_3_code
def yX0_mode : MethodName := ⟨RX0, "mode", "(LRoundCheck;IZ[J)I"⟩
theorem dX0_mode_0 : decode cX0_mode 0 = .ok (.aload_n 3, 1) := by decide +kernel
theorem dX0_mode_1 : decode cX0_mode 1 = .ok (.iconst 0, 1) := by decide +kernel
theorem dX0_mode_2 : decode cX0_mode 2 = .ok (.aload_n 0, 1) := by decide +kernel
theorem dX0_mode_3 : decode cX0_mode 3 = .ok (.iload_n 1, 1) := by decide +kernel
theorem dX0_mode_4 : decode cX0_mode 4 = .ok (.iload_n 2, 1) := by decide +kernel
theorem dX0_mode_5 : decode cX0_mode 5 = .ok (.invokevirtual 7, 3) := by decide +kernel
theorem dX0_mode_8 : decode cX0_mode 8 = .ok (.i2l, 1) := by decide +kernel
theorem dX0_mode_9 : decode cX0_mode 9 = .ok (.lastore, 1) := by decide +kernel
theorem dX0_mode_10 : decode cX0_mode 10 = .ok (.goto 11, 3) := by decide +kernel
theorem dX0_mode_13 : decode cX0_mode 13 = .ok (.astore 4, 2) := by decide +kernel
theorem dX0_mode_15 : decode cX0_mode 15 = .ok (.iconst 1, 1) := by decide +kernel
theorem dX0_mode_16 : decode cX0_mode 16 = .ok (.ireturn, 1) := by decide +kernel
theorem dX0_mode_17 : decode cX0_mode 17 = .ok (.astore 4, 2) := by decide +kernel
theorem dX0_mode_19 : decode cX0_mode 19 = .ok (.iconst 2, 1) := by decide +kernel
theorem dX0_mode_20 : decode cX0_mode 20 = .ok (.ireturn, 1) := by decide +kernel
theorem dX0_mode_21 : decode cX0_mode 21 = .ok (.iconst 0, 1) := by decide +kernel
theorem dX0_mode_22 : decode cX0_mode 22 = .ok (.ireturn, 1) := by decide +kernel
abbrev cX0_attribute : ByteArray := method_4_code
def yX0_attribute : MethodName := ⟨RX0, "attribute", "(LRoundCheck;[J)I"⟩
theorem dX0_attribute_0 : decode cX0_attribute 0 = .ok (.aload_n 1, 1) := by decide +kernel
theorem dX0_attribute_1 : decode cX0_attribute 1 = .ok (.iconst 0, 1) := by decide +kernel
theorem dX0_attribute_2 : decode cX0_attribute 2 = .ok (.aload_n 0, 1) := by decide +kernel
theorem dX0_attribute_3 : decode cX0_attribute 3 = .ok (.invokevirtual 17, 3) := by decide +kernel
theorem dX0_attribute_6 : decode cX0_attribute 6 = .ok (.i2l, 1) := by decide +kernel
theorem dX0_attribute_7 : decode cX0_attribute 7 = .ok (.lastore, 1) := by decide +kernel
theorem dX0_attribute_8 : decode cX0_attribute 8 = .ok (.goto 6, 3) := by decide +kernel
theorem dX0_attribute_11 : decode cX0_attribute 11 = .ok (.astore_n 2, 1) := by decide +kernel
theorem dX0_attribute_12 : decode cX0_attribute 12 = .ok (.iconst 1, 1) := by decide +kernel
theorem dX0_attribute_13 : decode cX0_attribute 13 = .ok (.ireturn, 1) := by decide +kernel
theorem dX0_attribute_14 : decode cX0_attribute 14 = .ok (.iconst 0, 1) := by decide +kernel
theorem dX0_attribute_15 : decode cX0_attribute 15 = .ok (.ireturn, 1) := by decide +kernel
abbrev cX0_functor : ByteArray := method_5_code
def yX0_functor : MethodName := ⟨RX0, "functor", "(LRoundCheck;II[J)I"⟩
theorem dX0_functor_0 : decode cX0_functor 0 = .ok (.aload_n 3, 1) := by decide +kernel
theorem dX0_functor_1 : decode cX0_functor 1 = .ok (.iconst 0, 1) := by decide +kernel
theorem dX0_functor_2 : decode cX0_functor 2 = .ok (.aload_n 0, 1) := by decide +kernel
theorem dX0_functor_3 : decode cX0_functor 3 = .ok (.iload_n 1, 1) := by decide +kernel
theorem dX0_functor_4 : decode cX0_functor 4 = .ok (.iload_n 2, 1) := by decide +kernel
theorem dX0_functor_5 : decode cX0_functor 5 = .ok (.invokevirtual 21, 3) := by decide +kernel
theorem dX0_functor_8 : decode cX0_functor 8 = .ok (.i2l, 1) := by decide +kernel
theorem dX0_functor_9 : decode cX0_functor 9 = .ok (.lastore, 1) := by decide +kernel
theorem dX0_functor_10 : decode cX0_functor 10 = .ok (.goto 11, 3) := by decide +kernel
theorem dX0_functor_13 : decode cX0_functor 13 = .ok (.astore 4, 2) := by decide +kernel
theorem dX0_functor_15 : decode cX0_functor 15 = .ok (.iconst 1, 1) := by decide +kernel
theorem dX0_functor_16 : decode cX0_functor 16 = .ok (.ireturn, 1) := by decide +kernel
theorem dX0_functor_17 : decode cX0_functor 17 = .ok (.astore 4, 2) := by decide +kernel
theorem dX0_functor_19 : decode cX0_functor 19 = .ok (.iconst 2, 1) := by decide +kernel
theorem dX0_functor_20 : decode cX0_functor 20 = .ok (.ireturn, 1) := by decide +kernel
theorem dX0_functor_21 : decode cX0_functor 21 = .ok (.iconst 0, 1) := by decide +kernel
theorem dX0_functor_22 : decode cX0_functor 22 = .ok (.ireturn, 1) := by decide +kernel
abbrev cX0_predicate : ByteArray := method_6_code
def yX0_predicate : MethodName := ⟨RX0, "predicate", "(LRoundCheck;I[J)I"⟩
theorem dX0_predicate_0 : decode cX0_predicate 0 = .ok (.aload_n 2, 1) := by decide +kernel
theorem dX0_predicate_1 : decode cX0_predicate 1 = .ok (.iconst 0, 1) := by decide +kernel
theorem dX0_predicate_2 : decode cX0_predicate 2 = .ok (.aload_n 0, 1) := by decide +kernel
theorem dX0_predicate_3 : decode cX0_predicate 3 = .ok (.iload_n 1, 1) := by decide +kernel
theorem dX0_predicate_4 : decode cX0_predicate 4 = .ok (.invokevirtual 25, 3) := by decide +kernel
theorem dX0_predicate_7 : decode cX0_predicate 7 = .ok (.i2l, 1) := by decide +kernel
theorem dX0_predicate_8 : decode cX0_predicate 8 = .ok (.lastore, 1) := by decide +kernel
theorem dX0_predicate_9 : decode cX0_predicate 9 = .ok (.goto 9, 3) := by decide +kernel
theorem dX0_predicate_12 : decode cX0_predicate 12 = .ok (.astore_n 3, 1) := by decide +kernel
theorem dX0_predicate_13 : decode cX0_predicate 13 = .ok (.iconst 1, 1) := by decide +kernel
theorem dX0_predicate_14 : decode cX0_predicate 14 = .ok (.ireturn, 1) := by decide +kernel
theorem dX0_predicate_15 : decode cX0_predicate 15 = .ok (.astore_n 3, 1) := by decide +kernel
theorem dX0_predicate_16 : decode cX0_predicate 16 = .ok (.iconst 2, 1) := by decide +kernel
theorem dX0_predicate_17 : decode cX0_predicate 17 = .ok (.ireturn, 1) := by decide +kernel
theorem dX0_predicate_18 : decode cX0_predicate 18 = .ok (.iconst 0, 1) := by decide +kernel
theorem dX0_predicate_19 : decode cX0_predicate 19 = .ok (.ireturn, 1) := by decide +kernel
abbrev cX0_type : ByteArray := method_7_code
def yX0_type : MethodName := ⟨RX0, "type", "(LRoundCheck;III[J)I"⟩
theorem dX0_type_0 : decode cX0_type 0 = .ok (.aload 4, 2) := by decide +kernel
theorem dX0_type_2 : decode cX0_type 2 = .ok (.iconst 0, 1) := by decide +kernel
theorem dX0_type_3 : decode cX0_type 3 = .ok (.aload_n 0, 1) := by decide +kernel
theorem dX0_type_4 : decode cX0_type 4 = .ok (.iload_n 1, 1) := by decide +kernel
theorem dX0_type_5 : decode cX0_type 5 = .ok (.iload_n 2, 1) := by decide +kernel
theorem dX0_type_6 : decode cX0_type 6 = .ok (.iload_n 3, 1) := by decide +kernel
theorem dX0_type_7 : decode cX0_type 7 = .ok (.invokevirtual 29, 3) := by decide +kernel
theorem dX0_type_10 : decode cX0_type 10 = .ok (.i2l, 1) := by decide +kernel
theorem dX0_type_11 : decode cX0_type 11 = .ok (.lastore, 1) := by decide +kernel
theorem dX0_type_12 : decode cX0_type 12 = .ok (.goto 11, 3) := by decide +kernel
theorem dX0_type_15 : decode cX0_type 15 = .ok (.astore 5, 2) := by decide +kernel
theorem dX0_type_17 : decode cX0_type 17 = .ok (.iconst 1, 1) := by decide +kernel
theorem dX0_type_18 : decode cX0_type 18 = .ok (.ireturn, 1) := by decide +kernel
theorem dX0_type_19 : decode cX0_type 19 = .ok (.astore 5, 2) := by decide +kernel
theorem dX0_type_21 : decode cX0_type 21 = .ok (.iconst 2, 1) := by decide +kernel
theorem dX0_type_22 : decode cX0_type 22 = .ok (.ireturn, 1) := by decide +kernel
theorem dX0_type_23 : decode cX0_type 23 = .ok (.iconst 0, 1) := by decide +kernel
theorem dX0_type_24 : decode cX0_type 24 = .ok (.ireturn, 1) := by decide +kernel
abbrev cX0_constant : ByteArray := method_8_code
def yX0_constant : MethodName := ⟨RX0, "constant", "(LRoundCheck;I[J)I"⟩
theorem dX0_constant_0 : decode cX0_constant 0 = .ok (.aload_n 2, 1) := by decide +kernel
theorem dX0_constant_1 : decode cX0_constant 1 = .ok (.iconst 0, 1) := by decide +kernel
theorem dX0_constant_2 : decode cX0_constant 2 = .ok (.aload_n 0, 1) := by decide +kernel
theorem dX0_constant_3 : decode cX0_constant 3 = .ok (.iload_n 1, 1) := by decide +kernel
theorem dX0_constant_4 : decode cX0_constant 4 = .ok (.invokevirtual 33, 3) := by decide +kernel
theorem dX0_constant_7 : decode cX0_constant 7 = .ok (.i2l, 1) := by decide +kernel
theorem dX0_constant_8 : decode cX0_constant 8 = .ok (.lastore, 1) := by decide +kernel
theorem dX0_constant_9 : decode cX0_constant 9 = .ok (.goto 9, 3) := by decide +kernel
theorem dX0_constant_12 : decode cX0_constant 12 = .ok (.astore_n 3, 1) := by decide +kernel
theorem dX0_constant_13 : decode cX0_constant 13 = .ok (.iconst 1, 1) := by decide +kernel
theorem dX0_constant_14 : decode cX0_constant 14 = .ok (.ireturn, 1) := by decide +kernel
theorem dX0_constant_15 : decode cX0_constant 15 = .ok (.astore_n 3, 1) := by decide +kernel
theorem dX0_constant_16 : decode cX0_constant 16 = .ok (.iconst 2, 1) := by decide +kernel
theorem dX0_constant_17 : decode cX0_constant 17 = .ok (.ireturn, 1) := by decide +kernel
theorem dX0_constant_18 : decode cX0_constant 18 = .ok (.iconst 0, 1) := by decide +kernel
theorem dX0_constant_19 : decode cX0_constant 19 = .ok (.ireturn, 1) := by decide +kernel
abbrev cX0_locus : ByteArray := method_9_code
def yX0_locus : MethodName := ⟨RX0, "locus", "(LRoundCheck;I[J)I"⟩
theorem dX0_locus_0 : decode cX0_locus 0 = .ok (.aload_n 2, 1) := by decide +kernel
theorem dX0_locus_1 : decode cX0_locus 1 = .ok (.iconst 0, 1) := by decide +kernel
theorem dX0_locus_2 : decode cX0_locus 2 = .ok (.aload_n 0, 1) := by decide +kernel
theorem dX0_locus_3 : decode cX0_locus 3 = .ok (.iload_n 1, 1) := by decide +kernel
theorem dX0_locus_4 : decode cX0_locus 4 = .ok (.invokevirtual 36, 3) := by decide +kernel
theorem dX0_locus_7 : decode cX0_locus 7 = .ok (.i2l, 1) := by decide +kernel
theorem dX0_locus_8 : decode cX0_locus 8 = .ok (.lastore, 1) := by decide +kernel
theorem dX0_locus_9 : decode cX0_locus 9 = .ok (.goto 9, 3) := by decide +kernel
theorem dX0_locus_12 : decode cX0_locus 12 = .ok (.astore_n 3, 1) := by decide +kernel
theorem dX0_locus_13 : decode cX0_locus 13 = .ok (.iconst 1, 1) := by decide +kernel
theorem dX0_locus_14 : decode cX0_locus 14 = .ok (.ireturn, 1) := by decide +kernel
theorem dX0_locus_15 : decode cX0_locus 15 = .ok (.astore_n 3, 1) := by decide +kernel
theorem dX0_locus_16 : decode cX0_locus 16 = .ok (.iconst 2, 1) := by decide +kernel
theorem dX0_locus_17 : decode cX0_locus 17 = .ok (.ireturn, 1) := by decide +kernel
theorem dX0_locus_18 : decode cX0_locus 18 = .ok (.iconst 0, 1) := by decide +kernel
theorem dX0_locus_19 : decode cX0_locus 19 = .ok (.ireturn, 1) := by decide +kernel
abbrev cX0_apply : ByteArray := method_10_code
def yX0_apply : MethodName := ⟨RX0, "apply", "(LRoundCheck;III[J)I"⟩
theorem dX0_apply_0 : decode cX0_apply 0 = .ok (.aload 4, 2) := by decide +kernel
theorem dX0_apply_2 : decode cX0_apply 2 = .ok (.iconst 0, 1) := by decide +kernel
theorem dX0_apply_3 : decode cX0_apply 3 = .ok (.aload_n 0, 1) := by decide +kernel
theorem dX0_apply_4 : decode cX0_apply 4 = .ok (.iload_n 1, 1) := by decide +kernel
theorem dX0_apply_5 : decode cX0_apply 5 = .ok (.iload_n 2, 1) := by decide +kernel
theorem dX0_apply_6 : decode cX0_apply 6 = .ok (.iload_n 3, 1) := by decide +kernel
theorem dX0_apply_7 : decode cX0_apply 7 = .ok (.invokevirtual 39, 3) := by decide +kernel
theorem dX0_apply_10 : decode cX0_apply 10 = .ok (.i2l, 1) := by decide +kernel
theorem dX0_apply_11 : decode cX0_apply 11 = .ok (.lastore, 1) := by decide +kernel
theorem dX0_apply_12 : decode cX0_apply 12 = .ok (.goto 11, 3) := by decide +kernel
theorem dX0_apply_15 : decode cX0_apply 15 = .ok (.astore 5, 2) := by decide +kernel
theorem dX0_apply_17 : decode cX0_apply 17 = .ok (.iconst 1, 1) := by decide +kernel
theorem dX0_apply_18 : decode cX0_apply 18 = .ok (.ireturn, 1) := by decide +kernel
theorem dX0_apply_19 : decode cX0_apply 19 = .ok (.astore 5, 2) := by decide +kernel
theorem dX0_apply_21 : decode cX0_apply 21 = .ok (.iconst 2, 1) := by decide +kernel
theorem dX0_apply_22 : decode cX0_apply 22 = .ok (.ireturn, 1) := by decide +kernel
theorem dX0_apply_23 : decode cX0_apply 23 = .ok (.iconst 0, 1) := by decide +kernel
theorem dX0_apply_24 : decode cX0_apply 24 = .ok (.ireturn, 1) := by decide +kernel
abbrev cX0_the : ByteArray := method_11_code
def yX0_the : MethodName := ⟨RX0, "the", "(LRoundCheck;I[J)I"⟩
theorem dX0_the_0 : decode cX0_the 0 = .ok (.aload_n 2, 1) := by decide +kernel
theorem dX0_the_1 : decode cX0_the 1 = .ok (.iconst 0, 1) := by decide +kernel
theorem dX0_the_2 : decode cX0_the 2 = .ok (.aload_n 0, 1) := by decide +kernel
theorem dX0_the_3 : decode cX0_the 3 = .ok (.iload_n 1, 1) := by decide +kernel
theorem dX0_the_4 : decode cX0_the 4 = .ok (.invokevirtual 42, 3) := by decide +kernel
theorem dX0_the_7 : decode cX0_the 7 = .ok (.i2l, 1) := by decide +kernel
theorem dX0_the_8 : decode cX0_the 8 = .ok (.lastore, 1) := by decide +kernel
theorem dX0_the_9 : decode cX0_the 9 = .ok (.goto 9, 3) := by decide +kernel
theorem dX0_the_12 : decode cX0_the 12 = .ok (.astore_n 3, 1) := by decide +kernel
theorem dX0_the_13 : decode cX0_the 13 = .ok (.iconst 1, 1) := by decide +kernel
theorem dX0_the_14 : decode cX0_the 14 = .ok (.ireturn, 1) := by decide +kernel
theorem dX0_the_15 : decode cX0_the 15 = .ok (.astore_n 3, 1) := by decide +kernel
theorem dX0_the_16 : decode cX0_the 16 = .ok (.iconst 2, 1) := by decide +kernel
theorem dX0_the_17 : decode cX0_the 17 = .ok (.ireturn, 1) := by decide +kernel
theorem dX0_the_18 : decode cX0_the 18 = .ok (.iconst 0, 1) := by decide +kernel
theorem dX0_the_19 : decode cX0_the 19 = .ok (.ireturn, 1) := by decide +kernel
abbrev cX0_atom : ByteArray := method_12_code
def yX0_atom : MethodName := ⟨RX0, "atom", "(LRoundCheck;IIII[J)I"⟩
theorem dX0_atom_0 : decode cX0_atom 0 = .ok (.aload 5, 2) := by decide +kernel
theorem dX0_atom_2 : decode cX0_atom 2 = .ok (.iconst 0, 1) := by decide +kernel
theorem dX0_atom_3 : decode cX0_atom 3 = .ok (.aload_n 0, 1) := by decide +kernel
theorem dX0_atom_4 : decode cX0_atom 4 = .ok (.iload_n 1, 1) := by decide +kernel
theorem dX0_atom_5 : decode cX0_atom 5 = .ok (.iload_n 2, 1) := by decide +kernel
theorem dX0_atom_6 : decode cX0_atom 6 = .ok (.iload_n 3, 1) := by decide +kernel
theorem dX0_atom_7 : decode cX0_atom 7 = .ok (.iload 4, 2) := by decide +kernel
theorem dX0_atom_9 : decode cX0_atom 9 = .ok (.invokevirtual 45, 3) := by decide +kernel
theorem dX0_atom_12 : decode cX0_atom 12 = .ok (.i2l, 1) := by decide +kernel
theorem dX0_atom_13 : decode cX0_atom 13 = .ok (.lastore, 1) := by decide +kernel
theorem dX0_atom_14 : decode cX0_atom 14 = .ok (.goto 11, 3) := by decide +kernel
theorem dX0_atom_17 : decode cX0_atom 17 = .ok (.astore 6, 2) := by decide +kernel
theorem dX0_atom_19 : decode cX0_atom 19 = .ok (.iconst 1, 1) := by decide +kernel
theorem dX0_atom_20 : decode cX0_atom 20 = .ok (.ireturn, 1) := by decide +kernel
theorem dX0_atom_21 : decode cX0_atom 21 = .ok (.astore 6, 2) := by decide +kernel
theorem dX0_atom_23 : decode cX0_atom 23 = .ok (.iconst 2, 1) := by decide +kernel
theorem dX0_atom_24 : decode cX0_atom 24 = .ok (.ireturn, 1) := by decide +kernel
theorem dX0_atom_25 : decode cX0_atom 25 = .ok (.iconst 0, 1) := by decide +kernel
theorem dX0_atom_26 : decode cX0_atom 26 = .ok (.ireturn, 1) := by decide +kernel
abbrev cX0_join : ByteArray := method_13_code
def yX0_join : MethodName := ⟨RX0, "join", "(LRoundCheck;III[J)I"⟩
theorem dX0_join_0 : decode cX0_join 0 = .ok (.aload 4, 2) := by decide +kernel
theorem dX0_join_2 : decode cX0_join 2 = .ok (.iconst 0, 1) := by decide +kernel
theorem dX0_join_3 : decode cX0_join 3 = .ok (.aload_n 0, 1) := by decide +kernel
theorem dX0_join_4 : decode cX0_join 4 = .ok (.iload_n 1, 1) := by decide +kernel
theorem dX0_join_5 : decode cX0_join 5 = .ok (.iload_n 2, 1) := by decide +kernel
theorem dX0_join_6 : decode cX0_join 6 = .ok (.iload_n 3, 1) := by decide +kernel
theorem dX0_join_7 : decode cX0_join 7 = .ok (.invokevirtual 49, 3) := by decide +kernel
theorem dX0_join_10 : decode cX0_join 10 = .ok (.i2l, 1) := by decide +kernel
theorem dX0_join_11 : decode cX0_join 11 = .ok (.lastore, 1) := by decide +kernel
theorem dX0_join_12 : decode cX0_join 12 = .ok (.goto 11, 3) := by decide +kernel
theorem dX0_join_15 : decode cX0_join 15 = .ok (.astore 5, 2) := by decide +kernel
theorem dX0_join_17 : decode cX0_join 17 = .ok (.iconst 1, 1) := by decide +kernel
theorem dX0_join_18 : decode cX0_join 18 = .ok (.ireturn, 1) := by decide +kernel
theorem dX0_join_19 : decode cX0_join 19 = .ok (.astore 5, 2) := by decide +kernel
theorem dX0_join_21 : decode cX0_join 21 = .ok (.iconst 2, 1) := by decide +kernel
theorem dX0_join_22 : decode cX0_join 22 = .ok (.ireturn, 1) := by decide +kernel
theorem dX0_join_23 : decode cX0_join 23 = .ok (.iconst 0, 1) := by decide +kernel
theorem dX0_join_24 : decode cX0_join 24 = .ok (.ireturn, 1) := by decide +kernel
abbrev cX0_bind : ByteArray := method_14_code
def yX0_bind : MethodName := ⟨RX0, "bind", "(LRoundCheck;ZII[J)I"⟩
theorem dX0_bind_0 : decode cX0_bind 0 = .ok (.aload 4, 2) := by decide +kernel
theorem dX0_bind_2 : decode cX0_bind 2 = .ok (.iconst 0, 1) := by decide +kernel
theorem dX0_bind_3 : decode cX0_bind 3 = .ok (.aload_n 0, 1) := by decide +kernel
theorem dX0_bind_4 : decode cX0_bind 4 = .ok (.iload_n 1, 1) := by decide +kernel
theorem dX0_bind_5 : decode cX0_bind 5 = .ok (.iload_n 2, 1) := by decide +kernel
theorem dX0_bind_6 : decode cX0_bind 6 = .ok (.iload_n 3, 1) := by decide +kernel
theorem dX0_bind_7 : decode cX0_bind 7 = .ok (.invokevirtual 52, 3) := by decide +kernel
theorem dX0_bind_10 : decode cX0_bind 10 = .ok (.i2l, 1) := by decide +kernel
theorem dX0_bind_11 : decode cX0_bind 11 = .ok (.lastore, 1) := by decide +kernel
theorem dX0_bind_12 : decode cX0_bind 12 = .ok (.goto 11, 3) := by decide +kernel
theorem dX0_bind_15 : decode cX0_bind 15 = .ok (.astore 5, 2) := by decide +kernel
theorem dX0_bind_17 : decode cX0_bind 17 = .ok (.iconst 1, 1) := by decide +kernel
theorem dX0_bind_18 : decode cX0_bind 18 = .ok (.ireturn, 1) := by decide +kernel
theorem dX0_bind_19 : decode cX0_bind 19 = .ok (.astore 5, 2) := by decide +kernel
theorem dX0_bind_21 : decode cX0_bind 21 = .ok (.iconst 2, 1) := by decide +kernel
theorem dX0_bind_22 : decode cX0_bind 22 = .ok (.ireturn, 1) := by decide +kernel
theorem dX0_bind_23 : decode cX0_bind 23 = .ok (.iconst 0, 1) := by decide +kernel
theorem dX0_bind_24 : decode cX0_bind 24 = .ok (.ireturn, 1) := by decide +kernel
abbrev cX0_cluster : ByteArray := method_15_code
def yX0_cluster : MethodName := ⟨RX0, "cluster", "(LRoundCheck;III[J)I"⟩
theorem dX0_cluster_0 : decode cX0_cluster 0 = .ok (.aload 4, 2) := by decide +kernel
theorem dX0_cluster_2 : decode cX0_cluster 2 = .ok (.iconst 0, 1) := by decide +kernel
theorem dX0_cluster_3 : decode cX0_cluster 3 = .ok (.aload_n 0, 1) := by decide +kernel
theorem dX0_cluster_4 : decode cX0_cluster 4 = .ok (.iload_n 1, 1) := by decide +kernel
theorem dX0_cluster_5 : decode cX0_cluster 5 = .ok (.iload_n 2, 1) := by decide +kernel
theorem dX0_cluster_6 : decode cX0_cluster 6 = .ok (.iload_n 3, 1) := by decide +kernel
theorem dX0_cluster_7 : decode cX0_cluster 7 = .ok (.invokevirtual 56, 3) := by decide +kernel
theorem dX0_cluster_10 : decode cX0_cluster 10 = .ok (.i2l, 1) := by decide +kernel
theorem dX0_cluster_11 : decode cX0_cluster 11 = .ok (.lastore, 1) := by decide +kernel
theorem dX0_cluster_12 : decode cX0_cluster 12 = .ok (.goto 11, 3) := by decide +kernel
theorem dX0_cluster_15 : decode cX0_cluster 15 = .ok (.astore 5, 2) := by decide +kernel
theorem dX0_cluster_17 : decode cX0_cluster 17 = .ok (.iconst 1, 1) := by decide +kernel
theorem dX0_cluster_18 : decode cX0_cluster 18 = .ok (.ireturn, 1) := by decide +kernel
theorem dX0_cluster_19 : decode cX0_cluster 19 = .ok (.astore 5, 2) := by decide +kernel
theorem dX0_cluster_21 : decode cX0_cluster 21 = .ok (.iconst 2, 1) := by decide +kernel
theorem dX0_cluster_22 : decode cX0_cluster 22 = .ok (.ireturn, 1) := by decide +kernel
theorem dX0_cluster_23 : decode cX0_cluster 23 = .ok (.iconst 0, 1) := by decide +kernel
theorem dX0_cluster_24 : decode cX0_cluster 24 = .ok (.ireturn, 1) := by decide +kernel
abbrev cX0_gives : ByteArray := method_16_code
def yX0_gives : MethodName := ⟨RX0, "gives", "(LRoundCheck;IIII[J)I"⟩
theorem dX0_gives_0 : decode cX0_gives 0 = .ok (.aload 5, 2) := by decide +kernel
theorem dX0_gives_2 : decode cX0_gives 2 = .ok (.iconst 0, 1) := by decide +kernel
theorem dX0_gives_3 : decode cX0_gives 3 = .ok (.aload_n 0, 1) := by decide +kernel
theorem dX0_gives_4 : decode cX0_gives 4 = .ok (.iload_n 1, 1) := by decide +kernel
theorem dX0_gives_5 : decode cX0_gives 5 = .ok (.iload_n 2, 1) := by decide +kernel
theorem dX0_gives_6 : decode cX0_gives 6 = .ok (.iload_n 3, 1) := by decide +kernel
theorem dX0_gives_7 : decode cX0_gives 7 = .ok (.iload 4, 2) := by decide +kernel
theorem dX0_gives_9 : decode cX0_gives 9 = .ok (.invokevirtual 59, 3) := by decide +kernel
theorem dX0_gives_12 : decode cX0_gives 12 = .ok (.i2l, 1) := by decide +kernel
theorem dX0_gives_13 : decode cX0_gives 13 = .ok (.lastore, 1) := by decide +kernel
theorem dX0_gives_14 : decode cX0_gives 14 = .ok (.goto 11, 3) := by decide +kernel
theorem dX0_gives_17 : decode cX0_gives 17 = .ok (.astore 6, 2) := by decide +kernel
theorem dX0_gives_19 : decode cX0_gives 19 = .ok (.iconst 1, 1) := by decide +kernel
theorem dX0_gives_20 : decode cX0_gives 20 = .ok (.ireturn, 1) := by decide +kernel
theorem dX0_gives_21 : decode cX0_gives 21 = .ok (.astore 6, 2) := by decide +kernel
theorem dX0_gives_23 : decode cX0_gives 23 = .ok (.iconst 2, 1) := by decide +kernel
theorem dX0_gives_24 : decode cX0_gives 24 = .ok (.ireturn, 1) := by decide +kernel
theorem dX0_gives_25 : decode cX0_gives 25 = .ok (.iconst 0, 1) := by decide +kernel
theorem dX0_gives_26 : decode cX0_gives 26 = .ok (.ireturn, 1) := by decide +kernel
abbrev cX0_reduce : ByteArray := method_17_code
def yX0_reduce : MethodName := ⟨RX0, "reduce", "(LRoundCheck;IIII[J)I"⟩
theorem dX0_reduce_0 : decode cX0_reduce 0 = .ok (.aload 5, 2) := by decide +kernel
theorem dX0_reduce_2 : decode cX0_reduce 2 = .ok (.iconst 0, 1) := by decide +kernel
theorem dX0_reduce_3 : decode cX0_reduce 3 = .ok (.aload_n 0, 1) := by decide +kernel
theorem dX0_reduce_4 : decode cX0_reduce 4 = .ok (.iload_n 1, 1) := by decide +kernel
theorem dX0_reduce_5 : decode cX0_reduce 5 = .ok (.iload_n 2, 1) := by decide +kernel
theorem dX0_reduce_6 : decode cX0_reduce 6 = .ok (.iload_n 3, 1) := by decide +kernel
theorem dX0_reduce_7 : decode cX0_reduce 7 = .ok (.iload 4, 2) := by decide +kernel
theorem dX0_reduce_9 : decode cX0_reduce 9 = .ok (.invokevirtual 62, 3) := by decide +kernel
theorem dX0_reduce_12 : decode cX0_reduce 12 = .ok (.i2l, 1) := by decide +kernel
theorem dX0_reduce_13 : decode cX0_reduce 13 = .ok (.lastore, 1) := by decide +kernel
theorem dX0_reduce_14 : decode cX0_reduce 14 = .ok (.goto 11, 3) := by decide +kernel
theorem dX0_reduce_17 : decode cX0_reduce 17 = .ok (.astore 6, 2) := by decide +kernel
theorem dX0_reduce_19 : decode cX0_reduce 19 = .ok (.iconst 1, 1) := by decide +kernel
theorem dX0_reduce_20 : decode cX0_reduce 20 = .ok (.ireturn, 1) := by decide +kernel
theorem dX0_reduce_21 : decode cX0_reduce 21 = .ok (.astore 6, 2) := by decide +kernel
theorem dX0_reduce_23 : decode cX0_reduce 23 = .ok (.iconst 2, 1) := by decide +kernel
theorem dX0_reduce_24 : decode cX0_reduce 24 = .ok (.ireturn, 1) := by decide +kernel
theorem dX0_reduce_25 : decode cX0_reduce 25 = .ok (.iconst 0, 1) := by decide +kernel
theorem dX0_reduce_26 : decode cX0_reduce 26 = .ok (.ireturn, 1) := by decide +kernel
abbrev cX0_premise : ByteArray := method_18_code
def yX0_premise : MethodName := ⟨RX0, "premise", "(LRoundCheck;I[J)I"⟩
theorem dX0_premise_0 : decode cX0_premise 0 = .ok (.aload_n 2, 1) := by decide +kernel
theorem dX0_premise_1 : decode cX0_premise 1 = .ok (.iconst 0, 1) := by decide +kernel
theorem dX0_premise_2 : decode cX0_premise 2 = .ok (.aload_n 0, 1) := by decide +kernel
theorem dX0_premise_3 : decode cX0_premise 3 = .ok (.iload_n 1, 1) := by decide +kernel
theorem dX0_premise_4 : decode cX0_premise 4 = .ok (.invokevirtual 65, 3) := by decide +kernel
theorem dX0_premise_7 : decode cX0_premise 7 = .ok (.i2l, 1) := by decide +kernel
theorem dX0_premise_8 : decode cX0_premise 8 = .ok (.lastore, 1) := by decide +kernel
theorem dX0_premise_9 : decode cX0_premise 9 = .ok (.goto 9, 3) := by decide +kernel
theorem dX0_premise_12 : decode cX0_premise 12 = .ok (.astore_n 3, 1) := by decide +kernel
theorem dX0_premise_13 : decode cX0_premise 13 = .ok (.iconst 1, 1) := by decide +kernel
theorem dX0_premise_14 : decode cX0_premise 14 = .ok (.ireturn, 1) := by decide +kernel
theorem dX0_premise_15 : decode cX0_premise 15 = .ok (.astore_n 3, 1) := by decide +kernel
theorem dX0_premise_16 : decode cX0_premise 16 = .ok (.iconst 2, 1) := by decide +kernel
theorem dX0_premise_17 : decode cX0_premise 17 = .ok (.ireturn, 1) := by decide +kernel
theorem dX0_premise_18 : decode cX0_premise 18 = .ok (.iconst 0, 1) := by decide +kernel
theorem dX0_premise_19 : decode cX0_premise 19 = .ok (.ireturn, 1) := by decide +kernel
abbrev cX0_check : ByteArray := method_19_code
def yX0_check : MethodName := ⟨RX0, "check", "(LRoundCheck;I[J)I"⟩
theorem dX0_check_0 : decode cX0_check 0 = .ok (.aload_n 2, 1) := by decide +kernel
theorem dX0_check_1 : decode cX0_check 1 = .ok (.iconst 0, 1) := by decide +kernel
theorem dX0_check_2 : decode cX0_check 2 = .ok (.aload_n 0, 1) := by decide +kernel
theorem dX0_check_3 : decode cX0_check 3 = .ok (.iload_n 1, 1) := by decide +kernel
theorem dX0_check_4 : decode cX0_check 4 = .ok (.invokevirtual 68, 3) := by decide +kernel
theorem dX0_check_7 : decode cX0_check 7 = .ok (.i2l, 1) := by decide +kernel
theorem dX0_check_8 : decode cX0_check 8 = .ok (.lastore, 1) := by decide +kernel
theorem dX0_check_9 : decode cX0_check 9 = .ok (.goto 6, 3) := by decide +kernel
theorem dX0_check_12 : decode cX0_check 12 = .ok (.astore_n 3, 1) := by decide +kernel
theorem dX0_check_13 : decode cX0_check 13 = .ok (.iconst 1, 1) := by decide +kernel
theorem dX0_check_14 : decode cX0_check 14 = .ok (.ireturn, 1) := by decide +kernel
theorem dX0_check_15 : decode cX0_check 15 = .ok (.iconst 0, 1) := by decide +kernel
theorem dX0_check_16 : decode cX0_check 16 = .ok (.ireturn, 1) := by decide +kernel
abbrev cX0_fits : ByteArray := method_20_code
def yX0_fits : MethodName := ⟨RX0, "fits", "(LRoundCheck;II[J)I"⟩
theorem dX0_fits_0 : decode cX0_fits 0 = .ok (.aload_n 3, 1) := by decide +kernel
theorem dX0_fits_1 : decode cX0_fits 1 = .ok (.iconst 0, 1) := by decide +kernel
theorem dX0_fits_2 : decode cX0_fits 2 = .ok (.aload_n 0, 1) := by decide +kernel
theorem dX0_fits_3 : decode cX0_fits 3 = .ok (.iload_n 1, 1) := by decide +kernel
theorem dX0_fits_4 : decode cX0_fits 4 = .ok (.iload_n 2, 1) := by decide +kernel
theorem dX0_fits_5 : decode cX0_fits 5 = .ok (.invokevirtual 71, 3) := by decide +kernel
theorem dX0_fits_8 : decode cX0_fits 8 = .ok (.ifCond .eq 7, 3) := by decide +kernel
theorem dX0_fits_11 : decode cX0_fits 11 = .ok (.lconst 1, 1) := by decide +kernel
theorem dX0_fits_12 : decode cX0_fits 12 = .ok (.goto 4, 3) := by decide +kernel
theorem dX0_fits_15 : decode cX0_fits 15 = .ok (.lconst 0, 1) := by decide +kernel
theorem dX0_fits_16 : decode cX0_fits 16 = .ok (.lastore, 1) := by decide +kernel
theorem dX0_fits_17 : decode cX0_fits 17 = .ok (.goto 7, 3) := by decide +kernel
theorem dX0_fits_20 : decode cX0_fits 20 = .ok (.astore 4, 2) := by decide +kernel
theorem dX0_fits_22 : decode cX0_fits 22 = .ok (.iconst 1, 1) := by decide +kernel
theorem dX0_fits_23 : decode cX0_fits 23 = .ok (.ireturn, 1) := by decide +kernel
theorem dX0_fits_24 : decode cX0_fits 24 = .ok (.iconst 0, 1) := by decide +kernel
theorem dX0_fits_25 : decode cX0_fits 25 = .ok (.ireturn, 1) := by decide +kernel
abbrev cX0_adjectives : ByteArray := method_21_code
def yX0_adjectives : MethodName := ⟨RX0, "adjectives", "(LRoundCheck;I[J)I"⟩
theorem dX0_adjectives_0 : decode cX0_adjectives 0 = .ok (.aload_n 2, 1) := by decide +kernel
theorem dX0_adjectives_1 : decode cX0_adjectives 1 = .ok (.iconst 0, 1) := by decide +kernel
theorem dX0_adjectives_2 : decode cX0_adjectives 2 = .ok (.aload_n 0, 1) := by decide +kernel
theorem dX0_adjectives_3 : decode cX0_adjectives 3 = .ok (.iload_n 1, 1) := by decide +kernel
theorem dX0_adjectives_4 : decode cX0_adjectives 4 = .ok (.invokevirtual 75, 3) := by decide +kernel
theorem dX0_adjectives_7 : decode cX0_adjectives 7 = .ok (.i2l, 1) := by decide +kernel
theorem dX0_adjectives_8 : decode cX0_adjectives 8 = .ok (.lastore, 1) := by decide +kernel
theorem dX0_adjectives_9 : decode cX0_adjectives 9 = .ok (.goto 6, 3) := by decide +kernel
theorem dX0_adjectives_12 : decode cX0_adjectives 12 = .ok (.astore_n 3, 1) := by decide +kernel
theorem dX0_adjectives_13 : decode cX0_adjectives 13 = .ok (.iconst 1, 1) := by decide +kernel
theorem dX0_adjectives_14 : decode cX0_adjectives 14 = .ok (.ireturn, 1) := by decide +kernel
theorem dX0_adjectives_15 : decode cX0_adjectives 15 = .ok (.iconst 0, 1) := by decide +kernel
theorem dX0_adjectives_16 : decode cX0_adjectives 16 = .ok (.ireturn, 1) := by decide +kernel
abbrev cX0_alike : ByteArray := method_22_code
def yX0_alike : MethodName := ⟨RX0, "alike", "(LRoundCheck;II[J)I"⟩
theorem dX0_alike_0 : decode cX0_alike 0 = .ok (.aload_n 3, 1) := by decide +kernel
theorem dX0_alike_1 : decode cX0_alike 1 = .ok (.iconst 0, 1) := by decide +kernel
theorem dX0_alike_2 : decode cX0_alike 2 = .ok (.aload_n 0, 1) := by decide +kernel
theorem dX0_alike_3 : decode cX0_alike 3 = .ok (.iload_n 1, 1) := by decide +kernel
theorem dX0_alike_4 : decode cX0_alike 4 = .ok (.iload_n 2, 1) := by decide +kernel
theorem dX0_alike_5 : decode cX0_alike 5 = .ok (.invokevirtual 78, 3) := by decide +kernel
theorem dX0_alike_8 : decode cX0_alike 8 = .ok (.ifCond .eq 7, 3) := by decide +kernel
theorem dX0_alike_11 : decode cX0_alike 11 = .ok (.lconst 1, 1) := by decide +kernel
theorem dX0_alike_12 : decode cX0_alike 12 = .ok (.goto 4, 3) := by decide +kernel
theorem dX0_alike_15 : decode cX0_alike 15 = .ok (.lconst 0, 1) := by decide +kernel
theorem dX0_alike_16 : decode cX0_alike 16 = .ok (.lastore, 1) := by decide +kernel
theorem dX0_alike_17 : decode cX0_alike 17 = .ok (.goto 7, 3) := by decide +kernel
theorem dX0_alike_20 : decode cX0_alike 20 = .ok (.astore 4, 2) := by decide +kernel
theorem dX0_alike_22 : decode cX0_alike 22 = .ok (.iconst 1, 1) := by decide +kernel
theorem dX0_alike_23 : decode cX0_alike 23 = .ok (.ireturn, 1) := by decide +kernel
theorem dX0_alike_24 : decode cX0_alike 24 = .ok (.iconst 0, 1) := by decide +kernel
theorem dX0_alike_25 : decode cX0_alike 25 = .ok (.ireturn, 1) := by decide +kernel
abbrev cX0_about : ByteArray := method_23_code
def yX0_about : MethodName := ⟨RX0, "about", "(LRoundCheck;II[J)I"⟩
theorem dX0_about_0 : decode cX0_about 0 = .ok (.aload_n 3, 1) := by decide +kernel
theorem dX0_about_1 : decode cX0_about 1 = .ok (.iconst 0, 1) := by decide +kernel
theorem dX0_about_2 : decode cX0_about 2 = .ok (.aload_n 0, 1) := by decide +kernel
theorem dX0_about_3 : decode cX0_about 3 = .ok (.iload_n 1, 1) := by decide +kernel
theorem dX0_about_4 : decode cX0_about 4 = .ok (.iload_n 2, 1) := by decide +kernel
theorem dX0_about_5 : decode cX0_about 5 = .ok (.invokevirtual 81, 3) := by decide +kernel
theorem dX0_about_8 : decode cX0_about 8 = .ok (.i2l, 1) := by decide +kernel
theorem dX0_about_9 : decode cX0_about 9 = .ok (.lastore, 1) := by decide +kernel
theorem dX0_about_10 : decode cX0_about 10 = .ok (.goto 7, 3) := by decide +kernel
theorem dX0_about_13 : decode cX0_about 13 = .ok (.astore 4, 2) := by decide +kernel
theorem dX0_about_15 : decode cX0_about 15 = .ok (.iconst 1, 1) := by decide +kernel
theorem dX0_about_16 : decode cX0_about 16 = .ok (.ireturn, 1) := by decide +kernel
theorem dX0_about_17 : decode cX0_about 17 = .ok (.iconst 0, 1) := by decide +kernel
theorem dX0_about_18 : decode cX0_about 18 = .ok (.ireturn, 1) := by decide +kernel
abbrev cX0_count : ByteArray := method_24_code
def yX0_count : MethodName := ⟨RX0, "count", "(LRoundCheck;I[J)I"⟩
theorem dX0_count_0 : decode cX0_count 0 = .ok (.aload_n 2, 1) := by decide +kernel
theorem dX0_count_1 : decode cX0_count 1 = .ok (.iconst 0, 1) := by decide +kernel
theorem dX0_count_2 : decode cX0_count 2 = .ok (.aload_n 0, 1) := by decide +kernel
theorem dX0_count_3 : decode cX0_count 3 = .ok (.iload_n 1, 1) := by decide +kernel
theorem dX0_count_4 : decode cX0_count 4 = .ok (.invokevirtual 84, 3) := by decide +kernel
theorem dX0_count_7 : decode cX0_count 7 = .ok (.i2l, 1) := by decide +kernel
theorem dX0_count_8 : decode cX0_count 8 = .ok (.lastore, 1) := by decide +kernel
theorem dX0_count_9 : decode cX0_count 9 = .ok (.goto 6, 3) := by decide +kernel
theorem dX0_count_12 : decode cX0_count 12 = .ok (.astore_n 3, 1) := by decide +kernel
theorem dX0_count_13 : decode cX0_count 13 = .ok (.iconst 1, 1) := by decide +kernel
theorem dX0_count_14 : decode cX0_count 14 = .ok (.ireturn, 1) := by decide +kernel
theorem dX0_count_15 : decode cX0_count 15 = .ok (.iconst 0, 1) := by decide +kernel
theorem dX0_count_16 : decode cX0_count 16 = .ok (.ireturn, 1) := by decide +kernel
theorem q162 : (Jvm.Cond.initialized "RoundCheckLaw") ∈ lw_all := lw_g (lw_at lw_m1 0 rfl) rfl
theorem q174 : (Jvm.Cond.classLink "RoundCheckLaw" (8 : Nat) "RoundCheck") ∈ lw_all := lw_g (lw_at lw_m1 12 rfl) rfl
theorem q176 : (Jvm.Cond.methodLink "RoundCheckLaw" (87 : Nat) ({ cls := "RoundCheck", name := "<init>", desc := "()V" } : Jvm.MethodName)) ∈ lw_all := lw_g (lw_at lw_m1 14 rfl) rfl
theorem q481 : (Jvm.Cond.methodLink "RoundCheckLaw" (151 : Nat) ({ cls := "RoundCheck", name := "clear", desc := "()I" } : Jvm.MethodName)) ∈ lw_all := lw_g (lw_at lw_m2 79 rfl) rfl
theorem q485 : (Jvm.Cond.methodLink "RoundCheckLaw" (91 : Nat) ({ cls := "RoundCheckLaw", name := "mode", desc := "(LRoundCheck;IZ[J)I" } : Jvm.MethodName)) ∈ lw_all := lw_g (lw_at lw_m2 83 rfl) rfl
theorem q486 : (Jvm.Cond.static ({ cls := "RoundCheckLaw", name := "mode", desc := "(LRoundCheck;IZ[J)I" } : Jvm.MethodName)) ∈ lw_all := lw_g (lw_at lw_m2 84 rfl) rfl
theorem q487 : (Jvm.Cond.codeWith ({ cls := "RoundCheckLaw", name := "mode", desc := "(LRoundCheck;IZ[J)I" } : Jvm.MethodName) method_3_code (5 : Nat) (Option.some Jvm.ClassFile.FieldType.int) [((0 : Nat), (10 : Nat), (13 : Nat), (13 : Nat)), ((0 : Nat), (10 : Nat), (17 : Nat), (15 : Nat))]) ∈ lw_all := lw_g (lw_at lw_m2 85 rfl) rfl
theorem q488 : (Jvm.Cond.classLink "RoundCheckLaw" (13 : Nat) "java/lang/IllegalArgumentException") ∈ lw_all := lw_g (lw_at lw_m2 86 rfl) rfl
theorem q489 : (Jvm.Cond.classLink "RoundCheckLaw" (15 : Nat) "java/lang/IllegalStateException") ∈ lw_all := lw_g (lw_at lw_m2 87 rfl) rfl
theorem q490 : (Jvm.Cond.methodLink "RoundCheckLaw" (7 : Nat) ({ cls := "RoundCheck", name := "mode", desc := "(IZ)I" } : Jvm.MethodName)) ∈ lw_all := lw_g (lw_at lw_m2 88 rfl) rfl
theorem q594 : (Jvm.Cond.methodLink "RoundCheckLaw" (100 : Nat) ({ cls := "RoundCheckLaw", name := "attribute", desc := "(LRoundCheck;[J)I" } : Jvm.MethodName)) ∈ lw_all := lw_g (lw_at lw_m2 192 rfl) rfl
theorem q595 : (Jvm.Cond.static ({ cls := "RoundCheckLaw", name := "attribute", desc := "(LRoundCheck;[J)I" } : Jvm.MethodName)) ∈ lw_all := lw_g (lw_at lw_m2 193 rfl) rfl
theorem q596 : (Jvm.Cond.codeWith ({ cls := "RoundCheckLaw", name := "attribute", desc := "(LRoundCheck;[J)I" } : Jvm.MethodName) method_4_code (3 : Nat) (Option.some Jvm.ClassFile.FieldType.int) [((0 : Nat), (8 : Nat), (11 : Nat), (15 : Nat))]) ∈ lw_all := lw_g (lw_at lw_m2 194 rfl) rfl
theorem q597 : (Jvm.Cond.methodLink "RoundCheckLaw" (17 : Nat) ({ cls := "RoundCheck", name := "attribute", desc := "()I" } : Jvm.MethodName)) ∈ lw_all := lw_g (lw_at lw_m2 195 rfl) rfl
theorem q601 : (Jvm.Cond.methodLink "RoundCheckLaw" (104 : Nat) ({ cls := "RoundCheckLaw", name := "functor", desc := "(LRoundCheck;II[J)I" } : Jvm.MethodName)) ∈ lw_all := lw_g (lw_at lw_m2 199 rfl) rfl
theorem q602 : (Jvm.Cond.static ({ cls := "RoundCheckLaw", name := "functor", desc := "(LRoundCheck;II[J)I" } : Jvm.MethodName)) ∈ lw_all := lw_g (lw_at lw_m2 200 rfl) rfl
theorem q603 : (Jvm.Cond.codeWith ({ cls := "RoundCheckLaw", name := "functor", desc := "(LRoundCheck;II[J)I" } : Jvm.MethodName) method_5_code (5 : Nat) (Option.some Jvm.ClassFile.FieldType.int) [((0 : Nat), (10 : Nat), (13 : Nat), (13 : Nat)), ((0 : Nat), (10 : Nat), (17 : Nat), (15 : Nat))]) ∈ lw_all := lw_g (lw_at lw_m2 201 rfl) rfl
theorem q604 : (Jvm.Cond.methodLink "RoundCheckLaw" (21 : Nat) ({ cls := "RoundCheck", name := "functor", desc := "(II)I" } : Jvm.MethodName)) ∈ lw_all := lw_g (lw_at lw_m2 202 rfl) rfl
theorem q608 : (Jvm.Cond.methodLink "RoundCheckLaw" (108 : Nat) ({ cls := "RoundCheckLaw", name := "predicate", desc := "(LRoundCheck;I[J)I" } : Jvm.MethodName)) ∈ lw_all := lw_g (lw_at lw_m2 206 rfl) rfl
theorem q609 : (Jvm.Cond.static ({ cls := "RoundCheckLaw", name := "predicate", desc := "(LRoundCheck;I[J)I" } : Jvm.MethodName)) ∈ lw_all := lw_g (lw_at lw_m2 207 rfl) rfl
theorem q610 : (Jvm.Cond.codeWith ({ cls := "RoundCheckLaw", name := "predicate", desc := "(LRoundCheck;I[J)I" } : Jvm.MethodName) method_6_code (4 : Nat) (Option.some Jvm.ClassFile.FieldType.int) [((0 : Nat), (9 : Nat), (12 : Nat), (13 : Nat)), ((0 : Nat), (9 : Nat), (15 : Nat), (15 : Nat))]) ∈ lw_all := lw_g (lw_at lw_m2 208 rfl) rfl
theorem q611 : (Jvm.Cond.methodLink "RoundCheckLaw" (25 : Nat) ({ cls := "RoundCheck", name := "predicate", desc := "(I)I" } : Jvm.MethodName)) ∈ lw_all := lw_g (lw_at lw_m2 209 rfl) rfl
theorem q615 : (Jvm.Cond.methodLink "RoundCheckLaw" (112 : Nat) ({ cls := "RoundCheckLaw", name := "type", desc := "(LRoundCheck;III[J)I" } : Jvm.MethodName)) ∈ lw_all := lw_g (lw_at lw_m2 213 rfl) rfl
theorem q616 : (Jvm.Cond.static ({ cls := "RoundCheckLaw", name := "type", desc := "(LRoundCheck;III[J)I" } : Jvm.MethodName)) ∈ lw_all := lw_g (lw_at lw_m2 214 rfl) rfl
theorem q617 : (Jvm.Cond.codeWith ({ cls := "RoundCheckLaw", name := "type", desc := "(LRoundCheck;III[J)I" } : Jvm.MethodName) method_7_code (6 : Nat) (Option.some Jvm.ClassFile.FieldType.int) [((0 : Nat), (12 : Nat), (15 : Nat), (13 : Nat)), ((0 : Nat), (12 : Nat), (19 : Nat), (15 : Nat))]) ∈ lw_all := lw_g (lw_at lw_m2 215 rfl) rfl
theorem q618 : (Jvm.Cond.methodLink "RoundCheckLaw" (29 : Nat) ({ cls := "RoundCheck", name := "type", desc := "(III)I" } : Jvm.MethodName)) ∈ lw_all := lw_g (lw_at lw_m2 216 rfl) rfl
theorem q651 : (Jvm.Cond.methodLink "RoundCheckLaw" (116 : Nat) ({ cls := "RoundCheckLaw", name := "constant", desc := "(LRoundCheck;I[J)I" } : Jvm.MethodName)) ∈ lw_all := lw_g (lw_at lw_m3 9 rfl) rfl
theorem q652 : (Jvm.Cond.static ({ cls := "RoundCheckLaw", name := "constant", desc := "(LRoundCheck;I[J)I" } : Jvm.MethodName)) ∈ lw_all := lw_g (lw_at lw_m3 10 rfl) rfl
theorem q653 : (Jvm.Cond.codeWith ({ cls := "RoundCheckLaw", name := "constant", desc := "(LRoundCheck;I[J)I" } : Jvm.MethodName) method_8_code (4 : Nat) (Option.some Jvm.ClassFile.FieldType.int) [((0 : Nat), (9 : Nat), (12 : Nat), (13 : Nat)), ((0 : Nat), (9 : Nat), (15 : Nat), (15 : Nat))]) ∈ lw_all := lw_g (lw_at lw_m3 11 rfl) rfl
theorem q654 : (Jvm.Cond.methodLink "RoundCheckLaw" (33 : Nat) ({ cls := "RoundCheck", name := "constant", desc := "(I)I" } : Jvm.MethodName)) ∈ lw_all := lw_g (lw_at lw_m3 12 rfl) rfl
theorem q667 : (Jvm.Cond.methodLink "RoundCheckLaw" (119 : Nat) ({ cls := "RoundCheckLaw", name := "locus", desc := "(LRoundCheck;I[J)I" } : Jvm.MethodName)) ∈ lw_all := lw_g (lw_at lw_m3 25 rfl) rfl
theorem q668 : (Jvm.Cond.static ({ cls := "RoundCheckLaw", name := "locus", desc := "(LRoundCheck;I[J)I" } : Jvm.MethodName)) ∈ lw_all := lw_g (lw_at lw_m3 26 rfl) rfl
theorem q669 : (Jvm.Cond.codeWith ({ cls := "RoundCheckLaw", name := "locus", desc := "(LRoundCheck;I[J)I" } : Jvm.MethodName) method_9_code (4 : Nat) (Option.some Jvm.ClassFile.FieldType.int) [((0 : Nat), (9 : Nat), (12 : Nat), (13 : Nat)), ((0 : Nat), (9 : Nat), (15 : Nat), (15 : Nat))]) ∈ lw_all := lw_g (lw_at lw_m3 27 rfl) rfl
theorem q670 : (Jvm.Cond.methodLink "RoundCheckLaw" (36 : Nat) ({ cls := "RoundCheck", name := "locus", desc := "(I)I" } : Jvm.MethodName)) ∈ lw_all := lw_g (lw_at lw_m3 28 rfl) rfl
theorem q674 : (Jvm.Cond.methodLink "RoundCheckLaw" (122 : Nat) ({ cls := "RoundCheckLaw", name := "apply", desc := "(LRoundCheck;III[J)I" } : Jvm.MethodName)) ∈ lw_all := lw_g (lw_at lw_m3 32 rfl) rfl
theorem q675 : (Jvm.Cond.static ({ cls := "RoundCheckLaw", name := "apply", desc := "(LRoundCheck;III[J)I" } : Jvm.MethodName)) ∈ lw_all := lw_g (lw_at lw_m3 33 rfl) rfl
theorem q676 : (Jvm.Cond.codeWith ({ cls := "RoundCheckLaw", name := "apply", desc := "(LRoundCheck;III[J)I" } : Jvm.MethodName) method_10_code (6 : Nat) (Option.some Jvm.ClassFile.FieldType.int) [((0 : Nat), (12 : Nat), (15 : Nat), (13 : Nat)), ((0 : Nat), (12 : Nat), (19 : Nat), (15 : Nat))]) ∈ lw_all := lw_g (lw_at lw_m3 34 rfl) rfl
theorem q677 : (Jvm.Cond.methodLink "RoundCheckLaw" (39 : Nat) ({ cls := "RoundCheck", name := "apply", desc := "(III)I" } : Jvm.MethodName)) ∈ lw_all := lw_g (lw_at lw_m3 35 rfl) rfl
theorem q685 : (Jvm.Cond.methodLink "RoundCheckLaw" (125 : Nat) ({ cls := "RoundCheckLaw", name := "the", desc := "(LRoundCheck;I[J)I" } : Jvm.MethodName)) ∈ lw_all := lw_g (lw_at lw_m3 43 rfl) rfl
theorem q686 : (Jvm.Cond.static ({ cls := "RoundCheckLaw", name := "the", desc := "(LRoundCheck;I[J)I" } : Jvm.MethodName)) ∈ lw_all := lw_g (lw_at lw_m3 44 rfl) rfl
theorem q687 : (Jvm.Cond.codeWith ({ cls := "RoundCheckLaw", name := "the", desc := "(LRoundCheck;I[J)I" } : Jvm.MethodName) method_11_code (4 : Nat) (Option.some Jvm.ClassFile.FieldType.int) [((0 : Nat), (9 : Nat), (12 : Nat), (13 : Nat)), ((0 : Nat), (9 : Nat), (15 : Nat), (15 : Nat))]) ∈ lw_all := lw_g (lw_at lw_m3 45 rfl) rfl
theorem q688 : (Jvm.Cond.methodLink "RoundCheckLaw" (42 : Nat) ({ cls := "RoundCheck", name := "the", desc := "(I)I" } : Jvm.MethodName)) ∈ lw_all := lw_g (lw_at lw_m3 46 rfl) rfl
theorem q693 : (Jvm.Cond.methodLink "RoundCheckLaw" (128 : Nat) ({ cls := "RoundCheckLaw", name := "atom", desc := "(LRoundCheck;IIII[J)I" } : Jvm.MethodName)) ∈ lw_all := lw_g (lw_at lw_m3 51 rfl) rfl
theorem q694 : (Jvm.Cond.static ({ cls := "RoundCheckLaw", name := "atom", desc := "(LRoundCheck;IIII[J)I" } : Jvm.MethodName)) ∈ lw_all := lw_g (lw_at lw_m3 52 rfl) rfl
theorem q695 : (Jvm.Cond.codeWith ({ cls := "RoundCheckLaw", name := "atom", desc := "(LRoundCheck;IIII[J)I" } : Jvm.MethodName) method_12_code (7 : Nat) (Option.some Jvm.ClassFile.FieldType.int) [((0 : Nat), (14 : Nat), (17 : Nat), (13 : Nat)), ((0 : Nat), (14 : Nat), (21 : Nat), (15 : Nat))]) ∈ lw_all := lw_g (lw_at lw_m3 53 rfl) rfl
theorem q696 : (Jvm.Cond.methodLink "RoundCheckLaw" (45 : Nat) ({ cls := "RoundCheck", name := "atom", desc := "(IIII)I" } : Jvm.MethodName)) ∈ lw_all := lw_g (lw_at lw_m3 54 rfl) rfl
theorem q708 : (Jvm.Cond.methodLink "RoundCheckLaw" (132 : Nat) ({ cls := "RoundCheckLaw", name := "join", desc := "(LRoundCheck;III[J)I" } : Jvm.MethodName)) ∈ lw_all := lw_g (lw_at lw_m3 66 rfl) rfl
theorem q709 : (Jvm.Cond.static ({ cls := "RoundCheckLaw", name := "join", desc := "(LRoundCheck;III[J)I" } : Jvm.MethodName)) ∈ lw_all := lw_g (lw_at lw_m3 67 rfl) rfl
theorem q710 : (Jvm.Cond.codeWith ({ cls := "RoundCheckLaw", name := "join", desc := "(LRoundCheck;III[J)I" } : Jvm.MethodName) method_13_code (6 : Nat) (Option.some Jvm.ClassFile.FieldType.int) [((0 : Nat), (12 : Nat), (15 : Nat), (13 : Nat)), ((0 : Nat), (12 : Nat), (19 : Nat), (15 : Nat))]) ∈ lw_all := lw_g (lw_at lw_m3 68 rfl) rfl
theorem q711 : (Jvm.Cond.methodLink "RoundCheckLaw" (49 : Nat) ({ cls := "RoundCheck", name := "join", desc := "(III)I" } : Jvm.MethodName)) ∈ lw_all := lw_g (lw_at lw_m3 69 rfl) rfl
theorem q747 : (Jvm.Cond.methodLink "RoundCheckLaw" (135 : Nat) ({ cls := "RoundCheckLaw", name := "bind", desc := "(LRoundCheck;ZII[J)I" } : Jvm.MethodName)) ∈ lw_all := lw_g (lw_at lw_m3 105 rfl) rfl
theorem q748 : (Jvm.Cond.static ({ cls := "RoundCheckLaw", name := "bind", desc := "(LRoundCheck;ZII[J)I" } : Jvm.MethodName)) ∈ lw_all := lw_g (lw_at lw_m3 106 rfl) rfl
theorem q749 : (Jvm.Cond.codeWith ({ cls := "RoundCheckLaw", name := "bind", desc := "(LRoundCheck;ZII[J)I" } : Jvm.MethodName) method_14_code (6 : Nat) (Option.some Jvm.ClassFile.FieldType.int) [((0 : Nat), (12 : Nat), (15 : Nat), (13 : Nat)), ((0 : Nat), (12 : Nat), (19 : Nat), (15 : Nat))]) ∈ lw_all := lw_g (lw_at lw_m3 107 rfl) rfl
theorem q750 : (Jvm.Cond.methodLink "RoundCheckLaw" (52 : Nat) ({ cls := "RoundCheck", name := "bind", desc := "(ZII)I" } : Jvm.MethodName)) ∈ lw_all := lw_g (lw_at lw_m3 108 rfl) rfl
theorem q766 : (Jvm.Cond.methodLink "RoundCheckLaw" (139 : Nat) ({ cls := "RoundCheckLaw", name := "cluster", desc := "(LRoundCheck;III[J)I" } : Jvm.MethodName)) ∈ lw_all := lw_g (lw_at lw_m3 124 rfl) rfl
theorem q767 : (Jvm.Cond.static ({ cls := "RoundCheckLaw", name := "cluster", desc := "(LRoundCheck;III[J)I" } : Jvm.MethodName)) ∈ lw_all := lw_g (lw_at lw_m3 125 rfl) rfl
theorem q768 : (Jvm.Cond.codeWith ({ cls := "RoundCheckLaw", name := "cluster", desc := "(LRoundCheck;III[J)I" } : Jvm.MethodName) method_15_code (6 : Nat) (Option.some Jvm.ClassFile.FieldType.int) [((0 : Nat), (12 : Nat), (15 : Nat), (13 : Nat)), ((0 : Nat), (12 : Nat), (19 : Nat), (15 : Nat))]) ∈ lw_all := lw_g (lw_at lw_m3 126 rfl) rfl
theorem q769 : (Jvm.Cond.methodLink "RoundCheckLaw" (56 : Nat) ({ cls := "RoundCheck", name := "cluster", desc := "(III)I" } : Jvm.MethodName)) ∈ lw_all := lw_g (lw_at lw_m3 127 rfl) rfl
theorem q781 : (Jvm.Cond.methodLink "RoundCheckLaw" (142 : Nat) ({ cls := "RoundCheckLaw", name := "gives", desc := "(LRoundCheck;IIII[J)I" } : Jvm.MethodName)) ∈ lw_all := lw_g (lw_at lw_m3 139 rfl) rfl
theorem q782 : (Jvm.Cond.static ({ cls := "RoundCheckLaw", name := "gives", desc := "(LRoundCheck;IIII[J)I" } : Jvm.MethodName)) ∈ lw_all := lw_g (lw_at lw_m3 140 rfl) rfl
theorem q783 : (Jvm.Cond.codeWith ({ cls := "RoundCheckLaw", name := "gives", desc := "(LRoundCheck;IIII[J)I" } : Jvm.MethodName) method_16_code (7 : Nat) (Option.some Jvm.ClassFile.FieldType.int) [((0 : Nat), (14 : Nat), (17 : Nat), (13 : Nat)), ((0 : Nat), (14 : Nat), (21 : Nat), (15 : Nat))]) ∈ lw_all := lw_g (lw_at lw_m3 141 rfl) rfl
theorem q784 : (Jvm.Cond.methodLink "RoundCheckLaw" (59 : Nat) ({ cls := "RoundCheck", name := "gives", desc := "(IIII)I" } : Jvm.MethodName)) ∈ lw_all := lw_g (lw_at lw_m3 142 rfl) rfl
theorem q792 : (Jvm.Cond.methodLink "RoundCheckLaw" (145 : Nat) ({ cls := "RoundCheckLaw", name := "reduce", desc := "(LRoundCheck;IIII[J)I" } : Jvm.MethodName)) ∈ lw_all := lw_g (lw_at lw_m3 150 rfl) rfl
theorem q793 : (Jvm.Cond.static ({ cls := "RoundCheckLaw", name := "reduce", desc := "(LRoundCheck;IIII[J)I" } : Jvm.MethodName)) ∈ lw_all := lw_g (lw_at lw_m3 151 rfl) rfl
theorem q794 : (Jvm.Cond.codeWith ({ cls := "RoundCheckLaw", name := "reduce", desc := "(LRoundCheck;IIII[J)I" } : Jvm.MethodName) method_17_code (7 : Nat) (Option.some Jvm.ClassFile.FieldType.int) [((0 : Nat), (14 : Nat), (17 : Nat), (13 : Nat)), ((0 : Nat), (14 : Nat), (21 : Nat), (15 : Nat))]) ∈ lw_all := lw_g (lw_at lw_m3 152 rfl) rfl
theorem q795 : (Jvm.Cond.methodLink "RoundCheckLaw" (62 : Nat) ({ cls := "RoundCheck", name := "reduce", desc := "(IIII)I" } : Jvm.MethodName)) ∈ lw_all := lw_g (lw_at lw_m3 153 rfl) rfl
theorem q799 : (Jvm.Cond.methodLink "RoundCheckLaw" (148 : Nat) ({ cls := "RoundCheckLaw", name := "premise", desc := "(LRoundCheck;I[J)I" } : Jvm.MethodName)) ∈ lw_all := lw_g (lw_at lw_m3 157 rfl) rfl
theorem q800 : (Jvm.Cond.static ({ cls := "RoundCheckLaw", name := "premise", desc := "(LRoundCheck;I[J)I" } : Jvm.MethodName)) ∈ lw_all := lw_g (lw_at lw_m3 158 rfl) rfl
theorem q801 : (Jvm.Cond.codeWith ({ cls := "RoundCheckLaw", name := "premise", desc := "(LRoundCheck;I[J)I" } : Jvm.MethodName) method_18_code (4 : Nat) (Option.some Jvm.ClassFile.FieldType.int) [((0 : Nat), (9 : Nat), (12 : Nat), (13 : Nat)), ((0 : Nat), (9 : Nat), (15 : Nat), (15 : Nat))]) ∈ lw_all := lw_g (lw_at lw_m3 159 rfl) rfl
theorem q802 : (Jvm.Cond.methodLink "RoundCheckLaw" (65 : Nat) ({ cls := "RoundCheck", name := "premise", desc := "(I)I" } : Jvm.MethodName)) ∈ lw_all := lw_g (lw_at lw_m3 160 rfl) rfl
theorem q806 : (Jvm.Cond.methodLink "RoundCheckLaw" (155 : Nat) ({ cls := "RoundCheckLaw", name := "check", desc := "(LRoundCheck;I[J)I" } : Jvm.MethodName)) ∈ lw_all := lw_g (lw_at lw_m3 164 rfl) rfl
theorem q807 : (Jvm.Cond.static ({ cls := "RoundCheckLaw", name := "check", desc := "(LRoundCheck;I[J)I" } : Jvm.MethodName)) ∈ lw_all := lw_g (lw_at lw_m3 165 rfl) rfl
theorem q808 : (Jvm.Cond.codeWith ({ cls := "RoundCheckLaw", name := "check", desc := "(LRoundCheck;I[J)I" } : Jvm.MethodName) method_19_code (4 : Nat) (Option.some Jvm.ClassFile.FieldType.int) [((0 : Nat), (9 : Nat), (12 : Nat), (13 : Nat))]) ∈ lw_all := lw_g (lw_at lw_m3 166 rfl) rfl
theorem q809 : (Jvm.Cond.methodLink "RoundCheckLaw" (68 : Nat) ({ cls := "RoundCheck", name := "check", desc := "(I)I" } : Jvm.MethodName)) ∈ lw_all := lw_g (lw_at lw_m3 167 rfl) rfl
theorem q1006 : (Jvm.Cond.methodLink "RoundCheckLaw" (158 : Nat) ({ cls := "RoundCheckLaw", name := "fits", desc := "(LRoundCheck;II[J)I" } : Jvm.MethodName)) ∈ lw_all := lw_g (lw_at lw_m4 124 rfl) rfl
theorem q1007 : (Jvm.Cond.static ({ cls := "RoundCheckLaw", name := "fits", desc := "(LRoundCheck;II[J)I" } : Jvm.MethodName)) ∈ lw_all := lw_g (lw_at lw_m4 125 rfl) rfl
theorem q1008 : (Jvm.Cond.codeWith ({ cls := "RoundCheckLaw", name := "fits", desc := "(LRoundCheck;II[J)I" } : Jvm.MethodName) method_20_code (5 : Nat) (Option.some Jvm.ClassFile.FieldType.int) [((0 : Nat), (17 : Nat), (20 : Nat), (13 : Nat))]) ∈ lw_all := lw_g (lw_at lw_m4 126 rfl) rfl
theorem q1009 : (Jvm.Cond.methodLink "RoundCheckLaw" (71 : Nat) ({ cls := "RoundCheck", name := "fits", desc := "(II)Z" } : Jvm.MethodName)) ∈ lw_all := lw_g (lw_at lw_m4 127 rfl) rfl
theorem q1049 : (Jvm.Cond.methodLink "RoundCheckLaw" (161 : Nat) ({ cls := "RoundCheckLaw", name := "adjectives", desc := "(LRoundCheck;I[J)I" } : Jvm.MethodName)) ∈ lw_all := lw_g (lw_at lw_m4 167 rfl) rfl
theorem q1050 : (Jvm.Cond.static ({ cls := "RoundCheckLaw", name := "adjectives", desc := "(LRoundCheck;I[J)I" } : Jvm.MethodName)) ∈ lw_all := lw_g (lw_at lw_m4 168 rfl) rfl
theorem q1051 : (Jvm.Cond.codeWith ({ cls := "RoundCheckLaw", name := "adjectives", desc := "(LRoundCheck;I[J)I" } : Jvm.MethodName) method_21_code (4 : Nat) (Option.some Jvm.ClassFile.FieldType.int) [((0 : Nat), (9 : Nat), (12 : Nat), (13 : Nat))]) ∈ lw_all := lw_g (lw_at lw_m4 169 rfl) rfl
theorem q1052 : (Jvm.Cond.methodLink "RoundCheckLaw" (75 : Nat) ({ cls := "RoundCheck", name := "adjectives", desc := "(I)I" } : Jvm.MethodName)) ∈ lw_all := lw_g (lw_at lw_m4 170 rfl) rfl
theorem q1056 : (Jvm.Cond.methodLink "RoundCheckLaw" (164 : Nat) ({ cls := "RoundCheckLaw", name := "alike", desc := "(LRoundCheck;II[J)I" } : Jvm.MethodName)) ∈ lw_all := lw_g (lw_at lw_m4 174 rfl) rfl
theorem q1057 : (Jvm.Cond.static ({ cls := "RoundCheckLaw", name := "alike", desc := "(LRoundCheck;II[J)I" } : Jvm.MethodName)) ∈ lw_all := lw_g (lw_at lw_m4 175 rfl) rfl
theorem q1058 : (Jvm.Cond.codeWith ({ cls := "RoundCheckLaw", name := "alike", desc := "(LRoundCheck;II[J)I" } : Jvm.MethodName) method_22_code (5 : Nat) (Option.some Jvm.ClassFile.FieldType.int) [((0 : Nat), (17 : Nat), (20 : Nat), (13 : Nat))]) ∈ lw_all := lw_g (lw_at lw_m4 176 rfl) rfl
theorem q1059 : (Jvm.Cond.methodLink "RoundCheckLaw" (78 : Nat) ({ cls := "RoundCheck", name := "alike", desc := "(II)Z" } : Jvm.MethodName)) ∈ lw_all := lw_g (lw_at lw_m4 177 rfl) rfl
theorem q1063 : (Jvm.Cond.methodLink "RoundCheckLaw" (167 : Nat) ({ cls := "RoundCheckLaw", name := "about", desc := "(LRoundCheck;II[J)I" } : Jvm.MethodName)) ∈ lw_all := lw_g (lw_at lw_m4 181 rfl) rfl
theorem q1064 : (Jvm.Cond.static ({ cls := "RoundCheckLaw", name := "about", desc := "(LRoundCheck;II[J)I" } : Jvm.MethodName)) ∈ lw_all := lw_g (lw_at lw_m4 182 rfl) rfl
theorem q1065 : (Jvm.Cond.codeWith ({ cls := "RoundCheckLaw", name := "about", desc := "(LRoundCheck;II[J)I" } : Jvm.MethodName) method_23_code (5 : Nat) (Option.some Jvm.ClassFile.FieldType.int) [((0 : Nat), (10 : Nat), (13 : Nat), (13 : Nat))]) ∈ lw_all := lw_g (lw_at lw_m4 183 rfl) rfl
theorem q1066 : (Jvm.Cond.methodLink "RoundCheckLaw" (81 : Nat) ({ cls := "RoundCheck", name := "about", desc := "(II)I" } : Jvm.MethodName)) ∈ lw_all := lw_g (lw_at lw_m4 184 rfl) rfl
theorem q1074 : (Jvm.Cond.methodLink "RoundCheckLaw" (170 : Nat) ({ cls := "RoundCheckLaw", name := "count", desc := "(LRoundCheck;I[J)I" } : Jvm.MethodName)) ∈ lw_all := lw_g (lw_at lw_m4 192 rfl) rfl
theorem q1075 : (Jvm.Cond.static ({ cls := "RoundCheckLaw", name := "count", desc := "(LRoundCheck;I[J)I" } : Jvm.MethodName)) ∈ lw_all := lw_g (lw_at lw_m4 193 rfl) rfl
theorem q1076 : (Jvm.Cond.codeWith ({ cls := "RoundCheckLaw", name := "count", desc := "(LRoundCheck;I[J)I" } : Jvm.MethodName) method_24_code (4 : Nat) (Option.some Jvm.ClassFile.FieldType.int) [((0 : Nat), (9 : Nat), (12 : Nat), (13 : Nat))]) ∈ lw_all := lw_g (lw_at lw_m4 194 rfl) rfl
theorem q1077 : (Jvm.Cond.methodLink "RoundCheckLaw" (84 : Nat) ({ cls := "RoundCheck", name := "count", desc := "(I)I" } : Jvm.MethodName)) ∈ lw_all := lw_g (lw_at lw_m4 195 rfl) rfl
theorem q1081 : (Jvm.Cond.methodLink "RoundCheckLaw" (97 : Nat) ({ cls := "RoundCheckModel", name := "thrown", desc := "()I" } : Jvm.MethodName)) ∈ lw_all := lw_g (lw_at lw_m4 199 rfl) rfl
theorem q1085 : (Jvm.Cond.classLink "RoundCheckLaw" (88 : Nat) "RoundCheckModel") ∈ lw_all := lw_g (lw_at lw_m4 203 rfl) rfl
theorem q1087 : (Jvm.Cond.methodLink "RoundCheckLaw" (90 : Nat) ({ cls := "RoundCheckModel", name := "<init>", desc := "()V" } : Jvm.MethodName)) ∈ lw_all := lw_g (lw_at lw_m4 205 rfl) rfl
theorem q1383 : (Jvm.Cond.methodLink "RoundCheckLaw" (96 : Nat) ({ cls := "RoundCheckModel", name := "mode", desc := "(IZ)I" } : Jvm.MethodName)) ∈ lw_all := lw_g (lw_at lw_m6 21 rfl) rfl
theorem q1411 : (Jvm.Cond.methodLink "RoundCheckLaw" (103 : Nat) ({ cls := "RoundCheckModel", name := "attribute", desc := "()I" } : Jvm.MethodName)) ∈ lw_all := lw_g (lw_at lw_m6 49 rfl) rfl
theorem q1415 : (Jvm.Cond.methodLink "RoundCheckLaw" (107 : Nat) ({ cls := "RoundCheckModel", name := "functor", desc := "(II)I" } : Jvm.MethodName)) ∈ lw_all := lw_g (lw_at lw_m6 53 rfl) rfl
theorem q1419 : (Jvm.Cond.methodLink "RoundCheckLaw" (111 : Nat) ({ cls := "RoundCheckModel", name := "predicate", desc := "(I)I" } : Jvm.MethodName)) ∈ lw_all := lw_g (lw_at lw_m6 57 rfl) rfl
theorem q1423 : (Jvm.Cond.methodLink "RoundCheckLaw" (115 : Nat) ({ cls := "RoundCheckModel", name := "type", desc := "(III)I" } : Jvm.MethodName)) ∈ lw_all := lw_g (lw_at lw_m6 61 rfl) rfl
theorem q1435 : (Jvm.Cond.methodLink "RoundCheckLaw" (118 : Nat) ({ cls := "RoundCheckModel", name := "constant", desc := "(I)I" } : Jvm.MethodName)) ∈ lw_all := lw_g (lw_at lw_m6 73 rfl) rfl
theorem q1451 : (Jvm.Cond.methodLink "RoundCheckLaw" (121 : Nat) ({ cls := "RoundCheckModel", name := "locus", desc := "(I)I" } : Jvm.MethodName)) ∈ lw_all := lw_g (lw_at lw_m6 89 rfl) rfl
theorem q1455 : (Jvm.Cond.methodLink "RoundCheckLaw" (124 : Nat) ({ cls := "RoundCheckModel", name := "apply", desc := "(III)I" } : Jvm.MethodName)) ∈ lw_all := lw_g (lw_at lw_m6 93 rfl) rfl
theorem q1459 : (Jvm.Cond.methodLink "RoundCheckLaw" (127 : Nat) ({ cls := "RoundCheckModel", name := "the", desc := "(I)I" } : Jvm.MethodName)) ∈ lw_all := lw_g (lw_at lw_m6 97 rfl) rfl
theorem q1463 : (Jvm.Cond.methodLink "RoundCheckLaw" (131 : Nat) ({ cls := "RoundCheckModel", name := "atom", desc := "(IIII)I" } : Jvm.MethodName)) ∈ lw_all := lw_g (lw_at lw_m6 101 rfl) rfl
theorem q1479 : (Jvm.Cond.methodLink "RoundCheckLaw" (134 : Nat) ({ cls := "RoundCheckModel", name := "join", desc := "(III)I" } : Jvm.MethodName)) ∈ lw_all := lw_g (lw_at lw_m6 117 rfl) rfl
theorem q1499 : (Jvm.Cond.methodLink "RoundCheckLaw" (138 : Nat) ({ cls := "RoundCheckModel", name := "bind", desc := "(ZII)I" } : Jvm.MethodName)) ∈ lw_all := lw_g (lw_at lw_m6 137 rfl) rfl
theorem q1519 : (Jvm.Cond.methodLink "RoundCheckLaw" (141 : Nat) ({ cls := "RoundCheckModel", name := "cluster", desc := "(III)I" } : Jvm.MethodName)) ∈ lw_all := lw_g (lw_at lw_m6 157 rfl) rfl
theorem q1527 : (Jvm.Cond.methodLink "RoundCheckLaw" (144 : Nat) ({ cls := "RoundCheckModel", name := "gives", desc := "(IIII)I" } : Jvm.MethodName)) ∈ lw_all := lw_g (lw_at lw_m6 165 rfl) rfl
theorem q1535 : (Jvm.Cond.methodLink "RoundCheckLaw" (147 : Nat) ({ cls := "RoundCheckModel", name := "reduce", desc := "(IIII)I" } : Jvm.MethodName)) ∈ lw_all := lw_g (lw_at lw_m6 173 rfl) rfl
theorem q1539 : (Jvm.Cond.methodLink "RoundCheckLaw" (150 : Nat) ({ cls := "RoundCheckModel", name := "premise", desc := "(I)I" } : Jvm.MethodName)) ∈ lw_all := lw_g (lw_at lw_m6 177 rfl) rfl
theorem q1543 : (Jvm.Cond.methodLink "RoundCheckLaw" (154 : Nat) ({ cls := "RoundCheckModel", name := "clear", desc := "()I" } : Jvm.MethodName)) ∈ lw_all := lw_g (lw_at lw_m6 181 rfl) rfl
theorem q1547 : (Jvm.Cond.methodLink "RoundCheckLaw" (157 : Nat) ({ cls := "RoundCheckModel", name := "check", desc := "(I)I" } : Jvm.MethodName)) ∈ lw_all := lw_g (lw_at lw_m6 185 rfl) rfl
theorem q1794 : (Jvm.Cond.methodLink "RoundCheckLaw" (160 : Nat) ({ cls := "RoundCheckModel", name := "fits", desc := "(II)Z" } : Jvm.MethodName)) ∈ lw_all := lw_g (lw_at lw_m7 192 rfl) rfl
theorem q1798 : (Jvm.Cond.methodLink "RoundCheckLaw" (163 : Nat) ({ cls := "RoundCheckModel", name := "adjectives", desc := "(I)I" } : Jvm.MethodName)) ∈ lw_all := lw_g (lw_at lw_m7 196 rfl) rfl
theorem q1802 : (Jvm.Cond.methodLink "RoundCheckLaw" (166 : Nat) ({ cls := "RoundCheckModel", name := "alike", desc := "(II)Z" } : Jvm.MethodName)) ∈ lw_all := lw_g (lw_at lw_m7 200 rfl) rfl
theorem q1806 : (Jvm.Cond.methodLink "RoundCheckLaw" (169 : Nat) ({ cls := "RoundCheckModel", name := "about", desc := "(II)I" } : Jvm.MethodName)) ∈ lw_all := lw_g (lw_at lw_m7 204 rfl) rfl
theorem q1810 : (Jvm.Cond.methodLink "RoundCheckLaw" (172 : Nat) ({ cls := "RoundCheckModel", name := "count", desc := "(I)I" } : Jvm.MethodName)) ∈ lw_all := lw_g (lw_at lw_m7 208 rfl) rfl
/-! the law's own entry -/
abbrev cL_law : ByteArray := code
theorem dL_law_0 : decode cL_law 0 = .ok (.new 8, 3) := by decide +kernel
theorem dL_law_3 : decode cL_law 3 = .ok (.dup, 1) := by decide +kernel
theorem dL_law_4 : decode cL_law 4 = .ok (.invokespecial 87, 3) := by decide +kernel
theorem dL_law_7 : decode cL_law 7 = .ok (.astore_n 1, 1) := by decide +kernel
theorem dL_law_8 : decode cL_law 8 = .ok (.new 88, 3) := by decide +kernel
theorem dL_law_11 : decode cL_law 11 = .ok (.dup, 1) := by decide +kernel
theorem dL_law_12 : decode cL_law 12 = .ok (.invokespecial 90, 3) := by decide +kernel
theorem dL_law_15 : decode cL_law 15 = .ok (.astore_n 2, 1) := by decide +kernel
theorem dL_law_16 : decode cL_law 16 = .ok (.iconst 1, 1) := by decide +kernel
theorem dL_law_17 : decode cL_law 17 = .ok (.newarray .long, 2) := by decide +kernel
theorem dL_law_19 : decode cL_law 19 = .ok (.astore_n 3, 1) := by decide +kernel
theorem dL_law_20 : decode cL_law 20 = .ok (.iconst 0, 1) := by decide +kernel
theorem dL_law_21 : decode cL_law 21 = .ok (.istore 4, 2) := by decide +kernel
theorem dL_law_23 : decode cL_law 23 = .ok (.iload 4, 2) := by decide +kernel
theorem dL_law_25 : decode cL_law 25 = .ok (.aload_n 0, 1) := by decide +kernel
theorem dL_law_26 : decode cL_law 26 = .ok (.arraylength, 1) := by decide +kernel
theorem dL_law_27 : decode cL_law 27 = .ok (.iconst 5, 1) := by decide +kernel
theorem dL_law_28 : decode cL_law 28 = .ok (.isub, 1) := by decide +kernel
theorem dL_law_29 : decode cL_law 29 = .ok (.if_icmp .gt 1688, 3) := by decide +kernel
theorem dL_law_32 : decode cL_law 32 = .ok (.aload_n 0, 1) := by decide +kernel
theorem dL_law_33 : decode cL_law 33 = .ok (.iload 4, 2) := by decide +kernel
theorem dL_law_35 : decode cL_law 35 = .ok (.iaload, 1) := by decide +kernel
theorem dL_law_36 : decode cL_law 36 = .ok (.bipush 31, 2) := by decide +kernel
theorem dL_law_38 : decode cL_law 38 = .ok (.iand, 1) := by decide +kernel
theorem dL_law_39 : decode cL_law 39 = .ok (.tableswitch 1672 0 22 #[105, 189, 233, 301, 357, 437, 493, 549, 629, 685, 777, 857, 953, 1033, 1125, 1217, 1273, 1286, 1342, 1417, 1473, 1548, 1616], 105) := by decide +kernel
theorem dL_law_144 : decode cL_law 144 = .ok (.aload_n 1, 1) := by decide +kernel
theorem dL_law_145 : decode cL_law 145 = .ok (.aload_n 0, 1) := by decide +kernel
theorem dL_law_146 : decode cL_law 146 = .ok (.iload 4, 2) := by decide +kernel
theorem dL_law_148 : decode cL_law 148 = .ok (.iconst 1, 1) := by decide +kernel
theorem dL_law_149 : decode cL_law 149 = .ok (.iadd, 1) := by decide +kernel
theorem dL_law_150 : decode cL_law 150 = .ok (.iaload, 1) := by decide +kernel
theorem dL_law_151 : decode cL_law 151 = .ok (.aload_n 0, 1) := by decide +kernel
theorem dL_law_152 : decode cL_law 152 = .ok (.iload 4, 2) := by decide +kernel
theorem dL_law_154 : decode cL_law 154 = .ok (.iconst 2, 1) := by decide +kernel
theorem dL_law_155 : decode cL_law 155 = .ok (.iadd, 1) := by decide +kernel
theorem dL_law_156 : decode cL_law 156 = .ok (.iaload, 1) := by decide +kernel
theorem dL_law_157 : decode cL_law 157 = .ok (.ifCond .eq 7, 3) := by decide +kernel
theorem dL_law_160 : decode cL_law 160 = .ok (.iconst 1, 1) := by decide +kernel
theorem dL_law_161 : decode cL_law 161 = .ok (.goto 4, 3) := by decide +kernel
theorem dL_law_164 : decode cL_law 164 = .ok (.iconst 0, 1) := by decide +kernel
theorem dL_law_165 : decode cL_law 165 = .ok (.aload_n 3, 1) := by decide +kernel
theorem dL_law_166 : decode cL_law 166 = .ok (.invokestatic 91, 3) := by decide +kernel
theorem dL_law_169 : decode cL_law 169 = .ok (.istore 5, 2) := by decide +kernel
theorem dL_law_171 : decode cL_law 171 = .ok (.aload_n 2, 1) := by decide +kernel
theorem dL_law_172 : decode cL_law 172 = .ok (.aload_n 0, 1) := by decide +kernel
theorem dL_law_173 : decode cL_law 173 = .ok (.iload 4, 2) := by decide +kernel
theorem dL_law_175 : decode cL_law 175 = .ok (.iconst 1, 1) := by decide +kernel
theorem dL_law_176 : decode cL_law 176 = .ok (.iadd, 1) := by decide +kernel
theorem dL_law_177 : decode cL_law 177 = .ok (.iaload, 1) := by decide +kernel
theorem dL_law_178 : decode cL_law 178 = .ok (.aload_n 0, 1) := by decide +kernel
theorem dL_law_179 : decode cL_law 179 = .ok (.iload 4, 2) := by decide +kernel
theorem dL_law_181 : decode cL_law 181 = .ok (.iconst 2, 1) := by decide +kernel
theorem dL_law_182 : decode cL_law 182 = .ok (.iadd, 1) := by decide +kernel
theorem dL_law_183 : decode cL_law 183 = .ok (.iaload, 1) := by decide +kernel
theorem dL_law_184 : decode cL_law 184 = .ok (.ifCond .eq 7, 3) := by decide +kernel
theorem dL_law_187 : decode cL_law 187 = .ok (.iconst 1, 1) := by decide +kernel
theorem dL_law_188 : decode cL_law 188 = .ok (.goto 4, 3) := by decide +kernel
theorem dL_law_191 : decode cL_law 191 = .ok (.iconst 0, 1) := by decide +kernel
theorem dL_law_192 : decode cL_law 192 = .ok (.invokevirtual 96, 3) := by decide +kernel
theorem dL_law_195 : decode cL_law 195 = .ok (.istore 6, 2) := by decide +kernel
theorem dL_law_197 : decode cL_law 197 = .ok (.aload_n 2, 1) := by decide +kernel
theorem dL_law_198 : decode cL_law 198 = .ok (.invokevirtual 97, 3) := by decide +kernel
theorem dL_law_201 : decode cL_law 201 = .ok (.iload 5, 2) := by decide +kernel
theorem dL_law_203 : decode cL_law 203 = .ok (.if_icmp .eq 5, 3) := by decide +kernel
theorem dL_law_206 : decode cL_law 206 = .ok (.iconst 0, 1) := by decide +kernel
theorem dL_law_207 : decode cL_law 207 = .ok (.ireturn, 1) := by decide +kernel
theorem dL_law_208 : decode cL_law 208 = .ok (.iload 5, 2) := by decide +kernel
theorem dL_law_210 : decode cL_law 210 = .ok (.ifCond .ne 15, 3) := by decide +kernel
theorem dL_law_213 : decode cL_law 213 = .ok (.aload_n 3, 1) := by decide +kernel
theorem dL_law_214 : decode cL_law 214 = .ok (.iconst 0, 1) := by decide +kernel
theorem dL_law_215 : decode cL_law 215 = .ok (.laload, 1) := by decide +kernel
theorem dL_law_216 : decode cL_law 216 = .ok (.iload 6, 2) := by decide +kernel
theorem dL_law_218 : decode cL_law 218 = .ok (.i2l, 1) := by decide +kernel
theorem dL_law_219 : decode cL_law 219 = .ok (.lcmp, 1) := by decide +kernel
theorem dL_law_220 : decode cL_law 220 = .ok (.ifCond .eq 5, 3) := by decide +kernel
theorem dL_law_223 : decode cL_law 223 = .ok (.iconst 0, 1) := by decide +kernel
theorem dL_law_224 : decode cL_law 224 = .ok (.ireturn, 1) := by decide +kernel
theorem dL_law_225 : decode cL_law 225 = .ok (.goto 1486, 3) := by decide +kernel
theorem dL_law_228 : decode cL_law 228 = .ok (.aload_n 1, 1) := by decide +kernel
theorem dL_law_229 : decode cL_law 229 = .ok (.aload_n 3, 1) := by decide +kernel
theorem dL_law_230 : decode cL_law 230 = .ok (.invokestatic 100, 3) := by decide +kernel
theorem dL_law_233 : decode cL_law 233 = .ok (.istore 5, 2) := by decide +kernel
theorem dL_law_235 : decode cL_law 235 = .ok (.aload_n 2, 1) := by decide +kernel
theorem dL_law_236 : decode cL_law 236 = .ok (.invokevirtual 103, 3) := by decide +kernel
theorem dL_law_239 : decode cL_law 239 = .ok (.istore 6, 2) := by decide +kernel
theorem dL_law_241 : decode cL_law 241 = .ok (.aload_n 2, 1) := by decide +kernel
theorem dL_law_242 : decode cL_law 242 = .ok (.invokevirtual 97, 3) := by decide +kernel
theorem dL_law_245 : decode cL_law 245 = .ok (.iload 5, 2) := by decide +kernel
theorem dL_law_247 : decode cL_law 247 = .ok (.if_icmp .eq 5, 3) := by decide +kernel
theorem dL_law_250 : decode cL_law 250 = .ok (.iconst 0, 1) := by decide +kernel
theorem dL_law_251 : decode cL_law 251 = .ok (.ireturn, 1) := by decide +kernel
theorem dL_law_252 : decode cL_law 252 = .ok (.iload 5, 2) := by decide +kernel
theorem dL_law_254 : decode cL_law 254 = .ok (.ifCond .ne 15, 3) := by decide +kernel
theorem dL_law_257 : decode cL_law 257 = .ok (.aload_n 3, 1) := by decide +kernel
theorem dL_law_258 : decode cL_law 258 = .ok (.iconst 0, 1) := by decide +kernel
theorem dL_law_259 : decode cL_law 259 = .ok (.laload, 1) := by decide +kernel
theorem dL_law_260 : decode cL_law 260 = .ok (.iload 6, 2) := by decide +kernel
theorem dL_law_262 : decode cL_law 262 = .ok (.i2l, 1) := by decide +kernel
theorem dL_law_263 : decode cL_law 263 = .ok (.lcmp, 1) := by decide +kernel
theorem dL_law_264 : decode cL_law 264 = .ok (.ifCond .eq 5, 3) := by decide +kernel
theorem dL_law_267 : decode cL_law 267 = .ok (.iconst 0, 1) := by decide +kernel
theorem dL_law_268 : decode cL_law 268 = .ok (.ireturn, 1) := by decide +kernel
theorem dL_law_269 : decode cL_law 269 = .ok (.goto 1442, 3) := by decide +kernel
theorem dL_law_272 : decode cL_law 272 = .ok (.aload_n 1, 1) := by decide +kernel
theorem dL_law_273 : decode cL_law 273 = .ok (.aload_n 0, 1) := by decide +kernel
theorem dL_law_274 : decode cL_law 274 = .ok (.iload 4, 2) := by decide +kernel
theorem dL_law_276 : decode cL_law 276 = .ok (.iconst 1, 1) := by decide +kernel
theorem dL_law_277 : decode cL_law 277 = .ok (.iadd, 1) := by decide +kernel
theorem dL_law_278 : decode cL_law 278 = .ok (.iaload, 1) := by decide +kernel
theorem dL_law_279 : decode cL_law 279 = .ok (.aload_n 0, 1) := by decide +kernel
theorem dL_law_280 : decode cL_law 280 = .ok (.iload 4, 2) := by decide +kernel
theorem dL_law_282 : decode cL_law 282 = .ok (.iconst 2, 1) := by decide +kernel
theorem dL_law_283 : decode cL_law 283 = .ok (.iadd, 1) := by decide +kernel
theorem dL_law_284 : decode cL_law 284 = .ok (.iaload, 1) := by decide +kernel
theorem dL_law_285 : decode cL_law 285 = .ok (.aload_n 3, 1) := by decide +kernel
theorem dL_law_286 : decode cL_law 286 = .ok (.invokestatic 104, 3) := by decide +kernel
theorem dL_law_289 : decode cL_law 289 = .ok (.istore 5, 2) := by decide +kernel
theorem dL_law_291 : decode cL_law 291 = .ok (.aload_n 2, 1) := by decide +kernel
theorem dL_law_292 : decode cL_law 292 = .ok (.aload_n 0, 1) := by decide +kernel
theorem dL_law_293 : decode cL_law 293 = .ok (.iload 4, 2) := by decide +kernel
theorem dL_law_295 : decode cL_law 295 = .ok (.iconst 1, 1) := by decide +kernel
theorem dL_law_296 : decode cL_law 296 = .ok (.iadd, 1) := by decide +kernel
theorem dL_law_297 : decode cL_law 297 = .ok (.iaload, 1) := by decide +kernel
theorem dL_law_298 : decode cL_law 298 = .ok (.aload_n 0, 1) := by decide +kernel
theorem dL_law_299 : decode cL_law 299 = .ok (.iload 4, 2) := by decide +kernel
theorem dL_law_301 : decode cL_law 301 = .ok (.iconst 2, 1) := by decide +kernel
theorem dL_law_302 : decode cL_law 302 = .ok (.iadd, 1) := by decide +kernel
theorem dL_law_303 : decode cL_law 303 = .ok (.iaload, 1) := by decide +kernel
theorem dL_law_304 : decode cL_law 304 = .ok (.invokevirtual 107, 3) := by decide +kernel
theorem dL_law_307 : decode cL_law 307 = .ok (.istore 6, 2) := by decide +kernel
theorem dL_law_309 : decode cL_law 309 = .ok (.aload_n 2, 1) := by decide +kernel
theorem dL_law_310 : decode cL_law 310 = .ok (.invokevirtual 97, 3) := by decide +kernel
theorem dL_law_313 : decode cL_law 313 = .ok (.iload 5, 2) := by decide +kernel
theorem dL_law_315 : decode cL_law 315 = .ok (.if_icmp .eq 5, 3) := by decide +kernel
theorem dL_law_318 : decode cL_law 318 = .ok (.iconst 0, 1) := by decide +kernel
theorem dL_law_319 : decode cL_law 319 = .ok (.ireturn, 1) := by decide +kernel
theorem dL_law_320 : decode cL_law 320 = .ok (.iload 5, 2) := by decide +kernel
theorem dL_law_322 : decode cL_law 322 = .ok (.ifCond .ne 15, 3) := by decide +kernel
theorem dL_law_325 : decode cL_law 325 = .ok (.aload_n 3, 1) := by decide +kernel
theorem dL_law_326 : decode cL_law 326 = .ok (.iconst 0, 1) := by decide +kernel
theorem dL_law_327 : decode cL_law 327 = .ok (.laload, 1) := by decide +kernel
theorem dL_law_328 : decode cL_law 328 = .ok (.iload 6, 2) := by decide +kernel
theorem dL_law_330 : decode cL_law 330 = .ok (.i2l, 1) := by decide +kernel
theorem dL_law_331 : decode cL_law 331 = .ok (.lcmp, 1) := by decide +kernel
theorem dL_law_332 : decode cL_law 332 = .ok (.ifCond .eq 5, 3) := by decide +kernel
theorem dL_law_335 : decode cL_law 335 = .ok (.iconst 0, 1) := by decide +kernel
theorem dL_law_336 : decode cL_law 336 = .ok (.ireturn, 1) := by decide +kernel
theorem dL_law_337 : decode cL_law 337 = .ok (.goto 1374, 3) := by decide +kernel
theorem dL_law_340 : decode cL_law 340 = .ok (.aload_n 1, 1) := by decide +kernel
theorem dL_law_341 : decode cL_law 341 = .ok (.aload_n 0, 1) := by decide +kernel
theorem dL_law_342 : decode cL_law 342 = .ok (.iload 4, 2) := by decide +kernel
theorem dL_law_344 : decode cL_law 344 = .ok (.iconst 1, 1) := by decide +kernel
theorem dL_law_345 : decode cL_law 345 = .ok (.iadd, 1) := by decide +kernel
theorem dL_law_346 : decode cL_law 346 = .ok (.iaload, 1) := by decide +kernel
theorem dL_law_347 : decode cL_law 347 = .ok (.aload_n 3, 1) := by decide +kernel
theorem dL_law_348 : decode cL_law 348 = .ok (.invokestatic 108, 3) := by decide +kernel
theorem dL_law_351 : decode cL_law 351 = .ok (.istore 5, 2) := by decide +kernel
theorem dL_law_353 : decode cL_law 353 = .ok (.aload_n 2, 1) := by decide +kernel
theorem dL_law_354 : decode cL_law 354 = .ok (.aload_n 0, 1) := by decide +kernel
theorem dL_law_355 : decode cL_law 355 = .ok (.iload 4, 2) := by decide +kernel
theorem dL_law_357 : decode cL_law 357 = .ok (.iconst 1, 1) := by decide +kernel
theorem dL_law_358 : decode cL_law 358 = .ok (.iadd, 1) := by decide +kernel
theorem dL_law_359 : decode cL_law 359 = .ok (.iaload, 1) := by decide +kernel
theorem dL_law_360 : decode cL_law 360 = .ok (.invokevirtual 111, 3) := by decide +kernel
theorem dL_law_363 : decode cL_law 363 = .ok (.istore 6, 2) := by decide +kernel
theorem dL_law_365 : decode cL_law 365 = .ok (.aload_n 2, 1) := by decide +kernel
theorem dL_law_366 : decode cL_law 366 = .ok (.invokevirtual 97, 3) := by decide +kernel
theorem dL_law_369 : decode cL_law 369 = .ok (.iload 5, 2) := by decide +kernel
theorem dL_law_371 : decode cL_law 371 = .ok (.if_icmp .eq 5, 3) := by decide +kernel
theorem dL_law_374 : decode cL_law 374 = .ok (.iconst 0, 1) := by decide +kernel
theorem dL_law_375 : decode cL_law 375 = .ok (.ireturn, 1) := by decide +kernel
theorem dL_law_376 : decode cL_law 376 = .ok (.iload 5, 2) := by decide +kernel
theorem dL_law_378 : decode cL_law 378 = .ok (.ifCond .ne 15, 3) := by decide +kernel
theorem dL_law_381 : decode cL_law 381 = .ok (.aload_n 3, 1) := by decide +kernel
theorem dL_law_382 : decode cL_law 382 = .ok (.iconst 0, 1) := by decide +kernel
theorem dL_law_383 : decode cL_law 383 = .ok (.laload, 1) := by decide +kernel
theorem dL_law_384 : decode cL_law 384 = .ok (.iload 6, 2) := by decide +kernel
theorem dL_law_386 : decode cL_law 386 = .ok (.i2l, 1) := by decide +kernel
theorem dL_law_387 : decode cL_law 387 = .ok (.lcmp, 1) := by decide +kernel
theorem dL_law_388 : decode cL_law 388 = .ok (.ifCond .eq 5, 3) := by decide +kernel
theorem dL_law_391 : decode cL_law 391 = .ok (.iconst 0, 1) := by decide +kernel
theorem dL_law_392 : decode cL_law 392 = .ok (.ireturn, 1) := by decide +kernel
theorem dL_law_393 : decode cL_law 393 = .ok (.goto 1318, 3) := by decide +kernel
theorem dL_law_396 : decode cL_law 396 = .ok (.aload_n 1, 1) := by decide +kernel
theorem dL_law_397 : decode cL_law 397 = .ok (.aload_n 0, 1) := by decide +kernel
theorem dL_law_398 : decode cL_law 398 = .ok (.iload 4, 2) := by decide +kernel
theorem dL_law_400 : decode cL_law 400 = .ok (.iconst 1, 1) := by decide +kernel
theorem dL_law_401 : decode cL_law 401 = .ok (.iadd, 1) := by decide +kernel
theorem dL_law_402 : decode cL_law 402 = .ok (.iaload, 1) := by decide +kernel
theorem dL_law_403 : decode cL_law 403 = .ok (.aload_n 0, 1) := by decide +kernel
theorem dL_law_404 : decode cL_law 404 = .ok (.iload 4, 2) := by decide +kernel
theorem dL_law_406 : decode cL_law 406 = .ok (.iconst 2, 1) := by decide +kernel
theorem dL_law_407 : decode cL_law 407 = .ok (.iadd, 1) := by decide +kernel
theorem dL_law_408 : decode cL_law 408 = .ok (.iaload, 1) := by decide +kernel
theorem dL_law_409 : decode cL_law 409 = .ok (.aload_n 0, 1) := by decide +kernel
theorem dL_law_410 : decode cL_law 410 = .ok (.iload 4, 2) := by decide +kernel
theorem dL_law_412 : decode cL_law 412 = .ok (.iconst 3, 1) := by decide +kernel
theorem dL_law_413 : decode cL_law 413 = .ok (.iadd, 1) := by decide +kernel
theorem dL_law_414 : decode cL_law 414 = .ok (.iaload, 1) := by decide +kernel
theorem dL_law_415 : decode cL_law 415 = .ok (.aload_n 3, 1) := by decide +kernel
theorem dL_law_416 : decode cL_law 416 = .ok (.invokestatic 112, 3) := by decide +kernel
theorem dL_law_419 : decode cL_law 419 = .ok (.istore 5, 2) := by decide +kernel
theorem dL_law_421 : decode cL_law 421 = .ok (.aload_n 2, 1) := by decide +kernel
theorem dL_law_422 : decode cL_law 422 = .ok (.aload_n 0, 1) := by decide +kernel
theorem dL_law_423 : decode cL_law 423 = .ok (.iload 4, 2) := by decide +kernel
theorem dL_law_425 : decode cL_law 425 = .ok (.iconst 1, 1) := by decide +kernel
theorem dL_law_426 : decode cL_law 426 = .ok (.iadd, 1) := by decide +kernel
theorem dL_law_427 : decode cL_law 427 = .ok (.iaload, 1) := by decide +kernel
theorem dL_law_428 : decode cL_law 428 = .ok (.aload_n 0, 1) := by decide +kernel
theorem dL_law_429 : decode cL_law 429 = .ok (.iload 4, 2) := by decide +kernel
theorem dL_law_431 : decode cL_law 431 = .ok (.iconst 2, 1) := by decide +kernel
theorem dL_law_432 : decode cL_law 432 = .ok (.iadd, 1) := by decide +kernel
theorem dL_law_433 : decode cL_law 433 = .ok (.iaload, 1) := by decide +kernel
theorem dL_law_434 : decode cL_law 434 = .ok (.aload_n 0, 1) := by decide +kernel
theorem dL_law_435 : decode cL_law 435 = .ok (.iload 4, 2) := by decide +kernel
theorem dL_law_437 : decode cL_law 437 = .ok (.iconst 3, 1) := by decide +kernel
theorem dL_law_438 : decode cL_law 438 = .ok (.iadd, 1) := by decide +kernel
theorem dL_law_439 : decode cL_law 439 = .ok (.iaload, 1) := by decide +kernel
theorem dL_law_440 : decode cL_law 440 = .ok (.invokevirtual 115, 3) := by decide +kernel
theorem dL_law_443 : decode cL_law 443 = .ok (.istore 6, 2) := by decide +kernel
theorem dL_law_445 : decode cL_law 445 = .ok (.aload_n 2, 1) := by decide +kernel
theorem dL_law_446 : decode cL_law 446 = .ok (.invokevirtual 97, 3) := by decide +kernel
theorem dL_law_449 : decode cL_law 449 = .ok (.iload 5, 2) := by decide +kernel
theorem dL_law_451 : decode cL_law 451 = .ok (.if_icmp .eq 5, 3) := by decide +kernel
theorem dL_law_454 : decode cL_law 454 = .ok (.iconst 0, 1) := by decide +kernel
theorem dL_law_455 : decode cL_law 455 = .ok (.ireturn, 1) := by decide +kernel
theorem dL_law_456 : decode cL_law 456 = .ok (.iload 5, 2) := by decide +kernel
theorem dL_law_458 : decode cL_law 458 = .ok (.ifCond .ne 15, 3) := by decide +kernel
theorem dL_law_461 : decode cL_law 461 = .ok (.aload_n 3, 1) := by decide +kernel
theorem dL_law_462 : decode cL_law 462 = .ok (.iconst 0, 1) := by decide +kernel
theorem dL_law_463 : decode cL_law 463 = .ok (.laload, 1) := by decide +kernel
theorem dL_law_464 : decode cL_law 464 = .ok (.iload 6, 2) := by decide +kernel
theorem dL_law_466 : decode cL_law 466 = .ok (.i2l, 1) := by decide +kernel
theorem dL_law_467 : decode cL_law 467 = .ok (.lcmp, 1) := by decide +kernel
theorem dL_law_468 : decode cL_law 468 = .ok (.ifCond .eq 5, 3) := by decide +kernel
theorem dL_law_471 : decode cL_law 471 = .ok (.iconst 0, 1) := by decide +kernel
theorem dL_law_472 : decode cL_law 472 = .ok (.ireturn, 1) := by decide +kernel
theorem dL_law_473 : decode cL_law 473 = .ok (.goto 1238, 3) := by decide +kernel
theorem dL_law_476 : decode cL_law 476 = .ok (.aload_n 1, 1) := by decide +kernel
theorem dL_law_477 : decode cL_law 477 = .ok (.aload_n 0, 1) := by decide +kernel
theorem dL_law_478 : decode cL_law 478 = .ok (.iload 4, 2) := by decide +kernel
theorem dL_law_480 : decode cL_law 480 = .ok (.iconst 1, 1) := by decide +kernel
theorem dL_law_481 : decode cL_law 481 = .ok (.iadd, 1) := by decide +kernel
theorem dL_law_482 : decode cL_law 482 = .ok (.iaload, 1) := by decide +kernel
theorem dL_law_483 : decode cL_law 483 = .ok (.aload_n 3, 1) := by decide +kernel
theorem dL_law_484 : decode cL_law 484 = .ok (.invokestatic 116, 3) := by decide +kernel
theorem dL_law_487 : decode cL_law 487 = .ok (.istore 5, 2) := by decide +kernel
theorem dL_law_489 : decode cL_law 489 = .ok (.aload_n 2, 1) := by decide +kernel
theorem dL_law_490 : decode cL_law 490 = .ok (.aload_n 0, 1) := by decide +kernel
theorem dL_law_491 : decode cL_law 491 = .ok (.iload 4, 2) := by decide +kernel
theorem dL_law_493 : decode cL_law 493 = .ok (.iconst 1, 1) := by decide +kernel
theorem dL_law_494 : decode cL_law 494 = .ok (.iadd, 1) := by decide +kernel
theorem dL_law_495 : decode cL_law 495 = .ok (.iaload, 1) := by decide +kernel
theorem dL_law_496 : decode cL_law 496 = .ok (.invokevirtual 118, 3) := by decide +kernel
theorem dL_law_499 : decode cL_law 499 = .ok (.istore 6, 2) := by decide +kernel
theorem dL_law_501 : decode cL_law 501 = .ok (.aload_n 2, 1) := by decide +kernel
theorem dL_law_502 : decode cL_law 502 = .ok (.invokevirtual 97, 3) := by decide +kernel
theorem dL_law_505 : decode cL_law 505 = .ok (.iload 5, 2) := by decide +kernel
theorem dL_law_507 : decode cL_law 507 = .ok (.if_icmp .eq 5, 3) := by decide +kernel
theorem dL_law_510 : decode cL_law 510 = .ok (.iconst 0, 1) := by decide +kernel
theorem dL_law_511 : decode cL_law 511 = .ok (.ireturn, 1) := by decide +kernel
theorem dL_law_512 : decode cL_law 512 = .ok (.iload 5, 2) := by decide +kernel
theorem dL_law_514 : decode cL_law 514 = .ok (.ifCond .ne 15, 3) := by decide +kernel
theorem dL_law_517 : decode cL_law 517 = .ok (.aload_n 3, 1) := by decide +kernel
theorem dL_law_518 : decode cL_law 518 = .ok (.iconst 0, 1) := by decide +kernel
theorem dL_law_519 : decode cL_law 519 = .ok (.laload, 1) := by decide +kernel
theorem dL_law_520 : decode cL_law 520 = .ok (.iload 6, 2) := by decide +kernel
theorem dL_law_522 : decode cL_law 522 = .ok (.i2l, 1) := by decide +kernel
theorem dL_law_523 : decode cL_law 523 = .ok (.lcmp, 1) := by decide +kernel
theorem dL_law_524 : decode cL_law 524 = .ok (.ifCond .eq 5, 3) := by decide +kernel
theorem dL_law_527 : decode cL_law 527 = .ok (.iconst 0, 1) := by decide +kernel
theorem dL_law_528 : decode cL_law 528 = .ok (.ireturn, 1) := by decide +kernel
theorem dL_law_529 : decode cL_law 529 = .ok (.goto 1182, 3) := by decide +kernel
theorem dL_law_532 : decode cL_law 532 = .ok (.aload_n 1, 1) := by decide +kernel
theorem dL_law_533 : decode cL_law 533 = .ok (.aload_n 0, 1) := by decide +kernel
theorem dL_law_534 : decode cL_law 534 = .ok (.iload 4, 2) := by decide +kernel
theorem dL_law_536 : decode cL_law 536 = .ok (.iconst 1, 1) := by decide +kernel
theorem dL_law_537 : decode cL_law 537 = .ok (.iadd, 1) := by decide +kernel
theorem dL_law_538 : decode cL_law 538 = .ok (.iaload, 1) := by decide +kernel
theorem dL_law_539 : decode cL_law 539 = .ok (.aload_n 3, 1) := by decide +kernel
theorem dL_law_540 : decode cL_law 540 = .ok (.invokestatic 119, 3) := by decide +kernel
theorem dL_law_543 : decode cL_law 543 = .ok (.istore 5, 2) := by decide +kernel
theorem dL_law_545 : decode cL_law 545 = .ok (.aload_n 2, 1) := by decide +kernel
theorem dL_law_546 : decode cL_law 546 = .ok (.aload_n 0, 1) := by decide +kernel
theorem dL_law_547 : decode cL_law 547 = .ok (.iload 4, 2) := by decide +kernel
theorem dL_law_549 : decode cL_law 549 = .ok (.iconst 1, 1) := by decide +kernel
theorem dL_law_550 : decode cL_law 550 = .ok (.iadd, 1) := by decide +kernel
theorem dL_law_551 : decode cL_law 551 = .ok (.iaload, 1) := by decide +kernel
theorem dL_law_552 : decode cL_law 552 = .ok (.invokevirtual 121, 3) := by decide +kernel
theorem dL_law_555 : decode cL_law 555 = .ok (.istore 6, 2) := by decide +kernel
theorem dL_law_557 : decode cL_law 557 = .ok (.aload_n 2, 1) := by decide +kernel
theorem dL_law_558 : decode cL_law 558 = .ok (.invokevirtual 97, 3) := by decide +kernel
theorem dL_law_561 : decode cL_law 561 = .ok (.iload 5, 2) := by decide +kernel
theorem dL_law_563 : decode cL_law 563 = .ok (.if_icmp .eq 5, 3) := by decide +kernel
theorem dL_law_566 : decode cL_law 566 = .ok (.iconst 0, 1) := by decide +kernel
theorem dL_law_567 : decode cL_law 567 = .ok (.ireturn, 1) := by decide +kernel
theorem dL_law_568 : decode cL_law 568 = .ok (.iload 5, 2) := by decide +kernel
theorem dL_law_570 : decode cL_law 570 = .ok (.ifCond .ne 15, 3) := by decide +kernel
theorem dL_law_573 : decode cL_law 573 = .ok (.aload_n 3, 1) := by decide +kernel
theorem dL_law_574 : decode cL_law 574 = .ok (.iconst 0, 1) := by decide +kernel
theorem dL_law_575 : decode cL_law 575 = .ok (.laload, 1) := by decide +kernel
theorem dL_law_576 : decode cL_law 576 = .ok (.iload 6, 2) := by decide +kernel
theorem dL_law_578 : decode cL_law 578 = .ok (.i2l, 1) := by decide +kernel
theorem dL_law_579 : decode cL_law 579 = .ok (.lcmp, 1) := by decide +kernel
theorem dL_law_580 : decode cL_law 580 = .ok (.ifCond .eq 5, 3) := by decide +kernel
theorem dL_law_583 : decode cL_law 583 = .ok (.iconst 0, 1) := by decide +kernel
theorem dL_law_584 : decode cL_law 584 = .ok (.ireturn, 1) := by decide +kernel
theorem dL_law_585 : decode cL_law 585 = .ok (.goto 1126, 3) := by decide +kernel
theorem dL_law_588 : decode cL_law 588 = .ok (.aload_n 1, 1) := by decide +kernel
theorem dL_law_589 : decode cL_law 589 = .ok (.aload_n 0, 1) := by decide +kernel
theorem dL_law_590 : decode cL_law 590 = .ok (.iload 4, 2) := by decide +kernel
theorem dL_law_592 : decode cL_law 592 = .ok (.iconst 1, 1) := by decide +kernel
theorem dL_law_593 : decode cL_law 593 = .ok (.iadd, 1) := by decide +kernel
theorem dL_law_594 : decode cL_law 594 = .ok (.iaload, 1) := by decide +kernel
theorem dL_law_595 : decode cL_law 595 = .ok (.aload_n 0, 1) := by decide +kernel
theorem dL_law_596 : decode cL_law 596 = .ok (.iload 4, 2) := by decide +kernel
theorem dL_law_598 : decode cL_law 598 = .ok (.iconst 2, 1) := by decide +kernel
theorem dL_law_599 : decode cL_law 599 = .ok (.iadd, 1) := by decide +kernel
theorem dL_law_600 : decode cL_law 600 = .ok (.iaload, 1) := by decide +kernel
theorem dL_law_601 : decode cL_law 601 = .ok (.aload_n 0, 1) := by decide +kernel
theorem dL_law_602 : decode cL_law 602 = .ok (.iload 4, 2) := by decide +kernel
theorem dL_law_604 : decode cL_law 604 = .ok (.iconst 3, 1) := by decide +kernel
theorem dL_law_605 : decode cL_law 605 = .ok (.iadd, 1) := by decide +kernel
theorem dL_law_606 : decode cL_law 606 = .ok (.iaload, 1) := by decide +kernel
theorem dL_law_607 : decode cL_law 607 = .ok (.aload_n 3, 1) := by decide +kernel
theorem dL_law_608 : decode cL_law 608 = .ok (.invokestatic 122, 3) := by decide +kernel
theorem dL_law_611 : decode cL_law 611 = .ok (.istore 5, 2) := by decide +kernel
theorem dL_law_613 : decode cL_law 613 = .ok (.aload_n 2, 1) := by decide +kernel
theorem dL_law_614 : decode cL_law 614 = .ok (.aload_n 0, 1) := by decide +kernel
theorem dL_law_615 : decode cL_law 615 = .ok (.iload 4, 2) := by decide +kernel
theorem dL_law_617 : decode cL_law 617 = .ok (.iconst 1, 1) := by decide +kernel
theorem dL_law_618 : decode cL_law 618 = .ok (.iadd, 1) := by decide +kernel
theorem dL_law_619 : decode cL_law 619 = .ok (.iaload, 1) := by decide +kernel
theorem dL_law_620 : decode cL_law 620 = .ok (.aload_n 0, 1) := by decide +kernel
theorem dL_law_621 : decode cL_law 621 = .ok (.iload 4, 2) := by decide +kernel
theorem dL_law_623 : decode cL_law 623 = .ok (.iconst 2, 1) := by decide +kernel
theorem dL_law_624 : decode cL_law 624 = .ok (.iadd, 1) := by decide +kernel
theorem dL_law_625 : decode cL_law 625 = .ok (.iaload, 1) := by decide +kernel
theorem dL_law_626 : decode cL_law 626 = .ok (.aload_n 0, 1) := by decide +kernel
theorem dL_law_627 : decode cL_law 627 = .ok (.iload 4, 2) := by decide +kernel
theorem dL_law_629 : decode cL_law 629 = .ok (.iconst 3, 1) := by decide +kernel
theorem dL_law_630 : decode cL_law 630 = .ok (.iadd, 1) := by decide +kernel
theorem dL_law_631 : decode cL_law 631 = .ok (.iaload, 1) := by decide +kernel
theorem dL_law_632 : decode cL_law 632 = .ok (.invokevirtual 124, 3) := by decide +kernel
theorem dL_law_635 : decode cL_law 635 = .ok (.istore 6, 2) := by decide +kernel
theorem dL_law_637 : decode cL_law 637 = .ok (.aload_n 2, 1) := by decide +kernel
theorem dL_law_638 : decode cL_law 638 = .ok (.invokevirtual 97, 3) := by decide +kernel
theorem dL_law_641 : decode cL_law 641 = .ok (.iload 5, 2) := by decide +kernel
theorem dL_law_643 : decode cL_law 643 = .ok (.if_icmp .eq 5, 3) := by decide +kernel
theorem dL_law_646 : decode cL_law 646 = .ok (.iconst 0, 1) := by decide +kernel
theorem dL_law_647 : decode cL_law 647 = .ok (.ireturn, 1) := by decide +kernel
theorem dL_law_648 : decode cL_law 648 = .ok (.iload 5, 2) := by decide +kernel
theorem dL_law_650 : decode cL_law 650 = .ok (.ifCond .ne 15, 3) := by decide +kernel
theorem dL_law_653 : decode cL_law 653 = .ok (.aload_n 3, 1) := by decide +kernel
theorem dL_law_654 : decode cL_law 654 = .ok (.iconst 0, 1) := by decide +kernel
theorem dL_law_655 : decode cL_law 655 = .ok (.laload, 1) := by decide +kernel
theorem dL_law_656 : decode cL_law 656 = .ok (.iload 6, 2) := by decide +kernel
theorem dL_law_658 : decode cL_law 658 = .ok (.i2l, 1) := by decide +kernel
theorem dL_law_659 : decode cL_law 659 = .ok (.lcmp, 1) := by decide +kernel
theorem dL_law_660 : decode cL_law 660 = .ok (.ifCond .eq 5, 3) := by decide +kernel
theorem dL_law_663 : decode cL_law 663 = .ok (.iconst 0, 1) := by decide +kernel
theorem dL_law_664 : decode cL_law 664 = .ok (.ireturn, 1) := by decide +kernel
theorem dL_law_665 : decode cL_law 665 = .ok (.goto 1046, 3) := by decide +kernel
theorem dL_law_668 : decode cL_law 668 = .ok (.aload_n 1, 1) := by decide +kernel
theorem dL_law_669 : decode cL_law 669 = .ok (.aload_n 0, 1) := by decide +kernel
theorem dL_law_670 : decode cL_law 670 = .ok (.iload 4, 2) := by decide +kernel
theorem dL_law_672 : decode cL_law 672 = .ok (.iconst 1, 1) := by decide +kernel
theorem dL_law_673 : decode cL_law 673 = .ok (.iadd, 1) := by decide +kernel
theorem dL_law_674 : decode cL_law 674 = .ok (.iaload, 1) := by decide +kernel
theorem dL_law_675 : decode cL_law 675 = .ok (.aload_n 3, 1) := by decide +kernel
theorem dL_law_676 : decode cL_law 676 = .ok (.invokestatic 125, 3) := by decide +kernel
theorem dL_law_679 : decode cL_law 679 = .ok (.istore 5, 2) := by decide +kernel
theorem dL_law_681 : decode cL_law 681 = .ok (.aload_n 2, 1) := by decide +kernel
theorem dL_law_682 : decode cL_law 682 = .ok (.aload_n 0, 1) := by decide +kernel
theorem dL_law_683 : decode cL_law 683 = .ok (.iload 4, 2) := by decide +kernel
theorem dL_law_685 : decode cL_law 685 = .ok (.iconst 1, 1) := by decide +kernel
theorem dL_law_686 : decode cL_law 686 = .ok (.iadd, 1) := by decide +kernel
theorem dL_law_687 : decode cL_law 687 = .ok (.iaload, 1) := by decide +kernel
theorem dL_law_688 : decode cL_law 688 = .ok (.invokevirtual 127, 3) := by decide +kernel
theorem dL_law_691 : decode cL_law 691 = .ok (.istore 6, 2) := by decide +kernel
theorem dL_law_693 : decode cL_law 693 = .ok (.aload_n 2, 1) := by decide +kernel
theorem dL_law_694 : decode cL_law 694 = .ok (.invokevirtual 97, 3) := by decide +kernel
theorem dL_law_697 : decode cL_law 697 = .ok (.iload 5, 2) := by decide +kernel
theorem dL_law_699 : decode cL_law 699 = .ok (.if_icmp .eq 5, 3) := by decide +kernel
theorem dL_law_702 : decode cL_law 702 = .ok (.iconst 0, 1) := by decide +kernel
theorem dL_law_703 : decode cL_law 703 = .ok (.ireturn, 1) := by decide +kernel
theorem dL_law_704 : decode cL_law 704 = .ok (.iload 5, 2) := by decide +kernel
theorem dL_law_706 : decode cL_law 706 = .ok (.ifCond .ne 15, 3) := by decide +kernel
theorem dL_law_709 : decode cL_law 709 = .ok (.aload_n 3, 1) := by decide +kernel
theorem dL_law_710 : decode cL_law 710 = .ok (.iconst 0, 1) := by decide +kernel
theorem dL_law_711 : decode cL_law 711 = .ok (.laload, 1) := by decide +kernel
theorem dL_law_712 : decode cL_law 712 = .ok (.iload 6, 2) := by decide +kernel
theorem dL_law_714 : decode cL_law 714 = .ok (.i2l, 1) := by decide +kernel
theorem dL_law_715 : decode cL_law 715 = .ok (.lcmp, 1) := by decide +kernel
theorem dL_law_716 : decode cL_law 716 = .ok (.ifCond .eq 5, 3) := by decide +kernel
theorem dL_law_719 : decode cL_law 719 = .ok (.iconst 0, 1) := by decide +kernel
theorem dL_law_720 : decode cL_law 720 = .ok (.ireturn, 1) := by decide +kernel
theorem dL_law_721 : decode cL_law 721 = .ok (.goto 990, 3) := by decide +kernel
theorem dL_law_724 : decode cL_law 724 = .ok (.aload_n 1, 1) := by decide +kernel
theorem dL_law_725 : decode cL_law 725 = .ok (.aload_n 0, 1) := by decide +kernel
theorem dL_law_726 : decode cL_law 726 = .ok (.iload 4, 2) := by decide +kernel
theorem dL_law_728 : decode cL_law 728 = .ok (.iconst 1, 1) := by decide +kernel
theorem dL_law_729 : decode cL_law 729 = .ok (.iadd, 1) := by decide +kernel
theorem dL_law_730 : decode cL_law 730 = .ok (.iaload, 1) := by decide +kernel
theorem dL_law_731 : decode cL_law 731 = .ok (.aload_n 0, 1) := by decide +kernel
theorem dL_law_732 : decode cL_law 732 = .ok (.iload 4, 2) := by decide +kernel
theorem dL_law_734 : decode cL_law 734 = .ok (.iconst 2, 1) := by decide +kernel
theorem dL_law_735 : decode cL_law 735 = .ok (.iadd, 1) := by decide +kernel
theorem dL_law_736 : decode cL_law 736 = .ok (.iaload, 1) := by decide +kernel
theorem dL_law_737 : decode cL_law 737 = .ok (.aload_n 0, 1) := by decide +kernel
theorem dL_law_738 : decode cL_law 738 = .ok (.iload 4, 2) := by decide +kernel
theorem dL_law_740 : decode cL_law 740 = .ok (.iconst 3, 1) := by decide +kernel
theorem dL_law_741 : decode cL_law 741 = .ok (.iadd, 1) := by decide +kernel
theorem dL_law_742 : decode cL_law 742 = .ok (.iaload, 1) := by decide +kernel
theorem dL_law_743 : decode cL_law 743 = .ok (.aload_n 0, 1) := by decide +kernel
theorem dL_law_744 : decode cL_law 744 = .ok (.iload 4, 2) := by decide +kernel
theorem dL_law_746 : decode cL_law 746 = .ok (.iconst 4, 1) := by decide +kernel
theorem dL_law_747 : decode cL_law 747 = .ok (.iadd, 1) := by decide +kernel
theorem dL_law_748 : decode cL_law 748 = .ok (.iaload, 1) := by decide +kernel
theorem dL_law_749 : decode cL_law 749 = .ok (.aload_n 3, 1) := by decide +kernel
theorem dL_law_750 : decode cL_law 750 = .ok (.invokestatic 128, 3) := by decide +kernel
theorem dL_law_753 : decode cL_law 753 = .ok (.istore 5, 2) := by decide +kernel
theorem dL_law_755 : decode cL_law 755 = .ok (.aload_n 2, 1) := by decide +kernel
theorem dL_law_756 : decode cL_law 756 = .ok (.aload_n 0, 1) := by decide +kernel
theorem dL_law_757 : decode cL_law 757 = .ok (.iload 4, 2) := by decide +kernel
theorem dL_law_759 : decode cL_law 759 = .ok (.iconst 1, 1) := by decide +kernel
theorem dL_law_760 : decode cL_law 760 = .ok (.iadd, 1) := by decide +kernel
theorem dL_law_761 : decode cL_law 761 = .ok (.iaload, 1) := by decide +kernel
theorem dL_law_762 : decode cL_law 762 = .ok (.aload_n 0, 1) := by decide +kernel
theorem dL_law_763 : decode cL_law 763 = .ok (.iload 4, 2) := by decide +kernel
theorem dL_law_765 : decode cL_law 765 = .ok (.iconst 2, 1) := by decide +kernel
theorem dL_law_766 : decode cL_law 766 = .ok (.iadd, 1) := by decide +kernel
theorem dL_law_767 : decode cL_law 767 = .ok (.iaload, 1) := by decide +kernel
theorem dL_law_768 : decode cL_law 768 = .ok (.aload_n 0, 1) := by decide +kernel
theorem dL_law_769 : decode cL_law 769 = .ok (.iload 4, 2) := by decide +kernel
theorem dL_law_771 : decode cL_law 771 = .ok (.iconst 3, 1) := by decide +kernel
theorem dL_law_772 : decode cL_law 772 = .ok (.iadd, 1) := by decide +kernel
theorem dL_law_773 : decode cL_law 773 = .ok (.iaload, 1) := by decide +kernel
theorem dL_law_774 : decode cL_law 774 = .ok (.aload_n 0, 1) := by decide +kernel
theorem dL_law_775 : decode cL_law 775 = .ok (.iload 4, 2) := by decide +kernel
theorem dL_law_777 : decode cL_law 777 = .ok (.iconst 4, 1) := by decide +kernel
theorem dL_law_778 : decode cL_law 778 = .ok (.iadd, 1) := by decide +kernel
theorem dL_law_779 : decode cL_law 779 = .ok (.iaload, 1) := by decide +kernel
theorem dL_law_780 : decode cL_law 780 = .ok (.invokevirtual 131, 3) := by decide +kernel
theorem dL_law_783 : decode cL_law 783 = .ok (.istore 6, 2) := by decide +kernel
theorem dL_law_785 : decode cL_law 785 = .ok (.aload_n 2, 1) := by decide +kernel
theorem dL_law_786 : decode cL_law 786 = .ok (.invokevirtual 97, 3) := by decide +kernel
theorem dL_law_789 : decode cL_law 789 = .ok (.iload 5, 2) := by decide +kernel
theorem dL_law_791 : decode cL_law 791 = .ok (.if_icmp .eq 5, 3) := by decide +kernel
theorem dL_law_794 : decode cL_law 794 = .ok (.iconst 0, 1) := by decide +kernel
theorem dL_law_795 : decode cL_law 795 = .ok (.ireturn, 1) := by decide +kernel
theorem dL_law_796 : decode cL_law 796 = .ok (.iload 5, 2) := by decide +kernel
theorem dL_law_798 : decode cL_law 798 = .ok (.ifCond .ne 15, 3) := by decide +kernel
theorem dL_law_801 : decode cL_law 801 = .ok (.aload_n 3, 1) := by decide +kernel
theorem dL_law_802 : decode cL_law 802 = .ok (.iconst 0, 1) := by decide +kernel
theorem dL_law_803 : decode cL_law 803 = .ok (.laload, 1) := by decide +kernel
theorem dL_law_804 : decode cL_law 804 = .ok (.iload 6, 2) := by decide +kernel
theorem dL_law_806 : decode cL_law 806 = .ok (.i2l, 1) := by decide +kernel
theorem dL_law_807 : decode cL_law 807 = .ok (.lcmp, 1) := by decide +kernel
theorem dL_law_808 : decode cL_law 808 = .ok (.ifCond .eq 5, 3) := by decide +kernel
theorem dL_law_811 : decode cL_law 811 = .ok (.iconst 0, 1) := by decide +kernel
theorem dL_law_812 : decode cL_law 812 = .ok (.ireturn, 1) := by decide +kernel
theorem dL_law_813 : decode cL_law 813 = .ok (.goto 898, 3) := by decide +kernel
theorem dL_law_816 : decode cL_law 816 = .ok (.aload_n 1, 1) := by decide +kernel
theorem dL_law_817 : decode cL_law 817 = .ok (.aload_n 0, 1) := by decide +kernel
theorem dL_law_818 : decode cL_law 818 = .ok (.iload 4, 2) := by decide +kernel
theorem dL_law_820 : decode cL_law 820 = .ok (.iconst 1, 1) := by decide +kernel
theorem dL_law_821 : decode cL_law 821 = .ok (.iadd, 1) := by decide +kernel
theorem dL_law_822 : decode cL_law 822 = .ok (.iaload, 1) := by decide +kernel
theorem dL_law_823 : decode cL_law 823 = .ok (.aload_n 0, 1) := by decide +kernel
theorem dL_law_824 : decode cL_law 824 = .ok (.iload 4, 2) := by decide +kernel
theorem dL_law_826 : decode cL_law 826 = .ok (.iconst 2, 1) := by decide +kernel
theorem dL_law_827 : decode cL_law 827 = .ok (.iadd, 1) := by decide +kernel
theorem dL_law_828 : decode cL_law 828 = .ok (.iaload, 1) := by decide +kernel
theorem dL_law_829 : decode cL_law 829 = .ok (.aload_n 0, 1) := by decide +kernel
theorem dL_law_830 : decode cL_law 830 = .ok (.iload 4, 2) := by decide +kernel
theorem dL_law_832 : decode cL_law 832 = .ok (.iconst 3, 1) := by decide +kernel
theorem dL_law_833 : decode cL_law 833 = .ok (.iadd, 1) := by decide +kernel
theorem dL_law_834 : decode cL_law 834 = .ok (.iaload, 1) := by decide +kernel
theorem dL_law_835 : decode cL_law 835 = .ok (.aload_n 3, 1) := by decide +kernel
theorem dL_law_836 : decode cL_law 836 = .ok (.invokestatic 132, 3) := by decide +kernel
theorem dL_law_839 : decode cL_law 839 = .ok (.istore 5, 2) := by decide +kernel
theorem dL_law_841 : decode cL_law 841 = .ok (.aload_n 2, 1) := by decide +kernel
theorem dL_law_842 : decode cL_law 842 = .ok (.aload_n 0, 1) := by decide +kernel
theorem dL_law_843 : decode cL_law 843 = .ok (.iload 4, 2) := by decide +kernel
theorem dL_law_845 : decode cL_law 845 = .ok (.iconst 1, 1) := by decide +kernel
theorem dL_law_846 : decode cL_law 846 = .ok (.iadd, 1) := by decide +kernel
theorem dL_law_847 : decode cL_law 847 = .ok (.iaload, 1) := by decide +kernel
theorem dL_law_848 : decode cL_law 848 = .ok (.aload_n 0, 1) := by decide +kernel
theorem dL_law_849 : decode cL_law 849 = .ok (.iload 4, 2) := by decide +kernel
theorem dL_law_851 : decode cL_law 851 = .ok (.iconst 2, 1) := by decide +kernel
theorem dL_law_852 : decode cL_law 852 = .ok (.iadd, 1) := by decide +kernel
theorem dL_law_853 : decode cL_law 853 = .ok (.iaload, 1) := by decide +kernel
theorem dL_law_854 : decode cL_law 854 = .ok (.aload_n 0, 1) := by decide +kernel
theorem dL_law_855 : decode cL_law 855 = .ok (.iload 4, 2) := by decide +kernel
theorem dL_law_857 : decode cL_law 857 = .ok (.iconst 3, 1) := by decide +kernel
theorem dL_law_858 : decode cL_law 858 = .ok (.iadd, 1) := by decide +kernel
theorem dL_law_859 : decode cL_law 859 = .ok (.iaload, 1) := by decide +kernel
theorem dL_law_860 : decode cL_law 860 = .ok (.invokevirtual 134, 3) := by decide +kernel
theorem dL_law_863 : decode cL_law 863 = .ok (.istore 6, 2) := by decide +kernel
theorem dL_law_865 : decode cL_law 865 = .ok (.aload_n 2, 1) := by decide +kernel
theorem dL_law_866 : decode cL_law 866 = .ok (.invokevirtual 97, 3) := by decide +kernel
theorem dL_law_869 : decode cL_law 869 = .ok (.iload 5, 2) := by decide +kernel
theorem dL_law_871 : decode cL_law 871 = .ok (.if_icmp .eq 5, 3) := by decide +kernel
theorem dL_law_874 : decode cL_law 874 = .ok (.iconst 0, 1) := by decide +kernel
theorem dL_law_875 : decode cL_law 875 = .ok (.ireturn, 1) := by decide +kernel
theorem dL_law_876 : decode cL_law 876 = .ok (.iload 5, 2) := by decide +kernel
theorem dL_law_878 : decode cL_law 878 = .ok (.ifCond .ne 15, 3) := by decide +kernel
theorem dL_law_881 : decode cL_law 881 = .ok (.aload_n 3, 1) := by decide +kernel
theorem dL_law_882 : decode cL_law 882 = .ok (.iconst 0, 1) := by decide +kernel
theorem dL_law_883 : decode cL_law 883 = .ok (.laload, 1) := by decide +kernel
theorem dL_law_884 : decode cL_law 884 = .ok (.iload 6, 2) := by decide +kernel
theorem dL_law_886 : decode cL_law 886 = .ok (.i2l, 1) := by decide +kernel
theorem dL_law_887 : decode cL_law 887 = .ok (.lcmp, 1) := by decide +kernel
theorem dL_law_888 : decode cL_law 888 = .ok (.ifCond .eq 5, 3) := by decide +kernel
theorem dL_law_891 : decode cL_law 891 = .ok (.iconst 0, 1) := by decide +kernel
theorem dL_law_892 : decode cL_law 892 = .ok (.ireturn, 1) := by decide +kernel
theorem dL_law_893 : decode cL_law 893 = .ok (.goto 818, 3) := by decide +kernel
theorem dL_law_896 : decode cL_law 896 = .ok (.aload_n 1, 1) := by decide +kernel
theorem dL_law_897 : decode cL_law 897 = .ok (.aload_n 0, 1) := by decide +kernel
theorem dL_law_898 : decode cL_law 898 = .ok (.iload 4, 2) := by decide +kernel
theorem dL_law_900 : decode cL_law 900 = .ok (.iconst 1, 1) := by decide +kernel
theorem dL_law_901 : decode cL_law 901 = .ok (.iadd, 1) := by decide +kernel
theorem dL_law_902 : decode cL_law 902 = .ok (.iaload, 1) := by decide +kernel
theorem dL_law_903 : decode cL_law 903 = .ok (.ifCond .eq 7, 3) := by decide +kernel
theorem dL_law_906 : decode cL_law 906 = .ok (.iconst 1, 1) := by decide +kernel
theorem dL_law_907 : decode cL_law 907 = .ok (.goto 4, 3) := by decide +kernel
theorem dL_law_910 : decode cL_law 910 = .ok (.iconst 0, 1) := by decide +kernel
theorem dL_law_911 : decode cL_law 911 = .ok (.aload_n 0, 1) := by decide +kernel
theorem dL_law_912 : decode cL_law 912 = .ok (.iload 4, 2) := by decide +kernel
theorem dL_law_914 : decode cL_law 914 = .ok (.iconst 2, 1) := by decide +kernel
theorem dL_law_915 : decode cL_law 915 = .ok (.iadd, 1) := by decide +kernel
theorem dL_law_916 : decode cL_law 916 = .ok (.iaload, 1) := by decide +kernel
theorem dL_law_917 : decode cL_law 917 = .ok (.aload_n 0, 1) := by decide +kernel
theorem dL_law_918 : decode cL_law 918 = .ok (.iload 4, 2) := by decide +kernel
theorem dL_law_920 : decode cL_law 920 = .ok (.iconst 3, 1) := by decide +kernel
theorem dL_law_921 : decode cL_law 921 = .ok (.iadd, 1) := by decide +kernel
theorem dL_law_922 : decode cL_law 922 = .ok (.iaload, 1) := by decide +kernel
theorem dL_law_923 : decode cL_law 923 = .ok (.aload_n 3, 1) := by decide +kernel
theorem dL_law_924 : decode cL_law 924 = .ok (.invokestatic 135, 3) := by decide +kernel
theorem dL_law_927 : decode cL_law 927 = .ok (.istore 5, 2) := by decide +kernel
theorem dL_law_929 : decode cL_law 929 = .ok (.aload_n 2, 1) := by decide +kernel
theorem dL_law_930 : decode cL_law 930 = .ok (.aload_n 0, 1) := by decide +kernel
theorem dL_law_931 : decode cL_law 931 = .ok (.iload 4, 2) := by decide +kernel
theorem dL_law_933 : decode cL_law 933 = .ok (.iconst 1, 1) := by decide +kernel
theorem dL_law_934 : decode cL_law 934 = .ok (.iadd, 1) := by decide +kernel
theorem dL_law_935 : decode cL_law 935 = .ok (.iaload, 1) := by decide +kernel
theorem dL_law_936 : decode cL_law 936 = .ok (.ifCond .eq 7, 3) := by decide +kernel
theorem dL_law_939 : decode cL_law 939 = .ok (.iconst 1, 1) := by decide +kernel
theorem dL_law_940 : decode cL_law 940 = .ok (.goto 4, 3) := by decide +kernel
theorem dL_law_943 : decode cL_law 943 = .ok (.iconst 0, 1) := by decide +kernel
theorem dL_law_944 : decode cL_law 944 = .ok (.aload_n 0, 1) := by decide +kernel
theorem dL_law_945 : decode cL_law 945 = .ok (.iload 4, 2) := by decide +kernel
theorem dL_law_947 : decode cL_law 947 = .ok (.iconst 2, 1) := by decide +kernel
theorem dL_law_948 : decode cL_law 948 = .ok (.iadd, 1) := by decide +kernel
theorem dL_law_949 : decode cL_law 949 = .ok (.iaload, 1) := by decide +kernel
theorem dL_law_950 : decode cL_law 950 = .ok (.aload_n 0, 1) := by decide +kernel
theorem dL_law_951 : decode cL_law 951 = .ok (.iload 4, 2) := by decide +kernel
theorem dL_law_953 : decode cL_law 953 = .ok (.iconst 3, 1) := by decide +kernel
theorem dL_law_954 : decode cL_law 954 = .ok (.iadd, 1) := by decide +kernel
theorem dL_law_955 : decode cL_law 955 = .ok (.iaload, 1) := by decide +kernel
theorem dL_law_956 : decode cL_law 956 = .ok (.invokevirtual 138, 3) := by decide +kernel
theorem dL_law_959 : decode cL_law 959 = .ok (.istore 6, 2) := by decide +kernel
theorem dL_law_961 : decode cL_law 961 = .ok (.aload_n 2, 1) := by decide +kernel
theorem dL_law_962 : decode cL_law 962 = .ok (.invokevirtual 97, 3) := by decide +kernel
theorem dL_law_965 : decode cL_law 965 = .ok (.iload 5, 2) := by decide +kernel
theorem dL_law_967 : decode cL_law 967 = .ok (.if_icmp .eq 5, 3) := by decide +kernel
theorem dL_law_970 : decode cL_law 970 = .ok (.iconst 0, 1) := by decide +kernel
theorem dL_law_971 : decode cL_law 971 = .ok (.ireturn, 1) := by decide +kernel
theorem dL_law_972 : decode cL_law 972 = .ok (.iload 5, 2) := by decide +kernel
theorem dL_law_974 : decode cL_law 974 = .ok (.ifCond .ne 15, 3) := by decide +kernel
theorem dL_law_977 : decode cL_law 977 = .ok (.aload_n 3, 1) := by decide +kernel
theorem dL_law_978 : decode cL_law 978 = .ok (.iconst 0, 1) := by decide +kernel
theorem dL_law_979 : decode cL_law 979 = .ok (.laload, 1) := by decide +kernel
theorem dL_law_980 : decode cL_law 980 = .ok (.iload 6, 2) := by decide +kernel
theorem dL_law_982 : decode cL_law 982 = .ok (.i2l, 1) := by decide +kernel
theorem dL_law_983 : decode cL_law 983 = .ok (.lcmp, 1) := by decide +kernel
theorem dL_law_984 : decode cL_law 984 = .ok (.ifCond .eq 5, 3) := by decide +kernel
theorem dL_law_987 : decode cL_law 987 = .ok (.iconst 0, 1) := by decide +kernel
theorem dL_law_988 : decode cL_law 988 = .ok (.ireturn, 1) := by decide +kernel
theorem dL_law_989 : decode cL_law 989 = .ok (.goto 722, 3) := by decide +kernel
theorem dL_law_992 : decode cL_law 992 = .ok (.aload_n 1, 1) := by decide +kernel
theorem dL_law_993 : decode cL_law 993 = .ok (.aload_n 0, 1) := by decide +kernel
theorem dL_law_994 : decode cL_law 994 = .ok (.iload 4, 2) := by decide +kernel
theorem dL_law_996 : decode cL_law 996 = .ok (.iconst 1, 1) := by decide +kernel
theorem dL_law_997 : decode cL_law 997 = .ok (.iadd, 1) := by decide +kernel
theorem dL_law_998 : decode cL_law 998 = .ok (.iaload, 1) := by decide +kernel
theorem dL_law_999 : decode cL_law 999 = .ok (.aload_n 0, 1) := by decide +kernel
theorem dL_law_1000 : decode cL_law 1000 = .ok (.iload 4, 2) := by decide +kernel
theorem dL_law_1002 : decode cL_law 1002 = .ok (.iconst 2, 1) := by decide +kernel
theorem dL_law_1003 : decode cL_law 1003 = .ok (.iadd, 1) := by decide +kernel
theorem dL_law_1004 : decode cL_law 1004 = .ok (.iaload, 1) := by decide +kernel
theorem dL_law_1005 : decode cL_law 1005 = .ok (.aload_n 0, 1) := by decide +kernel
theorem dL_law_1006 : decode cL_law 1006 = .ok (.iload 4, 2) := by decide +kernel
theorem dL_law_1008 : decode cL_law 1008 = .ok (.iconst 3, 1) := by decide +kernel
theorem dL_law_1009 : decode cL_law 1009 = .ok (.iadd, 1) := by decide +kernel
theorem dL_law_1010 : decode cL_law 1010 = .ok (.iaload, 1) := by decide +kernel
theorem dL_law_1011 : decode cL_law 1011 = .ok (.aload_n 3, 1) := by decide +kernel
theorem dL_law_1012 : decode cL_law 1012 = .ok (.invokestatic 139, 3) := by decide +kernel
theorem dL_law_1015 : decode cL_law 1015 = .ok (.istore 5, 2) := by decide +kernel
theorem dL_law_1017 : decode cL_law 1017 = .ok (.aload_n 2, 1) := by decide +kernel
theorem dL_law_1018 : decode cL_law 1018 = .ok (.aload_n 0, 1) := by decide +kernel
theorem dL_law_1019 : decode cL_law 1019 = .ok (.iload 4, 2) := by decide +kernel
theorem dL_law_1021 : decode cL_law 1021 = .ok (.iconst 1, 1) := by decide +kernel
theorem dL_law_1022 : decode cL_law 1022 = .ok (.iadd, 1) := by decide +kernel
theorem dL_law_1023 : decode cL_law 1023 = .ok (.iaload, 1) := by decide +kernel
theorem dL_law_1024 : decode cL_law 1024 = .ok (.aload_n 0, 1) := by decide +kernel
theorem dL_law_1025 : decode cL_law 1025 = .ok (.iload 4, 2) := by decide +kernel
theorem dL_law_1027 : decode cL_law 1027 = .ok (.iconst 2, 1) := by decide +kernel
theorem dL_law_1028 : decode cL_law 1028 = .ok (.iadd, 1) := by decide +kernel
theorem dL_law_1029 : decode cL_law 1029 = .ok (.iaload, 1) := by decide +kernel
theorem dL_law_1030 : decode cL_law 1030 = .ok (.aload_n 0, 1) := by decide +kernel
theorem dL_law_1031 : decode cL_law 1031 = .ok (.iload 4, 2) := by decide +kernel
theorem dL_law_1033 : decode cL_law 1033 = .ok (.iconst 3, 1) := by decide +kernel
theorem dL_law_1034 : decode cL_law 1034 = .ok (.iadd, 1) := by decide +kernel
theorem dL_law_1035 : decode cL_law 1035 = .ok (.iaload, 1) := by decide +kernel
theorem dL_law_1036 : decode cL_law 1036 = .ok (.invokevirtual 141, 3) := by decide +kernel
theorem dL_law_1039 : decode cL_law 1039 = .ok (.istore 6, 2) := by decide +kernel
theorem dL_law_1041 : decode cL_law 1041 = .ok (.aload_n 2, 1) := by decide +kernel
theorem dL_law_1042 : decode cL_law 1042 = .ok (.invokevirtual 97, 3) := by decide +kernel
theorem dL_law_1045 : decode cL_law 1045 = .ok (.iload 5, 2) := by decide +kernel
theorem dL_law_1047 : decode cL_law 1047 = .ok (.if_icmp .eq 5, 3) := by decide +kernel
theorem dL_law_1050 : decode cL_law 1050 = .ok (.iconst 0, 1) := by decide +kernel
theorem dL_law_1051 : decode cL_law 1051 = .ok (.ireturn, 1) := by decide +kernel
theorem dL_law_1052 : decode cL_law 1052 = .ok (.iload 5, 2) := by decide +kernel
theorem dL_law_1054 : decode cL_law 1054 = .ok (.ifCond .ne 15, 3) := by decide +kernel
theorem dL_law_1057 : decode cL_law 1057 = .ok (.aload_n 3, 1) := by decide +kernel
theorem dL_law_1058 : decode cL_law 1058 = .ok (.iconst 0, 1) := by decide +kernel
theorem dL_law_1059 : decode cL_law 1059 = .ok (.laload, 1) := by decide +kernel
theorem dL_law_1060 : decode cL_law 1060 = .ok (.iload 6, 2) := by decide +kernel
theorem dL_law_1062 : decode cL_law 1062 = .ok (.i2l, 1) := by decide +kernel
theorem dL_law_1063 : decode cL_law 1063 = .ok (.lcmp, 1) := by decide +kernel
theorem dL_law_1064 : decode cL_law 1064 = .ok (.ifCond .eq 5, 3) := by decide +kernel
theorem dL_law_1067 : decode cL_law 1067 = .ok (.iconst 0, 1) := by decide +kernel
theorem dL_law_1068 : decode cL_law 1068 = .ok (.ireturn, 1) := by decide +kernel
theorem dL_law_1069 : decode cL_law 1069 = .ok (.goto 642, 3) := by decide +kernel
theorem dL_law_1072 : decode cL_law 1072 = .ok (.aload_n 1, 1) := by decide +kernel
theorem dL_law_1073 : decode cL_law 1073 = .ok (.aload_n 0, 1) := by decide +kernel
theorem dL_law_1074 : decode cL_law 1074 = .ok (.iload 4, 2) := by decide +kernel
theorem dL_law_1076 : decode cL_law 1076 = .ok (.iconst 1, 1) := by decide +kernel
theorem dL_law_1077 : decode cL_law 1077 = .ok (.iadd, 1) := by decide +kernel
theorem dL_law_1078 : decode cL_law 1078 = .ok (.iaload, 1) := by decide +kernel
theorem dL_law_1079 : decode cL_law 1079 = .ok (.aload_n 0, 1) := by decide +kernel
theorem dL_law_1080 : decode cL_law 1080 = .ok (.iload 4, 2) := by decide +kernel
theorem dL_law_1082 : decode cL_law 1082 = .ok (.iconst 2, 1) := by decide +kernel
theorem dL_law_1083 : decode cL_law 1083 = .ok (.iadd, 1) := by decide +kernel
theorem dL_law_1084 : decode cL_law 1084 = .ok (.iaload, 1) := by decide +kernel
theorem dL_law_1085 : decode cL_law 1085 = .ok (.aload_n 0, 1) := by decide +kernel
theorem dL_law_1086 : decode cL_law 1086 = .ok (.iload 4, 2) := by decide +kernel
theorem dL_law_1088 : decode cL_law 1088 = .ok (.iconst 3, 1) := by decide +kernel
theorem dL_law_1089 : decode cL_law 1089 = .ok (.iadd, 1) := by decide +kernel
theorem dL_law_1090 : decode cL_law 1090 = .ok (.iaload, 1) := by decide +kernel
theorem dL_law_1091 : decode cL_law 1091 = .ok (.aload_n 0, 1) := by decide +kernel
theorem dL_law_1092 : decode cL_law 1092 = .ok (.iload 4, 2) := by decide +kernel
theorem dL_law_1094 : decode cL_law 1094 = .ok (.iconst 4, 1) := by decide +kernel
theorem dL_law_1095 : decode cL_law 1095 = .ok (.iadd, 1) := by decide +kernel
theorem dL_law_1096 : decode cL_law 1096 = .ok (.iaload, 1) := by decide +kernel
theorem dL_law_1097 : decode cL_law 1097 = .ok (.aload_n 3, 1) := by decide +kernel
theorem dL_law_1098 : decode cL_law 1098 = .ok (.invokestatic 142, 3) := by decide +kernel
theorem dL_law_1101 : decode cL_law 1101 = .ok (.istore 5, 2) := by decide +kernel
theorem dL_law_1103 : decode cL_law 1103 = .ok (.aload_n 2, 1) := by decide +kernel
theorem dL_law_1104 : decode cL_law 1104 = .ok (.aload_n 0, 1) := by decide +kernel
theorem dL_law_1105 : decode cL_law 1105 = .ok (.iload 4, 2) := by decide +kernel
theorem dL_law_1107 : decode cL_law 1107 = .ok (.iconst 1, 1) := by decide +kernel
theorem dL_law_1108 : decode cL_law 1108 = .ok (.iadd, 1) := by decide +kernel
theorem dL_law_1109 : decode cL_law 1109 = .ok (.iaload, 1) := by decide +kernel
theorem dL_law_1110 : decode cL_law 1110 = .ok (.aload_n 0, 1) := by decide +kernel
theorem dL_law_1111 : decode cL_law 1111 = .ok (.iload 4, 2) := by decide +kernel
theorem dL_law_1113 : decode cL_law 1113 = .ok (.iconst 2, 1) := by decide +kernel
theorem dL_law_1114 : decode cL_law 1114 = .ok (.iadd, 1) := by decide +kernel
theorem dL_law_1115 : decode cL_law 1115 = .ok (.iaload, 1) := by decide +kernel
theorem dL_law_1116 : decode cL_law 1116 = .ok (.aload_n 0, 1) := by decide +kernel
theorem dL_law_1117 : decode cL_law 1117 = .ok (.iload 4, 2) := by decide +kernel
theorem dL_law_1119 : decode cL_law 1119 = .ok (.iconst 3, 1) := by decide +kernel
theorem dL_law_1120 : decode cL_law 1120 = .ok (.iadd, 1) := by decide +kernel
theorem dL_law_1121 : decode cL_law 1121 = .ok (.iaload, 1) := by decide +kernel
theorem dL_law_1122 : decode cL_law 1122 = .ok (.aload_n 0, 1) := by decide +kernel
theorem dL_law_1123 : decode cL_law 1123 = .ok (.iload 4, 2) := by decide +kernel
theorem dL_law_1125 : decode cL_law 1125 = .ok (.iconst 4, 1) := by decide +kernel
theorem dL_law_1126 : decode cL_law 1126 = .ok (.iadd, 1) := by decide +kernel
theorem dL_law_1127 : decode cL_law 1127 = .ok (.iaload, 1) := by decide +kernel
theorem dL_law_1128 : decode cL_law 1128 = .ok (.invokevirtual 144, 3) := by decide +kernel
theorem dL_law_1131 : decode cL_law 1131 = .ok (.istore 6, 2) := by decide +kernel
theorem dL_law_1133 : decode cL_law 1133 = .ok (.aload_n 2, 1) := by decide +kernel
theorem dL_law_1134 : decode cL_law 1134 = .ok (.invokevirtual 97, 3) := by decide +kernel
theorem dL_law_1137 : decode cL_law 1137 = .ok (.iload 5, 2) := by decide +kernel
theorem dL_law_1139 : decode cL_law 1139 = .ok (.if_icmp .eq 5, 3) := by decide +kernel
theorem dL_law_1142 : decode cL_law 1142 = .ok (.iconst 0, 1) := by decide +kernel
theorem dL_law_1143 : decode cL_law 1143 = .ok (.ireturn, 1) := by decide +kernel
theorem dL_law_1144 : decode cL_law 1144 = .ok (.iload 5, 2) := by decide +kernel
theorem dL_law_1146 : decode cL_law 1146 = .ok (.ifCond .ne 15, 3) := by decide +kernel
theorem dL_law_1149 : decode cL_law 1149 = .ok (.aload_n 3, 1) := by decide +kernel
theorem dL_law_1150 : decode cL_law 1150 = .ok (.iconst 0, 1) := by decide +kernel
theorem dL_law_1151 : decode cL_law 1151 = .ok (.laload, 1) := by decide +kernel
theorem dL_law_1152 : decode cL_law 1152 = .ok (.iload 6, 2) := by decide +kernel
theorem dL_law_1154 : decode cL_law 1154 = .ok (.i2l, 1) := by decide +kernel
theorem dL_law_1155 : decode cL_law 1155 = .ok (.lcmp, 1) := by decide +kernel
theorem dL_law_1156 : decode cL_law 1156 = .ok (.ifCond .eq 5, 3) := by decide +kernel
theorem dL_law_1159 : decode cL_law 1159 = .ok (.iconst 0, 1) := by decide +kernel
theorem dL_law_1160 : decode cL_law 1160 = .ok (.ireturn, 1) := by decide +kernel
theorem dL_law_1161 : decode cL_law 1161 = .ok (.goto 550, 3) := by decide +kernel
theorem dL_law_1164 : decode cL_law 1164 = .ok (.aload_n 1, 1) := by decide +kernel
theorem dL_law_1165 : decode cL_law 1165 = .ok (.aload_n 0, 1) := by decide +kernel
theorem dL_law_1166 : decode cL_law 1166 = .ok (.iload 4, 2) := by decide +kernel
theorem dL_law_1168 : decode cL_law 1168 = .ok (.iconst 1, 1) := by decide +kernel
theorem dL_law_1169 : decode cL_law 1169 = .ok (.iadd, 1) := by decide +kernel
theorem dL_law_1170 : decode cL_law 1170 = .ok (.iaload, 1) := by decide +kernel
theorem dL_law_1171 : decode cL_law 1171 = .ok (.aload_n 0, 1) := by decide +kernel
theorem dL_law_1172 : decode cL_law 1172 = .ok (.iload 4, 2) := by decide +kernel
theorem dL_law_1174 : decode cL_law 1174 = .ok (.iconst 2, 1) := by decide +kernel
theorem dL_law_1175 : decode cL_law 1175 = .ok (.iadd, 1) := by decide +kernel
theorem dL_law_1176 : decode cL_law 1176 = .ok (.iaload, 1) := by decide +kernel
theorem dL_law_1177 : decode cL_law 1177 = .ok (.aload_n 0, 1) := by decide +kernel
theorem dL_law_1178 : decode cL_law 1178 = .ok (.iload 4, 2) := by decide +kernel
theorem dL_law_1180 : decode cL_law 1180 = .ok (.iconst 3, 1) := by decide +kernel
theorem dL_law_1181 : decode cL_law 1181 = .ok (.iadd, 1) := by decide +kernel
theorem dL_law_1182 : decode cL_law 1182 = .ok (.iaload, 1) := by decide +kernel
theorem dL_law_1183 : decode cL_law 1183 = .ok (.aload_n 0, 1) := by decide +kernel
theorem dL_law_1184 : decode cL_law 1184 = .ok (.iload 4, 2) := by decide +kernel
theorem dL_law_1186 : decode cL_law 1186 = .ok (.iconst 4, 1) := by decide +kernel
theorem dL_law_1187 : decode cL_law 1187 = .ok (.iadd, 1) := by decide +kernel
theorem dL_law_1188 : decode cL_law 1188 = .ok (.iaload, 1) := by decide +kernel
theorem dL_law_1189 : decode cL_law 1189 = .ok (.aload_n 3, 1) := by decide +kernel
theorem dL_law_1190 : decode cL_law 1190 = .ok (.invokestatic 145, 3) := by decide +kernel
theorem dL_law_1193 : decode cL_law 1193 = .ok (.istore 5, 2) := by decide +kernel
theorem dL_law_1195 : decode cL_law 1195 = .ok (.aload_n 2, 1) := by decide +kernel
theorem dL_law_1196 : decode cL_law 1196 = .ok (.aload_n 0, 1) := by decide +kernel
theorem dL_law_1197 : decode cL_law 1197 = .ok (.iload 4, 2) := by decide +kernel
theorem dL_law_1199 : decode cL_law 1199 = .ok (.iconst 1, 1) := by decide +kernel
theorem dL_law_1200 : decode cL_law 1200 = .ok (.iadd, 1) := by decide +kernel
theorem dL_law_1201 : decode cL_law 1201 = .ok (.iaload, 1) := by decide +kernel
theorem dL_law_1202 : decode cL_law 1202 = .ok (.aload_n 0, 1) := by decide +kernel
theorem dL_law_1203 : decode cL_law 1203 = .ok (.iload 4, 2) := by decide +kernel
theorem dL_law_1205 : decode cL_law 1205 = .ok (.iconst 2, 1) := by decide +kernel
theorem dL_law_1206 : decode cL_law 1206 = .ok (.iadd, 1) := by decide +kernel
theorem dL_law_1207 : decode cL_law 1207 = .ok (.iaload, 1) := by decide +kernel
theorem dL_law_1208 : decode cL_law 1208 = .ok (.aload_n 0, 1) := by decide +kernel
theorem dL_law_1209 : decode cL_law 1209 = .ok (.iload 4, 2) := by decide +kernel
theorem dL_law_1211 : decode cL_law 1211 = .ok (.iconst 3, 1) := by decide +kernel
theorem dL_law_1212 : decode cL_law 1212 = .ok (.iadd, 1) := by decide +kernel
theorem dL_law_1213 : decode cL_law 1213 = .ok (.iaload, 1) := by decide +kernel
theorem dL_law_1214 : decode cL_law 1214 = .ok (.aload_n 0, 1) := by decide +kernel
theorem dL_law_1215 : decode cL_law 1215 = .ok (.iload 4, 2) := by decide +kernel
theorem dL_law_1217 : decode cL_law 1217 = .ok (.iconst 4, 1) := by decide +kernel
theorem dL_law_1218 : decode cL_law 1218 = .ok (.iadd, 1) := by decide +kernel
theorem dL_law_1219 : decode cL_law 1219 = .ok (.iaload, 1) := by decide +kernel
theorem dL_law_1220 : decode cL_law 1220 = .ok (.invokevirtual 147, 3) := by decide +kernel
theorem dL_law_1223 : decode cL_law 1223 = .ok (.istore 6, 2) := by decide +kernel
theorem dL_law_1225 : decode cL_law 1225 = .ok (.aload_n 2, 1) := by decide +kernel
theorem dL_law_1226 : decode cL_law 1226 = .ok (.invokevirtual 97, 3) := by decide +kernel
theorem dL_law_1229 : decode cL_law 1229 = .ok (.iload 5, 2) := by decide +kernel
theorem dL_law_1231 : decode cL_law 1231 = .ok (.if_icmp .eq 5, 3) := by decide +kernel
theorem dL_law_1234 : decode cL_law 1234 = .ok (.iconst 0, 1) := by decide +kernel
theorem dL_law_1235 : decode cL_law 1235 = .ok (.ireturn, 1) := by decide +kernel
theorem dL_law_1236 : decode cL_law 1236 = .ok (.iload 5, 2) := by decide +kernel
theorem dL_law_1238 : decode cL_law 1238 = .ok (.ifCond .ne 15, 3) := by decide +kernel
theorem dL_law_1241 : decode cL_law 1241 = .ok (.aload_n 3, 1) := by decide +kernel
theorem dL_law_1242 : decode cL_law 1242 = .ok (.iconst 0, 1) := by decide +kernel
theorem dL_law_1243 : decode cL_law 1243 = .ok (.laload, 1) := by decide +kernel
theorem dL_law_1244 : decode cL_law 1244 = .ok (.iload 6, 2) := by decide +kernel
theorem dL_law_1246 : decode cL_law 1246 = .ok (.i2l, 1) := by decide +kernel
theorem dL_law_1247 : decode cL_law 1247 = .ok (.lcmp, 1) := by decide +kernel
theorem dL_law_1248 : decode cL_law 1248 = .ok (.ifCond .eq 5, 3) := by decide +kernel
theorem dL_law_1251 : decode cL_law 1251 = .ok (.iconst 0, 1) := by decide +kernel
theorem dL_law_1252 : decode cL_law 1252 = .ok (.ireturn, 1) := by decide +kernel
theorem dL_law_1253 : decode cL_law 1253 = .ok (.goto 458, 3) := by decide +kernel
theorem dL_law_1256 : decode cL_law 1256 = .ok (.aload_n 1, 1) := by decide +kernel
theorem dL_law_1257 : decode cL_law 1257 = .ok (.aload_n 0, 1) := by decide +kernel
theorem dL_law_1258 : decode cL_law 1258 = .ok (.iload 4, 2) := by decide +kernel
theorem dL_law_1260 : decode cL_law 1260 = .ok (.iconst 1, 1) := by decide +kernel
theorem dL_law_1261 : decode cL_law 1261 = .ok (.iadd, 1) := by decide +kernel
theorem dL_law_1262 : decode cL_law 1262 = .ok (.iaload, 1) := by decide +kernel
theorem dL_law_1263 : decode cL_law 1263 = .ok (.aload_n 3, 1) := by decide +kernel
theorem dL_law_1264 : decode cL_law 1264 = .ok (.invokestatic 148, 3) := by decide +kernel
theorem dL_law_1267 : decode cL_law 1267 = .ok (.istore 5, 2) := by decide +kernel
theorem dL_law_1269 : decode cL_law 1269 = .ok (.aload_n 2, 1) := by decide +kernel
theorem dL_law_1270 : decode cL_law 1270 = .ok (.aload_n 0, 1) := by decide +kernel
theorem dL_law_1271 : decode cL_law 1271 = .ok (.iload 4, 2) := by decide +kernel
theorem dL_law_1273 : decode cL_law 1273 = .ok (.iconst 1, 1) := by decide +kernel
theorem dL_law_1274 : decode cL_law 1274 = .ok (.iadd, 1) := by decide +kernel
theorem dL_law_1275 : decode cL_law 1275 = .ok (.iaload, 1) := by decide +kernel
theorem dL_law_1276 : decode cL_law 1276 = .ok (.invokevirtual 150, 3) := by decide +kernel
theorem dL_law_1279 : decode cL_law 1279 = .ok (.istore 6, 2) := by decide +kernel
theorem dL_law_1281 : decode cL_law 1281 = .ok (.aload_n 2, 1) := by decide +kernel
theorem dL_law_1282 : decode cL_law 1282 = .ok (.invokevirtual 97, 3) := by decide +kernel
theorem dL_law_1285 : decode cL_law 1285 = .ok (.iload 5, 2) := by decide +kernel
theorem dL_law_1287 : decode cL_law 1287 = .ok (.if_icmp .eq 5, 3) := by decide +kernel
theorem dL_law_1290 : decode cL_law 1290 = .ok (.iconst 0, 1) := by decide +kernel
theorem dL_law_1291 : decode cL_law 1291 = .ok (.ireturn, 1) := by decide +kernel
theorem dL_law_1292 : decode cL_law 1292 = .ok (.iload 5, 2) := by decide +kernel
theorem dL_law_1294 : decode cL_law 1294 = .ok (.ifCond .ne 15, 3) := by decide +kernel
theorem dL_law_1297 : decode cL_law 1297 = .ok (.aload_n 3, 1) := by decide +kernel
theorem dL_law_1298 : decode cL_law 1298 = .ok (.iconst 0, 1) := by decide +kernel
theorem dL_law_1299 : decode cL_law 1299 = .ok (.laload, 1) := by decide +kernel
theorem dL_law_1300 : decode cL_law 1300 = .ok (.iload 6, 2) := by decide +kernel
theorem dL_law_1302 : decode cL_law 1302 = .ok (.i2l, 1) := by decide +kernel
theorem dL_law_1303 : decode cL_law 1303 = .ok (.lcmp, 1) := by decide +kernel
theorem dL_law_1304 : decode cL_law 1304 = .ok (.ifCond .eq 5, 3) := by decide +kernel
theorem dL_law_1307 : decode cL_law 1307 = .ok (.iconst 0, 1) := by decide +kernel
theorem dL_law_1308 : decode cL_law 1308 = .ok (.ireturn, 1) := by decide +kernel
theorem dL_law_1309 : decode cL_law 1309 = .ok (.goto 402, 3) := by decide +kernel
theorem dL_law_1312 : decode cL_law 1312 = .ok (.aload_n 1, 1) := by decide +kernel
theorem dL_law_1313 : decode cL_law 1313 = .ok (.invokevirtual 151, 3) := by decide +kernel
theorem dL_law_1316 : decode cL_law 1316 = .ok (.aload_n 2, 1) := by decide +kernel
theorem dL_law_1317 : decode cL_law 1317 = .ok (.invokevirtual 154, 3) := by decide +kernel
theorem dL_law_1320 : decode cL_law 1320 = .ok (.if_icmp .eq 391, 3) := by decide +kernel
theorem dL_law_1323 : decode cL_law 1323 = .ok (.iconst 0, 1) := by decide +kernel
theorem dL_law_1324 : decode cL_law 1324 = .ok (.ireturn, 1) := by decide +kernel
theorem dL_law_1325 : decode cL_law 1325 = .ok (.aload_n 1, 1) := by decide +kernel
theorem dL_law_1326 : decode cL_law 1326 = .ok (.aload_n 0, 1) := by decide +kernel
theorem dL_law_1327 : decode cL_law 1327 = .ok (.iload 4, 2) := by decide +kernel
theorem dL_law_1329 : decode cL_law 1329 = .ok (.iconst 1, 1) := by decide +kernel
theorem dL_law_1330 : decode cL_law 1330 = .ok (.iadd, 1) := by decide +kernel
theorem dL_law_1331 : decode cL_law 1331 = .ok (.iaload, 1) := by decide +kernel
theorem dL_law_1332 : decode cL_law 1332 = .ok (.aload_n 3, 1) := by decide +kernel
theorem dL_law_1333 : decode cL_law 1333 = .ok (.invokestatic 155, 3) := by decide +kernel
theorem dL_law_1336 : decode cL_law 1336 = .ok (.istore 5, 2) := by decide +kernel
theorem dL_law_1338 : decode cL_law 1338 = .ok (.aload_n 2, 1) := by decide +kernel
theorem dL_law_1339 : decode cL_law 1339 = .ok (.aload_n 0, 1) := by decide +kernel
theorem dL_law_1340 : decode cL_law 1340 = .ok (.iload 4, 2) := by decide +kernel
theorem dL_law_1342 : decode cL_law 1342 = .ok (.iconst 1, 1) := by decide +kernel
theorem dL_law_1343 : decode cL_law 1343 = .ok (.iadd, 1) := by decide +kernel
theorem dL_law_1344 : decode cL_law 1344 = .ok (.iaload, 1) := by decide +kernel
theorem dL_law_1345 : decode cL_law 1345 = .ok (.invokevirtual 157, 3) := by decide +kernel
theorem dL_law_1348 : decode cL_law 1348 = .ok (.istore 6, 2) := by decide +kernel
theorem dL_law_1350 : decode cL_law 1350 = .ok (.aload_n 2, 1) := by decide +kernel
theorem dL_law_1351 : decode cL_law 1351 = .ok (.invokevirtual 97, 3) := by decide +kernel
theorem dL_law_1354 : decode cL_law 1354 = .ok (.iload 5, 2) := by decide +kernel
theorem dL_law_1356 : decode cL_law 1356 = .ok (.if_icmp .eq 5, 3) := by decide +kernel
theorem dL_law_1359 : decode cL_law 1359 = .ok (.iconst 0, 1) := by decide +kernel
theorem dL_law_1360 : decode cL_law 1360 = .ok (.ireturn, 1) := by decide +kernel
theorem dL_law_1361 : decode cL_law 1361 = .ok (.iload 5, 2) := by decide +kernel
theorem dL_law_1363 : decode cL_law 1363 = .ok (.ifCond .ne 15, 3) := by decide +kernel
theorem dL_law_1366 : decode cL_law 1366 = .ok (.aload_n 3, 1) := by decide +kernel
theorem dL_law_1367 : decode cL_law 1367 = .ok (.iconst 0, 1) := by decide +kernel
theorem dL_law_1368 : decode cL_law 1368 = .ok (.laload, 1) := by decide +kernel
theorem dL_law_1369 : decode cL_law 1369 = .ok (.iload 6, 2) := by decide +kernel
theorem dL_law_1371 : decode cL_law 1371 = .ok (.i2l, 1) := by decide +kernel
theorem dL_law_1372 : decode cL_law 1372 = .ok (.lcmp, 1) := by decide +kernel
theorem dL_law_1373 : decode cL_law 1373 = .ok (.ifCond .eq 5, 3) := by decide +kernel
theorem dL_law_1376 : decode cL_law 1376 = .ok (.iconst 0, 1) := by decide +kernel
theorem dL_law_1377 : decode cL_law 1377 = .ok (.ireturn, 1) := by decide +kernel
theorem dL_law_1378 : decode cL_law 1378 = .ok (.goto 333, 3) := by decide +kernel
theorem dL_law_1381 : decode cL_law 1381 = .ok (.aload_n 1, 1) := by decide +kernel
theorem dL_law_1382 : decode cL_law 1382 = .ok (.aload_n 0, 1) := by decide +kernel
theorem dL_law_1383 : decode cL_law 1383 = .ok (.iload 4, 2) := by decide +kernel
theorem dL_law_1385 : decode cL_law 1385 = .ok (.iconst 1, 1) := by decide +kernel
theorem dL_law_1386 : decode cL_law 1386 = .ok (.iadd, 1) := by decide +kernel
theorem dL_law_1387 : decode cL_law 1387 = .ok (.iaload, 1) := by decide +kernel
theorem dL_law_1388 : decode cL_law 1388 = .ok (.aload_n 0, 1) := by decide +kernel
theorem dL_law_1389 : decode cL_law 1389 = .ok (.iload 4, 2) := by decide +kernel
theorem dL_law_1391 : decode cL_law 1391 = .ok (.iconst 2, 1) := by decide +kernel
theorem dL_law_1392 : decode cL_law 1392 = .ok (.iadd, 1) := by decide +kernel
theorem dL_law_1393 : decode cL_law 1393 = .ok (.iaload, 1) := by decide +kernel
theorem dL_law_1394 : decode cL_law 1394 = .ok (.aload_n 3, 1) := by decide +kernel
theorem dL_law_1395 : decode cL_law 1395 = .ok (.invokestatic 158, 3) := by decide +kernel
theorem dL_law_1398 : decode cL_law 1398 = .ok (.istore 5, 2) := by decide +kernel
theorem dL_law_1400 : decode cL_law 1400 = .ok (.aload_n 2, 1) := by decide +kernel
theorem dL_law_1401 : decode cL_law 1401 = .ok (.aload_n 0, 1) := by decide +kernel
theorem dL_law_1402 : decode cL_law 1402 = .ok (.iload 4, 2) := by decide +kernel
theorem dL_law_1404 : decode cL_law 1404 = .ok (.iconst 1, 1) := by decide +kernel
theorem dL_law_1405 : decode cL_law 1405 = .ok (.iadd, 1) := by decide +kernel
theorem dL_law_1406 : decode cL_law 1406 = .ok (.iaload, 1) := by decide +kernel
theorem dL_law_1407 : decode cL_law 1407 = .ok (.aload_n 0, 1) := by decide +kernel
theorem dL_law_1408 : decode cL_law 1408 = .ok (.iload 4, 2) := by decide +kernel
theorem dL_law_1410 : decode cL_law 1410 = .ok (.iconst 2, 1) := by decide +kernel
theorem dL_law_1411 : decode cL_law 1411 = .ok (.iadd, 1) := by decide +kernel
theorem dL_law_1412 : decode cL_law 1412 = .ok (.iaload, 1) := by decide +kernel
theorem dL_law_1413 : decode cL_law 1413 = .ok (.invokevirtual 160, 3) := by decide +kernel
theorem dL_law_1416 : decode cL_law 1416 = .ok (.istore 6, 2) := by decide +kernel
theorem dL_law_1418 : decode cL_law 1418 = .ok (.aload_n 2, 1) := by decide +kernel
theorem dL_law_1419 : decode cL_law 1419 = .ok (.invokevirtual 97, 3) := by decide +kernel
theorem dL_law_1422 : decode cL_law 1422 = .ok (.iload 5, 2) := by decide +kernel
theorem dL_law_1424 : decode cL_law 1424 = .ok (.if_icmp .eq 5, 3) := by decide +kernel
theorem dL_law_1427 : decode cL_law 1427 = .ok (.iconst 0, 1) := by decide +kernel
theorem dL_law_1428 : decode cL_law 1428 = .ok (.ireturn, 1) := by decide +kernel
theorem dL_law_1429 : decode cL_law 1429 = .ok (.iload 5, 2) := by decide +kernel
theorem dL_law_1431 : decode cL_law 1431 = .ok (.ifCond .ne 22, 3) := by decide +kernel
theorem dL_law_1434 : decode cL_law 1434 = .ok (.aload_n 3, 1) := by decide +kernel
theorem dL_law_1435 : decode cL_law 1435 = .ok (.iconst 0, 1) := by decide +kernel
theorem dL_law_1436 : decode cL_law 1436 = .ok (.laload, 1) := by decide +kernel
theorem dL_law_1437 : decode cL_law 1437 = .ok (.iload 6, 2) := by decide +kernel
theorem dL_law_1439 : decode cL_law 1439 = .ok (.ifCond .eq 7, 3) := by decide +kernel
theorem dL_law_1442 : decode cL_law 1442 = .ok (.lconst 1, 1) := by decide +kernel
theorem dL_law_1443 : decode cL_law 1443 = .ok (.goto 4, 3) := by decide +kernel
theorem dL_law_1446 : decode cL_law 1446 = .ok (.lconst 0, 1) := by decide +kernel
theorem dL_law_1447 : decode cL_law 1447 = .ok (.lcmp, 1) := by decide +kernel
theorem dL_law_1448 : decode cL_law 1448 = .ok (.ifCond .eq 5, 3) := by decide +kernel
theorem dL_law_1451 : decode cL_law 1451 = .ok (.iconst 0, 1) := by decide +kernel
theorem dL_law_1452 : decode cL_law 1452 = .ok (.ireturn, 1) := by decide +kernel
