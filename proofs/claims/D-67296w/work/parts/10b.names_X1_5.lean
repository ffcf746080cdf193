set_option maxRecDepth 100000
theorem dX1_adjectives_90 : decode cX1_adjectives 90 = .ok (.iload 6, 2) := by decide +kernel
theorem dX1_adjectives_92 : decode cX1_adjectives 92 = .ok (.ireturn, 1) := by decide +kernel
abbrev cX1_alike : ByteArray := prog_1_method_93_code
def yX1_alike : MethodName := ⟨RX1, "alike", "(II)Z"⟩
theorem dX1_alike_0 : decode cX1_alike 0 = .ok (.aload_n 0, 1) := by decide +kernel
theorem dX1_alike_1 : decode cX1_alike 1 = .ok (.iload_n 1, 1) := by decide +kernel
theorem dX1_alike_2 : decode cX1_alike 2 = .ok (.invokevirtual 444, 3) := by decide +kernel
theorem dX1_alike_5 : decode cX1_alike 5 = .ok (.istore_n 3, 1) := by decide +kernel
theorem dX1_alike_6 : decode cX1_alike 6 = .ok (.iload_n 3, 1) := by decide +kernel
theorem dX1_alike_7 : decode cX1_alike 7 = .ok (.aload_n 0, 1) := by decide +kernel
theorem dX1_alike_8 : decode cX1_alike 8 = .ok (.iload_n 2, 1) := by decide +kernel
theorem dX1_alike_9 : decode cX1_alike 9 = .ok (.invokevirtual 444, 3) := by decide +kernel
theorem dX1_alike_12 : decode cX1_alike 12 = .ok (.if_icmp .ne 7, 3) := by decide +kernel
theorem dX1_alike_15 : decode cX1_alike 15 = .ok (.iconst 1, 1) := by decide +kernel
theorem dX1_alike_16 : decode cX1_alike 16 = .ok (.goto 4, 3) := by decide +kernel
theorem dX1_alike_19 : decode cX1_alike 19 = .ok (.iconst 0, 1) := by decide +kernel
theorem dX1_alike_20 : decode cX1_alike 20 = .ok (.ireturn, 1) := by decide +kernel
abbrev cX1_about : ByteArray := prog_1_method_94_code
def yX1_about : MethodName := ⟨RX1, "about", "(II)I"⟩
theorem dX1_about_0 : decode cX1_about 0 = .ok (.aload_n 0, 1) := by decide +kernel
theorem dX1_about_1 : decode cX1_about 1 = .ok (.iload_n 1, 1) := by decide +kernel
theorem dX1_about_2 : decode cX1_about 2 = .ok (.invokevirtual 444, 3) := by decide +kernel
theorem dX1_about_5 : decode cX1_about 5 = .ok (.istore_n 3, 1) := by decide +kernel
theorem dX1_about_6 : decode cX1_about 6 = .ok (.iload_n 2, 1) := by decide +kernel
theorem dX1_about_7 : decode cX1_about 7 = .ok (.ifCond .lt 12, 3) := by decide +kernel
theorem dX1_about_10 : decode cX1_about 10 = .ok (.iload_n 2, 1) := by decide +kernel
theorem dX1_about_11 : decode cX1_about 11 = .ok (.iconst 3, 1) := by decide +kernel
theorem dX1_about_12 : decode cX1_about 12 = .ok (.if_icmp .gt 7, 3) := by decide +kernel
theorem dX1_about_15 : decode cX1_about 15 = .ok (.iconst 1, 1) := by decide +kernel
theorem dX1_about_16 : decode cX1_about 16 = .ok (.goto 4, 3) := by decide +kernel
theorem dX1_about_19 : decode cX1_about 19 = .ok (.iconst 0, 1) := by decide +kernel
theorem dX1_about_20 : decode cX1_about 20 = .ok (.invokestatic 440, 3) := by decide +kernel
theorem dX1_about_23 : decode cX1_about 23 = .ok (.aload_n 0, 1) := by decide +kernel
theorem dX1_about_24 : decode cX1_about 24 = .ok (.getfield 1, 3) := by decide +kernel
theorem dX1_about_27 : decode cX1_about 27 = .ok (.getfield 39, 3) := by decide +kernel
theorem dX1_about_30 : decode cX1_about 30 = .ok (.iload_n 3, 1) := by decide +kernel
theorem dX1_about_31 : decode cX1_about 31 = .ok (.iaload, 1) := by decide +kernel
theorem dX1_about_32 : decode cX1_about 32 = .ok (.invokestatic 214, 3) := by decide +kernel
theorem dX1_about_35 : decode cX1_about 35 = .ok (.ifCond .eq 7, 3) := by decide +kernel
theorem dX1_about_38 : decode cX1_about 38 = .ok (.iconst 0, 1) := by decide +kernel
theorem dX1_about_39 : decode cX1_about 39 = .ok (.goto 22, 3) := by decide +kernel
theorem dX1_about_42 : decode cX1_about 42 = .ok (.aload_n 0, 1) := by decide +kernel
theorem dX1_about_43 : decode cX1_about 43 = .ok (.getfield 1, 3) := by decide +kernel
theorem dX1_about_46 : decode cX1_about 46 = .ok (.getfield 39, 3) := by decide +kernel
theorem dX1_about_49 : decode cX1_about 49 = .ok (.iload_n 3, 1) := by decide +kernel
theorem dX1_about_50 : decode cX1_about 50 = .ok (.iaload, 1) := by decide +kernel
theorem dX1_about_51 : decode cX1_about 51 = .ok (.bipush 8, 2) := by decide +kernel
theorem dX1_about_53 : decode cX1_about 53 = .ok (.if_icmp .ne 7, 3) := by decide +kernel
theorem dX1_about_56 : decode cX1_about 56 = .ok (.iconst 1, 1) := by decide +kernel
theorem dX1_about_57 : decode cX1_about 57 = .ok (.goto 4, 3) := by decide +kernel
theorem dX1_about_60 : decode cX1_about 60 = .ok (.iconst 2, 1) := by decide +kernel
theorem dX1_about_61 : decode cX1_about 61 = .ok (.istore 4, 2) := by decide +kernel
theorem dX1_about_63 : decode cX1_about 63 = .ok (.iload_n 2, 1) := by decide +kernel
theorem dX1_about_64 : decode cX1_about 64 = .ok (.tableswitch 60 0 2 #[28, 31, 41], 28) := by decide +kernel
theorem dX1_about_92 : decode cX1_about 92 = .ok (.iload 4, 2) := by decide +kernel
theorem dX1_about_94 : decode cX1_about 94 = .ok (.ireturn, 1) := by decide +kernel
theorem dX1_about_95 : decode cX1_about 95 = .ok (.aload_n 0, 1) := by decide +kernel
theorem dX1_about_96 : decode cX1_about 96 = .ok (.getfield 1, 3) := by decide +kernel
theorem dX1_about_99 : decode cX1_about 99 = .ok (.getfield 449, 3) := by decide +kernel
theorem dX1_about_102 : decode cX1_about 102 = .ok (.iload_n 3, 1) := by decide +kernel
theorem dX1_about_103 : decode cX1_about 103 = .ok (.iaload, 1) := by decide +kernel
theorem dX1_about_104 : decode cX1_about 104 = .ok (.ireturn, 1) := by decide +kernel
theorem dX1_about_105 : decode cX1_about 105 = .ok (.iload 4, 2) := by decide +kernel
theorem dX1_about_107 : decode cX1_about 107 = .ok (.iconst 2, 1) := by decide +kernel
theorem dX1_about_108 : decode cX1_about 108 = .ok (.if_icmp .ge 7, 3) := by decide +kernel
theorem dX1_about_111 : decode cX1_about 111 = .ok (.iconst 0, 1) := by decide +kernel
theorem dX1_about_112 : decode cX1_about 112 = .ok (.goto 11, 3) := by decide +kernel
theorem dX1_about_115 : decode cX1_about 115 = .ok (.aload_n 0, 1) := by decide +kernel
theorem dX1_about_116 : decode cX1_about 116 = .ok (.getfield 1, 3) := by decide +kernel
theorem dX1_about_119 : decode cX1_about 119 = .ok (.iload_n 3, 1) := by decide +kernel
theorem dX1_about_120 : decode cX1_about 120 = .ok (.invokevirtual 522, 3) := by decide +kernel
theorem dX1_about_123 : decode cX1_about 123 = .ok (.ireturn, 1) := by decide +kernel
theorem dX1_about_124 : decode cX1_about 124 = .ok (.iload 4, 2) := by decide +kernel
theorem dX1_about_126 : decode cX1_about 126 = .ok (.iconst 2, 1) := by decide +kernel
theorem dX1_about_127 : decode cX1_about 127 = .ok (.if_icmp .ge 7, 3) := by decide +kernel
theorem dX1_about_130 : decode cX1_about 130 = .ok (.iconst 0, 1) := by decide +kernel
theorem dX1_about_131 : decode cX1_about 131 = .ok (.goto 9, 3) := by decide +kernel
theorem dX1_about_134 : decode cX1_about 134 = .ok (.aload_n 0, 1) := by decide +kernel
theorem dX1_about_135 : decode cX1_about 135 = .ok (.iload_n 3, 1) := by decide +kernel
theorem dX1_about_136 : decode cX1_about 136 = .ok (.iconst 0, 1) := by decide +kernel
theorem dX1_about_137 : decode cX1_about 137 = .ok (.invokevirtual 362, 3) := by decide +kernel
theorem dX1_about_140 : decode cX1_about 140 = .ok (.ireturn, 1) := by decide +kernel
abbrev cX1_count : ByteArray := prog_1_method_95_code
def yX1_count : MethodName := ⟨RX1, "count", "(I)I"⟩
theorem dX1_count_0 : decode cX1_count 0 = .ok (.iload_n 1, 1) := by decide +kernel
theorem dX1_count_1 : decode cX1_count 1 = .ok (.tableswitch 87 0 7 #[47, 52, 57, 62, 67, 72, 77, 82], 47) := by decide +kernel
theorem dX1_count_48 : decode cX1_count 48 = .ok (.aload_n 0, 1) := by decide +kernel
theorem dX1_count_49 : decode cX1_count 49 = .ok (.getfield 437, 3) := by decide +kernel
theorem dX1_count_52 : decode cX1_count 52 = .ok (.ireturn, 1) := by decide +kernel
theorem dX1_count_53 : decode cX1_count 53 = .ok (.aload_n 0, 1) := by decide +kernel
theorem dX1_count_54 : decode cX1_count 54 = .ok (.getfield 419, 3) := by decide +kernel
theorem dX1_count_57 : decode cX1_count 57 = .ok (.ireturn, 1) := by decide +kernel
theorem dX1_count_58 : decode cX1_count 58 = .ok (.aload_n 0, 1) := by decide +kernel
theorem dX1_count_59 : decode cX1_count 59 = .ok (.getfield 452, 3) := by decide +kernel
theorem dX1_count_62 : decode cX1_count 62 = .ok (.ireturn, 1) := by decide +kernel
theorem dX1_count_63 : decode cX1_count 63 = .ok (.aload_n 0, 1) := by decide +kernel
theorem dX1_count_64 : decode cX1_count 64 = .ok (.getfield 460, 3) := by decide +kernel
theorem dX1_count_67 : decode cX1_count 67 = .ok (.ireturn, 1) := by decide +kernel
theorem dX1_count_68 : decode cX1_count 68 = .ok (.aload_n 0, 1) := by decide +kernel
theorem dX1_count_69 : decode cX1_count 69 = .ok (.getfield 463, 3) := by decide +kernel
theorem dX1_count_72 : decode cX1_count 72 = .ok (.ireturn, 1) := by decide +kernel
theorem dX1_count_73 : decode cX1_count 73 = .ok (.aload_n 0, 1) := by decide +kernel
theorem dX1_count_74 : decode cX1_count 74 = .ok (.getfield 80, 3) := by decide +kernel
theorem dX1_count_77 : decode cX1_count 77 = .ok (.ireturn, 1) := by decide +kernel
theorem dX1_count_78 : decode cX1_count 78 = .ok (.aload_n 0, 1) := by decide +kernel
theorem dX1_count_79 : decode cX1_count 79 = .ok (.getfield 516, 3) := by decide +kernel
theorem dX1_count_82 : decode cX1_count 82 = .ok (.ireturn, 1) := by decide +kernel
theorem dX1_count_83 : decode cX1_count 83 = .ok (.aload_n 0, 1) := by decide +kernel
theorem dX1_count_84 : decode cX1_count 84 = .ok (.getfield 519, 3) := by decide +kernel
theorem dX1_count_87 : decode cX1_count 87 = .ok (.ireturn, 1) := by decide +kernel
theorem dX1_count_88 : decode cX1_count 88 = .ok (.new 431, 3) := by decide +kernel
theorem dX1_count_91 : decode cX1_count 91 = .ok (.dup, 1) := by decide +kernel
theorem dX1_count_92 : decode cX1_count 92 = .ok (.invokespecial 433, 3) := by decide +kernel
theorem dX1_count_95 : decode cX1_count 95 = .ok (.athrow, 1) := by decide +kernel
theorem q163 : (Jvm.Cond.initialized "RoundCheck") ∈ lw_all := lw_g (lw_at lw_m1 1 rfl) rfl
theorem q175 : (Jvm.Cond.instantiable "RoundCheck" (57 : Nat)) ∈ lw_all := lw_g (lw_at lw_m1 13 rfl) rfl
theorem q177 : (Jvm.Cond.instanceMethod ({ cls := "RoundCheck", name := "<init>", desc := "()V" } : Jvm.MethodName)) ∈ lw_all := lw_g (lw_at lw_m1 15 rfl) rfl
theorem q178 : (Jvm.Cond.code ({ cls := "RoundCheck", name := "<init>", desc := "()V" } : Jvm.MethodName) prog_1_method_57_code (1 : Nat) (Option.none : Option Jvm.ClassFile.FieldType)) ∈ lw_all := lw_g (lw_at lw_m1 16 rfl) rfl
theorem q179 : (Jvm.Cond.methodLink "RoundCheck" (405 : Nat) ({ cls := "java/lang/Object", name := "<init>", desc := "()V" } : Jvm.MethodName)) ∈ lw_all := lw_g (lw_at lw_m1 17 rfl) rfl
theorem q182 : (Jvm.Cond.classLink "RoundCheck" (8 : Nat) "RoundCheck$Store") ∈ lw_all := lw_g (lw_at lw_m1 20 rfl) rfl
theorem q184 : (Jvm.Cond.methodLink "RoundCheck" (410 : Nat) ({ cls := "RoundCheck$Store", name := "<init>", desc := "()V" } : Jvm.MethodName)) ∈ lw_all := lw_g (lw_at lw_m1 22 rfl) rfl
theorem q232 : (Jvm.Cond.fieldLink "RoundCheck" (39 : Nat) "RoundCheck$Store" "kind" "[I") ∈ lw_all := lw_g (lw_at lw_m1 70 rfl) rfl
theorem q234 : (Jvm.Cond.fieldLink "RoundCheck" (45 : Nat) "RoundCheck$Store" "what" "[I") ∈ lw_all := lw_g (lw_at lw_m1 72 rfl) rfl
theorem q237 : (Jvm.Cond.fieldLink "RoundCheck" (32 : Nat) "RoundCheck$Store" "count" "[I") ∈ lw_all := lw_g (lw_at lw_m1 75 rfl) rfl
theorem q239 : (Jvm.Cond.fieldLink "RoundCheck" (449 : Nat) "RoundCheck$Store" "size" "[I") ∈ lw_all := lw_g (lw_at lw_m1 77 rfl) rfl
theorem q241 : (Jvm.Cond.fieldLink "RoundCheck" (217 : Nat) "RoundCheck$Store" "loose" "[I") ∈ lw_all := lw_g (lw_at lw_m1 79 rfl) rfl
theorem q246 : (Jvm.Cond.fieldLink "RoundCheck" (390 : Nat) "RoundCheck$Store" "nodes" "I") ∈ lw_all := lw_g (lw_at lw_m1 84 rfl) rfl
theorem q248 : (Jvm.Cond.fieldLink "RoundCheck" (393 : Nat) "RoundCheck$Store" "parts" "I") ∈ lw_all := lw_g (lw_at lw_m1 86 rfl) rfl
theorem q249 : (Jvm.Cond.fieldLink "RoundCheck" (13 : Nat) "RoundCheck$Store" "row" "[I") ∈ lw_all := lw_g (lw_at lw_m1 87 rfl) rfl
theorem q251 : (Jvm.Cond.fieldLink "RoundCheck" (7 : Nat) "RoundCheck$Store" "rows" "I") ∈ lw_all := lw_g (lw_at lw_m1 89 rfl) rfl
theorem q254 : (Jvm.Cond.fieldLink "RoundCheck" (387 : Nat) "RoundCheck$Store" "yes" "I") ∈ lw_all := lw_g (lw_at lw_m1 92 rfl) rfl
theorem q256 : (Jvm.Cond.fieldLink "RoundCheck" (266 : Nat) "RoundCheck$Store" "no" "I") ∈ lw_all := lw_g (lw_at lw_m1 94 rfl) rfl
theorem q307 : (Jvm.Cond.constant "RoundCheck" (411 : Nat) (60000 : Int32)) ∈ lw_all := lw_g (lw_at lw_m1 145 rfl) rfl
theorem q308 : (Jvm.Cond.fieldLink "RoundCheck" (1 : Nat) "RoundCheck" "st" "LRoundCheck$Store;") ∈ lw_all := lw_g (lw_at lw_m1 146 rfl) rfl
theorem q309 : (Jvm.Cond.fieldLink "RoundCheck" (65 : Nat) "RoundCheck" "memo" "[I") ∈ lw_all := lw_g (lw_at lw_m1 147 rfl) rfl
theorem q310 : (Jvm.Cond.fieldLink "RoundCheck" (68 : Nat) "RoundCheck" "memoStamp" "[I") ∈ lw_all := lw_g (lw_at lw_m1 148 rfl) rfl
theorem q311 : (Jvm.Cond.fieldLink "RoundCheck" (71 : Nat) "RoundCheck" "stamp" "I") ∈ lw_all := lw_g (lw_at lw_m1 149 rfl) rfl
theorem q312 : (Jvm.Cond.fieldLink "RoundCheck" (226 : Nat) "RoundCheck" "kn" "[I") ∈ lw_all := lw_g (lw_at lw_m1 150 rfl) rfl
theorem q313 : (Jvm.Cond.fieldLink "RoundCheck" (223 : Nat) "RoundCheck" "knowns" "I") ∈ lw_all := lw_g (lw_at lw_m1 151 rfl) rfl
theorem q314 : (Jvm.Cond.fieldLink "RoundCheck" (143 : Nat) "RoundCheck" "run" "I") ∈ lw_all := lw_g (lw_at lw_m1 152 rfl) rfl
theorem q315 : (Jvm.Cond.fieldLink "RoundCheck" (131 : Nat) "RoundCheck" "isKnown" "[I") ∈ lw_all := lw_g (lw_at lw_m1 153 rfl) rfl
theorem q316 : (Jvm.Cond.fieldLink "RoundCheck" (134 : Nat) "RoundCheck" "opened" "[I") ∈ lw_all := lw_g (lw_at lw_m1 154 rfl) rfl
theorem q317 : (Jvm.Cond.fieldLink "RoundCheck" (137 : Nat) "RoundCheck" "hand" "[I") ∈ lw_all := lw_g (lw_at lw_m1 155 rfl) rfl
theorem q318 : (Jvm.Cond.fieldLink "RoundCheck" (169 : Nat) "RoundCheck" "th" "[I") ∈ lw_all := lw_g (lw_at lw_m1 156 rfl) rfl
theorem q319 : (Jvm.Cond.fieldLink "RoundCheck" (146 : Nat) "RoundCheck" "up" "[I") ∈ lw_all := lw_g (lw_at lw_m1 157 rfl) rfl
theorem q320 : (Jvm.Cond.fieldLink "RoundCheck" (140 : Nat) "RoundCheck" "handStamp" "[I") ∈ lw_all := lw_g (lw_at lw_m1 158 rfl) rfl
theorem q321 : (Jvm.Cond.fieldLink "RoundCheck" (163 : Nat) "RoundCheck" "hands" "I") ∈ lw_all := lw_g (lw_at lw_m1 159 rfl) rfl
theorem q322 : (Jvm.Cond.fieldLink "RoundCheck" (272 : Nat) "RoundCheck" "firsts" "I") ∈ lw_all := lw_g (lw_at lw_m1 160 rfl) rfl
theorem q323 : (Jvm.Cond.fieldLink "RoundCheck" (159 : Nat) "RoundCheck" "beyond" "Z") ∈ lw_all := lw_g (lw_at lw_m1 161 rfl) rfl
theorem q324 : (Jvm.Cond.fieldLink "RoundCheck" (187 : Nat) "RoundCheck" "mTerm" "[I") ∈ lw_all := lw_g (lw_at lw_m1 162 rfl) rfl
theorem q325 : (Jvm.Cond.fieldLink "RoundCheck" (190 : Nat) "RoundCheck" "mMode" "[I") ∈ lw_all := lw_g (lw_at lw_m1 163 rfl) rfl
theorem q326 : (Jvm.Cond.fieldLink "RoundCheck" (193 : Nat) "RoundCheck" "mArg" "[I") ∈ lw_all := lw_g (lw_at lw_m1 164 rfl) rfl
theorem q327 : (Jvm.Cond.fieldLink "RoundCheck" (199 : Nat) "RoundCheck" "jTerm" "[I") ∈ lw_all := lw_g (lw_at lw_m1 165 rfl) rfl
theorem q328 : (Jvm.Cond.fieldLink "RoundCheck" (202 : Nat) "RoundCheck" "jVal" "[I") ∈ lw_all := lw_g (lw_at lw_m1 166 rfl) rfl
theorem q329 : (Jvm.Cond.fieldLink "RoundCheck" (184 : Nat) "RoundCheck" "modeFacts" "I") ∈ lw_all := lw_g (lw_at lw_m1 167 rfl) rfl
theorem q330 : (Jvm.Cond.fieldLink "RoundCheck" (196 : Nat) "RoundCheck" "adjectiveFacts" "I") ∈ lw_all := lw_g (lw_at lw_m1 168 rfl) rfl
theorem q331 : (Jvm.Cond.fieldLink "RoundCheck" (302 : Nat) "RoundCheck" "coming" "[I") ∈ lw_all := lw_g (lw_at lw_m1 169 rfl) rfl
theorem q332 : (Jvm.Cond.fieldLink "RoundCheck" (299 : Nat) "RoundCheck" "comes" "I") ∈ lw_all := lw_g (lw_at lw_m1 170 rfl) rfl
theorem q333 : (Jvm.Cond.fieldLink "RoundCheck" (311 : Nat) "RoundCheck" "brought" "[I") ∈ lw_all := lw_g (lw_at lw_m1 171 rfl) rfl
theorem q334 : (Jvm.Cond.fieldLink "RoundCheck" (308 : Nat) "RoundCheck" "brings" "I") ∈ lw_all := lw_g (lw_at lw_m1 172 rfl) rfl
theorem q335 : (Jvm.Cond.fieldLink "RoundCheck" (314 : Nat) "RoundCheck" "newFrom" "I") ∈ lw_all := lw_g (lw_at lw_m1 173 rfl) rfl
theorem q336 : (Jvm.Cond.fieldLink "RoundCheck" (278 : Nat) "RoundCheck" "found" "Z") ∈ lw_all := lw_g (lw_at lw_m1 174 rfl) rfl
theorem q337 : (Jvm.Cond.fieldLink "RoundCheck" (281 : Nat) "RoundCheck" "missing" "Z") ∈ lw_all := lw_g (lw_at lw_m1 175 rfl) rfl
theorem q338 : (Jvm.Cond.fieldLink "RoundCheck" (326 : Nat) "RoundCheck" "caseRow" "[I") ∈ lw_all := lw_g (lw_at lw_m1 176 rfl) rfl
theorem q339 : (Jvm.Cond.fieldLink "RoundCheck" (356 : Nat) "RoundCheck" "pendForm" "[I") ∈ lw_all := lw_g (lw_at lw_m1 177 rfl) rfl
theorem q340 : (Jvm.Cond.fieldLink "RoundCheck" (359 : Nat) "RoundCheck" "pendNext" "[I") ∈ lw_all := lw_g (lw_at lw_m1 178 rfl) rfl
theorem q341 : (Jvm.Cond.fieldLink "RoundCheck" (353 : Nat) "RoundCheck" "pends" "I") ∈ lw_all := lw_g (lw_at lw_m1 179 rfl) rfl
theorem q342 : (Jvm.Cond.fieldLink "RoundCheck" (377 : Nat) "RoundCheck" "answer" "I") ∈ lw_all := lw_g (lw_at lw_m1 180 rfl) rfl
theorem q343 : (Jvm.Cond.fieldLink "RoundCheck" (412 : Nat) "RoundCheck" "form" "[I") ∈ lw_all := lw_g (lw_at lw_m1 181 rfl) rfl
theorem q344 : (Jvm.Cond.fieldLink "RoundCheck" (437 : Nat) "RoundCheck" "forms" "I") ∈ lw_all := lw_g (lw_at lw_m1 182 rfl) rfl
theorem q345 : (Jvm.Cond.fieldLink "RoundCheck" (55 : Nat) "RoundCheck" "mParent" "[I") ∈ lw_all := lw_g (lw_at lw_m1 183 rfl) rfl
theorem q346 : (Jvm.Cond.fieldLink "RoundCheck" (415 : Nat) "RoundCheck" "mHas" "[Z") ∈ lw_all := lw_g (lw_at lw_m1 184 rfl) rfl
theorem q347 : (Jvm.Cond.fieldLink "RoundCheck" (419 : Nat) "RoundCheck" "modes" "I") ∈ lw_all := lw_g (lw_at lw_m1 185 rfl) rfl
theorem q348 : (Jvm.Cond.fieldLink "RoundCheck" (452 : Nat) "RoundCheck" "attributes" "I") ∈ lw_all := lw_g (lw_at lw_m1 186 rfl) rfl
theorem q349 : (Jvm.Cond.fieldLink "RoundCheck" (422 : Nat) "RoundCheck" "fMany" "[I") ∈ lw_all := lw_g (lw_at lw_m1 187 rfl) rfl
theorem q350 : (Jvm.Cond.fieldLink "RoundCheck" (48 : Nat) "RoundCheck" "fResult" "[I") ∈ lw_all := lw_g (lw_at lw_m1 188 rfl) rfl
theorem q351 : (Jvm.Cond.fieldLink "RoundCheck" (425 : Nat) "RoundCheck" "pMany" "[I") ∈ lw_all := lw_g (lw_at lw_m1 189 rfl) rfl
theorem q352 : (Jvm.Cond.fieldLink "RoundCheck" (460 : Nat) "RoundCheck" "functors" "I") ∈ lw_all := lw_g (lw_at lw_m1 190 rfl) rfl
theorem q353 : (Jvm.Cond.fieldLink "RoundCheck" (463 : Nat) "RoundCheck" "predicates" "I") ∈ lw_all := lw_g (lw_at lw_m1 191 rfl) rfl
theorem q354 : (Jvm.Cond.fieldLink "RoundCheck" (83 : Nat) "RoundCheck" "gSort" "[I") ∈ lw_all := lw_g (lw_at lw_m1 192 rfl) rfl
theorem q355 : (Jvm.Cond.fieldLink "RoundCheck" (86 : Nat) "RoundCheck" "gOf" "[I") ∈ lw_all := lw_g (lw_at lw_m1 193 rfl) rfl
theorem q356 : (Jvm.Cond.fieldLink "RoundCheck" (89 : Nat) "RoundCheck" "gLocus0" "[I") ∈ lw_all := lw_g (lw_at lw_m1 194 rfl) rfl
theorem q357 : (Jvm.Cond.fieldLink "RoundCheck" (95 : Nat) "RoundCheck" "gLocus1" "[I") ∈ lw_all := lw_g (lw_at lw_m1 195 rfl) rfl
theorem q358 : (Jvm.Cond.fieldLink "RoundCheck" (98 : Nat) "RoundCheck" "gGives" "[I") ∈ lw_all := lw_g (lw_at lw_m1 196 rfl) rfl
theorem q359 : (Jvm.Cond.fieldLink "RoundCheck" (80 : Nat) "RoundCheck" "registrations" "I") ∈ lw_all := lw_g (lw_at lw_m1 197 rfl) rfl
theorem q360 : (Jvm.Cond.fieldLink "RoundCheck" (428 : Nat) "RoundCheck" "premises" "[I") ∈ lw_all := lw_g (lw_at lw_m1 198 rfl) rfl
theorem q361 : (Jvm.Cond.fieldLink "RoundCheck" (516 : Nat) "RoundCheck" "premiseMany" "I") ∈ lw_all := lw_g (lw_at lw_m1 199 rfl) rfl
theorem q362 : (Jvm.Cond.fieldLink "RoundCheck" (519 : Nat) "RoundCheck" "lastCases" "I") ∈ lw_all := lw_g (lw_at lw_m1 200 rfl) rfl
theorem q363 : (Jvm.Cond.fieldLink "RoundCheck" (42 : Nat) "RoundCheck" "constType" "[I") ∈ lw_all := lw_g (lw_at lw_m1 201 rfl) rfl
theorem q364 : (Jvm.Cond.fieldLink "RoundCheck" (333 : Nat) "RoundCheck" "constants" "I") ∈ lw_all := lw_g (lw_at lw_m1 202 rfl) rfl
theorem q365 : (Jvm.Cond.laysFinal "RoundCheck" "RoundCheck" "st" "LRoundCheck$Store;") ∈ lw_all := lw_g (lw_at lw_m1 203 rfl) rfl
theorem q366 : (Jvm.Cond.soleField "RoundCheck" "st") ∈ lw_all := lw_g (lw_at lw_m1 204 rfl) rfl
theorem q367 : (Jvm.Cond.lays "RoundCheck" "RoundCheck" "memo" "[I") ∈ lw_all := lw_g (lw_at lw_m1 205 rfl) rfl
theorem q368 : (Jvm.Cond.soleField "RoundCheck" "memo") ∈ lw_all := lw_g (lw_at lw_m1 206 rfl) rfl
theorem q369 : (Jvm.Cond.lays "RoundCheck" "RoundCheck" "memoStamp" "[I") ∈ lw_all := lw_g (lw_at lw_m1 207 rfl) rfl
theorem q370 : (Jvm.Cond.soleField "RoundCheck" "memoStamp") ∈ lw_all := lw_g (lw_at lw_m1 208 rfl) rfl
theorem q371 : (Jvm.Cond.lays "RoundCheck" "RoundCheck" "stamp" "I") ∈ lw_all := lw_g (lw_at lw_m1 209 rfl) rfl
theorem q372 : (Jvm.Cond.soleField "RoundCheck" "stamp") ∈ lw_all := lw_g (lw_at lw_m1 210 rfl) rfl
theorem q373 : (Jvm.Cond.lays "RoundCheck" "RoundCheck" "kn" "[I") ∈ lw_all := lw_g (lw_at lw_m1 211 rfl) rfl
theorem q374 : (Jvm.Cond.soleField "RoundCheck" "kn") ∈ lw_all := lw_g (lw_at lw_m1 212 rfl) rfl
theorem q375 : (Jvm.Cond.lays "RoundCheck" "RoundCheck" "knowns" "I") ∈ lw_all := lw_g (lw_at lw_m1 213 rfl) rfl
theorem q376 : (Jvm.Cond.soleField "RoundCheck" "knowns") ∈ lw_all := lw_g (lw_at lw_m1 214 rfl) rfl
theorem q377 : (Jvm.Cond.lays "RoundCheck" "RoundCheck" "run" "I") ∈ lw_all := lw_g (lw_at lw_m1 215 rfl) rfl
theorem q378 : (Jvm.Cond.soleField "RoundCheck" "run") ∈ lw_all := lw_g (lw_at lw_m1 216 rfl) rfl
theorem q379 : (Jvm.Cond.lays "RoundCheck" "RoundCheck" "isKnown" "[I") ∈ lw_all := lw_g (lw_at lw_m1 217 rfl) rfl
theorem q380 : (Jvm.Cond.soleField "RoundCheck" "isKnown") ∈ lw_all := lw_g (lw_at lw_m1 218 rfl) rfl
theorem q381 : (Jvm.Cond.lays "RoundCheck" "RoundCheck" "opened" "[I") ∈ lw_all := lw_g (lw_at lw_m1 219 rfl) rfl
theorem q382 : (Jvm.Cond.soleField "RoundCheck" "opened") ∈ lw_all := lw_g (lw_at lw_m1 220 rfl) rfl
theorem q383 : (Jvm.Cond.lays "RoundCheck" "RoundCheck" "hand" "[I") ∈ lw_all := lw_g (lw_at lw_m1 221 rfl) rfl
theorem q384 : (Jvm.Cond.soleField "RoundCheck" "hand") ∈ lw_all := lw_g (lw_at lw_m1 222 rfl) rfl
theorem q385 : (Jvm.Cond.laysFinal "RoundCheck" "RoundCheck" "th" "[I") ∈ lw_all := lw_g (lw_at lw_m1 223 rfl) rfl
theorem q386 : (Jvm.Cond.soleField "RoundCheck" "th") ∈ lw_all := lw_g (lw_at lw_m1 224 rfl) rfl
theorem q387 : (Jvm.Cond.laysFinal "RoundCheck" "RoundCheck" "up" "[I") ∈ lw_all := lw_g (lw_at lw_m1 225 rfl) rfl
theorem q388 : (Jvm.Cond.soleField "RoundCheck" "up") ∈ lw_all := lw_g (lw_at lw_m1 226 rfl) rfl
theorem q389 : (Jvm.Cond.lays "RoundCheck" "RoundCheck" "handStamp" "[I") ∈ lw_all := lw_g (lw_at lw_m1 227 rfl) rfl
theorem q390 : (Jvm.Cond.soleField "RoundCheck" "handStamp") ∈ lw_all := lw_g (lw_at lw_m1 228 rfl) rfl
theorem q391 : (Jvm.Cond.lays "RoundCheck" "RoundCheck" "hands" "I") ∈ lw_all := lw_g (lw_at lw_m1 229 rfl) rfl
theorem q392 : (Jvm.Cond.soleField "RoundCheck" "hands") ∈ lw_all := lw_g (lw_at lw_m1 230 rfl) rfl
theorem q393 : (Jvm.Cond.lays "RoundCheck" "RoundCheck" "firsts" "I") ∈ lw_all := lw_g (lw_at lw_m1 231 rfl) rfl
theorem q394 : (Jvm.Cond.soleField "RoundCheck" "firsts") ∈ lw_all := lw_g (lw_at lw_m1 232 rfl) rfl
theorem q395 : (Jvm.Cond.lays "RoundCheck" "RoundCheck" "beyond" "Z") ∈ lw_all := lw_g (lw_at lw_m1 233 rfl) rfl
theorem q396 : (Jvm.Cond.soleField "RoundCheck" "beyond") ∈ lw_all := lw_g (lw_at lw_m1 234 rfl) rfl
theorem q397 : (Jvm.Cond.lays "RoundCheck" "RoundCheck" "mTerm" "[I") ∈ lw_all := lw_g (lw_at lw_m1 235 rfl) rfl
theorem q398 : (Jvm.Cond.soleField "RoundCheck" "mTerm") ∈ lw_all := lw_g (lw_at lw_m1 236 rfl) rfl
theorem q399 : (Jvm.Cond.lays "RoundCheck" "RoundCheck" "mMode" "[I") ∈ lw_all := lw_g (lw_at lw_m1 237 rfl) rfl
theorem q400 : (Jvm.Cond.soleField "RoundCheck" "mMode") ∈ lw_all := lw_g (lw_at lw_m1 238 rfl) rfl
theorem q401 : (Jvm.Cond.lays "RoundCheck" "RoundCheck" "mArg" "[I") ∈ lw_all := lw_g (lw_at lw_m1 239 rfl) rfl
theorem q402 : (Jvm.Cond.soleField "RoundCheck" "mArg") ∈ lw_all := lw_g (lw_at lw_m2 0 rfl) rfl
theorem q403 : (Jvm.Cond.lays "RoundCheck" "RoundCheck" "jTerm" "[I") ∈ lw_all := lw_g (lw_at lw_m2 1 rfl) rfl
theorem q404 : (Jvm.Cond.soleField "RoundCheck" "jTerm") ∈ lw_all := lw_g (lw_at lw_m2 2 rfl) rfl
theorem q405 : (Jvm.Cond.lays "RoundCheck" "RoundCheck" "jVal" "[I") ∈ lw_all := lw_g (lw_at lw_m2 3 rfl) rfl
theorem q406 : (Jvm.Cond.soleField "RoundCheck" "jVal") ∈ lw_all := lw_g (lw_at lw_m2 4 rfl) rfl
theorem q407 : (Jvm.Cond.lays "RoundCheck" "RoundCheck" "modeFacts" "I") ∈ lw_all := lw_g (lw_at lw_m2 5 rfl) rfl
theorem q408 : (Jvm.Cond.soleField "RoundCheck" "modeFacts") ∈ lw_all := lw_g (lw_at lw_m2 6 rfl) rfl
theorem q409 : (Jvm.Cond.lays "RoundCheck" "RoundCheck" "adjectiveFacts" "I") ∈ lw_all := lw_g (lw_at lw_m2 7 rfl) rfl
theorem q410 : (Jvm.Cond.soleField "RoundCheck" "adjectiveFacts") ∈ lw_all := lw_g (lw_at lw_m2 8 rfl) rfl
theorem q411 : (Jvm.Cond.lays "RoundCheck" "RoundCheck" "coming" "[I") ∈ lw_all := lw_g (lw_at lw_m2 9 rfl) rfl
theorem q412 : (Jvm.Cond.soleField "RoundCheck" "coming") ∈ lw_all := lw_g (lw_at lw_m2 10 rfl) rfl
theorem q413 : (Jvm.Cond.lays "RoundCheck" "RoundCheck" "comes" "I") ∈ lw_all := lw_g (lw_at lw_m2 11 rfl) rfl
theorem q414 : (Jvm.Cond.soleField "RoundCheck" "comes") ∈ lw_all := lw_g (lw_at lw_m2 12 rfl) rfl
theorem q415 : (Jvm.Cond.lays "RoundCheck" "RoundCheck" "brought" "[I") ∈ lw_all := lw_g (lw_at lw_m2 13 rfl) rfl
theorem q416 : (Jvm.Cond.soleField "RoundCheck" "brought") ∈ lw_all := lw_g (lw_at lw_m2 14 rfl) rfl
theorem q417 : (Jvm.Cond.lays "RoundCheck" "RoundCheck" "brings" "I") ∈ lw_all := lw_g (lw_at lw_m2 15 rfl) rfl
theorem q418 : (Jvm.Cond.soleField "RoundCheck" "brings") ∈ lw_all := lw_g (lw_at lw_m2 16 rfl) rfl
theorem q419 : (Jvm.Cond.lays "RoundCheck" "RoundCheck" "newFrom" "I") ∈ lw_all := lw_g (lw_at lw_m2 17 rfl) rfl
theorem q420 : (Jvm.Cond.soleField "RoundCheck" "newFrom") ∈ lw_all := lw_g (lw_at lw_m2 18 rfl) rfl
theorem q421 : (Jvm.Cond.lays "RoundCheck" "RoundCheck" "found" "Z") ∈ lw_all := lw_g (lw_at lw_m2 19 rfl) rfl
theorem q422 : (Jvm.Cond.soleField "RoundCheck" "found") ∈ lw_all := lw_g (lw_at lw_m2 20 rfl) rfl
theorem q423 : (Jvm.Cond.lays "RoundCheck" "RoundCheck" "missing" "Z") ∈ lw_all := lw_g (lw_at lw_m2 21 rfl) rfl
theorem q424 : (Jvm.Cond.soleField "RoundCheck" "missing") ∈ lw_all := lw_g (lw_at lw_m2 22 rfl) rfl
theorem q425 : (Jvm.Cond.lays "RoundCheck" "RoundCheck" "caseRow" "[I") ∈ lw_all := lw_g (lw_at lw_m2 23 rfl) rfl
theorem q426 : (Jvm.Cond.soleField "RoundCheck" "caseRow") ∈ lw_all := lw_g (lw_at lw_m2 24 rfl) rfl
theorem q427 : (Jvm.Cond.lays "RoundCheck" "RoundCheck" "pendForm" "[I") ∈ lw_all := lw_g (lw_at lw_m2 25 rfl) rfl
theorem q428 : (Jvm.Cond.soleField "RoundCheck" "pendForm") ∈ lw_all := lw_g (lw_at lw_m2 26 rfl) rfl
theorem q429 : (Jvm.Cond.lays "RoundCheck" "RoundCheck" "pendNext" "[I") ∈ lw_all := lw_g (lw_at lw_m2 27 rfl) rfl
theorem q430 : (Jvm.Cond.soleField "RoundCheck" "pendNext") ∈ lw_all := lw_g (lw_at lw_m2 28 rfl) rfl
theorem q431 : (Jvm.Cond.lays "RoundCheck" "RoundCheck" "pends" "I") ∈ lw_all := lw_g (lw_at lw_m2 29 rfl) rfl
theorem q432 : (Jvm.Cond.soleField "RoundCheck" "pends") ∈ lw_all := lw_g (lw_at lw_m2 30 rfl) rfl
theorem q433 : (Jvm.Cond.lays "RoundCheck" "RoundCheck" "answer" "I") ∈ lw_all := lw_g (lw_at lw_m2 31 rfl) rfl
theorem q434 : (Jvm.Cond.soleField "RoundCheck" "answer") ∈ lw_all := lw_g (lw_at lw_m2 32 rfl) rfl
theorem q435 : (Jvm.Cond.laysFinal "RoundCheck" "RoundCheck" "form" "[I") ∈ lw_all := lw_g (lw_at lw_m2 33 rfl) rfl
theorem q436 : (Jvm.Cond.soleField "RoundCheck" "form") ∈ lw_all := lw_g (lw_at lw_m2 34 rfl) rfl
theorem q437 : (Jvm.Cond.lays "RoundCheck" "RoundCheck" "forms" "I") ∈ lw_all := lw_g (lw_at lw_m2 35 rfl) rfl
theorem q438 : (Jvm.Cond.soleField "RoundCheck" "forms") ∈ lw_all := lw_g (lw_at lw_m2 36 rfl) rfl
theorem q439 : (Jvm.Cond.laysFinal "RoundCheck" "RoundCheck" "mParent" "[I") ∈ lw_all := lw_g (lw_at lw_m2 37 rfl) rfl
theorem q440 : (Jvm.Cond.soleField "RoundCheck" "mParent") ∈ lw_all := lw_g (lw_at lw_m2 38 rfl) rfl
theorem q441 : (Jvm.Cond.laysFinal "RoundCheck" "RoundCheck" "mHas" "[Z") ∈ lw_all := lw_g (lw_at lw_m2 39 rfl) rfl
theorem q442 : (Jvm.Cond.soleField "RoundCheck" "mHas") ∈ lw_all := lw_g (lw_at lw_m2 40 rfl) rfl
theorem q443 : (Jvm.Cond.lays "RoundCheck" "RoundCheck" "modes" "I") ∈ lw_all := lw_g (lw_at lw_m2 41 rfl) rfl
theorem q444 : (Jvm.Cond.soleField "RoundCheck" "modes") ∈ lw_all := lw_g (lw_at lw_m2 42 rfl) rfl
theorem q445 : (Jvm.Cond.lays "RoundCheck" "RoundCheck" "attributes" "I") ∈ lw_all := lw_g (lw_at lw_m2 43 rfl) rfl
theorem q446 : (Jvm.Cond.soleField "RoundCheck" "attributes") ∈ lw_all := lw_g (lw_at lw_m2 44 rfl) rfl
theorem q447 : (Jvm.Cond.laysFinal "RoundCheck" "RoundCheck" "fMany" "[I") ∈ lw_all := lw_g (lw_at lw_m2 45 rfl) rfl
theorem q448 : (Jvm.Cond.soleField "RoundCheck" "fMany") ∈ lw_all := lw_g (lw_at lw_m2 46 rfl) rfl
theorem q449 : (Jvm.Cond.laysFinal "RoundCheck" "RoundCheck" "fResult" "[I") ∈ lw_all := lw_g (lw_at lw_m2 47 rfl) rfl
theorem q450 : (Jvm.Cond.soleField "RoundCheck" "fResult") ∈ lw_all := lw_g (lw_at lw_m2 48 rfl) rfl
theorem q451 : (Jvm.Cond.laysFinal "RoundCheck" "RoundCheck" "pMany" "[I") ∈ lw_all := lw_g (lw_at lw_m2 49 rfl) rfl
theorem q452 : (Jvm.Cond.soleField "RoundCheck" "pMany") ∈ lw_all := lw_g (lw_at lw_m2 50 rfl) rfl
theorem q453 : (Jvm.Cond.lays "RoundCheck" "RoundCheck" "functors" "I") ∈ lw_all := lw_g (lw_at lw_m2 51 rfl) rfl
theorem q454 : (Jvm.Cond.soleField "RoundCheck" "functors") ∈ lw_all := lw_g (lw_at lw_m2 52 rfl) rfl
theorem q455 : (Jvm.Cond.lays "RoundCheck" "RoundCheck" "predicates" "I") ∈ lw_all := lw_g (lw_at lw_m2 53 rfl) rfl
theorem q456 : (Jvm.Cond.soleField "RoundCheck" "predicates") ∈ lw_all := lw_g (lw_at lw_m2 54 rfl) rfl
theorem q457 : (Jvm.Cond.laysFinal "RoundCheck" "RoundCheck" "gSort" "[I") ∈ lw_all := lw_g (lw_at lw_m2 55 rfl) rfl
theorem q458 : (Jvm.Cond.soleField "RoundCheck" "gSort") ∈ lw_all := lw_g (lw_at lw_m2 56 rfl) rfl
theorem q459 : (Jvm.Cond.laysFinal "RoundCheck" "RoundCheck" "gOf" "[I") ∈ lw_all := lw_g (lw_at lw_m2 57 rfl) rfl
theorem q460 : (Jvm.Cond.soleField "RoundCheck" "gOf") ∈ lw_all := lw_g (lw_at lw_m2 58 rfl) rfl
theorem q461 : (Jvm.Cond.laysFinal "RoundCheck" "RoundCheck" "gLocus0" "[I") ∈ lw_all := lw_g (lw_at lw_m2 59 rfl) rfl
theorem q462 : (Jvm.Cond.soleField "RoundCheck" "gLocus0") ∈ lw_all := lw_g (lw_at lw_m2 60 rfl) rfl
theorem q463 : (Jvm.Cond.laysFinal "RoundCheck" "RoundCheck" "gLocus1" "[I") ∈ lw_all := lw_g (lw_at lw_m2 61 rfl) rfl
theorem q464 : (Jvm.Cond.soleField "RoundCheck" "gLocus1") ∈ lw_all := lw_g (lw_at lw_m2 62 rfl) rfl
theorem q465 : (Jvm.Cond.laysFinal "RoundCheck" "RoundCheck" "gGives" "[I") ∈ lw_all := lw_g (lw_at lw_m2 63 rfl) rfl
theorem q466 : (Jvm.Cond.soleField "RoundCheck" "gGives") ∈ lw_all := lw_g (lw_at lw_m2 64 rfl) rfl
theorem q467 : (Jvm.Cond.lays "RoundCheck" "RoundCheck" "registrations" "I") ∈ lw_all := lw_g (lw_at lw_m2 65 rfl) rfl
theorem q468 : (Jvm.Cond.soleField "RoundCheck" "registrations") ∈ lw_all := lw_g (lw_at lw_m2 66 rfl) rfl
theorem q469 : (Jvm.Cond.laysFinal "RoundCheck" "RoundCheck" "premises" "[I") ∈ lw_all := lw_g (lw_at lw_m2 67 rfl) rfl
theorem q470 : (Jvm.Cond.soleField "RoundCheck" "premises") ∈ lw_all := lw_g (lw_at lw_m2 68 rfl) rfl
theorem q471 : (Jvm.Cond.lays "RoundCheck" "RoundCheck" "premiseMany" "I") ∈ lw_all := lw_g (lw_at lw_m2 69 rfl) rfl
theorem q472 : (Jvm.Cond.soleField "RoundCheck" "premiseMany") ∈ lw_all := lw_g (lw_at lw_m2 70 rfl) rfl
theorem q473 : (Jvm.Cond.lays "RoundCheck" "RoundCheck" "lastCases" "I") ∈ lw_all := lw_g (lw_at lw_m2 71 rfl) rfl
theorem q474 : (Jvm.Cond.soleField "RoundCheck" "lastCases") ∈ lw_all := lw_g (lw_at lw_m2 72 rfl) rfl
theorem q475 : (Jvm.Cond.lays "RoundCheck" "RoundCheck" "constType" "[I") ∈ lw_all := lw_g (lw_at lw_m2 73 rfl) rfl
theorem q476 : (Jvm.Cond.soleField "RoundCheck" "constType") ∈ lw_all := lw_g (lw_at lw_m2 74 rfl) rfl
theorem q477 : (Jvm.Cond.lays "RoundCheck" "RoundCheck" "constants" "I") ∈ lw_all := lw_g (lw_at lw_m2 75 rfl) rfl
theorem q478 : (Jvm.Cond.soleField "RoundCheck" "constants") ∈ lw_all := lw_g (lw_at lw_m2 76 rfl) rfl
theorem q479 : (Jvm.Cond.superclass "RoundCheck" "java/lang/Object") ∈ lw_all := lw_g (lw_at lw_m2 77 rfl) rfl
theorem q482 : (Jvm.Cond.instanceMethod ({ cls := "RoundCheck", name := "clear", desc := "()I" } : Jvm.MethodName)) ∈ lw_all := lw_g (lw_at lw_m2 80 rfl) rfl
theorem q483 : (Jvm.Cond.selects "RoundCheck" ({ cls := "RoundCheck", name := "clear", desc := "()I" } : Jvm.MethodName) ({ cls := "RoundCheck", name := "clear", desc := "()I" } : Jvm.MethodName)) ∈ lw_all := lw_g (lw_at lw_m2 81 rfl) rfl
theorem q484 : (Jvm.Cond.code ({ cls := "RoundCheck", name := "clear", desc := "()I" } : Jvm.MethodName) prog_1_method_89_code (2 : Nat) (Option.some Jvm.ClassFile.FieldType.int)) ∈ lw_all := lw_g (lw_at lw_m2 82 rfl) rfl
theorem q491 : (Jvm.Cond.instanceMethod ({ cls := "RoundCheck", name := "mode", desc := "(IZ)I" } : Jvm.MethodName)) ∈ lw_all := lw_g (lw_at lw_m2 89 rfl) rfl
theorem q492 : (Jvm.Cond.selects "RoundCheck" ({ cls := "RoundCheck", name := "mode", desc := "(IZ)I" } : Jvm.MethodName) ({ cls := "RoundCheck", name := "mode", desc := "(IZ)I" } : Jvm.MethodName)) ∈ lw_all := lw_g (lw_at lw_m2 90 rfl) rfl
theorem q493 : (Jvm.Cond.code ({ cls := "RoundCheck", name := "mode", desc := "(IZ)I" } : Jvm.MethodName) prog_1_method_69_code (4 : Nat) (Option.some Jvm.ClassFile.FieldType.int)) ∈ lw_all := lw_g (lw_at lw_m2 91 rfl) rfl
theorem q494 : (Jvm.Cond.methodLink "RoundCheck" (455 : Nat) ({ cls := "RoundCheck", name := "typeOfNumber", desc := "(I)I" } : Jvm.MethodName)) ∈ lw_all := lw_g (lw_at lw_m2 92 rfl) rfl
theorem q495 : (Jvm.Cond.privateMethod ({ cls := "RoundCheck", name := "typeOfNumber", desc := "(I)I" } : Jvm.MethodName)) ∈ lw_tbl := lw_at lw_m2 93 rfl
theorem q496 : (Jvm.Cond.instanceMethod ({ cls := "RoundCheck", name := "typeOfNumber", desc := "(I)I" } : Jvm.MethodName)) ∈ lw_all := lw_g (lw_at lw_m2 94 rfl) rfl
theorem q497 : (Jvm.Cond.code ({ cls := "RoundCheck", name := "typeOfNumber", desc := "(I)I" } : Jvm.MethodName) prog_1_method_62_code (3 : Nat) (Option.some Jvm.ClassFile.FieldType.int)) ∈ lw_all := lw_g (lw_at lw_m2 95 rfl) rfl
theorem q498 : (Jvm.Cond.methodLink "RoundCheck" (444 : Nat) ({ cls := "RoundCheck", name := "formOf", desc := "(I)I" } : Jvm.MethodName)) ∈ lw_all := lw_g (lw_at lw_m2 96 rfl) rfl
theorem q499 : (Jvm.Cond.privateMethod ({ cls := "RoundCheck", name := "formOf", desc := "(I)I" } : Jvm.MethodName)) ∈ lw_tbl := lw_at lw_m2 97 rfl
theorem q500 : (Jvm.Cond.instanceMethod ({ cls := "RoundCheck", name := "formOf", desc := "(I)I" } : Jvm.MethodName)) ∈ lw_all := lw_g (lw_at lw_m2 98 rfl) rfl
theorem q501 : (Jvm.Cond.code ({ cls := "RoundCheck", name := "formOf", desc := "(I)I" } : Jvm.MethodName) prog_1_method_60_code (2 : Nat) (Option.some Jvm.ClassFile.FieldType.int)) ∈ lw_all := lw_g (lw_at lw_m2 99 rfl) rfl
theorem q502 : (Jvm.Cond.methodLink "RoundCheck" (440 : Nat) ({ cls := "RoundCheck", name := "need", desc := "(Z)V" } : Jvm.MethodName)) ∈ lw_all := lw_g (lw_at lw_m2 100 rfl) rfl
theorem q503 : (Jvm.Cond.static ({ cls := "RoundCheck", name := "need", desc := "(Z)V" } : Jvm.MethodName)) ∈ lw_all := lw_g (lw_at lw_m2 101 rfl) rfl
theorem q504 : (Jvm.Cond.code ({ cls := "RoundCheck", name := "need", desc := "(Z)V" } : Jvm.MethodName) prog_1_method_58_code (1 : Nat) (Option.none : Option Jvm.ClassFile.FieldType)) ∈ lw_all := lw_g (lw_at lw_m2 102 rfl) rfl
theorem q505 : (Jvm.Cond.classLink "RoundCheck" (431 : Nat) "java/lang/IllegalArgumentException") ∈ lw_all := lw_g (lw_at lw_m2 103 rfl) rfl
theorem q545 : (Jvm.Cond.methodLink "RoundCheck" (433 : Nat) ({ cls := "java/lang/IllegalArgumentException", name := "<init>", desc := "()V" } : Jvm.MethodName)) ∈ lw_all := lw_g (lw_at lw_m2 143 rfl) rfl
theorem q567 : (Jvm.Cond.methodLink "RoundCheck" (447 : Nat) ({ cls := "RoundCheck", name := "loci", desc := "(I)I" } : Jvm.MethodName)) ∈ lw_all := lw_g (lw_at lw_m2 165 rfl) rfl
theorem q568 : (Jvm.Cond.privateMethod ({ cls := "RoundCheck", name := "loci", desc := "(I)I" } : Jvm.MethodName)) ∈ lw_tbl := lw_at lw_m2 166 rfl
theorem q569 : (Jvm.Cond.instanceMethod ({ cls := "RoundCheck", name := "loci", desc := "(I)I" } : Jvm.MethodName)) ∈ lw_all := lw_g (lw_at lw_m2 167 rfl) rfl
theorem q570 : (Jvm.Cond.code ({ cls := "RoundCheck", name := "loci", desc := "(I)I" } : Jvm.MethodName) prog_1_method_64_code (5 : Nat) (Option.some Jvm.ClassFile.FieldType.int)) ∈ lw_all := lw_g (lw_at lw_m2 168 rfl) rfl
theorem q571 : (Jvm.Cond.methodLink "RoundCheck" (28 : Nat) ({ cls := "RoundCheck$Store", name := "at", desc := "(II)I" } : Jvm.MethodName)) ∈ lw_all := lw_g (lw_at lw_m2 169 rfl) rfl
theorem q575 : (Jvm.Cond.methodLink "RoundCheck" (107 : Nat) ({ cls := "java/lang/Math", name := "max", desc := "(II)I" } : Jvm.MethodName)) ∈ lw_all := lw_g (lw_at lw_m2 173 rfl) rfl
theorem q576 : (Jvm.Cond.methodLink "RoundCheck" (458 : Nat) ({ cls := "RoundCheck", name := "room", desc := "(Z)V" } : Jvm.MethodName)) ∈ lw_all := lw_g (lw_at lw_m2 174 rfl) rfl
theorem q577 : (Jvm.Cond.static ({ cls := "RoundCheck", name := "room", desc := "(Z)V" } : Jvm.MethodName)) ∈ lw_all := lw_g (lw_at lw_m2 175 rfl) rfl
theorem q578 : (Jvm.Cond.code ({ cls := "RoundCheck", name := "room", desc := "(Z)V" } : Jvm.MethodName) prog_1_method_59_code (1 : Nat) (Option.none : Option Jvm.ClassFile.FieldType)) ∈ lw_all := lw_g (lw_at lw_m2 176 rfl) rfl
theorem q579 : (Jvm.Cond.classLink "RoundCheck" (434 : Nat) "java/lang/IllegalStateException") ∈ lw_all := lw_g (lw_at lw_m2 177 rfl) rfl
theorem q588 : (Jvm.Cond.methodLink "RoundCheck" (436 : Nat) ({ cls := "java/lang/IllegalStateException", name := "<init>", desc := "()V" } : Jvm.MethodName)) ∈ lw_all := lw_g (lw_at lw_m2 186 rfl) rfl
theorem q598 : (Jvm.Cond.instanceMethod ({ cls := "RoundCheck", name := "attribute", desc := "()I" } : Jvm.MethodName)) ∈ lw_all := lw_g (lw_at lw_m2 196 rfl) rfl
theorem q599 : (Jvm.Cond.selects "RoundCheck" ({ cls := "RoundCheck", name := "attribute", desc := "()I" } : Jvm.MethodName) ({ cls := "RoundCheck", name := "attribute", desc := "()I" } : Jvm.MethodName)) ∈ lw_all := lw_g (lw_at lw_m2 197 rfl) rfl
theorem q600 : (Jvm.Cond.code ({ cls := "RoundCheck", name := "attribute", desc := "()I" } : Jvm.MethodName) prog_1_method_70_code (1 : Nat) (Option.some Jvm.ClassFile.FieldType.int)) ∈ lw_all := lw_g (lw_at lw_m2 198 rfl) rfl
theorem q605 : (Jvm.Cond.instanceMethod ({ cls := "RoundCheck", name := "functor", desc := "(II)I" } : Jvm.MethodName)) ∈ lw_all := lw_g (lw_at lw_m2 203 rfl) rfl
theorem q606 : (Jvm.Cond.selects "RoundCheck" ({ cls := "RoundCheck", name := "functor", desc := "(II)I" } : Jvm.MethodName) ({ cls := "RoundCheck", name := "functor", desc := "(II)I" } : Jvm.MethodName)) ∈ lw_all := lw_g (lw_at lw_m2 204 rfl) rfl
theorem q607 : (Jvm.Cond.code ({ cls := "RoundCheck", name := "functor", desc := "(II)I" } : Jvm.MethodName) prog_1_method_71_code (4 : Nat) (Option.some Jvm.ClassFile.FieldType.int)) ∈ lw_all := lw_g (lw_at lw_m2 205 rfl) rfl
theorem q612 : (Jvm.Cond.instanceMethod ({ cls := "RoundCheck", name := "predicate", desc := "(I)I" } : Jvm.MethodName)) ∈ lw_all := lw_g (lw_at lw_m2 210 rfl) rfl
theorem q613 : (Jvm.Cond.selects "RoundCheck" ({ cls := "RoundCheck", name := "predicate", desc := "(I)I" } : Jvm.MethodName) ({ cls := "RoundCheck", name := "predicate", desc := "(I)I" } : Jvm.MethodName)) ∈ lw_all := lw_g (lw_at lw_m2 211 rfl) rfl
theorem q614 : (Jvm.Cond.code ({ cls := "RoundCheck", name := "predicate", desc := "(I)I" } : Jvm.MethodName) prog_1_method_72_code (2 : Nat) (Option.some Jvm.ClassFile.FieldType.int)) ∈ lw_all := lw_g (lw_at lw_m2 212 rfl) rfl
theorem q619 : (Jvm.Cond.instanceMethod ({ cls := "RoundCheck", name := "type", desc := "(III)I" } : Jvm.MethodName)) ∈ lw_all := lw_g (lw_at lw_m2 217 rfl) rfl
theorem q620 : (Jvm.Cond.selects "RoundCheck" ({ cls := "RoundCheck", name := "type", desc := "(III)I" } : Jvm.MethodName) ({ cls := "RoundCheck", name := "type", desc := "(III)I" } : Jvm.MethodName)) ∈ lw_all := lw_g (lw_at lw_m2 218 rfl) rfl
theorem q621 : (Jvm.Cond.code ({ cls := "RoundCheck", name := "type", desc := "(III)I" } : Jvm.MethodName) prog_1_method_73_code (7 : Nat) (Option.some Jvm.ClassFile.FieldType.int)) ∈ lw_all := lw_g (lw_at lw_m2 219 rfl) rfl
theorem q622 : (Jvm.Cond.methodLink "RoundCheck" (466 : Nat) ({ cls := "RoundCheck", name := "termOf", desc := "(I)I" } : Jvm.MethodName)) ∈ lw_all := lw_g (lw_at lw_m2 220 rfl) rfl
theorem q623 : (Jvm.Cond.privateMethod ({ cls := "RoundCheck", name := "termOf", desc := "(I)I" } : Jvm.MethodName)) ∈ lw_tbl := lw_at lw_m2 221 rfl
theorem q624 : (Jvm.Cond.instanceMethod ({ cls := "RoundCheck", name := "termOf", desc := "(I)I" } : Jvm.MethodName)) ∈ lw_all := lw_g (lw_at lw_m2 222 rfl) rfl
theorem q625 : (Jvm.Cond.code ({ cls := "RoundCheck", name := "termOf", desc := "(I)I" } : Jvm.MethodName) prog_1_method_61_code (3 : Nat) (Option.some Jvm.ClassFile.FieldType.int)) ∈ lw_all := lw_g (lw_at lw_m2 223 rfl) rfl
theorem q626 : (Jvm.Cond.methodLink "RoundCheck" (214 : Nat) ({ cls := "RoundCheck", name := "isTerm", desc := "(I)Z" } : Jvm.MethodName)) ∈ lw_all := lw_g (lw_at lw_m2 224 rfl) rfl
theorem q627 : (Jvm.Cond.static ({ cls := "RoundCheck", name := "isTerm", desc := "(I)Z" } : Jvm.MethodName)) ∈ lw_all := lw_g (lw_at lw_m2 225 rfl) rfl
theorem q628 : (Jvm.Cond.code ({ cls := "RoundCheck", name := "isTerm", desc := "(I)Z" } : Jvm.MethodName) prog_1_method_20_code (1 : Nat) (Option.some Jvm.ClassFile.FieldType.boolean)) ∈ lw_all := lw_g (lw_at lw_m2 226 rfl) rfl
theorem q629 : (Jvm.Cond.methodLink "RoundCheck" (469 : Nat) ({ cls := "RoundCheck", name := "isSet", desc := "(I)V" } : Jvm.MethodName)) ∈ lw_all := lw_g (lw_at lw_m2 227 rfl) rfl
theorem q630 : (Jvm.Cond.privateMethod ({ cls := "RoundCheck", name := "isSet", desc := "(I)V" } : Jvm.MethodName)) ∈ lw_tbl := lw_at lw_m2 228 rfl
theorem q631 : (Jvm.Cond.instanceMethod ({ cls := "RoundCheck", name := "isSet", desc := "(I)V" } : Jvm.MethodName)) ∈ lw_all := lw_g (lw_at lw_m2 229 rfl) rfl
theorem q632 : (Jvm.Cond.code ({ cls := "RoundCheck", name := "isSet", desc := "(I)V" } : Jvm.MethodName) prog_1_method_67_code (2 : Nat) (Option.none : Option Jvm.ClassFile.FieldType)) ∈ lw_all := lw_g (lw_at lw_m2 230 rfl) rfl
theorem q633 : (Jvm.Cond.methodLink "RoundCheck" (472 : Nat) ({ cls := "RoundCheck", name := "withSet", desc := "(III)I" } : Jvm.MethodName)) ∈ lw_all := lw_g (lw_at lw_m2 231 rfl) rfl
theorem q634 : (Jvm.Cond.privateMethod ({ cls := "RoundCheck", name := "withSet", desc := "(III)I" } : Jvm.MethodName)) ∈ lw_tbl := lw_at lw_m2 232 rfl
theorem q635 : (Jvm.Cond.instanceMethod ({ cls := "RoundCheck", name := "withSet", desc := "(III)I" } : Jvm.MethodName)) ∈ lw_all := lw_g (lw_at lw_m2 233 rfl) rfl
theorem q636 : (Jvm.Cond.code ({ cls := "RoundCheck", name := "withSet", desc := "(III)I" } : Jvm.MethodName) prog_1_method_68_code (6 : Nat) (Option.some Jvm.ClassFile.FieldType.int)) ∈ lw_all := lw_g (lw_at lw_m2 234 rfl) rfl
theorem q637 : (Jvm.Cond.methodLink "RoundCheck" (17 : Nat) ({ cls := "RoundCheck$Store", name := "push", desc := "(I)V" } : Jvm.MethodName)) ∈ lw_all := lw_g (lw_at lw_m2 235 rfl) rfl
theorem q638 : (Jvm.Cond.methodLink "RoundCheck" (25 : Nat) ({ cls := "RoundCheck", name := "typed", desc := "(III)I" } : Jvm.MethodName)) ∈ lw_all := lw_g (lw_at lw_m2 236 rfl) rfl
theorem q639 : (Jvm.Cond.privateMethod ({ cls := "RoundCheck", name := "typed", desc := "(III)I" } : Jvm.MethodName)) ∈ lw_tbl := lw_at lw_m2 237 rfl
theorem q640 : (Jvm.Cond.instanceMethod ({ cls := "RoundCheck", name := "typed", desc := "(III)I" } : Jvm.MethodName)) ∈ lw_all := lw_g (lw_at lw_m2 238 rfl) rfl
theorem q641 : (Jvm.Cond.code ({ cls := "RoundCheck", name := "typed", desc := "(III)I" } : Jvm.MethodName) prog_1_method_1_code (8 : Nat) (Option.some Jvm.ClassFile.FieldType.int)) ∈ lw_all := lw_g (lw_at lw_m2 239 rfl) rfl
theorem q642 : (Jvm.Cond.methodLink "RoundCheck" (21 : Nat) ({ cls := "RoundCheck$Store", name := "make", desc := "(III)I" } : Jvm.MethodName)) ∈ lw_all := lw_g (lw_at lw_m3 0 rfl) rfl
theorem q643 : (Jvm.Cond.methodLink "RoundCheck" (475 : Nat) ({ cls := "RoundCheck", name := "keep", desc := "(III)I" } : Jvm.MethodName)) ∈ lw_all := lw_g (lw_at lw_m3 1 rfl) rfl
theorem q644 : (Jvm.Cond.privateMethod ({ cls := "RoundCheck", name := "keep", desc := "(III)I" } : Jvm.MethodName)) ∈ lw_tbl := lw_at lw_m3 2 rfl
theorem q645 : (Jvm.Cond.instanceMethod ({ cls := "RoundCheck", name := "keep", desc := "(III)I" } : Jvm.MethodName)) ∈ lw_all := lw_g (lw_at lw_m3 3 rfl) rfl
theorem q646 : (Jvm.Cond.code ({ cls := "RoundCheck", name := "keep", desc := "(III)I" } : Jvm.MethodName) prog_1_method_66_code (4 : Nat) (Option.some Jvm.ClassFile.FieldType.int)) ∈ lw_all := lw_g (lw_at lw_m3 4 rfl) rfl
theorem q647 : (Jvm.Cond.methodLink "RoundCheck" (403 : Nat) ({ cls := "RoundCheck$Store", name := "forget", desc := "(II)V" } : Jvm.MethodName)) ∈ lw_all := lw_g (lw_at lw_m3 5 rfl) rfl
theorem q655 : (Jvm.Cond.instanceMethod ({ cls := "RoundCheck", name := "constant", desc := "(I)I" } : Jvm.MethodName)) ∈ lw_all := lw_g (lw_at lw_m3 13 rfl) rfl
theorem q656 : (Jvm.Cond.selects "RoundCheck" ({ cls := "RoundCheck", name := "constant", desc := "(I)I" } : Jvm.MethodName) ({ cls := "RoundCheck", name := "constant", desc := "(I)I" } : Jvm.MethodName)) ∈ lw_all := lw_g (lw_at lw_m3 14 rfl) rfl
theorem q657 : (Jvm.Cond.code ({ cls := "RoundCheck", name := "constant", desc := "(I)I" } : Jvm.MethodName) prog_1_method_74_code (5 : Nat) (Option.some Jvm.ClassFile.FieldType.int)) ∈ lw_all := lw_g (lw_at lw_m3 15 rfl) rfl
theorem q658 : (Jvm.Cond.methodLink "RoundCheck" (478 : Nat) ({ cls := "RoundCheck", name := "closed", desc := "(I)I" } : Jvm.MethodName)) ∈ lw_all := lw_g (lw_at lw_m3 16 rfl) rfl
theorem q659 : (Jvm.Cond.privateMethod ({ cls := "RoundCheck", name := "closed", desc := "(I)I" } : Jvm.MethodName)) ∈ lw_tbl := lw_at lw_m3 17 rfl
theorem q660 : (Jvm.Cond.instanceMethod ({ cls := "RoundCheck", name := "closed", desc := "(I)I" } : Jvm.MethodName)) ∈ lw_all := lw_g (lw_at lw_m3 18 rfl) rfl
theorem q661 : (Jvm.Cond.code ({ cls := "RoundCheck", name := "closed", desc := "(I)I" } : Jvm.MethodName) prog_1_method_65_code (2 : Nat) (Option.some Jvm.ClassFile.FieldType.int)) ∈ lw_all := lw_g (lw_at lw_m3 19 rfl) rfl
theorem q662 : (Jvm.Cond.methodLink "RoundCheck" (293 : Nat) ({ cls := "RoundCheck", name := "newOne", desc := "(I)I" } : Jvm.MethodName)) ∈ lw_all := lw_g (lw_at lw_m3 20 rfl) rfl
theorem q663 : (Jvm.Cond.privateMethod ({ cls := "RoundCheck", name := "newOne", desc := "(I)I" } : Jvm.MethodName)) ∈ lw_tbl := lw_at lw_m3 21 rfl
theorem q664 : (Jvm.Cond.instanceMethod ({ cls := "RoundCheck", name := "newOne", desc := "(I)I" } : Jvm.MethodName)) ∈ lw_all := lw_g (lw_at lw_m3 22 rfl) rfl
theorem q665 : (Jvm.Cond.code ({ cls := "RoundCheck", name := "newOne", desc := "(I)I" } : Jvm.MethodName) prog_1_method_56_code (2 : Nat) (Option.some Jvm.ClassFile.FieldType.int)) ∈ lw_all := lw_g (lw_at lw_m3 23 rfl) rfl
theorem q666 : (Jvm.Cond.methodLink "RoundCheck" (112 : Nat) ({ cls := "java/util/Arrays", name := "copyOf", desc := "([II)[I" } : Jvm.MethodName)) ∈ lw_all := lw_g (lw_at lw_m3 24 rfl) rfl
theorem q671 : (Jvm.Cond.instanceMethod ({ cls := "RoundCheck", name := "locus", desc := "(I)I" } : Jvm.MethodName)) ∈ lw_all := lw_g (lw_at lw_m3 29 rfl) rfl
theorem q672 : (Jvm.Cond.selects "RoundCheck" ({ cls := "RoundCheck", name := "locus", desc := "(I)I" } : Jvm.MethodName) ({ cls := "RoundCheck", name := "locus", desc := "(I)I" } : Jvm.MethodName)) ∈ lw_all := lw_g (lw_at lw_m3 30 rfl) rfl
theorem q673 : (Jvm.Cond.code ({ cls := "RoundCheck", name := "locus", desc := "(I)I" } : Jvm.MethodName) prog_1_method_75_code (4 : Nat) (Option.some Jvm.ClassFile.FieldType.int)) ∈ lw_all := lw_g (lw_at lw_m3 31 rfl) rfl
theorem q678 : (Jvm.Cond.instanceMethod ({ cls := "RoundCheck", name := "apply", desc := "(III)I" } : Jvm.MethodName)) ∈ lw_all := lw_g (lw_at lw_m3 36 rfl) rfl
theorem q679 : (Jvm.Cond.selects "RoundCheck" ({ cls := "RoundCheck", name := "apply", desc := "(III)I" } : Jvm.MethodName) ({ cls := "RoundCheck", name := "apply", desc := "(III)I" } : Jvm.MethodName)) ∈ lw_all := lw_g (lw_at lw_m3 37 rfl) rfl
theorem q680 : (Jvm.Cond.code ({ cls := "RoundCheck", name := "apply", desc := "(III)I" } : Jvm.MethodName) prog_1_method_77_code (4 : Nat) (Option.some Jvm.ClassFile.FieldType.int)) ∈ lw_all := lw_g (lw_at lw_m3 38 rfl) rfl
theorem q681 : (Jvm.Cond.methodLink "RoundCheck" (481 : Nat) ({ cls := "RoundCheck", name := "made", desc := "(IIIII)I" } : Jvm.MethodName)) ∈ lw_all := lw_g (lw_at lw_m3 39 rfl) rfl
theorem q682 : (Jvm.Cond.privateMethod ({ cls := "RoundCheck", name := "made", desc := "(IIIII)I" } : Jvm.MethodName)) ∈ lw_tbl := lw_at lw_m3 40 rfl
theorem q683 : (Jvm.Cond.instanceMethod ({ cls := "RoundCheck", name := "made", desc := "(IIIII)I" } : Jvm.MethodName)) ∈ lw_all := lw_g (lw_at lw_m3 41 rfl) rfl
theorem q684 : (Jvm.Cond.code ({ cls := "RoundCheck", name := "made", desc := "(IIIII)I" } : Jvm.MethodName) prog_1_method_76_code (11 : Nat) (Option.some Jvm.ClassFile.FieldType.int)) ∈ lw_all := lw_g (lw_at lw_m3 42 rfl) rfl
theorem q689 : (Jvm.Cond.instanceMethod ({ cls := "RoundCheck", name := "the", desc := "(I)I" } : Jvm.MethodName)) ∈ lw_all := lw_g (lw_at lw_m3 47 rfl) rfl
theorem q690 : (Jvm.Cond.selects "RoundCheck" ({ cls := "RoundCheck", name := "the", desc := "(I)I" } : Jvm.MethodName) ({ cls := "RoundCheck", name := "the", desc := "(I)I" } : Jvm.MethodName)) ∈ lw_all := lw_g (lw_at lw_m3 48 rfl) rfl
theorem q691 : (Jvm.Cond.code ({ cls := "RoundCheck", name := "the", desc := "(I)I" } : Jvm.MethodName) prog_1_method_78_code (5 : Nat) (Option.some Jvm.ClassFile.FieldType.int)) ∈ lw_all := lw_g (lw_at lw_m3 49 rfl) rfl
theorem q692 : (Jvm.Cond.methodLink "RoundCheck" (485 : Nat) ({ cls := "RoundCheck$Store", name := "make", desc := "(IIII)I" } : Jvm.MethodName)) ∈ lw_all := lw_g (lw_at lw_m3 50 rfl) rfl
theorem q697 : (Jvm.Cond.instanceMethod ({ cls := "RoundCheck", name := "atom", desc := "(IIII)I" } : Jvm.MethodName)) ∈ lw_all := lw_g (lw_at lw_m3 55 rfl) rfl
theorem q698 : (Jvm.Cond.selects "RoundCheck" ({ cls := "RoundCheck", name := "atom", desc := "(IIII)I" } : Jvm.MethodName) ({ cls := "RoundCheck", name := "atom", desc := "(IIII)I" } : Jvm.MethodName)) ∈ lw_all := lw_g (lw_at lw_m3 56 rfl) rfl
theorem q699 : (Jvm.Cond.code ({ cls := "RoundCheck", name := "atom", desc := "(IIII)I" } : Jvm.MethodName) prog_1_method_79_code (9 : Nat) (Option.some Jvm.ClassFile.FieldType.int)) ∈ lw_all := lw_g (lw_at lw_m3 57 rfl) rfl
theorem q700 : (Jvm.Cond.methodLink "RoundCheck" (487 : Nat) ({ cls := "RoundCheck$Store", name := "mode", desc := "(III)I" } : Jvm.MethodName)) ∈ lw_all := lw_g (lw_at lw_m3 58 rfl) rfl
theorem q712 : (Jvm.Cond.instanceMethod ({ cls := "RoundCheck", name := "join", desc := "(III)I" } : Jvm.MethodName)) ∈ lw_all := lw_g (lw_at lw_m3 70 rfl) rfl
theorem q713 : (Jvm.Cond.selects "RoundCheck" ({ cls := "RoundCheck", name := "join", desc := "(III)I" } : Jvm.MethodName) ({ cls := "RoundCheck", name := "join", desc := "(III)I" } : Jvm.MethodName)) ∈ lw_all := lw_g (lw_at lw_m3 71 rfl) rfl
theorem q714 : (Jvm.Cond.code ({ cls := "RoundCheck", name := "join", desc := "(III)I" } : Jvm.MethodName) prog_1_method_80_code (9 : Nat) (Option.some Jvm.ClassFile.FieldType.int)) ∈ lw_all := lw_g (lw_at lw_m3 72 rfl) rfl
theorem q715 : (Jvm.Cond.methodLink "RoundCheck" (490 : Nat) ({ cls := "RoundCheck", name := "formulaOf", desc := "(I)I" } : Jvm.MethodName)) ∈ lw_all := lw_g (lw_at lw_m3 73 rfl) rfl
theorem q716 : (Jvm.Cond.privateMethod ({ cls := "RoundCheck", name := "formulaOf", desc := "(I)I" } : Jvm.MethodName)) ∈ lw_tbl := lw_at lw_m3 74 rfl
theorem q717 : (Jvm.Cond.instanceMethod ({ cls := "RoundCheck", name := "formulaOf", desc := "(I)I" } : Jvm.MethodName)) ∈ lw_all := lw_g (lw_at lw_m3 75 rfl) rfl
theorem q718 : (Jvm.Cond.code ({ cls := "RoundCheck", name := "formulaOf", desc := "(I)I" } : Jvm.MethodName) prog_1_method_63_code (3 : Nat) (Option.some Jvm.ClassFile.FieldType.int)) ∈ lw_all := lw_g (lw_at lw_m3 76 rfl) rfl
theorem q719 : (Jvm.Cond.methodLink "RoundCheck" (263 : Nat) ({ cls := "RoundCheck$Store", name := "not", desc := "(I)I" } : Jvm.MethodName)) ∈ lw_all := lw_g (lw_at lw_m3 77 rfl) rfl
theorem q724 : (Jvm.Cond.methodLink "RoundCheck" (493 : Nat) ({ cls := "RoundCheck$Store", name := "and", desc := "(II)I" } : Jvm.MethodName)) ∈ lw_all := lw_g (lw_at lw_m3 82 rfl) rfl
theorem q732 : (Jvm.Cond.methodLink "RoundCheck" (495 : Nat) ({ cls := "RoundCheck", name := "either", desc := "(II)I" } : Jvm.MethodName)) ∈ lw_all := lw_g (lw_at lw_m3 90 rfl) rfl
theorem q733 : (Jvm.Cond.privateMethod ({ cls := "RoundCheck", name := "either", desc := "(II)I" } : Jvm.MethodName)) ∈ lw_tbl := lw_at lw_m3 91 rfl
theorem q734 : (Jvm.Cond.instanceMethod ({ cls := "RoundCheck", name := "either", desc := "(II)I" } : Jvm.MethodName)) ∈ lw_all := lw_g (lw_at lw_m3 92 rfl) rfl
theorem q735 : (Jvm.Cond.code ({ cls := "RoundCheck", name := "either", desc := "(II)I" } : Jvm.MethodName) prog_1_method_81_code (5 : Nat) (Option.some Jvm.ClassFile.FieldType.int)) ∈ lw_all := lw_g (lw_at lw_m3 93 rfl) rfl
theorem q736 : (Jvm.Cond.methodLink "RoundCheck" (498 : Nat) ({ cls := "RoundCheck$Store", name := "implies", desc := "(II)I" } : Jvm.MethodName)) ∈ lw_all := lw_g (lw_at lw_m3 94 rfl) rfl
theorem q742 : (Jvm.Cond.methodLink "RoundCheck" (501 : Nat) ({ cls := "RoundCheck$Store", name := "iff", desc := "(II)I" } : Jvm.MethodName)) ∈ lw_all := lw_g (lw_at lw_m3 100 rfl) rfl
theorem q751 : (Jvm.Cond.instanceMethod ({ cls := "RoundCheck", name := "bind", desc := "(ZII)I" } : Jvm.MethodName)) ∈ lw_all := lw_g (lw_at lw_m3 109 rfl) rfl
theorem q752 : (Jvm.Cond.selects "RoundCheck" ({ cls := "RoundCheck", name := "bind", desc := "(ZII)I" } : Jvm.MethodName) ({ cls := "RoundCheck", name := "bind", desc := "(ZII)I" } : Jvm.MethodName)) ∈ lw_all := lw_g (lw_at lw_m3 110 rfl) rfl
theorem q753 : (Jvm.Cond.code ({ cls := "RoundCheck", name := "bind", desc := "(ZII)I" } : Jvm.MethodName) prog_1_method_82_code (10 : Nat) (Option.some Jvm.ClassFile.FieldType.int)) ∈ lw_all := lw_g (lw_at lw_m3 111 rfl) rfl
theorem q754 : (Jvm.Cond.methodLink "RoundCheck" (504 : Nat) ({ cls := "RoundCheck$Store", name := "bind", desc := "(II)I" } : Jvm.MethodName)) ∈ lw_all := lw_g (lw_at lw_m3 112 rfl) rfl
theorem q762 : (Jvm.Cond.methodLink "RoundCheck" (507 : Nat) ({ cls := "RoundCheck$Store", name := "all", desc := "(II)I" } : Jvm.MethodName)) ∈ lw_all := lw_g (lw_at lw_m3 120 rfl) rfl
theorem q770 : (Jvm.Cond.instanceMethod ({ cls := "RoundCheck", name := "cluster", desc := "(III)I" } : Jvm.MethodName)) ∈ lw_all := lw_g (lw_at lw_m3 128 rfl) rfl
theorem q771 : (Jvm.Cond.selects "RoundCheck" ({ cls := "RoundCheck", name := "cluster", desc := "(III)I" } : Jvm.MethodName) ({ cls := "RoundCheck", name := "cluster", desc := "(III)I" } : Jvm.MethodName)) ∈ lw_all := lw_g (lw_at lw_m3 129 rfl) rfl
theorem q772 : (Jvm.Cond.code ({ cls := "RoundCheck", name := "cluster", desc := "(III)I" } : Jvm.MethodName) prog_1_method_84_code (7 : Nat) (Option.some Jvm.ClassFile.FieldType.int)) ∈ lw_all := lw_g (lw_at lw_m3 130 rfl) rfl
theorem q773 : (Jvm.Cond.methodLink "RoundCheck" (58 : Nat) ({ cls := "RoundCheck", name := "argOf", desc := "(I)I" } : Jvm.MethodName)) ∈ lw_all := lw_g (lw_at lw_m3 131 rfl) rfl
theorem q774 : (Jvm.Cond.privateMethod ({ cls := "RoundCheck", name := "argOf", desc := "(I)I" } : Jvm.MethodName)) ∈ lw_tbl := lw_at lw_m3 132 rfl
theorem q775 : (Jvm.Cond.instanceMethod ({ cls := "RoundCheck", name := "argOf", desc := "(I)I" } : Jvm.MethodName)) ∈ lw_all := lw_g (lw_at lw_m3 133 rfl) rfl
theorem q776 : (Jvm.Cond.code ({ cls := "RoundCheck", name := "argOf", desc := "(I)I" } : Jvm.MethodName) prog_1_method_3_code (2 : Nat) (Option.some Jvm.ClassFile.FieldType.int)) ∈ lw_all := lw_g (lw_at lw_m3 134 rfl) rfl
theorem q777 : (Jvm.Cond.methodLink "RoundCheck" (510 : Nat) ({ cls := "RoundCheck", name := "register", desc := "(IIIII)I" } : Jvm.MethodName)) ∈ lw_all := lw_g (lw_at lw_m3 135 rfl) rfl
theorem q778 : (Jvm.Cond.privateMethod ({ cls := "RoundCheck", name := "register", desc := "(IIIII)I" } : Jvm.MethodName)) ∈ lw_tbl := lw_at lw_m3 136 rfl
theorem q779 : (Jvm.Cond.instanceMethod ({ cls := "RoundCheck", name := "register", desc := "(IIIII)I" } : Jvm.MethodName)) ∈ lw_all := lw_g (lw_at lw_m3 137 rfl) rfl
theorem q780 : (Jvm.Cond.code ({ cls := "RoundCheck", name := "register", desc := "(IIIII)I" } : Jvm.MethodName) prog_1_method_83_code (6 : Nat) (Option.some Jvm.ClassFile.FieldType.int)) ∈ lw_all := lw_g (lw_at lw_m3 138 rfl) rfl
theorem q785 : (Jvm.Cond.instanceMethod ({ cls := "RoundCheck", name := "gives", desc := "(IIII)I" } : Jvm.MethodName)) ∈ lw_all := lw_g (lw_at lw_m3 143 rfl) rfl
theorem q786 : (Jvm.Cond.selects "RoundCheck" ({ cls := "RoundCheck", name := "gives", desc := "(IIII)I" } : Jvm.MethodName) ({ cls := "RoundCheck", name := "gives", desc := "(IIII)I" } : Jvm.MethodName)) ∈ lw_all := lw_g (lw_at lw_m3 144 rfl) rfl
theorem q787 : (Jvm.Cond.code ({ cls := "RoundCheck", name := "gives", desc := "(IIII)I" } : Jvm.MethodName) prog_1_method_86_code (7 : Nat) (Option.some Jvm.ClassFile.FieldType.int)) ∈ lw_all := lw_g (lw_at lw_m3 145 rfl) rfl
theorem q788 : (Jvm.Cond.methodLink "RoundCheck" (513 : Nat) ({ cls := "RoundCheck", name := "place", desc := "(III)I" } : Jvm.MethodName)) ∈ lw_all := lw_g (lw_at lw_m3 146 rfl) rfl
theorem q789 : (Jvm.Cond.privateMethod ({ cls := "RoundCheck", name := "place", desc := "(III)I" } : Jvm.MethodName)) ∈ lw_tbl := lw_at lw_m3 147 rfl
theorem q790 : (Jvm.Cond.instanceMethod ({ cls := "RoundCheck", name := "place", desc := "(III)I" } : Jvm.MethodName)) ∈ lw_all := lw_g (lw_at lw_m3 148 rfl) rfl
theorem q791 : (Jvm.Cond.code ({ cls := "RoundCheck", name := "place", desc := "(III)I" } : Jvm.MethodName) prog_1_method_85_code (5 : Nat) (Option.some Jvm.ClassFile.FieldType.int)) ∈ lw_all := lw_g (lw_at lw_m3 149 rfl) rfl
theorem q796 : (Jvm.Cond.instanceMethod ({ cls := "RoundCheck", name := "reduce", desc := "(IIII)I" } : Jvm.MethodName)) ∈ lw_all := lw_g (lw_at lw_m3 154 rfl) rfl
theorem q797 : (Jvm.Cond.selects "RoundCheck" ({ cls := "RoundCheck", name := "reduce", desc := "(IIII)I" } : Jvm.MethodName) ({ cls := "RoundCheck", name := "reduce", desc := "(IIII)I" } : Jvm.MethodName)) ∈ lw_all := lw_g (lw_at lw_m3 155 rfl) rfl
theorem q798 : (Jvm.Cond.code ({ cls := "RoundCheck", name := "reduce", desc := "(IIII)I" } : Jvm.MethodName) prog_1_method_87_code (8 : Nat) (Option.some Jvm.ClassFile.FieldType.int)) ∈ lw_all := lw_g (lw_at lw_m3 156 rfl) rfl
theorem q803 : (Jvm.Cond.instanceMethod ({ cls := "RoundCheck", name := "premise", desc := "(I)I" } : Jvm.MethodName)) ∈ lw_all := lw_g (lw_at lw_m3 161 rfl) rfl
theorem q804 : (Jvm.Cond.selects "RoundCheck" ({ cls := "RoundCheck", name := "premise", desc := "(I)I" } : Jvm.MethodName) ({ cls := "RoundCheck", name := "premise", desc := "(I)I" } : Jvm.MethodName)) ∈ lw_all := lw_g (lw_at lw_m3 162 rfl) rfl
theorem q805 : (Jvm.Cond.code ({ cls := "RoundCheck", name := "premise", desc := "(I)I" } : Jvm.MethodName) prog_1_method_88_code (3 : Nat) (Option.some Jvm.ClassFile.FieldType.int)) ∈ lw_all := lw_g (lw_at lw_m3 163 rfl) rfl
theorem q810 : (Jvm.Cond.instanceMethod ({ cls := "RoundCheck", name := "check", desc := "(I)I" } : Jvm.MethodName)) ∈ lw_all := lw_g (lw_at lw_m3 168 rfl) rfl
theorem q811 : (Jvm.Cond.selects "RoundCheck" ({ cls := "RoundCheck", name := "check", desc := "(I)I" } : Jvm.MethodName) ({ cls := "RoundCheck", name := "check", desc := "(I)I" } : Jvm.MethodName)) ∈ lw_all := lw_g (lw_at lw_m3 169 rfl) rfl
theorem q812 : (Jvm.Cond.code ({ cls := "RoundCheck", name := "check", desc := "(I)I" } : Jvm.MethodName) prog_1_method_90_code (11 : Nat) (Option.some Jvm.ClassFile.FieldType.int)) ∈ lw_all := lw_g (lw_at lw_m3 170 rfl) rfl
theorem q813 : (Jvm.Cond.methodLink "RoundCheck" (374 : Nat) ({ cls := "RoundCheck$Store", name := "and", desc := "(I)I" } : Jvm.MethodName)) ∈ lw_all := lw_g (lw_at lw_m3 171 rfl) rfl
theorem q814 : (Jvm.Cond.methodLink "RoundCheck" (362 : Nat) ({ cls := "RoundCheck", name := "casesOf", desc := "(IZ)I" } : Jvm.MethodName)) ∈ lw_all := lw_g (lw_at lw_m3 172 rfl) rfl
theorem q815 : (Jvm.Cond.privateMethod ({ cls := "RoundCheck", name := "casesOf", desc := "(IZ)I" } : Jvm.MethodName)) ∈ lw_tbl := lw_at lw_m3 173 rfl
theorem q816 : (Jvm.Cond.instanceMethod ({ cls := "RoundCheck", name := "casesOf", desc := "(IZ)I" } : Jvm.MethodName)) ∈ lw_all := lw_g (lw_at lw_m3 174 rfl) rfl
theorem q817 : (Jvm.Cond.code ({ cls := "RoundCheck", name := "casesOf", desc := "(IZ)I" } : Jvm.MethodName) prog_1_method_52_code (7 : Nat) (Option.some Jvm.ClassFile.FieldType.int)) ∈ lw_all := lw_g (lw_at lw_m3 175 rfl) rfl
theorem q818 : (Jvm.Cond.constantLong "RoundCheck" (366 : Nat) (1000 : Int64)) ∈ lw_all := lw_g (lw_at lw_m3 176 rfl) rfl
theorem q819 : (Jvm.Cond.methodLink "RoundCheck" (368 : Nat) ({ cls := "java/lang/Math", name := "min", desc := "(JJ)J" } : Jvm.MethodName)) ∈ lw_all := lw_g (lw_at lw_m3 177 rfl) rfl
theorem q820 : (Jvm.Cond.methodLink "RoundCheck" (371 : Nat) ({ cls := "RoundCheck", name := "open", desc := "(I)I" } : Jvm.MethodName)) ∈ lw_all := lw_g (lw_at lw_m3 178 rfl) rfl
theorem q821 : (Jvm.Cond.privateMethod ({ cls := "RoundCheck", name := "open", desc := "(I)I" } : Jvm.MethodName)) ∈ lw_tbl := lw_at lw_m3 179 rfl
theorem q822 : (Jvm.Cond.instanceMethod ({ cls := "RoundCheck", name := "open", desc := "(I)I" } : Jvm.MethodName)) ∈ lw_all := lw_g (lw_at lw_m3 180 rfl) rfl
theorem q823 : (Jvm.Cond.code ({ cls := "RoundCheck", name := "open", desc := "(I)I" } : Jvm.MethodName) prog_1_method_53_code (7 : Nat) (Option.some Jvm.ClassFile.FieldType.int)) ∈ lw_all := lw_g (lw_at lw_m3 181 rfl) rfl
theorem q824 : (Jvm.Cond.methodLink "RoundCheck" (287 : Nat) ({ cls := "RoundCheck$Store", name := "put", desc := "(II)I" } : Jvm.MethodName)) ∈ lw_all := lw_g (lw_at lw_m3 182 rfl) rfl
theorem q828 : (Jvm.Cond.methodLink "RoundCheck" (380 : Nat) ({ cls := "RoundCheck", name := "pend", desc := "(II)I" } : Jvm.MethodName)) ∈ lw_all := lw_g (lw_at lw_m3 186 rfl) rfl
theorem q829 : (Jvm.Cond.privateMethod ({ cls := "RoundCheck", name := "pend", desc := "(II)I" } : Jvm.MethodName)) ∈ lw_tbl := lw_at lw_m3 187 rfl
theorem q830 : (Jvm.Cond.instanceMethod ({ cls := "RoundCheck", name := "pend", desc := "(II)I" } : Jvm.MethodName)) ∈ lw_all := lw_g (lw_at lw_m3 188 rfl) rfl
theorem q831 : (Jvm.Cond.code ({ cls := "RoundCheck", name := "pend", desc := "(II)I" } : Jvm.MethodName) prog_1_method_51_code (3 : Nat) (Option.some Jvm.ClassFile.FieldType.int)) ∈ lw_all := lw_g (lw_at lw_m3 189 rfl) rfl
theorem q832 : (Jvm.Cond.methodLink "RoundCheck" (383 : Nat) ({ cls := "RoundCheck", name := "split", desc := "(II)V" } : Jvm.MethodName)) ∈ lw_all := lw_g (lw_at lw_m3 190 rfl) rfl
theorem q833 : (Jvm.Cond.privateMethod ({ cls := "RoundCheck", name := "split", desc := "(II)V" } : Jvm.MethodName)) ∈ lw_tbl := lw_at lw_m3 191 rfl
theorem q834 : (Jvm.Cond.instanceMethod ({ cls := "RoundCheck", name := "split", desc := "(II)V" } : Jvm.MethodName)) ∈ lw_all := lw_g (lw_at lw_m3 192 rfl) rfl
theorem q835 : (Jvm.Cond.code ({ cls := "RoundCheck", name := "split", desc := "(II)V" } : Jvm.MethodName) prog_1_method_54_code (9 : Nat) (Option.none : Option Jvm.ClassFile.FieldType)) ∈ lw_all := lw_g (lw_at lw_m3 193 rfl) rfl
theorem q836 : (Jvm.Cond.methodLink "RoundCheck" (396 : Nat) ({ cls := "RoundCheck", name := "refuted", desc := "(II)I" } : Jvm.MethodName)) ∈ lw_all := lw_g (lw_at lw_m3 194 rfl) rfl
theorem q837 : (Jvm.Cond.privateMethod ({ cls := "RoundCheck", name := "refuted", desc := "(II)I" } : Jvm.MethodName)) ∈ lw_tbl := lw_at lw_m3 195 rfl
theorem q838 : (Jvm.Cond.instanceMethod ({ cls := "RoundCheck", name := "refuted", desc := "(II)I" } : Jvm.MethodName)) ∈ lw_all := lw_g (lw_at lw_m3 196 rfl) rfl
theorem q839 : (Jvm.Cond.code ({ cls := "RoundCheck", name := "refuted", desc := "(II)I" } : Jvm.MethodName) prog_1_method_48_code (6 : Nat) (Option.some Jvm.ClassFile.FieldType.int)) ∈ lw_all := lw_g (lw_at lw_m3 197 rfl) rfl
theorem q840 : (Jvm.Cond.methodLink "RoundCheck" (305 : Nat) ({ cls := "RoundCheck", name := "know", desc := "(I)V" } : Jvm.MethodName)) ∈ lw_all := lw_g (lw_at lw_m3 198 rfl) rfl
theorem q841 : (Jvm.Cond.privateMethod ({ cls := "RoundCheck", name := "know", desc := "(I)V" } : Jvm.MethodName)) ∈ lw_tbl := lw_at lw_m3 199 rfl
theorem q842 : (Jvm.Cond.instanceMethod ({ cls := "RoundCheck", name := "know", desc := "(I)V" } : Jvm.MethodName)) ∈ lw_all := lw_g (lw_at lw_m3 200 rfl) rfl
theorem q843 : (Jvm.Cond.code ({ cls := "RoundCheck", name := "know", desc := "(I)V" } : Jvm.MethodName) prog_1_method_29_code (2 : Nat) (Option.none : Option Jvm.ClassFile.FieldType)) ∈ lw_all := lw_g (lw_at lw_m3 201 rfl) rfl
theorem q844 : (Jvm.Cond.methodLink "RoundCheck" (166 : Nat) ({ cls := "RoundCheck", name := "room", desc := "(I)V" } : Jvm.MethodName)) ∈ lw_all := lw_g (lw_at lw_m3 202 rfl) rfl
theorem q845 : (Jvm.Cond.privateMethod ({ cls := "RoundCheck", name := "room", desc := "(I)V" } : Jvm.MethodName)) ∈ lw_tbl := lw_at lw_m3 203 rfl
theorem q846 : (Jvm.Cond.instanceMethod ({ cls := "RoundCheck", name := "room", desc := "(I)V" } : Jvm.MethodName)) ∈ lw_all := lw_g (lw_at lw_m3 204 rfl) rfl
theorem q847 : (Jvm.Cond.code ({ cls := "RoundCheck", name := "room", desc := "(I)V" } : Jvm.MethodName) prog_1_method_15_code (3 : Nat) (Option.none : Option Jvm.ClassFile.FieldType)) ∈ lw_all := lw_g (lw_at lw_m3 205 rfl) rfl
theorem q848 : (Jvm.Cond.methodLink "RoundCheck" (220 : Nat) ({ cls := "RoundCheck", name := "termsOf", desc := "(I)V" } : Jvm.MethodName)) ∈ lw_all := lw_g (lw_at lw_m3 206 rfl) rfl
theorem q849 : (Jvm.Cond.privateMethod ({ cls := "RoundCheck", name := "termsOf", desc := "(I)V" } : Jvm.MethodName)) ∈ lw_tbl := lw_at lw_m3 207 rfl
theorem q850 : (Jvm.Cond.instanceMethod ({ cls := "RoundCheck", name := "termsOf", desc := "(I)V" } : Jvm.MethodName)) ∈ lw_all := lw_g (lw_at lw_m3 208 rfl) rfl
theorem q851 : (Jvm.Cond.code ({ cls := "RoundCheck", name := "termsOf", desc := "(I)V" } : Jvm.MethodName) prog_1_method_28_code (4 : Nat) (Option.none : Option Jvm.ClassFile.FieldType)) ∈ lw_all := lw_g (lw_at lw_m3 209 rfl) rfl
theorem q852 : (Jvm.Cond.methodLink "RoundCheck" (172 : Nat) ({ cls := "RoundCheck", name := "atHand", desc := "(I)V" } : Jvm.MethodName)) ∈ lw_all := lw_g (lw_at lw_m3 210 rfl) rfl
theorem q853 : (Jvm.Cond.privateMethod ({ cls := "RoundCheck", name := "atHand", desc := "(I)V" } : Jvm.MethodName)) ∈ lw_tbl := lw_at lw_m3 211 rfl
theorem q854 : (Jvm.Cond.instanceMethod ({ cls := "RoundCheck", name := "atHand", desc := "(I)V" } : Jvm.MethodName)) ∈ lw_all := lw_g (lw_at lw_m3 212 rfl) rfl
theorem q855 : (Jvm.Cond.code ({ cls := "RoundCheck", name := "atHand", desc := "(I)V" } : Jvm.MethodName) prog_1_method_21_code (3 : Nat) (Option.none : Option Jvm.ClassFile.FieldType)) ∈ lw_all := lw_g (lw_at lw_m3 213 rfl) rfl
theorem q856 : (Jvm.Cond.methodLink "RoundCheck" (149 : Nat) ({ cls := "RoundCheck", name := "isAtHand", desc := "(I)Z" } : Jvm.MethodName)) ∈ lw_all := lw_g (lw_at lw_m3 214 rfl) rfl
theorem q857 : (Jvm.Cond.privateMethod ({ cls := "RoundCheck", name := "isAtHand", desc := "(I)Z" } : Jvm.MethodName)) ∈ lw_tbl := lw_at lw_m3 215 rfl
theorem q858 : (Jvm.Cond.instanceMethod ({ cls := "RoundCheck", name := "isAtHand", desc := "(I)Z" } : Jvm.MethodName)) ∈ lw_all := lw_g (lw_at lw_m3 216 rfl) rfl
theorem q859 : (Jvm.Cond.code ({ cls := "RoundCheck", name := "isAtHand", desc := "(I)Z" } : Jvm.MethodName) prog_1_method_16_code (2 : Nat) (Option.some Jvm.ClassFile.FieldType.boolean)) ∈ lw_all := lw_g (lw_at lw_m3 217 rfl) rfl
theorem q860 : (Jvm.Cond.methodLink "RoundCheck" (74 : Nat) ({ cls := "RoundCheck", name := "typeOf", desc := "(I)I" } : Jvm.MethodName)) ∈ lw_all := lw_g (lw_at lw_m3 218 rfl) rfl
theorem q861 : (Jvm.Cond.privateMethod ({ cls := "RoundCheck", name := "typeOf", desc := "(I)I" } : Jvm.MethodName)) ∈ lw_tbl := lw_at lw_m3 219 rfl
theorem q862 : (Jvm.Cond.instanceMethod ({ cls := "RoundCheck", name := "typeOf", desc := "(I)I" } : Jvm.MethodName)) ∈ lw_all := lw_g (lw_at lw_m3 220 rfl) rfl
theorem q863 : (Jvm.Cond.code ({ cls := "RoundCheck", name := "typeOf", desc := "(I)I" } : Jvm.MethodName) prog_1_method_7_code (3 : Nat) (Option.some Jvm.ClassFile.FieldType.int)) ∈ lw_all := lw_g (lw_at lw_m3 221 rfl) rfl
theorem q864 : (Jvm.Cond.methodLink "RoundCheck" (51 : Nat) ({ cls := "RoundCheck$Store", name := "loci", desc := "(IIII)I" } : Jvm.MethodName)) ∈ lw_all := lw_g (lw_at lw_m3 222 rfl) rfl
theorem q868 : (Jvm.Cond.methodLink "RoundCheck" (175 : Nat) ({ cls := "RoundCheck", name := "hasType", desc := "(II)Z" } : Jvm.MethodName)) ∈ lw_all := lw_g (lw_at lw_m3 226 rfl) rfl
theorem q869 : (Jvm.Cond.privateMethod ({ cls := "RoundCheck", name := "hasType", desc := "(II)Z" } : Jvm.MethodName)) ∈ lw_tbl := lw_at lw_m3 227 rfl
theorem q870 : (Jvm.Cond.instanceMethod ({ cls := "RoundCheck", name := "hasType", desc := "(II)Z" } : Jvm.MethodName)) ∈ lw_all := lw_g (lw_at lw_m3 228 rfl) rfl
theorem q871 : (Jvm.Cond.code ({ cls := "RoundCheck", name := "hasType", desc := "(II)Z" } : Jvm.MethodName) prog_1_method_22_code (6 : Nat) (Option.some Jvm.ClassFile.FieldType.boolean)) ∈ lw_all := lw_g (lw_at lw_m3 229 rfl) rfl
theorem q872 : (Jvm.Cond.methodLink "RoundCheck" (178 : Nat) ({ cls := "RoundCheck", name := "hasModeFact", desc := "(III)Z" } : Jvm.MethodName)) ∈ lw_all := lw_g (lw_at lw_m3 230 rfl) rfl
theorem q873 : (Jvm.Cond.privateMethod ({ cls := "RoundCheck", name := "hasModeFact", desc := "(III)Z" } : Jvm.MethodName)) ∈ lw_tbl := lw_at lw_m3 231 rfl
theorem q874 : (Jvm.Cond.instanceMethod ({ cls := "RoundCheck", name := "hasModeFact", desc := "(III)Z" } : Jvm.MethodName)) ∈ lw_all := lw_g (lw_at lw_m3 232 rfl) rfl
theorem q875 : (Jvm.Cond.code ({ cls := "RoundCheck", name := "hasModeFact", desc := "(III)Z" } : Jvm.MethodName) prog_1_method_23_code (5 : Nat) (Option.some Jvm.ClassFile.FieldType.boolean)) ∈ lw_all := lw_g (lw_at lw_m3 233 rfl) rfl
theorem q876 : (Jvm.Cond.methodLink "RoundCheck" (181 : Nat) ({ cls := "RoundCheck", name := "adjectiveFact", desc := "(II)Z" } : Jvm.MethodName)) ∈ lw_all := lw_g (lw_at lw_m3 234 rfl) rfl
theorem q877 : (Jvm.Cond.privateMethod ({ cls := "RoundCheck", name := "adjectiveFact", desc := "(II)Z" } : Jvm.MethodName)) ∈ lw_tbl := lw_at lw_m3 235 rfl
theorem q878 : (Jvm.Cond.instanceMethod ({ cls := "RoundCheck", name := "adjectiveFact", desc := "(II)Z" } : Jvm.MethodName)) ∈ lw_all := lw_g (lw_at lw_m3 236 rfl) rfl
theorem q879 : (Jvm.Cond.code ({ cls := "RoundCheck", name := "adjectiveFact", desc := "(II)Z" } : Jvm.MethodName) prog_1_method_24_code (4 : Nat) (Option.some Jvm.ClassFile.FieldType.boolean)) ∈ lw_all := lw_g (lw_at lw_m3 237 rfl) rfl
theorem q880 : (Jvm.Cond.methodLink "RoundCheck" (62 : Nat) ({ cls := "RoundCheck", name := "parent", desc := "(I)I" } : Jvm.MethodName)) ∈ lw_all := lw_g (lw_at lw_m3 238 rfl) rfl
theorem q881 : (Jvm.Cond.privateMethod ({ cls := "RoundCheck", name := "parent", desc := "(I)I" } : Jvm.MethodName)) ∈ lw_tbl := lw_at lw_m3 239 rfl
theorem q882 : (Jvm.Cond.instanceMethod ({ cls := "RoundCheck", name := "parent", desc := "(I)I" } : Jvm.MethodName)) ∈ lw_all := lw_g (lw_at lw_m4 0 rfl) rfl
theorem q883 : (Jvm.Cond.code ({ cls := "RoundCheck", name := "parent", desc := "(I)I" } : Jvm.MethodName) prog_1_method_8_code (2 : Nat) (Option.some Jvm.ClassFile.FieldType.int)) ∈ lw_all := lw_g (lw_at lw_m4 1 rfl) rfl
theorem q884 : (Jvm.Cond.methodLink "RoundCheck" (329 : Nat) ({ cls := "RoundCheck", name := "firstsOf", desc := "()I" } : Jvm.MethodName)) ∈ lw_all := lw_g (lw_at lw_m4 2 rfl) rfl
theorem q885 : (Jvm.Cond.privateMethod ({ cls := "RoundCheck", name := "firstsOf", desc := "()I" } : Jvm.MethodName)) ∈ lw_tbl := lw_at lw_m4 3 rfl
theorem q886 : (Jvm.Cond.instanceMethod ({ cls := "RoundCheck", name := "firstsOf", desc := "()I" } : Jvm.MethodName)) ∈ lw_all := lw_g (lw_at lw_m4 4 rfl) rfl
theorem q887 : (Jvm.Cond.code ({ cls := "RoundCheck", name := "firstsOf", desc := "()I" } : Jvm.MethodName) prog_1_method_49_code (5 : Nat) (Option.some Jvm.ClassFile.FieldType.int)) ∈ lw_all := lw_g (lw_at lw_m4 5 rfl) rfl
theorem q888 : (Jvm.Cond.methodLink "RoundCheck" (347 : Nat) ({ cls := "RoundCheck", name := "stands", desc := "(I)Z" } : Jvm.MethodName)) ∈ lw_all := lw_g (lw_at lw_m4 6 rfl) rfl
theorem q889 : (Jvm.Cond.privateMethod ({ cls := "RoundCheck", name := "stands", desc := "(I)Z" } : Jvm.MethodName)) ∈ lw_tbl := lw_at lw_m4 7 rfl
theorem q890 : (Jvm.Cond.instanceMethod ({ cls := "RoundCheck", name := "stands", desc := "(I)Z" } : Jvm.MethodName)) ∈ lw_all := lw_g (lw_at lw_m4 8 rfl) rfl
theorem q891 : (Jvm.Cond.code ({ cls := "RoundCheck", name := "stands", desc := "(I)Z" } : Jvm.MethodName) prog_1_method_50_code (3 : Nat) (Option.some Jvm.ClassFile.FieldType.boolean)) ∈ lw_all := lw_g (lw_at lw_m4 9 rfl) rfl
theorem q892 : (Jvm.Cond.methodLink "RoundCheck" (350 : Nat) ({ cls := "RoundCheck$Store", name := "has", desc := "(II)Z" } : Jvm.MethodName)) ∈ lw_all := lw_g (lw_at lw_m4 10 rfl) rfl
theorem q897 : (Jvm.Cond.methodLink "RoundCheck" (336 : Nat) ({ cls := "RoundCheck", name := "close", desc := "()V" } : Jvm.MethodName)) ∈ lw_all := lw_g (lw_at lw_m4 15 rfl) rfl
theorem q898 : (Jvm.Cond.privateMethod ({ cls := "RoundCheck", name := "close", desc := "()V" } : Jvm.MethodName)) ∈ lw_tbl := lw_at lw_m4 16 rfl
theorem q899 : (Jvm.Cond.instanceMethod ({ cls := "RoundCheck", name := "close", desc := "()V" } : Jvm.MethodName)) ∈ lw_all := lw_g (lw_at lw_m4 17 rfl) rfl
theorem q900 : (Jvm.Cond.code ({ cls := "RoundCheck", name := "close", desc := "()V" } : Jvm.MethodName) prog_1_method_32_code (6 : Nat) (Option.none : Option Jvm.ClassFile.FieldType)) ∈ lw_all := lw_g (lw_at lw_m4 18 rfl) rfl
theorem q901 : (Jvm.Cond.methodLink "RoundCheck" (229 : Nat) ({ cls := "RoundCheck", name := "join", desc := "(II)Z" } : Jvm.MethodName)) ∈ lw_all := lw_g (lw_at lw_m4 19 rfl) rfl
theorem q902 : (Jvm.Cond.privateMethod ({ cls := "RoundCheck", name := "join", desc := "(II)Z" } : Jvm.MethodName)) ∈ lw_tbl := lw_at lw_m4 20 rfl
theorem q903 : (Jvm.Cond.instanceMethod ({ cls := "RoundCheck", name := "join", desc := "(II)Z" } : Jvm.MethodName)) ∈ lw_all := lw_g (lw_at lw_m4 21 rfl) rfl
theorem q904 : (Jvm.Cond.code ({ cls := "RoundCheck", name := "join", desc := "(II)Z" } : Jvm.MethodName) prog_1_method_19_code (5 : Nat) (Option.some Jvm.ClassFile.FieldType.boolean)) ∈ lw_all := lw_g (lw_at lw_m4 22 rfl) rfl
theorem q905 : (Jvm.Cond.methodLink "RoundCheck" (153 : Nat) ({ cls := "RoundCheck", name := "root", desc := "(I)I" } : Jvm.MethodName)) ∈ lw_all := lw_g (lw_at lw_m4 23 rfl) rfl
theorem q906 : (Jvm.Cond.privateMethod ({ cls := "RoundCheck", name := "root", desc := "(I)I" } : Jvm.MethodName)) ∈ lw_tbl := lw_at lw_m4 24 rfl
theorem q907 : (Jvm.Cond.instanceMethod ({ cls := "RoundCheck", name := "root", desc := "(I)I" } : Jvm.MethodName)) ∈ lw_all := lw_g (lw_at lw_m4 25 rfl) rfl
theorem q908 : (Jvm.Cond.code ({ cls := "RoundCheck", name := "root", desc := "(I)I" } : Jvm.MethodName) prog_1_method_17_code (3 : Nat) (Option.some Jvm.ClassFile.FieldType.int)) ∈ lw_all := lw_g (lw_at lw_m4 26 rfl) rfl
theorem q909 : (Jvm.Cond.methodLink "RoundCheck" (156 : Nat) ({ cls := "java/lang/Math", name := "min", desc := "(II)I" } : Jvm.MethodName)) ∈ lw_all := lw_g (lw_at lw_m4 27 rfl) rfl
theorem q910 : (Jvm.Cond.methodLink "RoundCheck" (232 : Nat) ({ cls := "RoundCheck", name := "plain", desc := "(II)I" } : Jvm.MethodName)) ∈ lw_all := lw_g (lw_at lw_m4 28 rfl) rfl
theorem q911 : (Jvm.Cond.privateMethod ({ cls := "RoundCheck", name := "plain", desc := "(II)I" } : Jvm.MethodName)) ∈ lw_tbl := lw_at lw_m4 29 rfl
theorem q912 : (Jvm.Cond.instanceMethod ({ cls := "RoundCheck", name := "plain", desc := "(II)I" } : Jvm.MethodName)) ∈ lw_all := lw_g (lw_at lw_m4 30 rfl) rfl
theorem q913 : (Jvm.Cond.code ({ cls := "RoundCheck", name := "plain", desc := "(II)I" } : Jvm.MethodName) prog_1_method_2_code (4 : Nat) (Option.some Jvm.ClassFile.FieldType.int)) ∈ lw_all := lw_g (lw_at lw_m4 31 rfl) rfl
theorem q914 : (Jvm.Cond.methodLink "RoundCheck" (235 : Nat) ({ cls := "RoundCheck", name := "alikeTerms", desc := "(II)Z" } : Jvm.MethodName)) ∈ lw_all := lw_g (lw_at lw_m4 32 rfl) rfl
theorem q915 : (Jvm.Cond.privateMethod ({ cls := "RoundCheck", name := "alikeTerms", desc := "(II)Z" } : Jvm.MethodName)) ∈ lw_tbl := lw_at lw_m4 33 rfl
theorem q916 : (Jvm.Cond.instanceMethod ({ cls := "RoundCheck", name := "alikeTerms", desc := "(II)Z" } : Jvm.MethodName)) ∈ lw_all := lw_g (lw_at lw_m4 34 rfl) rfl
theorem q917 : (Jvm.Cond.code ({ cls := "RoundCheck", name := "alikeTerms", desc := "(II)Z" } : Jvm.MethodName) prog_1_method_31_code (7 : Nat) (Option.some Jvm.ClassFile.FieldType.boolean)) ∈ lw_all := lw_g (lw_at lw_m4 35 rfl) rfl
theorem q918 : (Jvm.Cond.methodLink "RoundCheck" (205 : Nat) ({ cls := "RoundCheck", name := "equal", desc := "(II)Z" } : Jvm.MethodName)) ∈ lw_all := lw_g (lw_at lw_m4 36 rfl) rfl
theorem q919 : (Jvm.Cond.privateMethod ({ cls := "RoundCheck", name := "equal", desc := "(II)Z" } : Jvm.MethodName)) ∈ lw_tbl := lw_at lw_m4 37 rfl
theorem q920 : (Jvm.Cond.instanceMethod ({ cls := "RoundCheck", name := "equal", desc := "(II)Z" } : Jvm.MethodName)) ∈ lw_all := lw_g (lw_at lw_m4 38 rfl) rfl
theorem q921 : (Jvm.Cond.code ({ cls := "RoundCheck", name := "equal", desc := "(II)Z" } : Jvm.MethodName) prog_1_method_18_code (3 : Nat) (Option.some Jvm.ClassFile.FieldType.boolean)) ∈ lw_all := lw_g (lw_at lw_m4 39 rfl) rfl
theorem q922 : (Jvm.Cond.methodLink "RoundCheck" (238 : Nat) ({ cls := "RoundCheck", name := "closeTerm", desc := "(I)Z" } : Jvm.MethodName)) ∈ lw_all := lw_g (lw_at lw_m4 40 rfl) rfl
theorem q923 : (Jvm.Cond.privateMethod ({ cls := "RoundCheck", name := "closeTerm", desc := "(I)Z" } : Jvm.MethodName)) ∈ lw_tbl := lw_at lw_m4 41 rfl
theorem q924 : (Jvm.Cond.instanceMethod ({ cls := "RoundCheck", name := "closeTerm", desc := "(I)Z" } : Jvm.MethodName)) ∈ lw_all := lw_g (lw_at lw_m4 42 rfl) rfl
theorem q925 : (Jvm.Cond.code ({ cls := "RoundCheck", name := "closeTerm", desc := "(I)Z" } : Jvm.MethodName) prog_1_method_33_code (10 : Nat) (Option.some Jvm.ClassFile.FieldType.boolean)) ∈ lw_all := lw_g (lw_at lw_m4 43 rfl) rfl
theorem q926 : (Jvm.Cond.methodLink "RoundCheck" (244 : Nat) ({ cls := "RoundCheck", name := "classFits", desc := "(II)Z" } : Jvm.MethodName)) ∈ lw_all := lw_g (lw_at lw_m4 44 rfl) rfl
theorem q927 : (Jvm.Cond.privateMethod ({ cls := "RoundCheck", name := "classFits", desc := "(II)Z" } : Jvm.MethodName)) ∈ lw_tbl := lw_at lw_m4 45 rfl
theorem q928 : (Jvm.Cond.instanceMethod ({ cls := "RoundCheck", name := "classFits", desc := "(II)Z" } : Jvm.MethodName)) ∈ lw_all := lw_g (lw_at lw_m4 46 rfl) rfl
theorem q929 : (Jvm.Cond.code ({ cls := "RoundCheck", name := "classFits", desc := "(II)Z" } : Jvm.MethodName) prog_1_method_27_code (4 : Nat) (Option.some Jvm.ClassFile.FieldType.boolean)) ∈ lw_all := lw_g (lw_at lw_m4 47 rfl) rfl
theorem q930 : (Jvm.Cond.methodLink "RoundCheck" (208 : Nat) ({ cls := "RoundCheck", name := "classHasMode", desc := "(III)Z" } : Jvm.MethodName)) ∈ lw_all := lw_g (lw_at lw_m4 48 rfl) rfl
theorem q931 : (Jvm.Cond.privateMethod ({ cls := "RoundCheck", name := "classHasMode", desc := "(III)Z" } : Jvm.MethodName)) ∈ lw_tbl := lw_at lw_m4 49 rfl
theorem q932 : (Jvm.Cond.instanceMethod ({ cls := "RoundCheck", name := "classHasMode", desc := "(III)Z" } : Jvm.MethodName)) ∈ lw_all := lw_g (lw_at lw_m4 50 rfl) rfl
theorem q933 : (Jvm.Cond.code ({ cls := "RoundCheck", name := "classHasMode", desc := "(III)Z" } : Jvm.MethodName) prog_1_method_25_code (5 : Nat) (Option.some Jvm.ClassFile.FieldType.boolean)) ∈ lw_all := lw_g (lw_at lw_m4 51 rfl) rfl
theorem q934 : (Jvm.Cond.methodLink "RoundCheck" (211 : Nat) ({ cls := "RoundCheck", name := "classHas", desc := "(II)Z" } : Jvm.MethodName)) ∈ lw_all := lw_g (lw_at lw_m4 52 rfl) rfl
theorem q935 : (Jvm.Cond.privateMethod ({ cls := "RoundCheck", name := "classHas", desc := "(II)Z" } : Jvm.MethodName)) ∈ lw_tbl := lw_at lw_m4 53 rfl
theorem q936 : (Jvm.Cond.instanceMethod ({ cls := "RoundCheck", name := "classHas", desc := "(II)Z" } : Jvm.MethodName)) ∈ lw_all := lw_g (lw_at lw_m4 54 rfl) rfl
theorem q937 : (Jvm.Cond.code ({ cls := "RoundCheck", name := "classHas", desc := "(II)Z" } : Jvm.MethodName) prog_1_method_26_code (4 : Nat) (Option.some Jvm.ClassFile.FieldType.boolean)) ∈ lw_all := lw_g (lw_at lw_m4 55 rfl) rfl
theorem q938 : (Jvm.Cond.methodLink "RoundCheck" (241 : Nat) ({ cls := "RoundCheck", name := "closeClasses", desc := "(I)Z" } : Jvm.MethodName)) ∈ lw_all := lw_g (lw_at lw_m4 56 rfl) rfl
theorem q939 : (Jvm.Cond.privateMethod ({ cls := "RoundCheck", name := "closeClasses", desc := "(I)Z" } : Jvm.MethodName)) ∈ lw_tbl := lw_at lw_m4 57 rfl
theorem q940 : (Jvm.Cond.instanceMethod ({ cls := "RoundCheck", name := "closeClasses", desc := "(I)Z" } : Jvm.MethodName)) ∈ lw_all := lw_g (lw_at lw_m4 58 rfl) rfl
theorem q941 : (Jvm.Cond.code ({ cls := "RoundCheck", name := "closeClasses", desc := "(I)Z" } : Jvm.MethodName) prog_1_method_34_code (8 : Nat) (Option.some Jvm.ClassFile.FieldType.boolean)) ∈ lw_all := lw_g (lw_at lw_m4 59 rfl) rfl
theorem q942 : (Jvm.Cond.methodLink "RoundCheck" (340 : Nat) ({ cls := "RoundCheck", name := "contradictory", desc := "()Z" } : Jvm.MethodName)) ∈ lw_all := lw_g (lw_at lw_m4 60 rfl) rfl
theorem q943 : (Jvm.Cond.privateMethod ({ cls := "RoundCheck", name := "contradictory", desc := "()Z" } : Jvm.MethodName)) ∈ lw_tbl := lw_at lw_m4 61 rfl
theorem q944 : (Jvm.Cond.instanceMethod ({ cls := "RoundCheck", name := "contradictory", desc := "()Z" } : Jvm.MethodName)) ∈ lw_all := lw_g (lw_at lw_m4 62 rfl) rfl
theorem q945 : (Jvm.Cond.code ({ cls := "RoundCheck", name := "contradictory", desc := "()Z" } : Jvm.MethodName) prog_1_method_39_code (6 : Nat) (Option.some Jvm.ClassFile.FieldType.boolean)) ∈ lw_all := lw_g (lw_at lw_m4 63 rfl) rfl
theorem q946 : (Jvm.Cond.methodLink "RoundCheck" (253 : Nat) ({ cls := "RoundCheck", name := "isKnownHere", desc := "(I)Z" } : Jvm.MethodName)) ∈ lw_all := lw_g (lw_at lw_m4 64 rfl) rfl
theorem q947 : (Jvm.Cond.privateMethod ({ cls := "RoundCheck", name := "isKnownHere", desc := "(I)Z" } : Jvm.MethodName)) ∈ lw_tbl := lw_at lw_m4 65 rfl
theorem q948 : (Jvm.Cond.instanceMethod ({ cls := "RoundCheck", name := "isKnownHere", desc := "(I)Z" } : Jvm.MethodName)) ∈ lw_all := lw_g (lw_at lw_m4 66 rfl) rfl
theorem q949 : (Jvm.Cond.code ({ cls := "RoundCheck", name := "isKnownHere", desc := "(I)Z" } : Jvm.MethodName) prog_1_method_30_code (2 : Nat) (Option.some Jvm.ClassFile.FieldType.boolean)) ∈ lw_all := lw_g (lw_at lw_m4 67 rfl) rfl
theorem q950 : (Jvm.Cond.methodLink "RoundCheck" (250 : Nat) ({ cls := "RoundCheck", name := "holds", desc := "(I)Z" } : Jvm.MethodName)) ∈ lw_all := lw_g (lw_at lw_m4 68 rfl) rfl
theorem q951 : (Jvm.Cond.privateMethod ({ cls := "RoundCheck", name := "holds", desc := "(I)Z" } : Jvm.MethodName)) ∈ lw_tbl := lw_at lw_m4 69 rfl
theorem q952 : (Jvm.Cond.instanceMethod ({ cls := "RoundCheck", name := "holds", desc := "(I)Z" } : Jvm.MethodName)) ∈ lw_all := lw_g (lw_at lw_m4 70 rfl) rfl
theorem q953 : (Jvm.Cond.code ({ cls := "RoundCheck", name := "holds", desc := "(I)Z" } : Jvm.MethodName) prog_1_method_37_code (3 : Nat) (Option.some Jvm.ClassFile.FieldType.boolean)) ∈ lw_all := lw_g (lw_at lw_m4 71 rfl) rfl
theorem q954 : (Jvm.Cond.methodLink "RoundCheck" (256 : Nat) ({ cls := "RoundCheck", name := "fails", desc := "(II)Z" } : Jvm.MethodName)) ∈ lw_all := lw_g (lw_at lw_m4 72 rfl) rfl
theorem q955 : (Jvm.Cond.privateMethod ({ cls := "RoundCheck", name := "fails", desc := "(II)Z" } : Jvm.MethodName)) ∈ lw_tbl := lw_at lw_m4 73 rfl
theorem q956 : (Jvm.Cond.instanceMethod ({ cls := "RoundCheck", name := "fails", desc := "(II)Z" } : Jvm.MethodName)) ∈ lw_all := lw_g (lw_at lw_m4 74 rfl) rfl
theorem q957 : (Jvm.Cond.code ({ cls := "RoundCheck", name := "fails", desc := "(II)Z" } : Jvm.MethodName) prog_1_method_38_code (8 : Nat) (Option.some Jvm.ClassFile.FieldType.boolean)) ∈ lw_all := lw_g (lw_at lw_m4 75 rfl) rfl
theorem q958 : (Jvm.Cond.methodLink "RoundCheck" (259 : Nat) ({ cls := "RoundCheck", name := "isSaid", desc := "(IZ)Z" } : Jvm.MethodName)) ∈ lw_all := lw_g (lw_at lw_m4 76 rfl) rfl
theorem q959 : (Jvm.Cond.privateMethod ({ cls := "RoundCheck", name := "isSaid", desc := "(IZ)Z" } : Jvm.MethodName)) ∈ lw_tbl := lw_at lw_m4 77 rfl
theorem q960 : (Jvm.Cond.instanceMethod ({ cls := "RoundCheck", name := "isSaid", desc := "(IZ)Z" } : Jvm.MethodName)) ∈ lw_all := lw_g (lw_at lw_m4 78 rfl) rfl
theorem q961 : (Jvm.Cond.code ({ cls := "RoundCheck", name := "isSaid", desc := "(IZ)Z" } : Jvm.MethodName) prog_1_method_36_code (5 : Nat) (Option.some Jvm.ClassFile.FieldType.boolean)) ∈ lw_all := lw_g (lw_at lw_m4 79 rfl) rfl
theorem q962 : (Jvm.Cond.methodLink "RoundCheck" (247 : Nat) ({ cls := "RoundCheck", name := "sameAtom", desc := "(II)Z" } : Jvm.MethodName)) ∈ lw_all := lw_g (lw_at lw_m4 80 rfl) rfl
theorem q963 : (Jvm.Cond.privateMethod ({ cls := "RoundCheck", name := "sameAtom", desc := "(II)Z" } : Jvm.MethodName)) ∈ lw_tbl := lw_at lw_m4 81 rfl
theorem q964 : (Jvm.Cond.instanceMethod ({ cls := "RoundCheck", name := "sameAtom", desc := "(II)Z" } : Jvm.MethodName)) ∈ lw_all := lw_g (lw_at lw_m4 82 rfl) rfl
theorem q965 : (Jvm.Cond.code ({ cls := "RoundCheck", name := "sameAtom", desc := "(II)Z" } : Jvm.MethodName) prog_1_method_35_code (4 : Nat) (Option.some Jvm.ClassFile.FieldType.boolean)) ∈ lw_all := lw_g (lw_at lw_m4 83 rfl) rfl
theorem q966 : (Jvm.Cond.methodLink "RoundCheck" (344 : Nat) ({ cls := "RoundCheck", name := "round", desc := "()Z" } : Jvm.MethodName)) ∈ lw_all := lw_g (lw_at lw_m4 84 rfl) rfl
theorem q967 : (Jvm.Cond.privateMethod ({ cls := "RoundCheck", name := "round", desc := "()Z" } : Jvm.MethodName)) ∈ lw_tbl := lw_at lw_m4 85 rfl
theorem q968 : (Jvm.Cond.instanceMethod ({ cls := "RoundCheck", name := "round", desc := "()Z" } : Jvm.MethodName)) ∈ lw_all := lw_g (lw_at lw_m4 86 rfl) rfl
theorem q969 : (Jvm.Cond.code ({ cls := "RoundCheck", name := "round", desc := "()Z" } : Jvm.MethodName) prog_1_method_40_code (8 : Nat) (Option.some Jvm.ClassFile.FieldType.boolean)) ∈ lw_all := lw_g (lw_at lw_m4 87 rfl) rfl
theorem q970 : (Jvm.Cond.methodLink "RoundCheck" (269 : Nat) ({ cls := "RoundCheck", name := "come", desc := "(I)V" } : Jvm.MethodName)) ∈ lw_all := lw_g (lw_at lw_m4 88 rfl) rfl
theorem q971 : (Jvm.Cond.privateMethod ({ cls := "RoundCheck", name := "come", desc := "(I)V" } : Jvm.MethodName)) ∈ lw_tbl := lw_at lw_m4 89 rfl
theorem q972 : (Jvm.Cond.instanceMethod ({ cls := "RoundCheck", name := "come", desc := "(I)V" } : Jvm.MethodName)) ∈ lw_all := lw_g (lw_at lw_m4 90 rfl) rfl
theorem q973 : (Jvm.Cond.code ({ cls := "RoundCheck", name := "come", desc := "(I)V" } : Jvm.MethodName) prog_1_method_46_code (3 : Nat) (Option.none : Option Jvm.ClassFile.FieldType)) ∈ lw_all := lw_g (lw_at lw_m4 91 rfl) rfl
theorem q974 : (Jvm.Cond.methodLink "RoundCheck" (275 : Nat) ({ cls := "RoundCheck", name := "isNew", desc := "(I)Z" } : Jvm.MethodName)) ∈ lw_all := lw_g (lw_at lw_m4 92 rfl) rfl
theorem q975 : (Jvm.Cond.privateMethod ({ cls := "RoundCheck", name := "isNew", desc := "(I)Z" } : Jvm.MethodName)) ∈ lw_tbl := lw_at lw_m4 93 rfl
theorem q976 : (Jvm.Cond.instanceMethod ({ cls := "RoundCheck", name := "isNew", desc := "(I)Z" } : Jvm.MethodName)) ∈ lw_all := lw_g (lw_at lw_m4 94 rfl) rfl
theorem q977 : (Jvm.Cond.code ({ cls := "RoundCheck", name := "isNew", desc := "(I)Z" } : Jvm.MethodName) prog_1_method_42_code (2 : Nat) (Option.some Jvm.ClassFile.FieldType.boolean)) ∈ lw_all := lw_g (lw_at lw_m4 95 rfl) rfl
theorem q978 : (Jvm.Cond.methodLink "RoundCheck" (284 : Nat) ({ cls := "RoundCheck", name := "placed", desc := "(III)I" } : Jvm.MethodName)) ∈ lw_all := lw_g (lw_at lw_m4 96 rfl) rfl
theorem q979 : (Jvm.Cond.privateMethod ({ cls := "RoundCheck", name := "placed", desc := "(III)I" } : Jvm.MethodName)) ∈ lw_tbl := lw_at lw_m4 97 rfl
theorem q980 : (Jvm.Cond.instanceMethod ({ cls := "RoundCheck", name := "placed", desc := "(III)I" } : Jvm.MethodName)) ∈ lw_all := lw_g (lw_at lw_m4 98 rfl) rfl
theorem q981 : (Jvm.Cond.code ({ cls := "RoundCheck", name := "placed", desc := "(III)I" } : Jvm.MethodName) prog_1_method_43_code (12 : Nat) (Option.some Jvm.ClassFile.FieldType.int)) ∈ lw_all := lw_g (lw_at lw_m4 99 rfl) rfl
theorem q982 : (Jvm.Cond.methodLink "RoundCheck" (317 : Nat) ({ cls := "RoundCheck", name := "isWithin", desc := "(II)Z" } : Jvm.MethodName)) ∈ lw_all := lw_g (lw_at lw_m4 100 rfl) rfl
theorem q983 : (Jvm.Cond.privateMethod ({ cls := "RoundCheck", name := "isWithin", desc := "(II)Z" } : Jvm.MethodName)) ∈ lw_tbl := lw_at lw_m4 101 rfl
theorem q984 : (Jvm.Cond.instanceMethod ({ cls := "RoundCheck", name := "isWithin", desc := "(II)Z" } : Jvm.MethodName)) ∈ lw_all := lw_g (lw_at lw_m4 102 rfl) rfl
theorem q985 : (Jvm.Cond.code ({ cls := "RoundCheck", name := "isWithin", desc := "(II)Z" } : Jvm.MethodName) prog_1_method_45_code (5 : Nat) (Option.some Jvm.ClassFile.FieldType.boolean)) ∈ lw_all := lw_g (lw_at lw_m4 103 rfl) rfl
theorem q986 : (Jvm.Cond.methodLink "RoundCheck" (320 : Nat) ({ cls := "RoundCheck$Store", name := "seek", desc := "(III)I" } : Jvm.MethodName)) ∈ lw_all := lw_g (lw_at lw_m4 104 rfl) rfl
theorem q990 : (Jvm.Cond.methodLink "RoundCheck" (323 : Nat) ({ cls := "RoundCheck", name := "counted", desc := "(I)I" } : Jvm.MethodName)) ∈ lw_all := lw_g (lw_at lw_m4 108 rfl) rfl
theorem q991 : (Jvm.Cond.privateMethod ({ cls := "RoundCheck", name := "counted", desc := "(I)I" } : Jvm.MethodName)) ∈ lw_tbl := lw_at lw_m4 109 rfl
theorem q992 : (Jvm.Cond.instanceMethod ({ cls := "RoundCheck", name := "counted", desc := "(I)I" } : Jvm.MethodName)) ∈ lw_all := lw_g (lw_at lw_m4 110 rfl) rfl
theorem q993 : (Jvm.Cond.code ({ cls := "RoundCheck", name := "counted", desc := "(I)I" } : Jvm.MethodName) prog_1_method_44_code (2 : Nat) (Option.some Jvm.ClassFile.FieldType.int)) ∈ lw_all := lw_g (lw_at lw_m4 111 rfl) rfl
theorem q994 : (Jvm.Cond.methodLink "RoundCheck" (290 : Nat) ({ cls := "RoundCheck", name := "oneLeft", desc := "(I)V" } : Jvm.MethodName)) ∈ lw_all := lw_g (lw_at lw_m4 112 rfl) rfl
theorem q995 : (Jvm.Cond.privateMethod ({ cls := "RoundCheck", name := "oneLeft", desc := "(I)V" } : Jvm.MethodName)) ∈ lw_tbl := lw_at lw_m4 113 rfl
theorem q996 : (Jvm.Cond.instanceMethod ({ cls := "RoundCheck", name := "oneLeft", desc := "(I)V" } : Jvm.MethodName)) ∈ lw_all := lw_g (lw_at lw_m4 114 rfl) rfl
theorem q997 : (Jvm.Cond.code ({ cls := "RoundCheck", name := "oneLeft", desc := "(I)V" } : Jvm.MethodName) prog_1_method_47_code (5 : Nat) (Option.none : Option Jvm.ClassFile.FieldType)) ∈ lw_all := lw_g (lw_at lw_m4 115 rfl) rfl
theorem q998 : (Jvm.Cond.methodLink "RoundCheck" (296 : Nat) ({ cls := "RoundCheck", name := "newConstant", desc := "(I)V" } : Jvm.MethodName)) ∈ lw_all := lw_g (lw_at lw_m4 116 rfl) rfl
theorem q999 : (Jvm.Cond.privateMethod ({ cls := "RoundCheck", name := "newConstant", desc := "(I)V" } : Jvm.MethodName)) ∈ lw_tbl := lw_at lw_m4 117 rfl
theorem q1000 : (Jvm.Cond.instanceMethod ({ cls := "RoundCheck", name := "newConstant", desc := "(I)V" } : Jvm.MethodName)) ∈ lw_all := lw_g (lw_at lw_m4 118 rfl) rfl
theorem q1001 : (Jvm.Cond.code ({ cls := "RoundCheck", name := "newConstant", desc := "(I)V" } : Jvm.MethodName) prog_1_method_41_code (2 : Nat) (Option.none : Option Jvm.ClassFile.FieldType)) ∈ lw_all := lw_g (lw_at lw_m4 119 rfl) rfl
theorem q1002 : (Jvm.Cond.methodLink "RoundCheck" (399 : Nat) ({ cls := "RoundCheck", name := "forget", desc := "(III)V" } : Jvm.MethodName)) ∈ lw_all := lw_g (lw_at lw_m4 120 rfl) rfl
theorem q1003 : (Jvm.Cond.privateMethod ({ cls := "RoundCheck", name := "forget", desc := "(III)V" } : Jvm.MethodName)) ∈ lw_tbl := lw_at lw_m4 121 rfl
theorem q1004 : (Jvm.Cond.instanceMethod ({ cls := "RoundCheck", name := "forget", desc := "(III)V" } : Jvm.MethodName)) ∈ lw_all := lw_g (lw_at lw_m4 122 rfl) rfl
theorem q1005 : (Jvm.Cond.code ({ cls := "RoundCheck", name := "forget", desc := "(III)V" } : Jvm.MethodName) prog_1_method_55_code (4 : Nat) (Option.none : Option Jvm.ClassFile.FieldType)) ∈ lw_all := lw_g (lw_at lw_m4 123 rfl) rfl
theorem q1010 : (Jvm.Cond.instanceMethod ({ cls := "RoundCheck", name := "fits", desc := "(II)Z" } : Jvm.MethodName)) ∈ lw_all := lw_g (lw_at lw_m4 128 rfl) rfl
theorem q1011 : (Jvm.Cond.selects "RoundCheck" ({ cls := "RoundCheck", name := "fits", desc := "(II)Z" } : Jvm.MethodName) ({ cls := "RoundCheck", name := "fits", desc := "(II)Z" } : Jvm.MethodName)) ∈ lw_all := lw_g (lw_at lw_m4 129 rfl) rfl
theorem q1012 : (Jvm.Cond.code ({ cls := "RoundCheck", name := "fits", desc := "(II)Z" } : Jvm.MethodName) prog_1_method_91_code (8 : Nat) (Option.some Jvm.ClassFile.FieldType.boolean)) ∈ lw_all := lw_g (lw_at lw_m4 130 rfl) rfl
theorem q1013 : (Jvm.Cond.methodLink "RoundCheck" (92 : Nat) ({ cls := "RoundCheck", name := "fits0", desc := "(II)Z" } : Jvm.MethodName)) ∈ lw_all := lw_g (lw_at lw_m4 131 rfl) rfl
theorem q1014 : (Jvm.Cond.privateMethod ({ cls := "RoundCheck", name := "fits0", desc := "(II)Z" } : Jvm.MethodName)) ∈ lw_tbl := lw_at lw_m4 132 rfl
theorem q1015 : (Jvm.Cond.instanceMethod ({ cls := "RoundCheck", name := "fits0", desc := "(II)Z" } : Jvm.MethodName)) ∈ lw_all := lw_g (lw_at lw_m4 133 rfl) rfl
theorem q1016 : (Jvm.Cond.code ({ cls := "RoundCheck", name := "fits0", desc := "(II)Z" } : Jvm.MethodName) prog_1_method_14_code (3 : Nat) (Option.some Jvm.ClassFile.FieldType.boolean)) ∈ lw_all := lw_g (lw_at lw_m4 134 rfl) rfl
theorem q1017 : (Jvm.Cond.methodLink "RoundCheck" (118 : Nat) ({ cls := "RoundCheck", name := "hasMode", desc := "(III)Z" } : Jvm.MethodName)) ∈ lw_all := lw_g (lw_at lw_m4 135 rfl) rfl
theorem q1018 : (Jvm.Cond.privateMethod ({ cls := "RoundCheck", name := "hasMode", desc := "(III)Z" } : Jvm.MethodName)) ∈ lw_tbl := lw_at lw_m4 136 rfl
theorem q1019 : (Jvm.Cond.instanceMethod ({ cls := "RoundCheck", name := "hasMode", desc := "(III)Z" } : Jvm.MethodName)) ∈ lw_all := lw_g (lw_at lw_m4 137 rfl) rfl
theorem q1020 : (Jvm.Cond.code ({ cls := "RoundCheck", name := "hasMode", desc := "(III)Z" } : Jvm.MethodName) prog_1_method_9_code (5 : Nat) (Option.some Jvm.ClassFile.FieldType.boolean)) ∈ lw_all := lw_g (lw_at lw_m4 138 rfl) rfl
theorem q1021 : (Jvm.Cond.methodLink "RoundCheck" (122 : Nat) ({ cls := "RoundCheck", name := "adjectivesOf", desc := "(I)I" } : Jvm.MethodName)) ∈ lw_all := lw_g (lw_at lw_m4 139 rfl) rfl
theorem q1022 : (Jvm.Cond.privateMethod ({ cls := "RoundCheck", name := "adjectivesOf", desc := "(I)I" } : Jvm.MethodName)) ∈ lw_tbl := lw_at lw_m4 140 rfl
theorem q1023 : (Jvm.Cond.instanceMethod ({ cls := "RoundCheck", name := "adjectivesOf", desc := "(I)I" } : Jvm.MethodName)) ∈ lw_all := lw_g (lw_at lw_m4 141 rfl) rfl
theorem q1024 : (Jvm.Cond.code ({ cls := "RoundCheck", name := "adjectivesOf", desc := "(I)I" } : Jvm.MethodName) prog_1_method_4_code (2 : Nat) (Option.some Jvm.ClassFile.FieldType.int)) ∈ lw_all := lw_g (lw_at lw_m4 142 rfl) rfl
theorem q1025 : (Jvm.Cond.methodLink "RoundCheck" (125 : Nat) ({ cls := "RoundCheck", name := "adjectivesOf0", desc := "(I)I" } : Jvm.MethodName)) ∈ lw_all := lw_g (lw_at lw_m4 143 rfl) rfl
theorem q1026 : (Jvm.Cond.privateMethod ({ cls := "RoundCheck", name := "adjectivesOf0", desc := "(I)I" } : Jvm.MethodName)) ∈ lw_tbl := lw_at lw_m4 144 rfl
theorem q1027 : (Jvm.Cond.instanceMethod ({ cls := "RoundCheck", name := "adjectivesOf0", desc := "(I)I" } : Jvm.MethodName)) ∈ lw_all := lw_g (lw_at lw_m4 145 rfl) rfl
theorem q1028 : (Jvm.Cond.code ({ cls := "RoundCheck", name := "adjectivesOf0", desc := "(I)I" } : Jvm.MethodName) prog_1_method_12_code (10 : Nat) (Option.some Jvm.ClassFile.FieldType.int)) ∈ lw_all := lw_g (lw_at lw_m4 146 rfl) rfl
theorem q1029 : (Jvm.Cond.methodLink "RoundCheck" (77 : Nat) ({ cls := "RoundCheck", name := "addAdjective", desc := "(II)Z" } : Jvm.MethodName)) ∈ lw_all := lw_g (lw_at lw_m4 147 rfl) rfl
theorem q1030 : (Jvm.Cond.privateMethod ({ cls := "RoundCheck", name := "addAdjective", desc := "(II)Z" } : Jvm.MethodName)) ∈ lw_tbl := lw_at lw_m4 148 rfl
theorem q1031 : (Jvm.Cond.instanceMethod ({ cls := "RoundCheck", name := "addAdjective", desc := "(II)Z" } : Jvm.MethodName)) ∈ lw_all := lw_g (lw_at lw_m4 149 rfl) rfl
theorem q1032 : (Jvm.Cond.code ({ cls := "RoundCheck", name := "addAdjective", desc := "(II)Z" } : Jvm.MethodName) prog_1_method_10_code (4 : Nat) (Option.some Jvm.ClassFile.FieldType.boolean)) ∈ lw_all := lw_g (lw_at lw_m4 150 rfl) rfl
theorem q1033 : (Jvm.Cond.methodLink "RoundCheck" (101 : Nat) ({ cls := "RoundCheck", name := "inRow", desc := "(II)Z" } : Jvm.MethodName)) ∈ lw_all := lw_g (lw_at lw_m4 151 rfl) rfl
theorem q1034 : (Jvm.Cond.privateMethod ({ cls := "RoundCheck", name := "inRow", desc := "(II)Z" } : Jvm.MethodName)) ∈ lw_tbl := lw_at lw_m4 152 rfl
theorem q1035 : (Jvm.Cond.instanceMethod ({ cls := "RoundCheck", name := "inRow", desc := "(II)Z" } : Jvm.MethodName)) ∈ lw_all := lw_g (lw_at lw_m4 153 rfl) rfl
theorem q1036 : (Jvm.Cond.code ({ cls := "RoundCheck", name := "inRow", desc := "(II)Z" } : Jvm.MethodName) prog_1_method_11_code (4 : Nat) (Option.some Jvm.ClassFile.FieldType.boolean)) ∈ lw_all := lw_g (lw_at lw_m4 154 rfl) rfl
theorem q1037 : (Jvm.Cond.methodLink "RoundCheck" (104 : Nat) ({ cls := "RoundCheck", name := "ofMode", desc := "(II)Z" } : Jvm.MethodName)) ∈ lw_all := lw_g (lw_at lw_m4 155 rfl) rfl
theorem q1038 : (Jvm.Cond.privateMethod ({ cls := "RoundCheck", name := "ofMode", desc := "(II)Z" } : Jvm.MethodName)) ∈ lw_tbl := lw_at lw_m4 156 rfl
theorem q1039 : (Jvm.Cond.instanceMethod ({ cls := "RoundCheck", name := "ofMode", desc := "(II)Z" } : Jvm.MethodName)) ∈ lw_all := lw_g (lw_at lw_m4 157 rfl) rfl
theorem q1040 : (Jvm.Cond.code ({ cls := "RoundCheck", name := "ofMode", desc := "(II)Z" } : Jvm.MethodName) prog_1_method_13_code (5 : Nat) (Option.some Jvm.ClassFile.FieldType.boolean)) ∈ lw_all := lw_g (lw_at lw_m4 158 rfl) rfl
theorem q1041 : (Jvm.Cond.methodLink "RoundCheck" (128 : Nat) ({ cls := "RoundCheck", name := "within", desc := "(II)Z" } : Jvm.MethodName)) ∈ lw_all := lw_g (lw_at lw_m4 159 rfl) rfl
theorem q1042 : (Jvm.Cond.privateMethod ({ cls := "RoundCheck", name := "within", desc := "(II)Z" } : Jvm.MethodName)) ∈ lw_tbl := lw_at lw_m4 160 rfl
theorem q1043 : (Jvm.Cond.instanceMethod ({ cls := "RoundCheck", name := "within", desc := "(II)Z" } : Jvm.MethodName)) ∈ lw_all := lw_g (lw_at lw_m4 161 rfl) rfl
theorem q1044 : (Jvm.Cond.code ({ cls := "RoundCheck", name := "within", desc := "(II)Z" } : Jvm.MethodName) prog_1_method_6_code (4 : Nat) (Option.some Jvm.ClassFile.FieldType.boolean)) ∈ lw_all := lw_g (lw_at lw_m4 162 rfl) rfl
theorem q1045 : (Jvm.Cond.methodLink "RoundCheck" (35 : Nat) ({ cls := "RoundCheck", name := "hasAdjective", desc := "(II)Z" } : Jvm.MethodName)) ∈ lw_all := lw_g (lw_at lw_m4 163 rfl) rfl
theorem q1046 : (Jvm.Cond.privateMethod ({ cls := "RoundCheck", name := "hasAdjective", desc := "(II)Z" } : Jvm.MethodName)) ∈ lw_tbl := lw_at lw_m4 164 rfl
theorem q1047 : (Jvm.Cond.instanceMethod ({ cls := "RoundCheck", name := "hasAdjective", desc := "(II)Z" } : Jvm.MethodName)) ∈ lw_all := lw_g (lw_at lw_m4 165 rfl) rfl
theorem q1048 : (Jvm.Cond.code ({ cls := "RoundCheck", name := "hasAdjective", desc := "(II)Z" } : Jvm.MethodName) prog_1_method_5_code (4 : Nat) (Option.some Jvm.ClassFile.FieldType.boolean)) ∈ lw_all := lw_g (lw_at lw_m4 166 rfl) rfl
theorem q1053 : (Jvm.Cond.instanceMethod ({ cls := "RoundCheck", name := "adjectives", desc := "(I)I" } : Jvm.MethodName)) ∈ lw_all := lw_g (lw_at lw_m4 171 rfl) rfl
theorem q1054 : (Jvm.Cond.selects "RoundCheck" ({ cls := "RoundCheck", name := "adjectives", desc := "(I)I" } : Jvm.MethodName) ({ cls := "RoundCheck", name := "adjectives", desc := "(I)I" } : Jvm.MethodName)) ∈ lw_all := lw_g (lw_at lw_m4 172 rfl) rfl
theorem q1055 : (Jvm.Cond.code ({ cls := "RoundCheck", name := "adjectives", desc := "(I)I" } : Jvm.MethodName) prog_1_method_92_code (8 : Nat) (Option.some Jvm.ClassFile.FieldType.int)) ∈ lw_all := lw_g (lw_at lw_m4 173 rfl) rfl
theorem q1060 : (Jvm.Cond.instanceMethod ({ cls := "RoundCheck", name := "alike", desc := "(II)Z" } : Jvm.MethodName)) ∈ lw_all := lw_g (lw_at lw_m4 178 rfl) rfl
theorem q1061 : (Jvm.Cond.selects "RoundCheck" ({ cls := "RoundCheck", name := "alike", desc := "(II)Z" } : Jvm.MethodName) ({ cls := "RoundCheck", name := "alike", desc := "(II)Z" } : Jvm.MethodName)) ∈ lw_all := lw_g (lw_at lw_m4 179 rfl) rfl
theorem q1062 : (Jvm.Cond.code ({ cls := "RoundCheck", name := "alike", desc := "(II)Z" } : Jvm.MethodName) prog_1_method_93_code (4 : Nat) (Option.some Jvm.ClassFile.FieldType.boolean)) ∈ lw_all := lw_g (lw_at lw_m4 180 rfl) rfl
theorem q1067 : (Jvm.Cond.instanceMethod ({ cls := "RoundCheck", name := "about", desc := "(II)I" } : Jvm.MethodName)) ∈ lw_all := lw_g (lw_at lw_m4 185 rfl) rfl
theorem q1068 : (Jvm.Cond.selects "RoundCheck" ({ cls := "RoundCheck", name := "about", desc := "(II)I" } : Jvm.MethodName) ({ cls := "RoundCheck", name := "about", desc := "(II)I" } : Jvm.MethodName)) ∈ lw_all := lw_g (lw_at lw_m4 186 rfl) rfl
theorem q1069 : (Jvm.Cond.code ({ cls := "RoundCheck", name := "about", desc := "(II)I" } : Jvm.MethodName) prog_1_method_94_code (5 : Nat) (Option.some Jvm.ClassFile.FieldType.int)) ∈ lw_all := lw_g (lw_at lw_m4 187 rfl) rfl
theorem q1070 : (Jvm.Cond.methodLink "RoundCheck" (522 : Nat) ({ cls := "RoundCheck$Store", name := "partsOf", desc := "(I)I" } : Jvm.MethodName)) ∈ lw_all := lw_g (lw_at lw_m4 188 rfl) rfl
theorem q1078 : (Jvm.Cond.instanceMethod ({ cls := "RoundCheck", name := "count", desc := "(I)I" } : Jvm.MethodName)) ∈ lw_all := lw_g (lw_at lw_m4 196 rfl) rfl
theorem q1079 : (Jvm.Cond.selects "RoundCheck" ({ cls := "RoundCheck", name := "count", desc := "(I)I" } : Jvm.MethodName) ({ cls := "RoundCheck", name := "count", desc := "(I)I" } : Jvm.MethodName)) ∈ lw_all := lw_g (lw_at lw_m4 197 rfl) rfl
theorem q1080 : (Jvm.Cond.code ({ cls := "RoundCheck", name := "count", desc := "(I)I" } : Jvm.MethodName) prog_1_method_95_code (2 : Nat) (Option.some Jvm.ClassFile.FieldType.int)) ∈ lw_all := lw_g (lw_at lw_m4 198 rfl) rfl
theorem in_X1 : ∀ w ∈ wsX10, w ∈ lw_all := lw_in wsX10 [365, 367, 369, 371, 373, 375, 377, 379, 381, 383, 385, 387, 389, 391, 393, 395, 397, 399, 401, 403, 405, 407, 409, 411, 413, 415, 417, 419, 421, 423, 425, 427, 429, 431, 433, 435, 437, 439, 441, 443, 445, 447, 449, 451, 453, 455, 457, 459, 461, 463, 465, 467, 469, 471, 473, 475, 477] (by decide +kernel) (by decide +kernel)
