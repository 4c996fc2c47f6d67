set_option maxRecDepth 100000
abbrev cJ27_init : ByteArray := prog_31_method_23_code
def yJ27_init : MethodName := ⟨RJ27, "<init>", "(I)V"⟩
def dkwJ27_init_0 : List UInt8 := [42, 183, 0, 202, 42, 27, 181, 0, 205, 177]
abbrev dktJ27_init_0 : List UInt8 := dkwJ27_init_0 ++ []
theorem dksJ27_init_0 : cJ27_init.data.toList.drop 0 = dktJ27_init_0 := by decide +kernel
theorem dJ27_init_0 : decode cJ27_init 0 = .ok (.aload_n 0, 1) := dk_42 (dk_at dksJ27_init_0 0 rfl rfl)
theorem dJ27_init_1 : decode cJ27_init 1 = .ok (.invokespecial 202, 3) := dk_183 0 202 (dk_at dksJ27_init_0 1 rfl rfl)
theorem dJ27_init_4 : decode cJ27_init 4 = .ok (.aload_n 0, 1) := dk_42 (dk_at dksJ27_init_0 4 rfl rfl)
theorem dJ27_init_5 : decode cJ27_init 5 = .ok (.iload_n 1, 1) := dk_27 (dk_at dksJ27_init_0 5 rfl rfl)
theorem dJ27_init_6 : decode cJ27_init 6 = .ok (.putfield 205, 3) := dk_181 0 205 (dk_at dksJ27_init_0 6 rfl rfl)
theorem dJ27_init_9 : decode cJ27_init 9 = .ok (.return_, 1) := dk_177 (dk_at dksJ27_init_0 9 rfl rfl)
abbrev cJ27_valueOf : ByteArray := prog_31_method_22_code
def yJ27_valueOf : MethodName := ⟨RJ27, "valueOf", "(I)Ljava/lang/Integer;"⟩
def dkwJ27_valueOf_1 : List UInt8 := [187, 0, 1, 89, 26, 183, 0, 199, 176]
abbrev dktJ27_valueOf_1 : List UInt8 := dkwJ27_valueOf_1 ++ []
def dkwJ27_valueOf_0 : List UInt8 := [26, 16, 128, 161, 0, 20, 26, 178, 0, 191, 163, 0, 13, 178, 0, 195, 26, 17, 0, 128, 96, 50, 176]
abbrev dktJ27_valueOf_0 : List UInt8 := dkwJ27_valueOf_0 ++ dktJ27_valueOf_1
theorem dksJ27_valueOf_0 : cJ27_valueOf.data.toList.drop 0 = dktJ27_valueOf_0 := by decide +kernel
theorem dksJ27_valueOf_1 : cJ27_valueOf.data.toList.drop 23 = dktJ27_valueOf_1 := dk_seg dksJ27_valueOf_0 23 rfl rfl
theorem dJ27_valueOf_0 : decode cJ27_valueOf 0 = .ok (.iload_n 0, 1) := dk_26 (dk_at dksJ27_valueOf_0 0 rfl rfl)
theorem dJ27_valueOf_1 : decode cJ27_valueOf 1 = .ok (.bipush (-128), 2) := dk_16 128 (dk_at dksJ27_valueOf_0 1 rfl rfl)
theorem dJ27_valueOf_3 : decode cJ27_valueOf 3 = .ok (.if_icmp .lt 20, 3) := dk_161 0 20 (dk_at dksJ27_valueOf_0 3 rfl rfl)
theorem dJ27_valueOf_6 : decode cJ27_valueOf 6 = .ok (.iload_n 0, 1) := dk_26 (dk_at dksJ27_valueOf_0 6 rfl rfl)
theorem dJ27_valueOf_7 : decode cJ27_valueOf 7 = .ok (.getstatic 191, 3) := dk_178 0 191 (dk_at dksJ27_valueOf_0 7 rfl rfl)
theorem dJ27_valueOf_10 : decode cJ27_valueOf 10 = .ok (.if_icmp .gt 13, 3) := dk_163 0 13 (dk_at dksJ27_valueOf_0 10 rfl rfl)
theorem dJ27_valueOf_13 : decode cJ27_valueOf 13 = .ok (.getstatic 195, 3) := dk_178 0 195 (dk_at dksJ27_valueOf_0 13 rfl rfl)
theorem dJ27_valueOf_16 : decode cJ27_valueOf 16 = .ok (.iload_n 0, 1) := dk_26 (dk_at dksJ27_valueOf_0 16 rfl rfl)
theorem dJ27_valueOf_17 : decode cJ27_valueOf 17 = .ok (.sipush 128, 3) := dk_17 0 128 (dk_at dksJ27_valueOf_0 17 rfl rfl)
theorem dJ27_valueOf_20 : decode cJ27_valueOf 20 = .ok (.iadd, 1) := dk_96 (dk_at dksJ27_valueOf_0 20 rfl rfl)
theorem dJ27_valueOf_21 : decode cJ27_valueOf 21 = .ok (.aaload, 1) := dk_50 (dk_at dksJ27_valueOf_0 21 rfl rfl)
theorem dJ27_valueOf_22 : decode cJ27_valueOf 22 = .ok (.areturn, 1) := dk_176 (dk_at dksJ27_valueOf_0 22 rfl rfl)
theorem dJ27_valueOf_23 : decode cJ27_valueOf 23 = .ok (.new 1, 3) := dk_187 0 1 (dk_at dksJ27_valueOf_1 0 rfl rfl)
theorem dJ27_valueOf_26 : decode cJ27_valueOf 26 = .ok (.dup, 1) := dk_89 (dk_at dksJ27_valueOf_1 3 rfl rfl)
theorem dJ27_valueOf_27 : decode cJ27_valueOf 27 = .ok (.iload_n 0, 1) := dk_26 (dk_at dksJ27_valueOf_1 4 rfl rfl)
theorem dJ27_valueOf_28 : decode cJ27_valueOf 28 = .ok (.invokespecial 199, 3) := dk_183 0 199 (dk_at dksJ27_valueOf_1 5 rfl rfl)
theorem dJ27_valueOf_31 : decode cJ27_valueOf 31 = .ok (.areturn, 1) := dk_176 (dk_at dksJ27_valueOf_1 8 rfl rfl)
abbrev cJ27_compare : ByteArray := prog_31_method_40_code
def yJ27_compare : MethodName := ⟨RJ27, "compare", "(II)I"⟩
def dkwJ27_compare_0 : List UInt8 := [26, 27, 162, 0, 7, 2, 167, 0, 13, 26, 27, 160, 0, 7, 3, 167, 0, 4, 4, 172]
abbrev dktJ27_compare_0 : List UInt8 := dkwJ27_compare_0 ++ []
theorem dksJ27_compare_0 : cJ27_compare.data.toList.drop 0 = dktJ27_compare_0 := by decide +kernel
theorem dJ27_compare_0 : decode cJ27_compare 0 = .ok (.iload_n 0, 1) := dk_26 (dk_at dksJ27_compare_0 0 rfl rfl)
theorem dJ27_compare_1 : decode cJ27_compare 1 = .ok (.iload_n 1, 1) := dk_27 (dk_at dksJ27_compare_0 1 rfl rfl)
theorem dJ27_compare_2 : decode cJ27_compare 2 = .ok (.if_icmp .ge 7, 3) := dk_162 0 7 (dk_at dksJ27_compare_0 2 rfl rfl)
theorem dJ27_compare_5 : decode cJ27_compare 5 = .ok (.iconst (-1), 1) := dk_2 (dk_at dksJ27_compare_0 5 rfl rfl)
theorem dJ27_compare_6 : decode cJ27_compare 6 = .ok (.goto 13, 3) := dk_167 0 13 (dk_at dksJ27_compare_0 6 rfl rfl)
theorem dJ27_compare_9 : decode cJ27_compare 9 = .ok (.iload_n 0, 1) := dk_26 (dk_at dksJ27_compare_0 9 rfl rfl)
theorem dJ27_compare_10 : decode cJ27_compare 10 = .ok (.iload_n 1, 1) := dk_27 (dk_at dksJ27_compare_0 10 rfl rfl)
theorem dJ27_compare_11 : decode cJ27_compare 11 = .ok (.if_icmp .ne 7, 3) := dk_160 0 7 (dk_at dksJ27_compare_0 11 rfl rfl)
theorem dJ27_compare_14 : decode cJ27_compare 14 = .ok (.iconst 0, 1) := dk_3 (dk_at dksJ27_compare_0 14 rfl rfl)
theorem dJ27_compare_15 : decode cJ27_compare 15 = .ok (.goto 4, 3) := dk_167 0 4 (dk_at dksJ27_compare_0 15 rfl rfl)
theorem dJ27_compare_18 : decode cJ27_compare 18 = .ok (.iconst 1, 1) := dk_4 (dk_at dksJ27_compare_0 18 rfl rfl)
theorem dJ27_compare_19 : decode cJ27_compare 19 = .ok (.ireturn, 1) := dk_172 (dk_at dksJ27_compare_0 19 rfl rfl)
abbrev cJ27_compareTo_2 : ByteArray := prog_31_method_39_code
def yJ27_compareTo_2 : MethodName := ⟨RJ27, "compareTo", "(Ljava/lang/Integer;)I"⟩
def dkwJ27_compareTo_2_0 : List UInt8 := [42, 180, 0, 205, 43, 180, 0, 205, 184, 1, 3, 172]
abbrev dktJ27_compareTo_2_0 : List UInt8 := dkwJ27_compareTo_2_0 ++ []
theorem dksJ27_compareTo_2_0 : cJ27_compareTo_2.data.toList.drop 0 = dktJ27_compareTo_2_0 := by decide +kernel
theorem dJ27_compareTo_2_0 : decode cJ27_compareTo_2 0 = .ok (.aload_n 0, 1) := dk_42 (dk_at dksJ27_compareTo_2_0 0 rfl rfl)
theorem dJ27_compareTo_2_1 : decode cJ27_compareTo_2 1 = .ok (.getfield 205, 3) := dk_180 0 205 (dk_at dksJ27_compareTo_2_0 1 rfl rfl)
theorem dJ27_compareTo_2_4 : decode cJ27_compareTo_2 4 = .ok (.aload_n 1, 1) := dk_43 (dk_at dksJ27_compareTo_2_0 4 rfl rfl)
theorem dJ27_compareTo_2_5 : decode cJ27_compareTo_2 5 = .ok (.getfield 205, 3) := dk_180 0 205 (dk_at dksJ27_compareTo_2_0 5 rfl rfl)
theorem dJ27_compareTo_2_8 : decode cJ27_compareTo_2 8 = .ok (.invokestatic 259, 3) := dk_184 1 3 (dk_at dksJ27_compareTo_2_0 8 rfl rfl)
theorem dJ27_compareTo_2_11 : decode cJ27_compareTo_2 11 = .ok (.ireturn, 1) := dk_172 (dk_at dksJ27_compareTo_2_0 11 rfl rfl)
abbrev cJ27_compareTo : ByteArray := prog_31_method_63_code
def yJ27_compareTo : MethodName := ⟨RJ27, "compareTo", "(Ljava/lang/Object;)I"⟩
def dkwJ27_compareTo_0 : List UInt8 := [42, 43, 192, 0, 1, 182, 1, 28, 172]
abbrev dktJ27_compareTo_0 : List UInt8 := dkwJ27_compareTo_0 ++ []
theorem dksJ27_compareTo_0 : cJ27_compareTo.data.toList.drop 0 = dktJ27_compareTo_0 := by decide +kernel
theorem dJ27_compareTo_0 : decode cJ27_compareTo 0 = .ok (.aload_n 0, 1) := dk_42 (dk_at dksJ27_compareTo_0 0 rfl rfl)
theorem dJ27_compareTo_1 : decode cJ27_compareTo 1 = .ok (.aload_n 1, 1) := dk_43 (dk_at dksJ27_compareTo_0 1 rfl rfl)
theorem dJ27_compareTo_2 : decode cJ27_compareTo 2 = .ok (.checkcast 1, 3) := dk_192 0 1 (dk_at dksJ27_compareTo_0 2 rfl rfl)
theorem dJ27_compareTo_5 : decode cJ27_compareTo 5 = .ok (.invokevirtual 284, 3) := dk_182 1 28 (dk_at dksJ27_compareTo_0 5 rfl rfl)
theorem dJ27_compareTo_8 : decode cJ27_compareTo 8 = .ok (.ireturn, 1) := dk_172 (dk_at dksJ27_compareTo_0 8 rfl rfl)
abbrev cJ37_requireNonNull : ByteArray := prog_85_method_10_code
def yJ37_requireNonNull : MethodName := ⟨RJ37, "requireNonNull", "(Ljava/lang/Object;)Ljava/lang/Object;"⟩
def dkwJ37_requireNonNull_0 : List UInt8 := [42, 199, 0, 11, 187, 0, 84, 89, 183, 0, 86, 191, 42, 176]
abbrev dktJ37_requireNonNull_0 : List UInt8 := dkwJ37_requireNonNull_0 ++ []
theorem dksJ37_requireNonNull_0 : cJ37_requireNonNull.data.toList.drop 0 = dktJ37_requireNonNull_0 := by decide +kernel
theorem dJ37_requireNonNull_0 : decode cJ37_requireNonNull 0 = .ok (.aload_n 0, 1) := dk_42 (dk_at dksJ37_requireNonNull_0 0 rfl rfl)
theorem dJ37_requireNonNull_1 : decode cJ37_requireNonNull 1 = .ok (.ifnonnull 11, 3) := dk_199 0 11 (dk_at dksJ37_requireNonNull_0 1 rfl rfl)
theorem dJ37_requireNonNull_4 : decode cJ37_requireNonNull 4 = .ok (.new 84, 3) := dk_187 0 84 (dk_at dksJ37_requireNonNull_0 4 rfl rfl)
theorem dJ37_requireNonNull_12 : decode cJ37_requireNonNull 12 = .ok (.aload_n 0, 1) := dk_42 (dk_at dksJ37_requireNonNull_0 12 rfl rfl)
theorem dJ37_requireNonNull_13 : decode cJ37_requireNonNull 13 = .ok (.areturn, 1) := dk_176 (dk_at dksJ37_requireNonNull_0 13 rfl rfl)
abbrev cJ1_getEntry : ByteArray := prog_96_method_15_code
def yJ1_getEntry : MethodName := ⟨RJ1, "getEntry", "(Ljava/lang/Object;)Ljava/util/TreeMap$Entry;"⟩
def dkwJ1_getEntry_3 : List UInt8 := [45, 176, 167, 255, 212, 1, 176]
abbrev dktJ1_getEntry_3 : List UInt8 := dkwJ1_getEntry_3 ++ []
def dkwJ1_getEntry_2 : List UInt8 := [156, 0, 11, 45, 180, 0, 111, 78, 167, 0, 18, 21, 4, 158, 0, 11, 45, 180, 0, 114, 78, 167, 0, 5]
abbrev dktJ1_getEntry_2 : List UInt8 := dkwJ1_getEntry_2 ++ dktJ1_getEntry_3
def dkwJ1_getEntry_1 : List UInt8 := [180, 0, 101, 78, 45, 198, 0, 46, 44, 45, 180, 0, 105, 185, 0, 107, 2, 0, 54, 4, 21, 4]
abbrev dktJ1_getEntry_1 : List UInt8 := dkwJ1_getEntry_1 ++ dktJ1_getEntry_2
def dkwJ1_getEntry_0 : List UInt8 := [42, 180, 0, 16, 198, 0, 9, 42, 43, 182, 0, 92, 176, 43, 184, 0, 95, 87, 43, 192, 0, 99, 77, 42]
abbrev dktJ1_getEntry_0 : List UInt8 := dkwJ1_getEntry_0 ++ dktJ1_getEntry_1
theorem dksJ1_getEntry_0 : cJ1_getEntry.data.toList.drop 0 = dktJ1_getEntry_0 := by decide +kernel
theorem dksJ1_getEntry_1 : cJ1_getEntry.data.toList.drop 24 = dktJ1_getEntry_1 := dk_seg dksJ1_getEntry_0 24 rfl rfl
theorem dksJ1_getEntry_2 : cJ1_getEntry.data.toList.drop 46 = dktJ1_getEntry_2 := dk_seg dksJ1_getEntry_1 22 rfl rfl
theorem dksJ1_getEntry_3 : cJ1_getEntry.data.toList.drop 70 = dktJ1_getEntry_3 := dk_seg dksJ1_getEntry_2 24 rfl rfl
theorem dJ1_getEntry_0 : decode cJ1_getEntry 0 = .ok (.aload_n 0, 1) := dk_42 (dk_at dksJ1_getEntry_0 0 rfl rfl)
theorem dJ1_getEntry_1 : decode cJ1_getEntry 1 = .ok (.getfield 16, 3) := dk_180 0 16 (dk_at dksJ1_getEntry_0 1 rfl rfl)
theorem dJ1_getEntry_4 : decode cJ1_getEntry 4 = .ok (.ifnull 9, 3) := dk_198 0 9 (dk_at dksJ1_getEntry_0 4 rfl rfl)
theorem dJ1_getEntry_7 : decode cJ1_getEntry 7 = .ok (.aload_n 0, 1) := dk_42 (dk_at dksJ1_getEntry_0 7 rfl rfl)
theorem dJ1_getEntry_8 : decode cJ1_getEntry 8 = .ok (.aload_n 1, 1) := dk_43 (dk_at dksJ1_getEntry_0 8 rfl rfl)
theorem dJ1_getEntry_9 : decode cJ1_getEntry 9 = .ok (.invokevirtual 92, 3) := dk_182 0 92 (dk_at dksJ1_getEntry_0 9 rfl rfl)
theorem dJ1_getEntry_13 : decode cJ1_getEntry 13 = .ok (.aload_n 1, 1) := dk_43 (dk_at dksJ1_getEntry_0 13 rfl rfl)
theorem dJ1_getEntry_14 : decode cJ1_getEntry 14 = .ok (.invokestatic 95, 3) := dk_184 0 95 (dk_at dksJ1_getEntry_0 14 rfl rfl)
theorem dJ1_getEntry_17 : decode cJ1_getEntry 17 = .ok (.pop, 1) := dk_87 (dk_at dksJ1_getEntry_0 17 rfl rfl)
theorem dJ1_getEntry_18 : decode cJ1_getEntry 18 = .ok (.aload_n 1, 1) := dk_43 (dk_at dksJ1_getEntry_0 18 rfl rfl)
theorem dJ1_getEntry_19 : decode cJ1_getEntry 19 = .ok (.checkcast 99, 3) := dk_192 0 99 (dk_at dksJ1_getEntry_0 19 rfl rfl)
theorem dJ1_getEntry_22 : decode cJ1_getEntry 22 = .ok (.astore_n 2, 1) := dk_77 (dk_at dksJ1_getEntry_0 22 rfl rfl)
theorem dJ1_getEntry_23 : decode cJ1_getEntry 23 = .ok (.aload_n 0, 1) := dk_42 (dk_at dksJ1_getEntry_0 23 rfl rfl)
theorem dJ1_getEntry_24 : decode cJ1_getEntry 24 = .ok (.getfield 101, 3) := dk_180 0 101 (dk_at dksJ1_getEntry_1 0 rfl rfl)
theorem dJ1_getEntry_27 : decode cJ1_getEntry 27 = .ok (.astore_n 3, 1) := dk_78 (dk_at dksJ1_getEntry_1 3 rfl rfl)
theorem dJ1_getEntry_28 : decode cJ1_getEntry 28 = .ok (.aload_n 3, 1) := dk_45 (dk_at dksJ1_getEntry_1 4 rfl rfl)
theorem dJ1_getEntry_29 : decode cJ1_getEntry 29 = .ok (.ifnull 46, 3) := dk_198 0 46 (dk_at dksJ1_getEntry_1 5 rfl rfl)
theorem dJ1_getEntry_32 : decode cJ1_getEntry 32 = .ok (.aload_n 2, 1) := dk_44 (dk_at dksJ1_getEntry_1 8 rfl rfl)
theorem dJ1_getEntry_33 : decode cJ1_getEntry 33 = .ok (.aload_n 3, 1) := dk_45 (dk_at dksJ1_getEntry_1 9 rfl rfl)
theorem dJ1_getEntry_34 : decode cJ1_getEntry 34 = .ok (.getfield 105, 3) := dk_180 0 105 (dk_at dksJ1_getEntry_1 10 rfl rfl)
theorem dJ1_getEntry_37 : decode cJ1_getEntry 37 = .ok (.invokeinterface 107 2, 5) := by decide +kernel
theorem dJ1_getEntry_42 : decode cJ1_getEntry 42 = .ok (.istore 4, 2) := dk_54 4 (dk_at dksJ1_getEntry_1 18 rfl rfl)
theorem dJ1_getEntry_44 : decode cJ1_getEntry 44 = .ok (.iload 4, 2) := dk_21 4 (dk_at dksJ1_getEntry_1 20 rfl rfl)
theorem dJ1_getEntry_46 : decode cJ1_getEntry 46 = .ok (.ifCond .ge 11, 3) := dk_156 0 11 (dk_at dksJ1_getEntry_2 0 rfl rfl)
theorem dJ1_getEntry_49 : decode cJ1_getEntry 49 = .ok (.aload_n 3, 1) := dk_45 (dk_at dksJ1_getEntry_2 3 rfl rfl)
theorem dJ1_getEntry_50 : decode cJ1_getEntry 50 = .ok (.getfield 111, 3) := dk_180 0 111 (dk_at dksJ1_getEntry_2 4 rfl rfl)
theorem dJ1_getEntry_53 : decode cJ1_getEntry 53 = .ok (.astore_n 3, 1) := dk_78 (dk_at dksJ1_getEntry_2 7 rfl rfl)
theorem dJ1_getEntry_54 : decode cJ1_getEntry 54 = .ok (.goto 18, 3) := dk_167 0 18 (dk_at dksJ1_getEntry_2 8 rfl rfl)
theorem dJ1_getEntry_57 : decode cJ1_getEntry 57 = .ok (.iload 4, 2) := dk_21 4 (dk_at dksJ1_getEntry_2 11 rfl rfl)
theorem dJ1_getEntry_59 : decode cJ1_getEntry 59 = .ok (.ifCond .le 11, 3) := dk_158 0 11 (dk_at dksJ1_getEntry_2 13 rfl rfl)
theorem dJ1_getEntry_62 : decode cJ1_getEntry 62 = .ok (.aload_n 3, 1) := dk_45 (dk_at dksJ1_getEntry_2 16 rfl rfl)
theorem dJ1_getEntry_63 : decode cJ1_getEntry 63 = .ok (.getfield 114, 3) := dk_180 0 114 (dk_at dksJ1_getEntry_2 17 rfl rfl)
theorem dJ1_getEntry_66 : decode cJ1_getEntry 66 = .ok (.astore_n 3, 1) := dk_78 (dk_at dksJ1_getEntry_2 20 rfl rfl)
theorem dJ1_getEntry_67 : decode cJ1_getEntry 67 = .ok (.goto 5, 3) := dk_167 0 5 (dk_at dksJ1_getEntry_2 21 rfl rfl)
theorem dJ1_getEntry_70 : decode cJ1_getEntry 70 = .ok (.aload_n 3, 1) := dk_45 (dk_at dksJ1_getEntry_3 0 rfl rfl)
theorem dJ1_getEntry_71 : decode cJ1_getEntry 71 = .ok (.areturn, 1) := dk_176 (dk_at dksJ1_getEntry_3 1 rfl rfl)
theorem dJ1_getEntry_72 : decode cJ1_getEntry 72 = .ok (.goto (-44), 3) := dk_167 255 212 (dk_at dksJ1_getEntry_3 2 rfl rfl)
theorem dJ1_getEntry_75 : decode cJ1_getEntry 75 = .ok (.aconst_null, 1) := dk_1 (dk_at dksJ1_getEntry_3 5 rfl rfl)
theorem dJ1_getEntry_76 : decode cJ1_getEntry 76 = .ok (.areturn, 1) := dk_176 (dk_at dksJ1_getEntry_3 6 rfl rfl)
abbrev cJ1_containsKey : ByteArray := prog_96_method_6_code
def yJ1_containsKey : MethodName := ⟨RJ1, "containsKey", "(Ljava/lang/Object;)Z"⟩
def dkwJ1_containsKey_0 : List UInt8 := [42, 43, 182, 0, 50, 198, 0, 7, 4, 167, 0, 4, 3, 172]
abbrev dktJ1_containsKey_0 : List UInt8 := dkwJ1_containsKey_0 ++ []
theorem dksJ1_containsKey_0 : cJ1_containsKey.data.toList.drop 0 = dktJ1_containsKey_0 := by decide +kernel
theorem dJ1_containsKey_0 : decode cJ1_containsKey 0 = .ok (.aload_n 0, 1) := dk_42 (dk_at dksJ1_containsKey_0 0 rfl rfl)
theorem dJ1_containsKey_1 : decode cJ1_containsKey 1 = .ok (.aload_n 1, 1) := dk_43 (dk_at dksJ1_containsKey_0 1 rfl rfl)
theorem dJ1_containsKey_2 : decode cJ1_containsKey 2 = .ok (.invokevirtual 50, 3) := dk_182 0 50 (dk_at dksJ1_containsKey_0 2 rfl rfl)
theorem dJ1_containsKey_5 : decode cJ1_containsKey 5 = .ok (.ifnull 7, 3) := dk_198 0 7 (dk_at dksJ1_containsKey_0 5 rfl rfl)
theorem dJ1_containsKey_8 : decode cJ1_containsKey 8 = .ok (.iconst 1, 1) := dk_4 (dk_at dksJ1_containsKey_0 8 rfl rfl)
theorem dJ1_containsKey_9 : decode cJ1_containsKey 9 = .ok (.goto 4, 3) := dk_167 0 4 (dk_at dksJ1_containsKey_0 9 rfl rfl)
theorem dJ1_containsKey_12 : decode cJ1_containsKey 12 = .ok (.iconst 0, 1) := dk_3 (dk_at dksJ1_containsKey_0 12 rfl rfl)
theorem dJ1_containsKey_13 : decode cJ1_containsKey 13 = .ok (.ireturn, 1) := dk_172 (dk_at dksJ1_containsKey_0 13 rfl rfl)
abbrev cX2_hasLion : ByteArray := prog_14_method_3_code
def yX2_hasLion : MethodName := ⟨RX2, "hasLion", "(I)Z"⟩
def dkwX2_hasLion_0 : List UInt8 := [42, 180, 0, 12, 27, 184, 0, 52, 182, 0, 94, 172]
abbrev dktX2_hasLion_0 : List UInt8 := dkwX2_hasLion_0 ++ []
theorem dksX2_hasLion_0 : cX2_hasLion.data.toList.drop 0 = dktX2_hasLion_0 := by decide +kernel
theorem dX2_hasLion_0 : decode cX2_hasLion 0 = .ok (.aload_n 0, 1) := dk_42 (dk_at dksX2_hasLion_0 0 rfl rfl)
theorem dX2_hasLion_1 : decode cX2_hasLion 1 = .ok (.getfield 12, 3) := dk_180 0 12 (dk_at dksX2_hasLion_0 1 rfl rfl)
theorem dX2_hasLion_4 : decode cX2_hasLion 4 = .ok (.iload_n 1, 1) := dk_27 (dk_at dksX2_hasLion_0 4 rfl rfl)
theorem dX2_hasLion_5 : decode cX2_hasLion 5 = .ok (.invokestatic 52, 3) := dk_184 0 52 (dk_at dksX2_hasLion_0 5 rfl rfl)
theorem dX2_hasLion_8 : decode cX2_hasLion 8 = .ok (.invokevirtual 94, 3) := dk_182 0 94 (dk_at dksX2_hasLion_0 8 rfl rfl)
theorem dX2_hasLion_11 : decode cX2_hasLion 11 = .ok (.ireturn, 1) := dk_172 (dk_at dksX2_hasLion_0 11 rfl rfl)
abbrev cJ1_get : ByteArray := prog_96_method_8_code
def yJ1_get : MethodName := ⟨RJ1, "get", "(Ljava/lang/Object;)Ljava/lang/Object;"⟩
def dkwJ1_get_0 : List UInt8 := [42, 43, 182, 0, 50, 77, 44, 199, 0, 7, 1, 167, 0, 7, 44, 180, 0, 58, 176]
abbrev dktJ1_get_0 : List UInt8 := dkwJ1_get_0 ++ []
theorem dksJ1_get_0 : cJ1_get.data.toList.drop 0 = dktJ1_get_0 := by decide +kernel
theorem dJ1_get_0 : decode cJ1_get 0 = .ok (.aload_n 0, 1) := dk_42 (dk_at dksJ1_get_0 0 rfl rfl)
theorem dJ1_get_1 : decode cJ1_get 1 = .ok (.aload_n 1, 1) := dk_43 (dk_at dksJ1_get_0 1 rfl rfl)
theorem dJ1_get_2 : decode cJ1_get 2 = .ok (.invokevirtual 50, 3) := dk_182 0 50 (dk_at dksJ1_get_0 2 rfl rfl)
theorem dJ1_get_5 : decode cJ1_get 5 = .ok (.astore_n 2, 1) := dk_77 (dk_at dksJ1_get_0 5 rfl rfl)
theorem dJ1_get_6 : decode cJ1_get 6 = .ok (.aload_n 2, 1) := dk_44 (dk_at dksJ1_get_0 6 rfl rfl)
theorem dJ1_get_7 : decode cJ1_get 7 = .ok (.ifnonnull 7, 3) := dk_199 0 7 (dk_at dksJ1_get_0 7 rfl rfl)
theorem dJ1_get_10 : decode cJ1_get 10 = .ok (.aconst_null, 1) := dk_1 (dk_at dksJ1_get_0 10 rfl rfl)
theorem dJ1_get_11 : decode cJ1_get 11 = .ok (.goto 7, 3) := dk_167 0 7 (dk_at dksJ1_get_0 11 rfl rfl)
theorem dJ1_get_14 : decode cJ1_get 14 = .ok (.aload_n 2, 1) := dk_44 (dk_at dksJ1_get_0 14 rfl rfl)
theorem dJ1_get_15 : decode cJ1_get 15 = .ok (.getfield 58, 3) := dk_180 0 58 (dk_at dksJ1_get_0 15 rfl rfl)
theorem dJ1_get_18 : decode cJ1_get 18 = .ok (.areturn, 1) := dk_176 (dk_at dksJ1_get_0 18 rfl rfl)
abbrev cX2_isValid : ByteArray := prog_14_method_4_code
def yX2_isValid : MethodName := ⟨RX2, "isValid", "(LLionGate$Ticket;)Z"⟩
def dkwX2_isValid_2 : List UInt8 := [172]
abbrev dktX2_isValid_2 : List UInt8 := dkwX2_isValid_2 ++ []
def dkwX2_isValid_1 : List UInt8 := [182, 0, 107, 192, 0, 46, 180, 0, 111, 180, 0, 115, 43, 180, 0, 115, 160, 0, 7, 4, 167, 0, 4, 3]
abbrev dktX2_isValid_1 : List UInt8 := dkwX2_isValid_1 ++ dktX2_isValid_2
def dkwX2_isValid_0 : List UInt8 := [42, 43, 180, 0, 98, 182, 0, 103, 153, 0, 37, 42, 180, 0, 12, 43, 180, 0, 98, 184, 0, 52]
abbrev dktX2_isValid_0 : List UInt8 := dkwX2_isValid_0 ++ dktX2_isValid_1
theorem dksX2_isValid_0 : cX2_isValid.data.toList.drop 0 = dktX2_isValid_0 := by decide +kernel
theorem dksX2_isValid_1 : cX2_isValid.data.toList.drop 22 = dktX2_isValid_1 := dk_seg dksX2_isValid_0 22 rfl rfl
theorem dksX2_isValid_2 : cX2_isValid.data.toList.drop 46 = dktX2_isValid_2 := dk_seg dksX2_isValid_1 24 rfl rfl
theorem dX2_isValid_0 : decode cX2_isValid 0 = .ok (.aload_n 0, 1) := dk_42 (dk_at dksX2_isValid_0 0 rfl rfl)
theorem dX2_isValid_1 : decode cX2_isValid 1 = .ok (.aload_n 1, 1) := dk_43 (dk_at dksX2_isValid_0 1 rfl rfl)
theorem dX2_isValid_2 : decode cX2_isValid 2 = .ok (.getfield 98, 3) := dk_180 0 98 (dk_at dksX2_isValid_0 2 rfl rfl)
theorem dX2_isValid_5 : decode cX2_isValid 5 = .ok (.invokevirtual 103, 3) := dk_182 0 103 (dk_at dksX2_isValid_0 5 rfl rfl)
theorem dX2_isValid_8 : decode cX2_isValid 8 = .ok (.ifCond .eq 37, 3) := dk_153 0 37 (dk_at dksX2_isValid_0 8 rfl rfl)
theorem dX2_isValid_11 : decode cX2_isValid 11 = .ok (.aload_n 0, 1) := dk_42 (dk_at dksX2_isValid_0 11 rfl rfl)
theorem dX2_isValid_12 : decode cX2_isValid 12 = .ok (.getfield 12, 3) := dk_180 0 12 (dk_at dksX2_isValid_0 12 rfl rfl)
theorem dX2_isValid_15 : decode cX2_isValid 15 = .ok (.aload_n 1, 1) := dk_43 (dk_at dksX2_isValid_0 15 rfl rfl)
theorem dX2_isValid_16 : decode cX2_isValid 16 = .ok (.getfield 98, 3) := dk_180 0 98 (dk_at dksX2_isValid_0 16 rfl rfl)
theorem dX2_isValid_19 : decode cX2_isValid 19 = .ok (.invokestatic 52, 3) := dk_184 0 52 (dk_at dksX2_isValid_0 19 rfl rfl)
theorem dX2_isValid_22 : decode cX2_isValid 22 = .ok (.invokevirtual 107, 3) := dk_182 0 107 (dk_at dksX2_isValid_1 0 rfl rfl)
theorem dX2_isValid_25 : decode cX2_isValid 25 = .ok (.checkcast 46, 3) := dk_192 0 46 (dk_at dksX2_isValid_1 3 rfl rfl)
theorem dX2_isValid_28 : decode cX2_isValid 28 = .ok (.getfield 111, 3) := dk_180 0 111 (dk_at dksX2_isValid_1 6 rfl rfl)
theorem dX2_isValid_31 : decode cX2_isValid 31 = .ok (.getfield 115, 3) := dk_180 0 115 (dk_at dksX2_isValid_1 9 rfl rfl)
theorem dX2_isValid_34 : decode cX2_isValid 34 = .ok (.aload_n 1, 1) := dk_43 (dk_at dksX2_isValid_1 12 rfl rfl)
theorem dX2_isValid_35 : decode cX2_isValid 35 = .ok (.getfield 115, 3) := dk_180 0 115 (dk_at dksX2_isValid_1 13 rfl rfl)
theorem dX2_isValid_38 : decode cX2_isValid 38 = .ok (.if_icmp .ne 7, 3) := dk_160 0 7 (dk_at dksX2_isValid_1 16 rfl rfl)
theorem dX2_isValid_41 : decode cX2_isValid 41 = .ok (.iconst 1, 1) := dk_4 (dk_at dksX2_isValid_1 19 rfl rfl)
theorem dX2_isValid_42 : decode cX2_isValid 42 = .ok (.goto 4, 3) := dk_167 0 4 (dk_at dksX2_isValid_1 20 rfl rfl)
theorem dX2_isValid_45 : decode cX2_isValid 45 = .ok (.iconst 0, 1) := dk_3 (dk_at dksX2_isValid_1 23 rfl rfl)
theorem dX2_isValid_46 : decode cX2_isValid 46 = .ok (.ireturn, 1) := dk_172 (dk_at dksX2_isValid_2 0 rfl rfl)
abbrev cX2_hungriest : ByteArray := prog_14_method_20_code
def yX2_hungriest : MethodName := ⟨RX2, "hungriest", "()I"⟩
def dkwX2_hungriest_1 : List UInt8 := [76, 167, 255, 236, 43, 199, 0, 7, 2, 167, 0, 10, 43, 180, 0, 127, 180, 0, 98, 172]
abbrev dktX2_hungriest_1 : List UInt8 := dkwX2_hungriest_1 ++ []
def dkwX2_hungriest_0 : List UInt8 := [42, 180, 0, 66, 76, 43, 198, 0, 22, 42, 43, 180, 0, 127, 182, 0, 152, 154, 0, 11, 43, 182, 0, 128]
abbrev dktX2_hungriest_0 : List UInt8 := dkwX2_hungriest_0 ++ dktX2_hungriest_1
theorem dksX2_hungriest_0 : cX2_hungriest.data.toList.drop 0 = dktX2_hungriest_0 := by decide +kernel
theorem dksX2_hungriest_1 : cX2_hungriest.data.toList.drop 24 = dktX2_hungriest_1 := dk_seg dksX2_hungriest_0 24 rfl rfl
theorem dX2_hungriest_0 : decode cX2_hungriest 0 = .ok (.aload_n 0, 1) := dk_42 (dk_at dksX2_hungriest_0 0 rfl rfl)
theorem dX2_hungriest_1 : decode cX2_hungriest 1 = .ok (.getfield 66, 3) := dk_180 0 66 (dk_at dksX2_hungriest_0 1 rfl rfl)
theorem dX2_hungriest_4 : decode cX2_hungriest 4 = .ok (.astore_n 1, 1) := dk_76 (dk_at dksX2_hungriest_0 4 rfl rfl)
theorem dX2_hungriest_5 : decode cX2_hungriest 5 = .ok (.aload_n 1, 1) := dk_43 (dk_at dksX2_hungriest_0 5 rfl rfl)
theorem dX2_hungriest_6 : decode cX2_hungriest 6 = .ok (.ifnull 22, 3) := dk_198 0 22 (dk_at dksX2_hungriest_0 6 rfl rfl)
theorem dX2_hungriest_9 : decode cX2_hungriest 9 = .ok (.aload_n 0, 1) := dk_42 (dk_at dksX2_hungriest_0 9 rfl rfl)
theorem dX2_hungriest_10 : decode cX2_hungriest 10 = .ok (.aload_n 1, 1) := dk_43 (dk_at dksX2_hungriest_0 10 rfl rfl)
theorem dX2_hungriest_11 : decode cX2_hungriest 11 = .ok (.getfield 127, 3) := dk_180 0 127 (dk_at dksX2_hungriest_0 11 rfl rfl)
theorem dX2_hungriest_14 : decode cX2_hungriest 14 = .ok (.invokevirtual 152, 3) := dk_182 0 152 (dk_at dksX2_hungriest_0 14 rfl rfl)
theorem dX2_hungriest_17 : decode cX2_hungriest 17 = .ok (.ifCond .ne 11, 3) := dk_154 0 11 (dk_at dksX2_hungriest_0 17 rfl rfl)
theorem dX2_hungriest_20 : decode cX2_hungriest 20 = .ok (.aload_n 1, 1) := dk_43 (dk_at dksX2_hungriest_0 20 rfl rfl)
theorem dX2_hungriest_21 : decode cX2_hungriest 21 = .ok (.invokevirtual 128, 3) := dk_182 0 128 (dk_at dksX2_hungriest_0 21 rfl rfl)
theorem dX2_hungriest_24 : decode cX2_hungriest 24 = .ok (.astore_n 1, 1) := dk_76 (dk_at dksX2_hungriest_1 0 rfl rfl)
theorem dX2_hungriest_25 : decode cX2_hungriest 25 = .ok (.goto (-20), 3) := dk_167 255 236 (dk_at dksX2_hungriest_1 1 rfl rfl)
theorem dX2_hungriest_28 : decode cX2_hungriest 28 = .ok (.aload_n 1, 1) := dk_43 (dk_at dksX2_hungriest_1 4 rfl rfl)
theorem dX2_hungriest_29 : decode cX2_hungriest 29 = .ok (.ifnonnull 7, 3) := dk_199 0 7 (dk_at dksX2_hungriest_1 5 rfl rfl)
theorem dX2_hungriest_32 : decode cX2_hungriest 32 = .ok (.iconst (-1), 1) := dk_2 (dk_at dksX2_hungriest_1 8 rfl rfl)
theorem dX2_hungriest_33 : decode cX2_hungriest 33 = .ok (.goto 10, 3) := dk_167 0 10 (dk_at dksX2_hungriest_1 9 rfl rfl)
theorem dX2_hungriest_36 : decode cX2_hungriest 36 = .ok (.aload_n 1, 1) := dk_43 (dk_at dksX2_hungriest_1 12 rfl rfl)
theorem dX2_hungriest_37 : decode cX2_hungriest 37 = .ok (.getfield 127, 3) := dk_180 0 127 (dk_at dksX2_hungriest_1 13 rfl rfl)
theorem dX2_hungriest_40 : decode cX2_hungriest 40 = .ok (.getfield 98, 3) := dk_180 0 98 (dk_at dksX2_hungriest_1 16 rfl rfl)
theorem dX2_hungriest_43 : decode cX2_hungriest 43 = .ok (.ireturn, 1) := dk_172 (dk_at dksX2_hungriest_1 19 rfl rfl)
abbrev cX2_hungriestByLooking : ByteArray := prog_14_method_21_code
def yX2_hungriestByLooking : MethodName := ⟨RX2, "hungriestByLooking", "()I"⟩
def dkwX2_hungriestByLooking_3 : List UInt8 := [180, 0, 48, 172]
abbrev dktX2_hungriestByLooking_3 : List UInt8 := dkwX2_hungriestByLooking_3 ++ []
def dkwX2_hungriestByLooking_2 : List UInt8 := [182, 0, 243, 153, 0, 7, 45, 167, 0, 4, 43, 76, 167, 255, 213, 43, 199, 0, 7, 2, 167, 0, 7, 43]
abbrev dktX2_hungriestByLooking_2 : List UInt8 := dkwX2_hungriestByLooking_2 ++ dktX2_hungriestByLooking_3
def dkwX2_hungriestByLooking_1 : List UInt8 := [44, 185, 0, 42, 1, 0, 192, 0, 46, 78, 43, 198, 0, 17, 45, 180, 0, 111, 43, 180, 0, 111]
abbrev dktX2_hungriestByLooking_1 : List UInt8 := dkwX2_hungriestByLooking_1 ++ dktX2_hungriestByLooking_2
def dkwX2_hungriestByLooking_0 : List UInt8 := [1, 76, 42, 180, 0, 12, 182, 0, 26, 185, 0, 30, 1, 0, 77, 44, 185, 0, 36, 1, 0, 153, 0, 40]
abbrev dktX2_hungriestByLooking_0 : List UInt8 := dkwX2_hungriestByLooking_0 ++ dktX2_hungriestByLooking_1
theorem dksX2_hungriestByLooking_0 : cX2_hungriestByLooking.data.toList.drop 0 = dktX2_hungriestByLooking_0 := by decide +kernel
theorem dksX2_hungriestByLooking_1 : cX2_hungriestByLooking.data.toList.drop 24 = dktX2_hungriestByLooking_1 := dk_seg dksX2_hungriestByLooking_0 24 rfl rfl
theorem dksX2_hungriestByLooking_2 : cX2_hungriestByLooking.data.toList.drop 46 = dktX2_hungriestByLooking_2 := dk_seg dksX2_hungriestByLooking_1 22 rfl rfl
theorem dksX2_hungriestByLooking_3 : cX2_hungriestByLooking.data.toList.drop 70 = dktX2_hungriestByLooking_3 := dk_seg dksX2_hungriestByLooking_2 24 rfl rfl
theorem dX2_hungriestByLooking_0 : decode cX2_hungriestByLooking 0 = .ok (.aconst_null, 1) := dk_1 (dk_at dksX2_hungriestByLooking_0 0 rfl rfl)
theorem dX2_hungriestByLooking_1 : decode cX2_hungriestByLooking 1 = .ok (.astore_n 1, 1) := dk_76 (dk_at dksX2_hungriestByLooking_0 1 rfl rfl)
theorem dX2_hungriestByLooking_2 : decode cX2_hungriestByLooking 2 = .ok (.aload_n 0, 1) := dk_42 (dk_at dksX2_hungriestByLooking_0 2 rfl rfl)
theorem dX2_hungriestByLooking_3 : decode cX2_hungriestByLooking 3 = .ok (.getfield 12, 3) := dk_180 0 12 (dk_at dksX2_hungriestByLooking_0 3 rfl rfl)
theorem dX2_hungriestByLooking_6 : decode cX2_hungriestByLooking 6 = .ok (.invokevirtual 26, 3) := dk_182 0 26 (dk_at dksX2_hungriestByLooking_0 6 rfl rfl)
theorem dX2_hungriestByLooking_9 : decode cX2_hungriestByLooking 9 = .ok (.invokeinterface 30 1, 5) := by decide +kernel
theorem dX2_hungriestByLooking_14 : decode cX2_hungriestByLooking 14 = .ok (.astore_n 2, 1) := dk_77 (dk_at dksX2_hungriestByLooking_0 14 rfl rfl)
theorem dX2_hungriestByLooking_15 : decode cX2_hungriestByLooking 15 = .ok (.aload_n 2, 1) := dk_44 (dk_at dksX2_hungriestByLooking_0 15 rfl rfl)
theorem dX2_hungriestByLooking_16 : decode cX2_hungriestByLooking 16 = .ok (.invokeinterface 36 1, 5) := by decide +kernel
theorem dX2_hungriestByLooking_21 : decode cX2_hungriestByLooking 21 = .ok (.ifCond .eq 40, 3) := dk_153 0 40 (dk_at dksX2_hungriestByLooking_0 21 rfl rfl)
theorem dX2_hungriestByLooking_24 : decode cX2_hungriestByLooking 24 = .ok (.aload_n 2, 1) := dk_44 (dk_at dksX2_hungriestByLooking_1 0 rfl rfl)
theorem dX2_hungriestByLooking_25 : decode cX2_hungriestByLooking 25 = .ok (.invokeinterface 42 1, 5) := by decide +kernel
theorem dX2_hungriestByLooking_30 : decode cX2_hungriestByLooking 30 = .ok (.checkcast 46, 3) := dk_192 0 46 (dk_at dksX2_hungriestByLooking_1 6 rfl rfl)
theorem dX2_hungriestByLooking_33 : decode cX2_hungriestByLooking 33 = .ok (.astore_n 3, 1) := dk_78 (dk_at dksX2_hungriestByLooking_1 9 rfl rfl)
theorem dX2_hungriestByLooking_34 : decode cX2_hungriestByLooking 34 = .ok (.aload_n 1, 1) := dk_43 (dk_at dksX2_hungriestByLooking_1 10 rfl rfl)
theorem dX2_hungriestByLooking_35 : decode cX2_hungriestByLooking 35 = .ok (.ifnull 17, 3) := dk_198 0 17 (dk_at dksX2_hungriestByLooking_1 11 rfl rfl)
theorem dX2_hungriestByLooking_38 : decode cX2_hungriestByLooking 38 = .ok (.aload_n 3, 1) := dk_45 (dk_at dksX2_hungriestByLooking_1 14 rfl rfl)
theorem dX2_hungriestByLooking_39 : decode cX2_hungriestByLooking 39 = .ok (.getfield 111, 3) := dk_180 0 111 (dk_at dksX2_hungriestByLooking_1 15 rfl rfl)
theorem dX2_hungriestByLooking_42 : decode cX2_hungriestByLooking 42 = .ok (.aload_n 1, 1) := dk_43 (dk_at dksX2_hungriestByLooking_1 18 rfl rfl)
theorem dX2_hungriestByLooking_43 : decode cX2_hungriestByLooking 43 = .ok (.getfield 111, 3) := dk_180 0 111 (dk_at dksX2_hungriestByLooking_1 19 rfl rfl)
theorem dX2_hungriestByLooking_46 : decode cX2_hungriestByLooking 46 = .ok (.invokevirtual 243, 3) := dk_182 0 243 (dk_at dksX2_hungriestByLooking_2 0 rfl rfl)
theorem dX2_hungriestByLooking_49 : decode cX2_hungriestByLooking 49 = .ok (.ifCond .eq 7, 3) := dk_153 0 7 (dk_at dksX2_hungriestByLooking_2 3 rfl rfl)
theorem dX2_hungriestByLooking_52 : decode cX2_hungriestByLooking 52 = .ok (.aload_n 3, 1) := dk_45 (dk_at dksX2_hungriestByLooking_2 6 rfl rfl)
theorem dX2_hungriestByLooking_53 : decode cX2_hungriestByLooking 53 = .ok (.goto 4, 3) := dk_167 0 4 (dk_at dksX2_hungriestByLooking_2 7 rfl rfl)
theorem dX2_hungriestByLooking_56 : decode cX2_hungriestByLooking 56 = .ok (.aload_n 1, 1) := dk_43 (dk_at dksX2_hungriestByLooking_2 10 rfl rfl)
theorem dX2_hungriestByLooking_57 : decode cX2_hungriestByLooking 57 = .ok (.astore_n 1, 1) := dk_76 (dk_at dksX2_hungriestByLooking_2 11 rfl rfl)
theorem dX2_hungriestByLooking_58 : decode cX2_hungriestByLooking 58 = .ok (.goto (-43), 3) := dk_167 255 213 (dk_at dksX2_hungriestByLooking_2 12 rfl rfl)
theorem dX2_hungriestByLooking_61 : decode cX2_hungriestByLooking 61 = .ok (.aload_n 1, 1) := dk_43 (dk_at dksX2_hungriestByLooking_2 15 rfl rfl)
theorem dX2_hungriestByLooking_62 : decode cX2_hungriestByLooking 62 = .ok (.ifnonnull 7, 3) := dk_199 0 7 (dk_at dksX2_hungriestByLooking_2 16 rfl rfl)
theorem dX2_hungriestByLooking_65 : decode cX2_hungriestByLooking 65 = .ok (.iconst (-1), 1) := dk_2 (dk_at dksX2_hungriestByLooking_2 19 rfl rfl)
theorem dX2_hungriestByLooking_66 : decode cX2_hungriestByLooking 66 = .ok (.goto 7, 3) := dk_167 0 7 (dk_at dksX2_hungriestByLooking_2 20 rfl rfl)
theorem dX2_hungriestByLooking_69 : decode cX2_hungriestByLooking 69 = .ok (.aload_n 1, 1) := dk_43 (dk_at dksX2_hungriestByLooking_2 23 rfl rfl)
theorem dX2_hungriestByLooking_70 : decode cX2_hungriestByLooking 70 = .ok (.getfield 48, 3) := dk_180 0 48 (dk_at dksX2_hungriestByLooking_3 0 rfl rfl)
theorem dX2_hungriestByLooking_73 : decode cX2_hungriestByLooking 73 = .ok (.ireturn, 1) := dk_172 (dk_at dksX2_hungriestByLooking_3 3 rfl rfl)
abbrev cX2_ticketsByAccounts : ByteArray := prog_14_method_24_code
def yX2_ticketsByAccounts : MethodName := ⟨RX2, "ticketsByAccounts", "()I"⟩
def dkwX2_ticketsByAccounts_0 : List UInt8 := [42, 180, 0, 76, 42, 180, 0, 79, 100, 42, 180, 0, 85, 100, 172]
abbrev dktX2_ticketsByAccounts_0 : List UInt8 := dkwX2_ticketsByAccounts_0 ++ []
theorem dksX2_ticketsByAccounts_0 : cX2_ticketsByAccounts.data.toList.drop 0 = dktX2_ticketsByAccounts_0 := by decide +kernel
theorem dX2_ticketsByAccounts_0 : decode cX2_ticketsByAccounts 0 = .ok (.aload_n 0, 1) := dk_42 (dk_at dksX2_ticketsByAccounts_0 0 rfl rfl)
theorem dX2_ticketsByAccounts_1 : decode cX2_ticketsByAccounts 1 = .ok (.getfield 76, 3) := dk_180 0 76 (dk_at dksX2_ticketsByAccounts_0 1 rfl rfl)
theorem dX2_ticketsByAccounts_4 : decode cX2_ticketsByAccounts 4 = .ok (.aload_n 0, 1) := dk_42 (dk_at dksX2_ticketsByAccounts_0 4 rfl rfl)
theorem dX2_ticketsByAccounts_5 : decode cX2_ticketsByAccounts 5 = .ok (.getfield 79, 3) := dk_180 0 79 (dk_at dksX2_ticketsByAccounts_0 5 rfl rfl)
theorem dX2_ticketsByAccounts_8 : decode cX2_ticketsByAccounts 8 = .ok (.isub, 1) := dk_100 (dk_at dksX2_ticketsByAccounts_0 8 rfl rfl)
theorem dX2_ticketsByAccounts_9 : decode cX2_ticketsByAccounts 9 = .ok (.aload_n 0, 1) := dk_42 (dk_at dksX2_ticketsByAccounts_0 9 rfl rfl)
theorem dX2_ticketsByAccounts_10 : decode cX2_ticketsByAccounts 10 = .ok (.getfield 85, 3) := dk_180 0 85 (dk_at dksX2_ticketsByAccounts_0 10 rfl rfl)
theorem dX2_ticketsByAccounts_13 : decode cX2_ticketsByAccounts 13 = .ok (.isub, 1) := dk_100 (dk_at dksX2_ticketsByAccounts_0 13 rfl rfl)
theorem dX2_ticketsByAccounts_14 : decode cX2_ticketsByAccounts 14 = .ok (.ireturn, 1) := dk_172 (dk_at dksX2_ticketsByAccounts_0 14 rfl rfl)
abbrev cJ1_size : ByteArray := prog_96_method_5_code
def yJ1_size : MethodName := ⟨RJ1, "size", "()I"⟩
theorem dJ1_size_0 : decode cJ1_size 0 = .ok (.aload_n 0, 1) := by decide +kernel
theorem dJ1_size_1 : decode cJ1_size 1 = .ok (.getfield 7, 3) := by decide +kernel
theorem dJ1_size_4 : decode cJ1_size 4 = .ok (.ireturn, 1) := by decide +kernel
abbrev cX2_isConsistent : ByteArray := prog_14_method_27_code
def yX2_isConsistent : MethodName := ⟨RX2, "isConsistent", "()Z"⟩
def dkwX2_isConsistent_3 : List UInt8 := [4, 167, 0, 4, 3, 172]
abbrev dktX2_isConsistent_3 : List UInt8 := dkwX2_isConsistent_3 ++ []
def dkwX2_isConsistent_2 : List UInt8 := [42, 180, 0, 70, 42, 180, 0, 12, 182, 0, 160, 161, 0, 17, 42, 180, 0, 21, 182, 1, 37, 153, 0, 7]
abbrev dktX2_isConsistent_2 : List UInt8 := dkwX2_isConsistent_2 ++ dktX2_isConsistent_3
def dkwX2_isConsistent_1 : List UInt8 := [160, 0, 7, 4, 167, 0, 4, 3, 61, 28, 153, 0, 42, 42, 180, 0, 70, 42, 182, 1, 34, 160, 0, 31]
abbrev dktX2_isConsistent_1 : List UInt8 := dkwX2_isConsistent_1 ++ dktX2_isConsistent_2
def dkwX2_isConsistent_0 : List UInt8 := [42, 182, 1, 18, 76, 42, 182, 1, 22, 42, 182, 1, 25, 160, 0, 18, 43, 182, 1, 28, 43, 182, 1, 31]
abbrev dktX2_isConsistent_0 : List UInt8 := dkwX2_isConsistent_0 ++ dktX2_isConsistent_1
theorem dksX2_isConsistent_0 : cX2_isConsistent.data.toList.drop 0 = dktX2_isConsistent_0 := by decide +kernel
theorem dksX2_isConsistent_1 : cX2_isConsistent.data.toList.drop 24 = dktX2_isConsistent_1 := dk_seg dksX2_isConsistent_0 24 rfl rfl
theorem dksX2_isConsistent_2 : cX2_isConsistent.data.toList.drop 48 = dktX2_isConsistent_2 := dk_seg dksX2_isConsistent_1 24 rfl rfl
theorem dksX2_isConsistent_3 : cX2_isConsistent.data.toList.drop 72 = dktX2_isConsistent_3 := dk_seg dksX2_isConsistent_2 24 rfl rfl
theorem dX2_isConsistent_0 : decode cX2_isConsistent 0 = .ok (.aload_n 0, 1) := dk_42 (dk_at dksX2_isConsistent_0 0 rfl rfl)
theorem dX2_isConsistent_1 : decode cX2_isConsistent 1 = .ok (.invokevirtual 274, 3) := dk_182 1 18 (dk_at dksX2_isConsistent_0 1 rfl rfl)
theorem dX2_isConsistent_4 : decode cX2_isConsistent 4 = .ok (.astore_n 1, 1) := dk_76 (dk_at dksX2_isConsistent_0 4 rfl rfl)
theorem dX2_isConsistent_5 : decode cX2_isConsistent 5 = .ok (.aload_n 0, 1) := dk_42 (dk_at dksX2_isConsistent_0 5 rfl rfl)
theorem dX2_isConsistent_6 : decode cX2_isConsistent 6 = .ok (.invokevirtual 278, 3) := dk_182 1 22 (dk_at dksX2_isConsistent_0 6 rfl rfl)
theorem dX2_isConsistent_9 : decode cX2_isConsistent 9 = .ok (.aload_n 0, 1) := dk_42 (dk_at dksX2_isConsistent_0 9 rfl rfl)
theorem dX2_isConsistent_10 : decode cX2_isConsistent 10 = .ok (.invokevirtual 281, 3) := dk_182 1 25 (dk_at dksX2_isConsistent_0 10 rfl rfl)
theorem dX2_isConsistent_13 : decode cX2_isConsistent 13 = .ok (.if_icmp .ne 18, 3) := dk_160 0 18 (dk_at dksX2_isConsistent_0 13 rfl rfl)
theorem dX2_isConsistent_16 : decode cX2_isConsistent 16 = .ok (.aload_n 1, 1) := dk_43 (dk_at dksX2_isConsistent_0 16 rfl rfl)
theorem dX2_isConsistent_17 : decode cX2_isConsistent 17 = .ok (.invokevirtual 284, 3) := dk_182 1 28 (dk_at dksX2_isConsistent_0 17 rfl rfl)
theorem dX2_isConsistent_20 : decode cX2_isConsistent 20 = .ok (.aload_n 1, 1) := dk_43 (dk_at dksX2_isConsistent_0 20 rfl rfl)
theorem dX2_isConsistent_21 : decode cX2_isConsistent 21 = .ok (.invokevirtual 287, 3) := dk_182 1 31 (dk_at dksX2_isConsistent_0 21 rfl rfl)
theorem dX2_isConsistent_24 : decode cX2_isConsistent 24 = .ok (.if_icmp .ne 7, 3) := dk_160 0 7 (dk_at dksX2_isConsistent_1 0 rfl rfl)
theorem dX2_isConsistent_27 : decode cX2_isConsistent 27 = .ok (.iconst 1, 1) := dk_4 (dk_at dksX2_isConsistent_1 3 rfl rfl)
theorem dX2_isConsistent_28 : decode cX2_isConsistent 28 = .ok (.goto 4, 3) := dk_167 0 4 (dk_at dksX2_isConsistent_1 4 rfl rfl)
theorem dX2_isConsistent_31 : decode cX2_isConsistent 31 = .ok (.iconst 0, 1) := dk_3 (dk_at dksX2_isConsistent_1 7 rfl rfl)
theorem dX2_isConsistent_32 : decode cX2_isConsistent 32 = .ok (.istore_n 2, 1) := dk_61 (dk_at dksX2_isConsistent_1 8 rfl rfl)
theorem dX2_isConsistent_33 : decode cX2_isConsistent 33 = .ok (.iload_n 2, 1) := dk_28 (dk_at dksX2_isConsistent_1 9 rfl rfl)
theorem dX2_isConsistent_34 : decode cX2_isConsistent 34 = .ok (.ifCond .eq 42, 3) := dk_153 0 42 (dk_at dksX2_isConsistent_1 10 rfl rfl)
theorem dX2_isConsistent_37 : decode cX2_isConsistent 37 = .ok (.aload_n 0, 1) := dk_42 (dk_at dksX2_isConsistent_1 13 rfl rfl)
theorem dX2_isConsistent_38 : decode cX2_isConsistent 38 = .ok (.getfield 70, 3) := dk_180 0 70 (dk_at dksX2_isConsistent_1 14 rfl rfl)
theorem dX2_isConsistent_41 : decode cX2_isConsistent 41 = .ok (.aload_n 0, 1) := dk_42 (dk_at dksX2_isConsistent_1 17 rfl rfl)
theorem dX2_isConsistent_42 : decode cX2_isConsistent 42 = .ok (.invokevirtual 290, 3) := dk_182 1 34 (dk_at dksX2_isConsistent_1 18 rfl rfl)
theorem dX2_isConsistent_45 : decode cX2_isConsistent 45 = .ok (.if_icmp .ne 31, 3) := dk_160 0 31 (dk_at dksX2_isConsistent_1 21 rfl rfl)
theorem dX2_isConsistent_48 : decode cX2_isConsistent 48 = .ok (.aload_n 0, 1) := dk_42 (dk_at dksX2_isConsistent_2 0 rfl rfl)
theorem dX2_isConsistent_49 : decode cX2_isConsistent 49 = .ok (.getfield 70, 3) := dk_180 0 70 (dk_at dksX2_isConsistent_2 1 rfl rfl)
theorem dX2_isConsistent_52 : decode cX2_isConsistent 52 = .ok (.aload_n 0, 1) := dk_42 (dk_at dksX2_isConsistent_2 4 rfl rfl)
theorem dX2_isConsistent_53 : decode cX2_isConsistent 53 = .ok (.getfield 12, 3) := dk_180 0 12 (dk_at dksX2_isConsistent_2 5 rfl rfl)
theorem dX2_isConsistent_56 : decode cX2_isConsistent 56 = .ok (.invokevirtual 160, 3) := dk_182 0 160 (dk_at dksX2_isConsistent_2 8 rfl rfl)
theorem dX2_isConsistent_59 : decode cX2_isConsistent 59 = .ok (.if_icmp .lt 17, 3) := dk_161 0 17 (dk_at dksX2_isConsistent_2 11 rfl rfl)
theorem dX2_isConsistent_62 : decode cX2_isConsistent 62 = .ok (.aload_n 0, 1) := dk_42 (dk_at dksX2_isConsistent_2 14 rfl rfl)
theorem dX2_isConsistent_63 : decode cX2_isConsistent 63 = .ok (.getfield 21, 3) := dk_180 0 21 (dk_at dksX2_isConsistent_2 15 rfl rfl)
theorem dX2_isConsistent_66 : decode cX2_isConsistent 66 = .ok (.invokevirtual 293, 3) := dk_182 1 37 (dk_at dksX2_isConsistent_2 18 rfl rfl)
theorem dX2_isConsistent_69 : decode cX2_isConsistent 69 = .ok (.ifCond .eq 7, 3) := dk_153 0 7 (dk_at dksX2_isConsistent_2 21 rfl rfl)
theorem dX2_isConsistent_72 : decode cX2_isConsistent 72 = .ok (.iconst 1, 1) := dk_4 (dk_at dksX2_isConsistent_3 0 rfl rfl)
theorem dX2_isConsistent_73 : decode cX2_isConsistent 73 = .ok (.goto 4, 3) := dk_167 0 4 (dk_at dksX2_isConsistent_3 1 rfl rfl)
theorem dX2_isConsistent_76 : decode cX2_isConsistent 76 = .ok (.iconst 0, 1) := dk_3 (dk_at dksX2_isConsistent_3 4 rfl rfl)
theorem dX2_isConsistent_77 : decode cX2_isConsistent 77 = .ok (.ireturn, 1) := dk_172 (dk_at dksX2_isConsistent_3 5 rfl rfl)
abbrev cX1_isConsistent : ByteArray := prog_1_method_58_code
def yX1_isConsistent : MethodName := ⟨RX1, "isConsistent", "()Z"⟩
def dkwX1_isConsistent_0 : List UInt8 := [42, 180, 0, 66, 182, 1, 99, 172]
abbrev dktX1_isConsistent_0 : List UInt8 := dkwX1_isConsistent_0 ++ []
theorem dksX1_isConsistent_0 : cX1_isConsistent.data.toList.drop 0 = dktX1_isConsistent_0 := by decide +kernel
theorem dX1_isConsistent_0 : decode cX1_isConsistent 0 = .ok (.aload_n 0, 1) := dk_42 (dk_at dksX1_isConsistent_0 0 rfl rfl)
theorem dX1_isConsistent_1 : decode cX1_isConsistent 1 = .ok (.getfield 66, 3) := dk_180 0 66 (dk_at dksX1_isConsistent_0 1 rfl rfl)
theorem dX1_isConsistent_4 : decode cX1_isConsistent 4 = .ok (.invokevirtual 355, 3) := dk_182 1 99 (dk_at dksX1_isConsistent_0 4 rfl rfl)
theorem dX1_isConsistent_7 : decode cX1_isConsistent 7 = .ok (.ireturn, 1) := dk_172 (dk_at dksX1_isConsistent_0 7 rfl rfl)
abbrev cX3_count : ByteArray := prog_10_method_3_code
def yX3_count : MethodName := ⟨RX3, "count", "()I"⟩
def dkwX3_count_0 : List UInt8 := [42, 180, 0, 12, 185, 0, 41, 1, 0, 172]
abbrev dktX3_count_0 : List UInt8 := dkwX3_count_0 ++ []
theorem dksX3_count_0 : cX3_count.data.toList.drop 0 = dktX3_count_0 := by decide +kernel
theorem dX3_count_0 : decode cX3_count 0 = .ok (.aload_n 0, 1) := dk_42 (dk_at dksX3_count_0 0 rfl rfl)
theorem dX3_count_1 : decode cX3_count 1 = .ok (.getfield 12, 3) := dk_180 0 12 (dk_at dksX3_count_0 1 rfl rfl)
theorem dX3_count_4 : decode cX3_count 4 = .ok (.invokeinterface 41 1, 5) := by decide +kernel
theorem dX3_count_9 : decode cX3_count 9 = .ok (.ireturn, 1) := dk_172 (dk_at dksX3_count_0 9 rfl rfl)
abbrev cX1_keeperCount : ByteArray := prog_1_method_41_code
def yX1_keeperCount : MethodName := ⟨RX1, "keeperCount", "()I"⟩
def dkwX1_keeperCount_0 : List UInt8 := [42, 180, 0, 66, 180, 1, 16, 182, 1, 31, 172]
abbrev dktX1_keeperCount_0 : List UInt8 := dkwX1_keeperCount_0 ++ []
theorem dksX1_keeperCount_0 : cX1_keeperCount.data.toList.drop 0 = dktX1_keeperCount_0 := by decide +kernel
theorem dX1_keeperCount_0 : decode cX1_keeperCount 0 = .ok (.aload_n 0, 1) := dk_42 (dk_at dksX1_keeperCount_0 0 rfl rfl)
theorem dX1_keeperCount_1 : decode cX1_keeperCount 1 = .ok (.getfield 66, 3) := dk_180 0 66 (dk_at dksX1_keeperCount_0 1 rfl rfl)
theorem dX1_keeperCount_4 : decode cX1_keeperCount 4 = .ok (.getfield 272, 3) := dk_180 1 16 (dk_at dksX1_keeperCount_0 4 rfl rfl)
theorem dX1_keeperCount_7 : decode cX1_keeperCount 7 = .ok (.invokevirtual 287, 3) := dk_182 1 31 (dk_at dksX1_keeperCount_0 7 rfl rfl)
theorem dX1_keeperCount_10 : decode cX1_keeperCount 10 = .ok (.ireturn, 1) := dk_172 (dk_at dksX1_keeperCount_0 10 rfl rfl)
abbrev cX1_lateTotal : ByteArray := prog_1_method_50_code
def yX1_lateTotal : MethodName := ⟨RX1, "lateTotal", "()I"⟩
def dkwX1_lateTotal_0 : List UInt8 := [42, 180, 0, 66, 180, 1, 75, 172]
abbrev dktX1_lateTotal_0 : List UInt8 := dkwX1_lateTotal_0 ++ []
theorem dksX1_lateTotal_0 : cX1_lateTotal.data.toList.drop 0 = dktX1_lateTotal_0 := by decide +kernel
theorem dX1_lateTotal_0 : decode cX1_lateTotal 0 = .ok (.aload_n 0, 1) := dk_42 (dk_at dksX1_lateTotal_0 0 rfl rfl)
theorem dX1_lateTotal_1 : decode cX1_lateTotal 1 = .ok (.getfield 66, 3) := dk_180 0 66 (dk_at dksX1_lateTotal_0 1 rfl rfl)
theorem dX1_lateTotal_4 : decode cX1_lateTotal 4 = .ok (.getfield 331, 3) := dk_180 1 75 (dk_at dksX1_lateTotal_0 4 rfl rfl)
theorem dX1_lateTotal_7 : decode cX1_lateTotal 7 = .ok (.ireturn, 1) := dk_172 (dk_at dksX1_lateTotal_0 7 rfl rfl)
abbrev cX1_lionCount : ByteArray := prog_1_method_23_code
def yX1_lionCount : MethodName := ⟨RX1, "lionCount", "()I"⟩
def dkwX1_lionCount_0 : List UInt8 := [42, 180, 0, 66, 180, 0, 172, 182, 0, 189, 172]
abbrev dktX1_lionCount_0 : List UInt8 := dkwX1_lionCount_0 ++ []
theorem dksX1_lionCount_0 : cX1_lionCount.data.toList.drop 0 = dktX1_lionCount_0 := by decide +kernel
theorem dX1_lionCount_0 : decode cX1_lionCount 0 = .ok (.aload_n 0, 1) := dk_42 (dk_at dksX1_lionCount_0 0 rfl rfl)
theorem dX1_lionCount_1 : decode cX1_lionCount 1 = .ok (.getfield 66, 3) := dk_180 0 66 (dk_at dksX1_lionCount_0 1 rfl rfl)
theorem dX1_lionCount_4 : decode cX1_lionCount 4 = .ok (.getfield 172, 3) := dk_180 0 172 (dk_at dksX1_lionCount_0 4 rfl rfl)
theorem dX1_lionCount_7 : decode cX1_lionCount 7 = .ok (.invokevirtual 189, 3) := dk_182 0 189 (dk_at dksX1_lionCount_0 7 rfl rfl)
theorem dX1_lionCount_10 : decode cX1_lionCount 10 = .ok (.ireturn, 1) := dk_172 (dk_at dksX1_lionCount_0 10 rfl rfl)
abbrev cX1_mostInTime : ByteArray := prog_1_method_38_code
def yX1_mostInTime : MethodName := ⟨RX1, "mostInTime", "()I"⟩
def dkwX1_mostInTime_0 : List UInt8 := [42, 180, 0, 66, 182, 1, 1, 182, 1, 10, 172]
abbrev dktX1_mostInTime_0 : List UInt8 := dkwX1_mostInTime_0 ++ []
theorem dksX1_mostInTime_0 : cX1_mostInTime.data.toList.drop 0 = dktX1_mostInTime_0 := by decide +kernel
theorem dX1_mostInTime_0 : decode cX1_mostInTime 0 = .ok (.aload_n 0, 1) := dk_42 (dk_at dksX1_mostInTime_0 0 rfl rfl)
theorem dX1_mostInTime_1 : decode cX1_mostInTime 1 = .ok (.getfield 66, 3) := dk_180 0 66 (dk_at dksX1_mostInTime_0 1 rfl rfl)
theorem dX1_mostInTime_4 : decode cX1_mostInTime 4 = .ok (.invokevirtual 257, 3) := dk_182 1 1 (dk_at dksX1_mostInTime_0 4 rfl rfl)
theorem dX1_mostInTime_7 : decode cX1_mostInTime 7 = .ok (.invokevirtual 266, 3) := dk_182 1 10 (dk_at dksX1_mostInTime_0 7 rfl rfl)
theorem dX1_mostInTime_10 : decode cX1_mostInTime 10 = .ok (.ireturn, 1) := dk_172 (dk_at dksX1_mostInTime_0 10 rfl rfl)
abbrev cX1_mostInTimeBySets : ByteArray := prog_1_method_39_code
def yX1_mostInTimeBySets : MethodName := ⟨RX1, "mostInTimeBySets", "()I"⟩
def dkwX1_mostInTimeBySets_0 : List UInt8 := [42, 180, 0, 66, 182, 1, 1, 182, 1, 13, 172]
abbrev dktX1_mostInTimeBySets_0 : List UInt8 := dkwX1_mostInTimeBySets_0 ++ []
theorem dksX1_mostInTimeBySets_0 : cX1_mostInTimeBySets.data.toList.drop 0 = dktX1_mostInTimeBySets_0 := by decide +kernel
theorem dX1_mostInTimeBySets_0 : decode cX1_mostInTimeBySets 0 = .ok (.aload_n 0, 1) := dk_42 (dk_at dksX1_mostInTimeBySets_0 0 rfl rfl)
theorem dX1_mostInTimeBySets_1 : decode cX1_mostInTimeBySets 1 = .ok (.getfield 66, 3) := dk_180 0 66 (dk_at dksX1_mostInTimeBySets_0 1 rfl rfl)
theorem dX1_mostInTimeBySets_4 : decode cX1_mostInTimeBySets 4 = .ok (.invokevirtual 257, 3) := dk_182 1 1 (dk_at dksX1_mostInTimeBySets_0 4 rfl rfl)
theorem dX1_mostInTimeBySets_7 : decode cX1_mostInTimeBySets 7 = .ok (.invokevirtual 269, 3) := dk_182 1 13 (dk_at dksX1_mostInTimeBySets_0 7 rfl rfl)
theorem dX1_mostInTimeBySets_10 : decode cX1_mostInTimeBySets 10 = .ok (.ireturn, 1) := dk_172 (dk_at dksX1_mostInTimeBySets_0 10 rfl rfl)
abbrev cX1_portionTotal : ByteArray := prog_1_method_51_code
def yX1_portionTotal : MethodName := ⟨RX1, "portionTotal", "()I"⟩
def dkwX1_portionTotal_0 : List UInt8 := [42, 180, 0, 66, 180, 1, 78, 172]
abbrev dktX1_portionTotal_0 : List UInt8 := dkwX1_portionTotal_0 ++ []
theorem dksX1_portionTotal_0 : cX1_portionTotal.data.toList.drop 0 = dktX1_portionTotal_0 := by decide +kernel
theorem dX1_portionTotal_0 : decode cX1_portionTotal 0 = .ok (.aload_n 0, 1) := dk_42 (dk_at dksX1_portionTotal_0 0 rfl rfl)
theorem dX1_portionTotal_1 : decode cX1_portionTotal 1 = .ok (.getfield 66, 3) := dk_180 0 66 (dk_at dksX1_portionTotal_0 1 rfl rfl)
theorem dX1_portionTotal_4 : decode cX1_portionTotal 4 = .ok (.getfield 334, 3) := dk_180 1 78 (dk_at dksX1_portionTotal_0 4 rfl rfl)
theorem dX1_portionTotal_7 : decode cX1_portionTotal 7 = .ok (.ireturn, 1) := dk_172 (dk_at dksX1_portionTotal_0 7 rfl rfl)
abbrev cJ43_init : ByteArray := prog_77_method_1_code
def yJ43_init : MethodName := ⟨RJ43, "<init>", "(Ljava/util/LinkedList$Node;Ljava/lang/Object;Ljava/util/LinkedList$Node;)V"⟩
def dkwJ43_init_0 : List UInt8 := [42, 183, 0, 1, 42, 44, 181, 0, 7, 42, 45, 181, 0, 13, 42, 43, 181, 0, 17, 177]
abbrev dktJ43_init_0 : List UInt8 := dkwJ43_init_0 ++ []
theorem dksJ43_init_0 : cJ43_init.data.toList.drop 0 = dktJ43_init_0 := by decide +kernel
theorem dJ43_init_0 : decode cJ43_init 0 = .ok (.aload_n 0, 1) := dk_42 (dk_at dksJ43_init_0 0 rfl rfl)
theorem dJ43_init_1 : decode cJ43_init 1 = .ok (.invokespecial 1, 3) := dk_183 0 1 (dk_at dksJ43_init_0 1 rfl rfl)
theorem dJ43_init_4 : decode cJ43_init 4 = .ok (.aload_n 0, 1) := dk_42 (dk_at dksJ43_init_0 4 rfl rfl)
theorem dJ43_init_5 : decode cJ43_init 5 = .ok (.aload_n 2, 1) := dk_44 (dk_at dksJ43_init_0 5 rfl rfl)
theorem dJ43_init_6 : decode cJ43_init 6 = .ok (.putfield 7, 3) := dk_181 0 7 (dk_at dksJ43_init_0 6 rfl rfl)
theorem dJ43_init_9 : decode cJ43_init 9 = .ok (.aload_n 0, 1) := dk_42 (dk_at dksJ43_init_0 9 rfl rfl)
theorem dJ43_init_10 : decode cJ43_init 10 = .ok (.aload_n 3, 1) := dk_45 (dk_at dksJ43_init_0 10 rfl rfl)
theorem dJ43_init_11 : decode cJ43_init 11 = .ok (.putfield 13, 3) := dk_181 0 13 (dk_at dksJ43_init_0 11 rfl rfl)
theorem dJ43_init_14 : decode cJ43_init 14 = .ok (.aload_n 0, 1) := dk_42 (dk_at dksJ43_init_0 14 rfl rfl)
theorem dJ43_init_15 : decode cJ43_init 15 = .ok (.aload_n 1, 1) := dk_43 (dk_at dksJ43_init_0 15 rfl rfl)
theorem dJ43_init_16 : decode cJ43_init 16 = .ok (.putfield 17, 3) := dk_181 0 17 (dk_at dksJ43_init_0 16 rfl rfl)
theorem dJ43_init_19 : decode cJ43_init 19 = .ok (.return_, 1) := dk_177 (dk_at dksJ43_init_0 19 rfl rfl)
abbrev cJ6_linkLast : ByteArray := prog_75_method_4_code
def yJ6_linkLast : MethodName := ⟨RJ6, "linkLast", "(Ljava/lang/Object;)V"⟩
def dkwJ6_linkLast_2 : List UInt8 := [181, 0, 7, 42, 89, 180, 0, 33, 4, 96, 181, 0, 33, 177]
abbrev dktJ6_linkLast_2 : List UInt8 := dkwJ6_linkLast_2 ++ []
def dkwJ6_linkLast_1 : List UInt8 := [199, 0, 11, 42, 45, 181, 0, 18, 167, 0, 8, 44, 45, 181, 0, 36, 42, 89, 180, 0, 7, 4, 96]
abbrev dktJ6_linkLast_1 : List UInt8 := dkwJ6_linkLast_1 ++ dktJ6_linkLast_2
def dkwJ6_linkLast_0 : List UInt8 := [42, 180, 0, 27, 77, 187, 0, 22, 89, 44, 43, 1, 183, 0, 24, 78, 42, 45, 181, 0, 27, 44]
abbrev dktJ6_linkLast_0 : List UInt8 := dkwJ6_linkLast_0 ++ dktJ6_linkLast_1
theorem dksJ6_linkLast_0 : cJ6_linkLast.data.toList.drop 0 = dktJ6_linkLast_0 := by decide +kernel
theorem dksJ6_linkLast_1 : cJ6_linkLast.data.toList.drop 22 = dktJ6_linkLast_1 := dk_seg dksJ6_linkLast_0 22 rfl rfl
theorem dksJ6_linkLast_2 : cJ6_linkLast.data.toList.drop 45 = dktJ6_linkLast_2 := dk_seg dksJ6_linkLast_1 23 rfl rfl
theorem dJ6_linkLast_0 : decode cJ6_linkLast 0 = .ok (.aload_n 0, 1) := dk_42 (dk_at dksJ6_linkLast_0 0 rfl rfl)
theorem dJ6_linkLast_1 : decode cJ6_linkLast 1 = .ok (.getfield 27, 3) := dk_180 0 27 (dk_at dksJ6_linkLast_0 1 rfl rfl)
theorem dJ6_linkLast_4 : decode cJ6_linkLast 4 = .ok (.astore_n 2, 1) := dk_77 (dk_at dksJ6_linkLast_0 4 rfl rfl)
theorem dJ6_linkLast_5 : decode cJ6_linkLast 5 = .ok (.new 22, 3) := dk_187 0 22 (dk_at dksJ6_linkLast_0 5 rfl rfl)
theorem dJ6_linkLast_8 : decode cJ6_linkLast 8 = .ok (.dup, 1) := dk_89 (dk_at dksJ6_linkLast_0 8 rfl rfl)
theorem dJ6_linkLast_9 : decode cJ6_linkLast 9 = .ok (.aload_n 2, 1) := dk_44 (dk_at dksJ6_linkLast_0 9 rfl rfl)
theorem dJ6_linkLast_10 : decode cJ6_linkLast 10 = .ok (.aload_n 1, 1) := dk_43 (dk_at dksJ6_linkLast_0 10 rfl rfl)
theorem dJ6_linkLast_11 : decode cJ6_linkLast 11 = .ok (.aconst_null, 1) := dk_1 (dk_at dksJ6_linkLast_0 11 rfl rfl)
theorem dJ6_linkLast_12 : decode cJ6_linkLast 12 = .ok (.invokespecial 24, 3) := dk_183 0 24 (dk_at dksJ6_linkLast_0 12 rfl rfl)
theorem dJ6_linkLast_15 : decode cJ6_linkLast 15 = .ok (.astore_n 3, 1) := dk_78 (dk_at dksJ6_linkLast_0 15 rfl rfl)
theorem dJ6_linkLast_16 : decode cJ6_linkLast 16 = .ok (.aload_n 0, 1) := dk_42 (dk_at dksJ6_linkLast_0 16 rfl rfl)
theorem dJ6_linkLast_17 : decode cJ6_linkLast 17 = .ok (.aload_n 3, 1) := dk_45 (dk_at dksJ6_linkLast_0 17 rfl rfl)
theorem dJ6_linkLast_18 : decode cJ6_linkLast 18 = .ok (.putfield 27, 3) := dk_181 0 27 (dk_at dksJ6_linkLast_0 18 rfl rfl)
theorem dJ6_linkLast_21 : decode cJ6_linkLast 21 = .ok (.aload_n 2, 1) := dk_44 (dk_at dksJ6_linkLast_0 21 rfl rfl)
theorem dJ6_linkLast_22 : decode cJ6_linkLast 22 = .ok (.ifnonnull 11, 3) := dk_199 0 11 (dk_at dksJ6_linkLast_1 0 rfl rfl)
theorem dJ6_linkLast_25 : decode cJ6_linkLast 25 = .ok (.aload_n 0, 1) := dk_42 (dk_at dksJ6_linkLast_1 3 rfl rfl)
theorem dJ6_linkLast_26 : decode cJ6_linkLast 26 = .ok (.aload_n 3, 1) := dk_45 (dk_at dksJ6_linkLast_1 4 rfl rfl)
theorem dJ6_linkLast_27 : decode cJ6_linkLast 27 = .ok (.putfield 18, 3) := dk_181 0 18 (dk_at dksJ6_linkLast_1 5 rfl rfl)
theorem dJ6_linkLast_30 : decode cJ6_linkLast 30 = .ok (.goto 8, 3) := dk_167 0 8 (dk_at dksJ6_linkLast_1 8 rfl rfl)
theorem dJ6_linkLast_33 : decode cJ6_linkLast 33 = .ok (.aload_n 2, 1) := dk_44 (dk_at dksJ6_linkLast_1 11 rfl rfl)
theorem dJ6_linkLast_34 : decode cJ6_linkLast 34 = .ok (.aload_n 3, 1) := dk_45 (dk_at dksJ6_linkLast_1 12 rfl rfl)
theorem dJ6_linkLast_35 : decode cJ6_linkLast 35 = .ok (.putfield 36, 3) := dk_181 0 36 (dk_at dksJ6_linkLast_1 13 rfl rfl)
theorem dJ6_linkLast_38 : decode cJ6_linkLast 38 = .ok (.aload_n 0, 1) := dk_42 (dk_at dksJ6_linkLast_1 16 rfl rfl)
theorem dJ6_linkLast_39 : decode cJ6_linkLast 39 = .ok (.dup, 1) := dk_89 (dk_at dksJ6_linkLast_1 17 rfl rfl)
theorem dJ6_linkLast_40 : decode cJ6_linkLast 40 = .ok (.getfield 7, 3) := dk_180 0 7 (dk_at dksJ6_linkLast_1 18 rfl rfl)
theorem dJ6_linkLast_43 : decode cJ6_linkLast 43 = .ok (.iconst 1, 1) := dk_4 (dk_at dksJ6_linkLast_1 21 rfl rfl)
theorem dJ6_linkLast_44 : decode cJ6_linkLast 44 = .ok (.iadd, 1) := dk_96 (dk_at dksJ6_linkLast_1 22 rfl rfl)
theorem dJ6_linkLast_45 : decode cJ6_linkLast 45 = .ok (.putfield 7, 3) := dk_181 0 7 (dk_at dksJ6_linkLast_2 0 rfl rfl)
theorem dJ6_linkLast_48 : decode cJ6_linkLast 48 = .ok (.aload_n 0, 1) := dk_42 (dk_at dksJ6_linkLast_2 3 rfl rfl)
theorem dJ6_linkLast_49 : decode cJ6_linkLast 49 = .ok (.dup, 1) := dk_89 (dk_at dksJ6_linkLast_2 4 rfl rfl)
theorem dJ6_linkLast_50 : decode cJ6_linkLast 50 = .ok (.getfield 33, 3) := dk_180 0 33 (dk_at dksJ6_linkLast_2 5 rfl rfl)
theorem dJ6_linkLast_53 : decode cJ6_linkLast 53 = .ok (.iconst 1, 1) := dk_4 (dk_at dksJ6_linkLast_2 8 rfl rfl)
theorem dJ6_linkLast_54 : decode cJ6_linkLast 54 = .ok (.iadd, 1) := dk_96 (dk_at dksJ6_linkLast_2 9 rfl rfl)
theorem dJ6_linkLast_55 : decode cJ6_linkLast 55 = .ok (.putfield 33, 3) := dk_181 0 33 (dk_at dksJ6_linkLast_2 10 rfl rfl)
theorem dJ6_linkLast_58 : decode cJ6_linkLast 58 = .ok (.return_, 1) := dk_177 (dk_at dksJ6_linkLast_2 13 rfl rfl)
abbrev cJ6_addLast : ByteArray := prog_75_method_14_code
def yJ6_addLast : MethodName := ⟨RJ6, "addLast", "(Ljava/lang/Object;)V"⟩
def dkwJ6_addLast_0 : List UInt8 := [42, 43, 182, 0, 57, 177]
abbrev dktJ6_addLast_0 : List UInt8 := dkwJ6_addLast_0 ++ []
theorem dksJ6_addLast_0 : cJ6_addLast.data.toList.drop 0 = dktJ6_addLast_0 := by decide +kernel
theorem dJ6_addLast_0 : decode cJ6_addLast 0 = .ok (.aload_n 0, 1) := dk_42 (dk_at dksJ6_addLast_0 0 rfl rfl)
theorem dJ6_addLast_1 : decode cJ6_addLast 1 = .ok (.aload_n 1, 1) := dk_43 (dk_at dksJ6_addLast_0 1 rfl rfl)
theorem dJ6_addLast_2 : decode cJ6_addLast 2 = .ok (.invokevirtual 57, 3) := dk_182 0 57 (dk_at dksJ6_addLast_0 2 rfl rfl)
theorem dJ6_addLast_5 : decode cJ6_addLast 5 = .ok (.return_, 1) := dk_177 (dk_at dksJ6_addLast_0 5 rfl rfl)
abbrev cJ6_unlinkFirst : ByteArray := prog_75_method_6_code
def yJ6_unlinkFirst : MethodName := ⟨RJ6, "unlinkFirst", "(Ljava/util/LinkedList$Node;)Ljava/lang/Object;"⟩
def dkwJ6_unlinkFirst_2 : List UInt8 := [180, 0, 7, 4, 100, 181, 0, 7, 42, 89, 180, 0, 33, 4, 96, 181, 0, 33, 44, 176]
abbrev dktJ6_unlinkFirst_2 : List UInt8 := dkwJ6_unlinkFirst_2 ++ []
def dkwJ6_unlinkFirst_1 : List UInt8 := [181, 0, 18, 45, 199, 0, 11, 42, 1, 181, 0, 27, 167, 0, 8, 45, 1, 181, 0, 30, 42, 89]
abbrev dktJ6_unlinkFirst_1 : List UInt8 := dkwJ6_unlinkFirst_1 ++ dktJ6_unlinkFirst_2
def dkwJ6_unlinkFirst_0 : List UInt8 := [43, 180, 0, 39, 77, 43, 180, 0, 36, 78, 43, 1, 181, 0, 39, 43, 1, 181, 0, 36, 42, 45]
abbrev dktJ6_unlinkFirst_0 : List UInt8 := dkwJ6_unlinkFirst_0 ++ dktJ6_unlinkFirst_1
theorem dksJ6_unlinkFirst_0 : cJ6_unlinkFirst.data.toList.drop 0 = dktJ6_unlinkFirst_0 := by decide +kernel
theorem dksJ6_unlinkFirst_1 : cJ6_unlinkFirst.data.toList.drop 22 = dktJ6_unlinkFirst_1 := dk_seg dksJ6_unlinkFirst_0 22 rfl rfl
theorem dksJ6_unlinkFirst_2 : cJ6_unlinkFirst.data.toList.drop 44 = dktJ6_unlinkFirst_2 := dk_seg dksJ6_unlinkFirst_1 22 rfl rfl
theorem dJ6_unlinkFirst_0 : decode cJ6_unlinkFirst 0 = .ok (.aload_n 1, 1) := dk_43 (dk_at dksJ6_unlinkFirst_0 0 rfl rfl)
theorem dJ6_unlinkFirst_1 : decode cJ6_unlinkFirst 1 = .ok (.getfield 39, 3) := dk_180 0 39 (dk_at dksJ6_unlinkFirst_0 1 rfl rfl)
theorem dJ6_unlinkFirst_4 : decode cJ6_unlinkFirst 4 = .ok (.astore_n 2, 1) := dk_77 (dk_at dksJ6_unlinkFirst_0 4 rfl rfl)
theorem dJ6_unlinkFirst_5 : decode cJ6_unlinkFirst 5 = .ok (.aload_n 1, 1) := dk_43 (dk_at dksJ6_unlinkFirst_0 5 rfl rfl)
theorem dJ6_unlinkFirst_6 : decode cJ6_unlinkFirst 6 = .ok (.getfield 36, 3) := dk_180 0 36 (dk_at dksJ6_unlinkFirst_0 6 rfl rfl)
theorem dJ6_unlinkFirst_9 : decode cJ6_unlinkFirst 9 = .ok (.astore_n 3, 1) := dk_78 (dk_at dksJ6_unlinkFirst_0 9 rfl rfl)
theorem dJ6_unlinkFirst_10 : decode cJ6_unlinkFirst 10 = .ok (.aload_n 1, 1) := dk_43 (dk_at dksJ6_unlinkFirst_0 10 rfl rfl)
theorem dJ6_unlinkFirst_11 : decode cJ6_unlinkFirst 11 = .ok (.aconst_null, 1) := dk_1 (dk_at dksJ6_unlinkFirst_0 11 rfl rfl)
theorem dJ6_unlinkFirst_12 : decode cJ6_unlinkFirst 12 = .ok (.putfield 39, 3) := dk_181 0 39 (dk_at dksJ6_unlinkFirst_0 12 rfl rfl)
theorem dJ6_unlinkFirst_15 : decode cJ6_unlinkFirst 15 = .ok (.aload_n 1, 1) := dk_43 (dk_at dksJ6_unlinkFirst_0 15 rfl rfl)
theorem dJ6_unlinkFirst_16 : decode cJ6_unlinkFirst 16 = .ok (.aconst_null, 1) := dk_1 (dk_at dksJ6_unlinkFirst_0 16 rfl rfl)
theorem dJ6_unlinkFirst_17 : decode cJ6_unlinkFirst 17 = .ok (.putfield 36, 3) := dk_181 0 36 (dk_at dksJ6_unlinkFirst_0 17 rfl rfl)
theorem dJ6_unlinkFirst_20 : decode cJ6_unlinkFirst 20 = .ok (.aload_n 0, 1) := dk_42 (dk_at dksJ6_unlinkFirst_0 20 rfl rfl)
theorem dJ6_unlinkFirst_21 : decode cJ6_unlinkFirst 21 = .ok (.aload_n 3, 1) := dk_45 (dk_at dksJ6_unlinkFirst_0 21 rfl rfl)
theorem dJ6_unlinkFirst_22 : decode cJ6_unlinkFirst 22 = .ok (.putfield 18, 3) := dk_181 0 18 (dk_at dksJ6_unlinkFirst_1 0 rfl rfl)
theorem dJ6_unlinkFirst_25 : decode cJ6_unlinkFirst 25 = .ok (.aload_n 3, 1) := dk_45 (dk_at dksJ6_unlinkFirst_1 3 rfl rfl)
theorem dJ6_unlinkFirst_26 : decode cJ6_unlinkFirst 26 = .ok (.ifnonnull 11, 3) := dk_199 0 11 (dk_at dksJ6_unlinkFirst_1 4 rfl rfl)
theorem dJ6_unlinkFirst_29 : decode cJ6_unlinkFirst 29 = .ok (.aload_n 0, 1) := dk_42 (dk_at dksJ6_unlinkFirst_1 7 rfl rfl)
theorem dJ6_unlinkFirst_30 : decode cJ6_unlinkFirst 30 = .ok (.aconst_null, 1) := dk_1 (dk_at dksJ6_unlinkFirst_1 8 rfl rfl)
theorem dJ6_unlinkFirst_31 : decode cJ6_unlinkFirst 31 = .ok (.putfield 27, 3) := dk_181 0 27 (dk_at dksJ6_unlinkFirst_1 9 rfl rfl)
theorem dJ6_unlinkFirst_34 : decode cJ6_unlinkFirst 34 = .ok (.goto 8, 3) := dk_167 0 8 (dk_at dksJ6_unlinkFirst_1 12 rfl rfl)
theorem dJ6_unlinkFirst_37 : decode cJ6_unlinkFirst 37 = .ok (.aload_n 3, 1) := dk_45 (dk_at dksJ6_unlinkFirst_1 15 rfl rfl)
theorem dJ6_unlinkFirst_38 : decode cJ6_unlinkFirst 38 = .ok (.aconst_null, 1) := dk_1 (dk_at dksJ6_unlinkFirst_1 16 rfl rfl)
theorem dJ6_unlinkFirst_39 : decode cJ6_unlinkFirst 39 = .ok (.putfield 30, 3) := dk_181 0 30 (dk_at dksJ6_unlinkFirst_1 17 rfl rfl)
theorem dJ6_unlinkFirst_42 : decode cJ6_unlinkFirst 42 = .ok (.aload_n 0, 1) := dk_42 (dk_at dksJ6_unlinkFirst_1 20 rfl rfl)
theorem dJ6_unlinkFirst_43 : decode cJ6_unlinkFirst 43 = .ok (.dup, 1) := dk_89 (dk_at dksJ6_unlinkFirst_1 21 rfl rfl)
theorem dJ6_unlinkFirst_44 : decode cJ6_unlinkFirst 44 = .ok (.getfield 7, 3) := dk_180 0 7 (dk_at dksJ6_unlinkFirst_2 0 rfl rfl)
theorem dJ6_unlinkFirst_47 : decode cJ6_unlinkFirst 47 = .ok (.iconst 1, 1) := dk_4 (dk_at dksJ6_unlinkFirst_2 3 rfl rfl)
theorem dJ6_unlinkFirst_48 : decode cJ6_unlinkFirst 48 = .ok (.isub, 1) := dk_100 (dk_at dksJ6_unlinkFirst_2 4 rfl rfl)
theorem dJ6_unlinkFirst_49 : decode cJ6_unlinkFirst 49 = .ok (.putfield 7, 3) := dk_181 0 7 (dk_at dksJ6_unlinkFirst_2 5 rfl rfl)
theorem dJ6_unlinkFirst_52 : decode cJ6_unlinkFirst 52 = .ok (.aload_n 0, 1) := dk_42 (dk_at dksJ6_unlinkFirst_2 8 rfl rfl)
theorem dJ6_unlinkFirst_53 : decode cJ6_unlinkFirst 53 = .ok (.dup, 1) := dk_89 (dk_at dksJ6_unlinkFirst_2 9 rfl rfl)
theorem dJ6_unlinkFirst_54 : decode cJ6_unlinkFirst 54 = .ok (.getfield 33, 3) := dk_180 0 33 (dk_at dksJ6_unlinkFirst_2 10 rfl rfl)
theorem dJ6_unlinkFirst_57 : decode cJ6_unlinkFirst 57 = .ok (.iconst 1, 1) := dk_4 (dk_at dksJ6_unlinkFirst_2 13 rfl rfl)
theorem dJ6_unlinkFirst_58 : decode cJ6_unlinkFirst 58 = .ok (.iadd, 1) := dk_96 (dk_at dksJ6_unlinkFirst_2 14 rfl rfl)
theorem dJ6_unlinkFirst_59 : decode cJ6_unlinkFirst 59 = .ok (.putfield 33, 3) := dk_181 0 33 (dk_at dksJ6_unlinkFirst_2 15 rfl rfl)
theorem dJ6_unlinkFirst_62 : decode cJ6_unlinkFirst 62 = .ok (.aload_n 2, 1) := dk_44 (dk_at dksJ6_unlinkFirst_2 18 rfl rfl)
theorem dJ6_unlinkFirst_63 : decode cJ6_unlinkFirst 63 = .ok (.areturn, 1) := dk_176 (dk_at dksJ6_unlinkFirst_2 19 rfl rfl)
abbrev cJ6_removeFirst : ByteArray := prog_75_method_11_code
def yJ6_removeFirst : MethodName := ⟨RJ6, "removeFirst", "()Ljava/lang/Object;"⟩
def dkwJ6_removeFirst_0 : List UInt8 := [42, 180, 0, 18, 76, 43, 199, 0, 11, 187, 0, 43, 89, 183, 0, 45, 191, 42, 43, 182, 0, 46, 176]
abbrev dktJ6_removeFirst_0 : List UInt8 := dkwJ6_removeFirst_0 ++ []
theorem dksJ6_removeFirst_0 : cJ6_removeFirst.data.toList.drop 0 = dktJ6_removeFirst_0 := by decide +kernel
theorem dJ6_removeFirst_0 : decode cJ6_removeFirst 0 = .ok (.aload_n 0, 1) := dk_42 (dk_at dksJ6_removeFirst_0 0 rfl rfl)
theorem dJ6_removeFirst_1 : decode cJ6_removeFirst 1 = .ok (.getfield 18, 3) := dk_180 0 18 (dk_at dksJ6_removeFirst_0 1 rfl rfl)
theorem dJ6_removeFirst_4 : decode cJ6_removeFirst 4 = .ok (.astore_n 1, 1) := dk_76 (dk_at dksJ6_removeFirst_0 4 rfl rfl)
theorem dJ6_removeFirst_5 : decode cJ6_removeFirst 5 = .ok (.aload_n 1, 1) := dk_43 (dk_at dksJ6_removeFirst_0 5 rfl rfl)
theorem dJ6_removeFirst_6 : decode cJ6_removeFirst 6 = .ok (.ifnonnull 11, 3) := dk_199 0 11 (dk_at dksJ6_removeFirst_0 6 rfl rfl)
theorem dJ6_removeFirst_9 : decode cJ6_removeFirst 9 = .ok (.new 43, 3) := dk_187 0 43 (dk_at dksJ6_removeFirst_0 9 rfl rfl)
theorem dJ6_removeFirst_17 : decode cJ6_removeFirst 17 = .ok (.aload_n 0, 1) := dk_42 (dk_at dksJ6_removeFirst_0 17 rfl rfl)
theorem dJ6_removeFirst_18 : decode cJ6_removeFirst 18 = .ok (.aload_n 1, 1) := dk_43 (dk_at dksJ6_removeFirst_0 18 rfl rfl)
theorem dJ6_removeFirst_19 : decode cJ6_removeFirst 19 = .ok (.invokevirtual 46, 3) := dk_182 0 46 (dk_at dksJ6_removeFirst_0 19 rfl rfl)
theorem dJ6_removeFirst_22 : decode cJ6_removeFirst 22 = .ok (.areturn, 1) := dk_176 (dk_at dksJ6_removeFirst_0 22 rfl rfl)
abbrev cJ6_size : ByteArray := prog_75_method_16_code
def yJ6_size : MethodName := ⟨RJ6, "size", "()I"⟩
theorem dJ6_size_0 : decode cJ6_size 0 = .ok (.aload_n 0, 1) := by decide +kernel
theorem dJ6_size_1 : decode cJ6_size 1 = .ok (.getfield 7, 3) := by decide +kernel
theorem dJ6_size_4 : decode cJ6_size 4 = .ok (.ireturn, 1) := by decide +kernel
abbrev cX1_commit : ByteArray := prog_1_method_5_code
def yX1_commit : MethodName := ⟨RX1, "commit", "(LLionGate$Queue;I)I"⟩
def dkwX1_commit_1 : List UInt8 := [42, 180, 0, 66, 182, 0, 103, 42, 43, 181, 0, 66, 28, 172]
abbrev dktX1_commit_1 : List UInt8 := dkwX1_commit_1 ++ []
def dkwX1_commit_0 : List UInt8 := [42, 180, 0, 75, 182, 0, 99, 16, 8, 160, 0, 11, 42, 180, 0, 75, 182, 0, 100, 87, 42, 180, 0, 75]
abbrev dktX1_commit_0 : List UInt8 := dkwX1_commit_0 ++ dktX1_commit_1
theorem dksX1_commit_0 : cX1_commit.data.toList.drop 0 = dktX1_commit_0 := by decide +kernel
theorem dksX1_commit_1 : cX1_commit.data.toList.drop 24 = dktX1_commit_1 := dk_seg dksX1_commit_0 24 rfl rfl
theorem dX1_commit_0 : decode cX1_commit 0 = .ok (.aload_n 0, 1) := dk_42 (dk_at dksX1_commit_0 0 rfl rfl)
theorem dX1_commit_1 : decode cX1_commit 1 = .ok (.getfield 75, 3) := dk_180 0 75 (dk_at dksX1_commit_0 1 rfl rfl)
theorem dX1_commit_4 : decode cX1_commit 4 = .ok (.invokevirtual 99, 3) := dk_182 0 99 (dk_at dksX1_commit_0 4 rfl rfl)
theorem dX1_commit_7 : decode cX1_commit 7 = .ok (.bipush 8, 2) := dk_16 8 (dk_at dksX1_commit_0 7 rfl rfl)
theorem dX1_commit_9 : decode cX1_commit 9 = .ok (.if_icmp .ne 11, 3) := dk_160 0 11 (dk_at dksX1_commit_0 9 rfl rfl)
theorem dX1_commit_12 : decode cX1_commit 12 = .ok (.aload_n 0, 1) := dk_42 (dk_at dksX1_commit_0 12 rfl rfl)
theorem dX1_commit_13 : decode cX1_commit 13 = .ok (.getfield 75, 3) := dk_180 0 75 (dk_at dksX1_commit_0 13 rfl rfl)
theorem dX1_commit_16 : decode cX1_commit 16 = .ok (.invokevirtual 100, 3) := dk_182 0 100 (dk_at dksX1_commit_0 16 rfl rfl)
theorem dX1_commit_19 : decode cX1_commit 19 = .ok (.pop, 1) := dk_87 (dk_at dksX1_commit_0 19 rfl rfl)
theorem dX1_commit_20 : decode cX1_commit 20 = .ok (.aload_n 0, 1) := dk_42 (dk_at dksX1_commit_0 20 rfl rfl)
theorem dX1_commit_21 : decode cX1_commit 21 = .ok (.getfield 75, 3) := dk_180 0 75 (dk_at dksX1_commit_0 21 rfl rfl)
theorem dX1_commit_24 : decode cX1_commit 24 = .ok (.aload_n 0, 1) := dk_42 (dk_at dksX1_commit_1 0 rfl rfl)
theorem dX1_commit_25 : decode cX1_commit 25 = .ok (.getfield 66, 3) := dk_180 0 66 (dk_at dksX1_commit_1 1 rfl rfl)
theorem dX1_commit_28 : decode cX1_commit 28 = .ok (.invokevirtual 103, 3) := dk_182 0 103 (dk_at dksX1_commit_1 4 rfl rfl)
theorem dX1_commit_31 : decode cX1_commit 31 = .ok (.aload_n 0, 1) := dk_42 (dk_at dksX1_commit_1 7 rfl rfl)
theorem dX1_commit_32 : decode cX1_commit 32 = .ok (.aload_n 1, 1) := dk_43 (dk_at dksX1_commit_1 8 rfl rfl)
theorem dX1_commit_33 : decode cX1_commit 33 = .ok (.putfield 66, 3) := dk_181 0 66 (dk_at dksX1_commit_1 9 rfl rfl)
theorem dX1_commit_36 : decode cX1_commit 36 = .ok (.iload_n 2, 1) := dk_28 (dk_at dksX1_commit_1 12 rfl rfl)
theorem dX1_commit_37 : decode cX1_commit 37 = .ok (.ireturn, 1) := dk_172 (dk_at dksX1_commit_1 13 rfl rfl)
abbrev cX5_init : ByteArray := prog_4_method_1_code
def yX5_init : MethodName := ⟨RX5, "<init>", "(Ljava/lang/String;[I)V"⟩
def dkwX5_init_0 : List UInt8 := [42, 183, 0, 1, 42, 43, 181, 0, 7, 42, 44, 181, 0, 13, 177]
abbrev dktX5_init_0 : List UInt8 := dkwX5_init_0 ++ []
theorem dksX5_init_0 : cX5_init.data.toList.drop 0 = dktX5_init_0 := by decide +kernel
theorem dX5_init_0 : decode cX5_init 0 = .ok (.aload_n 0, 1) := dk_42 (dk_at dksX5_init_0 0 rfl rfl)
theorem dX5_init_1 : decode cX5_init 1 = .ok (.invokespecial 1, 3) := dk_183 0 1 (dk_at dksX5_init_0 1 rfl rfl)
theorem dX5_init_4 : decode cX5_init 4 = .ok (.aload_n 0, 1) := dk_42 (dk_at dksX5_init_0 4 rfl rfl)
theorem dX5_init_5 : decode cX5_init 5 = .ok (.aload_n 1, 1) := dk_43 (dk_at dksX5_init_0 5 rfl rfl)
theorem dX5_init_6 : decode cX5_init 6 = .ok (.putfield 7, 3) := dk_181 0 7 (dk_at dksX5_init_0 6 rfl rfl)
theorem dX5_init_9 : decode cX5_init 9 = .ok (.aload_n 0, 1) := dk_42 (dk_at dksX5_init_0 9 rfl rfl)
theorem dX5_init_10 : decode cX5_init 10 = .ok (.aload_n 2, 1) := dk_44 (dk_at dksX5_init_0 10 rfl rfl)
theorem dX5_init_11 : decode cX5_init 11 = .ok (.putfield 13, 3) := dk_181 0 13 (dk_at dksX5_init_0 11 rfl rfl)
theorem dX5_init_14 : decode cX5_init 14 = .ok (.return_, 1) := dk_177 (dk_at dksX5_init_0 14 rfl rfl)
abbrev cX5_at : ByteArray := prog_4_method_2_code
def yX5_at : MethodName := ⟨RX5, "at", "(I)I"⟩
def dkwX5_at_0 : List UInt8 := [42, 180, 0, 13, 27, 46, 172]
abbrev dktX5_at_0 : List UInt8 := dkwX5_at_0 ++ []
theorem dksX5_at_0 : cX5_at.data.toList.drop 0 = dktX5_at_0 := by decide +kernel
theorem dX5_at_0 : decode cX5_at 0 = .ok (.aload_n 0, 1) := dk_42 (dk_at dksX5_at_0 0 rfl rfl)
theorem dX5_at_1 : decode cX5_at 1 = .ok (.getfield 13, 3) := dk_180 0 13 (dk_at dksX5_at_0 1 rfl rfl)
theorem dX5_at_4 : decode cX5_at 4 = .ok (.iload_n 1, 1) := dk_27 (dk_at dksX5_at_0 4 rfl rfl)
theorem dX5_at_5 : decode cX5_at 5 = .ok (.iaload, 1) := dk_46 (dk_at dksX5_at_0 5 rfl rfl)
theorem dX5_at_6 : decode cX5_at 6 = .ok (.ireturn, 1) := dk_172 (dk_at dksX5_at_0 6 rfl rfl)
abbrev cJ17_init_4 : ByteArray := prog_45_method_3_code
def yJ17_init_4 : MethodName := ⟨RJ17, "<init>", "(Ljava/lang/String;Ljava/lang/Throwable;)V"⟩
def dkwJ17_init_4_1 : List UInt8 := [182, 0, 27, 87, 42, 43, 181, 0, 31, 42, 44, 181, 0, 7, 177]
abbrev dktJ17_init_4_1 : List UInt8 := dkwJ17_init_4_1 ++ []
def dkwJ17_init_4_0 : List UInt8 := [42, 183, 0, 1, 42, 42, 181, 0, 7, 42, 178, 0, 13, 181, 0, 17, 42, 178, 0, 20, 181, 0, 24, 42]
abbrev dktJ17_init_4_0 : List UInt8 := dkwJ17_init_4_0 ++ dktJ17_init_4_1
theorem dksJ17_init_4_0 : cJ17_init_4.data.toList.drop 0 = dktJ17_init_4_0 := by decide +kernel
theorem dksJ17_init_4_1 : cJ17_init_4.data.toList.drop 24 = dktJ17_init_4_1 := dk_seg dksJ17_init_4_0 24 rfl rfl
theorem dJ17_init_4_0 : decode cJ17_init_4 0 = .ok (.aload_n 0, 1) := dk_42 (dk_at dksJ17_init_4_0 0 rfl rfl)
theorem dJ17_init_4_1 : decode cJ17_init_4 1 = .ok (.invokespecial 1, 3) := dk_183 0 1 (dk_at dksJ17_init_4_0 1 rfl rfl)
theorem dJ17_init_4_4 : decode cJ17_init_4 4 = .ok (.aload_n 0, 1) := dk_42 (dk_at dksJ17_init_4_0 4 rfl rfl)
theorem dJ17_init_4_5 : decode cJ17_init_4 5 = .ok (.aload_n 0, 1) := dk_42 (dk_at dksJ17_init_4_0 5 rfl rfl)
theorem dJ17_init_4_6 : decode cJ17_init_4 6 = .ok (.putfield 7, 3) := dk_181 0 7 (dk_at dksJ17_init_4_0 6 rfl rfl)
theorem dJ17_init_4_9 : decode cJ17_init_4 9 = .ok (.aload_n 0, 1) := dk_42 (dk_at dksJ17_init_4_0 9 rfl rfl)
theorem dJ17_init_4_10 : decode cJ17_init_4 10 = .ok (.getstatic 13, 3) := dk_178 0 13 (dk_at dksJ17_init_4_0 10 rfl rfl)
theorem dJ17_init_4_13 : decode cJ17_init_4 13 = .ok (.putfield 17, 3) := dk_181 0 17 (dk_at dksJ17_init_4_0 13 rfl rfl)
theorem dJ17_init_4_16 : decode cJ17_init_4 16 = .ok (.aload_n 0, 1) := dk_42 (dk_at dksJ17_init_4_0 16 rfl rfl)
theorem dJ17_init_4_17 : decode cJ17_init_4 17 = .ok (.getstatic 20, 3) := dk_178 0 20 (dk_at dksJ17_init_4_0 17 rfl rfl)
theorem dJ17_init_4_20 : decode cJ17_init_4 20 = .ok (.putfield 24, 3) := dk_181 0 24 (dk_at dksJ17_init_4_0 20 rfl rfl)
theorem dJ17_init_4_23 : decode cJ17_init_4 23 = .ok (.aload_n 0, 1) := dk_42 (dk_at dksJ17_init_4_0 23 rfl rfl)
theorem dJ17_init_4_24 : decode cJ17_init_4 24 = .ok (.invokevirtual 27, 3) := dk_182 0 27 (dk_at dksJ17_init_4_1 0 rfl rfl)
theorem dJ17_init_4_27 : decode cJ17_init_4 27 = .ok (.pop, 1) := dk_87 (dk_at dksJ17_init_4_1 3 rfl rfl)
theorem dJ17_init_4_28 : decode cJ17_init_4 28 = .ok (.aload_n 0, 1) := dk_42 (dk_at dksJ17_init_4_1 4 rfl rfl)
theorem dJ17_init_4_29 : decode cJ17_init_4 29 = .ok (.aload_n 1, 1) := dk_43 (dk_at dksJ17_init_4_1 5 rfl rfl)
theorem dJ17_init_4_30 : decode cJ17_init_4 30 = .ok (.putfield 31, 3) := dk_181 0 31 (dk_at dksJ17_init_4_1 6 rfl rfl)
theorem dJ17_init_4_33 : decode cJ17_init_4 33 = .ok (.aload_n 0, 1) := dk_42 (dk_at dksJ17_init_4_1 9 rfl rfl)
theorem dJ17_init_4_34 : decode cJ17_init_4 34 = .ok (.aload_n 2, 1) := dk_44 (dk_at dksJ17_init_4_1 10 rfl rfl)
theorem dJ17_init_4_35 : decode cJ17_init_4 35 = .ok (.putfield 7, 3) := dk_181 0 7 (dk_at dksJ17_init_4_1 11 rfl rfl)
theorem dJ17_init_4_38 : decode cJ17_init_4 38 = .ok (.return_, 1) := dk_177 (dk_at dksJ17_init_4_1 14 rfl rfl)
abbrev cJ18_init_4 : ByteArray := prog_27_method_3_code
def yJ18_init_4 : MethodName := ⟨RJ18, "<init>", "(Ljava/lang/String;Ljava/lang/Throwable;)V"⟩
def dkwJ18_init_4_0 : List UInt8 := [42, 43, 44, 183, 0, 10, 177]
abbrev dktJ18_init_4_0 : List UInt8 := dkwJ18_init_4_0 ++ []
theorem dksJ18_init_4_0 : cJ18_init_4.data.toList.drop 0 = dktJ18_init_4_0 := by decide +kernel
theorem dJ18_init_4_0 : decode cJ18_init_4 0 = .ok (.aload_n 0, 1) := dk_42 (dk_at dksJ18_init_4_0 0 rfl rfl)
theorem dJ18_init_4_1 : decode cJ18_init_4 1 = .ok (.aload_n 1, 1) := dk_43 (dk_at dksJ18_init_4_0 1 rfl rfl)
theorem dJ18_init_4_2 : decode cJ18_init_4 2 = .ok (.aload_n 2, 1) := dk_44 (dk_at dksJ18_init_4_0 2 rfl rfl)
theorem dJ18_init_4_3 : decode cJ18_init_4 3 = .ok (.invokespecial 10, 3) := dk_183 0 10 (dk_at dksJ18_init_4_0 3 rfl rfl)
theorem dJ18_init_4_6 : decode cJ18_init_4 6 = .ok (.return_, 1) := dk_177 (dk_at dksJ18_init_4_0 6 rfl rfl)
abbrev cX6_init : ByteArray := prog_7_method_1_code
def yX6_init : MethodName := ⟨RX6, "<init>", "(LLionGate$Failure;)V"⟩
def dkwX6_init_0 : List UInt8 := [42, 1, 43, 183, 0, 1, 177]
abbrev dktX6_init_0 : List UInt8 := dkwX6_init_0 ++ []
theorem dksX6_init_0 : cX6_init.data.toList.drop 0 = dktX6_init_0 := by decide +kernel
theorem dX6_init_0 : decode cX6_init 0 = .ok (.aload_n 0, 1) := dk_42 (dk_at dksX6_init_0 0 rfl rfl)
theorem dX6_init_1 : decode cX6_init 1 = .ok (.aconst_null, 1) := dk_1 (dk_at dksX6_init_0 1 rfl rfl)
theorem dX6_init_2 : decode cX6_init 2 = .ok (.aload_n 1, 1) := dk_43 (dk_at dksX6_init_0 2 rfl rfl)
theorem dX6_init_3 : decode cX6_init 3 = .ok (.invokespecial 1, 3) := dk_183 0 1 (dk_at dksX6_init_0 3 rfl rfl)
theorem dX6_init_6 : decode cX6_init 6 = .ok (.return_, 1) := dk_177 (dk_at dksX6_init_0 6 rfl rfl)
abbrev cX7_init : ByteArray := prog_6_method_1_code
def yX7_init : MethodName := ⟨RX7, "<init>", "(C)V"⟩
def dkwX7_init_0 : List UInt8 := [42, 1, 183, 0, 1, 42, 27, 181, 0, 7, 177]
abbrev dktX7_init_0 : List UInt8 := dkwX7_init_0 ++ []
theorem dksX7_init_0 : cX7_init.data.toList.drop 0 = dktX7_init_0 := by decide +kernel
theorem dX7_init_0 : decode cX7_init 0 = .ok (.aload_n 0, 1) := dk_42 (dk_at dksX7_init_0 0 rfl rfl)
theorem dX7_init_1 : decode cX7_init 1 = .ok (.aconst_null, 1) := dk_1 (dk_at dksX7_init_0 1 rfl rfl)
theorem dX7_init_2 : decode cX7_init 2 = .ok (.invokespecial 1, 3) := dk_183 0 1 (dk_at dksX7_init_0 2 rfl rfl)
theorem dX7_init_5 : decode cX7_init 5 = .ok (.aload_n 0, 1) := dk_42 (dk_at dksX7_init_0 5 rfl rfl)
theorem dX7_init_6 : decode cX7_init 6 = .ok (.iload_n 1, 1) := dk_27 (dk_at dksX7_init_0 6 rfl rfl)
theorem dX7_init_7 : decode cX7_init 7 = .ok (.putfield 7, 3) := dk_181 0 7 (dk_at dksX7_init_0 7 rfl rfl)
theorem dX7_init_10 : decode cX7_init 10 = .ok (.return_, 1) := dk_177 (dk_at dksX7_init_0 10 rfl rfl)
abbrev cX1_demand : ByteArray := prog_1_method_1_code
def yX1_demand : MethodName := ⟨RX1, "demand", "(ZC)V"⟩
def dkwX1_demand_0 : List UInt8 := [26, 154, 0, 12, 187, 0, 1, 89, 27, 183, 0, 3, 191, 177]
abbrev dktX1_demand_0 : List UInt8 := dkwX1_demand_0 ++ []
theorem dksX1_demand_0 : cX1_demand.data.toList.drop 0 = dktX1_demand_0 := by decide +kernel
theorem dX1_demand_0 : decode cX1_demand 0 = .ok (.iload_n 0, 1) := dk_26 (dk_at dksX1_demand_0 0 rfl rfl)
theorem dX1_demand_1 : decode cX1_demand 1 = .ok (.ifCond .ne 12, 3) := dk_154 0 12 (dk_at dksX1_demand_0 1 rfl rfl)
theorem dX1_demand_4 : decode cX1_demand 4 = .ok (.new 1, 3) := dk_187 0 1 (dk_at dksX1_demand_0 4 rfl rfl)
theorem dX1_demand_7 : decode cX1_demand 7 = .ok (.dup, 1) := dk_89 (dk_at dksX1_demand_0 7 rfl rfl)
theorem dX1_demand_8 : decode cX1_demand 8 = .ok (.iload_n 1, 1) := dk_27 (dk_at dksX1_demand_0 8 rfl rfl)
theorem dX1_demand_9 : decode cX1_demand 9 = .ok (.invokespecial 3, 3) := dk_183 0 3 (dk_at dksX1_demand_0 9 rfl rfl)
theorem dX1_demand_12 : decode cX1_demand 12 = .ok (.athrow, 1) := dk_191 (dk_at dksX1_demand_0 12 rfl rfl)
theorem dX1_demand_13 : decode cX1_demand 13 = .ok (.return_, 1) := dk_177 (dk_at dksX1_demand_0 13 rfl rfl)
abbrev cX1_isBetween : ByteArray := prog_1_method_2_code
def yX1_isBetween : MethodName := ⟨RX1, "isBetween", "(III)Z"⟩
def dkwX1_isBetween_0 : List UInt8 := [26, 27, 161, 0, 12, 26, 28, 163, 0, 7, 4, 167, 0, 4, 3, 172]
abbrev dktX1_isBetween_0 : List UInt8 := dkwX1_isBetween_0 ++ []
theorem dksX1_isBetween_0 : cX1_isBetween.data.toList.drop 0 = dktX1_isBetween_0 := by decide +kernel
theorem dX1_isBetween_0 : decode cX1_isBetween 0 = .ok (.iload_n 0, 1) := dk_26 (dk_at dksX1_isBetween_0 0 rfl rfl)
theorem dX1_isBetween_1 : decode cX1_isBetween 1 = .ok (.iload_n 1, 1) := dk_27 (dk_at dksX1_isBetween_0 1 rfl rfl)
theorem dX1_isBetween_2 : decode cX1_isBetween 2 = .ok (.if_icmp .lt 12, 3) := dk_161 0 12 (dk_at dksX1_isBetween_0 2 rfl rfl)
theorem dX1_isBetween_5 : decode cX1_isBetween 5 = .ok (.iload_n 0, 1) := dk_26 (dk_at dksX1_isBetween_0 5 rfl rfl)
theorem dX1_isBetween_6 : decode cX1_isBetween 6 = .ok (.iload_n 2, 1) := dk_28 (dk_at dksX1_isBetween_0 6 rfl rfl)
theorem dX1_isBetween_7 : decode cX1_isBetween 7 = .ok (.if_icmp .gt 7, 3) := dk_163 0 7 (dk_at dksX1_isBetween_0 7 rfl rfl)
theorem dX1_isBetween_10 : decode cX1_isBetween 10 = .ok (.iconst 1, 1) := dk_4 (dk_at dksX1_isBetween_0 10 rfl rfl)
theorem dX1_isBetween_11 : decode cX1_isBetween 11 = .ok (.goto 4, 3) := dk_167 0 4 (dk_at dksX1_isBetween_0 11 rfl rfl)
theorem dX1_isBetween_14 : decode cX1_isBetween 14 = .ok (.iconst 0, 1) := dk_3 (dk_at dksX1_isBetween_0 14 rfl rfl)
theorem dX1_isBetween_15 : decode cX1_isBetween 15 = .ok (.ireturn, 1) := dk_172 (dk_at dksX1_isBetween_0 15 rfl rfl)
abbrev cX8_init : ByteArray := prog_11_method_1_code
def yX8_init : MethodName := ⟨RX8, "<init>", "(IIILLionGate$Ticket;)V"⟩
def dkwX8_init_1 : List UInt8 := [181, 0, 19, 177]
abbrev dktX8_init_1 : List UInt8 := dkwX8_init_1 ++ []
def dkwX8_init_0 : List UInt8 := [42, 183, 0, 1, 42, 27, 181, 0, 7, 42, 28, 181, 0, 13, 42, 29, 181, 0, 16, 42, 25, 4]
abbrev dktX8_init_0 : List UInt8 := dkwX8_init_0 ++ dktX8_init_1
theorem dksX8_init_0 : cX8_init.data.toList.drop 0 = dktX8_init_0 := by decide +kernel
theorem dksX8_init_1 : cX8_init.data.toList.drop 22 = dktX8_init_1 := dk_seg dksX8_init_0 22 rfl rfl
theorem dX8_init_0 : decode cX8_init 0 = .ok (.aload_n 0, 1) := dk_42 (dk_at dksX8_init_0 0 rfl rfl)
theorem dX8_init_1 : decode cX8_init 1 = .ok (.invokespecial 1, 3) := dk_183 0 1 (dk_at dksX8_init_0 1 rfl rfl)
theorem dX8_init_4 : decode cX8_init 4 = .ok (.aload_n 0, 1) := dk_42 (dk_at dksX8_init_0 4 rfl rfl)
theorem dX8_init_5 : decode cX8_init 5 = .ok (.iload_n 1, 1) := dk_27 (dk_at dksX8_init_0 5 rfl rfl)
theorem dX8_init_6 : decode cX8_init 6 = .ok (.putfield 7, 3) := dk_181 0 7 (dk_at dksX8_init_0 6 rfl rfl)
theorem dX8_init_9 : decode cX8_init 9 = .ok (.aload_n 0, 1) := dk_42 (dk_at dksX8_init_0 9 rfl rfl)
theorem dX8_init_10 : decode cX8_init 10 = .ok (.iload_n 2, 1) := dk_28 (dk_at dksX8_init_0 10 rfl rfl)
theorem dX8_init_11 : decode cX8_init 11 = .ok (.putfield 13, 3) := dk_181 0 13 (dk_at dksX8_init_0 11 rfl rfl)
theorem dX8_init_14 : decode cX8_init 14 = .ok (.aload_n 0, 1) := dk_42 (dk_at dksX8_init_0 14 rfl rfl)
theorem dX8_init_15 : decode cX8_init 15 = .ok (.iload_n 3, 1) := dk_29 (dk_at dksX8_init_0 15 rfl rfl)
theorem dX8_init_16 : decode cX8_init 16 = .ok (.putfield 16, 3) := dk_181 0 16 (dk_at dksX8_init_0 16 rfl rfl)
theorem dX8_init_19 : decode cX8_init 19 = .ok (.aload_n 0, 1) := dk_42 (dk_at dksX8_init_0 19 rfl rfl)
theorem dX8_init_20 : decode cX8_init 20 = .ok (.aload 4, 2) := dk_25 4 (dk_at dksX8_init_0 20 rfl rfl)
theorem dX8_init_22 : decode cX8_init 22 = .ok (.putfield 19, 3) := dk_181 0 19 (dk_at dksX8_init_1 0 rfl rfl)
theorem dX8_init_25 : decode cX8_init 25 = .ok (.return_, 1) := dk_177 (dk_at dksX8_init_1 3 rfl rfl)
abbrev cX8_with : ByteArray := prog_11_method_2_code
def yX8_with : MethodName := ⟨RX8, "with", "(LLionGate$Ticket;)LLionGate$Lion;"⟩
def dkwX8_with_0 : List UInt8 := [187, 0, 8, 89, 42, 180, 0, 7, 42, 180, 0, 13, 42, 180, 0, 16, 43, 183, 0, 23, 176]
abbrev dktX8_with_0 : List UInt8 := dkwX8_with_0 ++ []
theorem dksX8_with_0 : cX8_with.data.toList.drop 0 = dktX8_with_0 := by decide +kernel
theorem dX8_with_0 : decode cX8_with 0 = .ok (.new 8, 3) := dk_187 0 8 (dk_at dksX8_with_0 0 rfl rfl)
theorem dX8_with_3 : decode cX8_with 3 = .ok (.dup, 1) := dk_89 (dk_at dksX8_with_0 3 rfl rfl)
theorem dX8_with_4 : decode cX8_with 4 = .ok (.aload_n 0, 1) := dk_42 (dk_at dksX8_with_0 4 rfl rfl)
theorem dX8_with_5 : decode cX8_with 5 = .ok (.getfield 7, 3) := dk_180 0 7 (dk_at dksX8_with_0 5 rfl rfl)
theorem dX8_with_8 : decode cX8_with 8 = .ok (.aload_n 0, 1) := dk_42 (dk_at dksX8_with_0 8 rfl rfl)
theorem dX8_with_9 : decode cX8_with 9 = .ok (.getfield 13, 3) := dk_180 0 13 (dk_at dksX8_with_0 9 rfl rfl)
theorem dX8_with_12 : decode cX8_with 12 = .ok (.aload_n 0, 1) := dk_42 (dk_at dksX8_with_0 12 rfl rfl)
theorem dX8_with_13 : decode cX8_with 13 = .ok (.getfield 16, 3) := dk_180 0 16 (dk_at dksX8_with_0 13 rfl rfl)
theorem dX8_with_16 : decode cX8_with 16 = .ok (.aload_n 1, 1) := dk_43 (dk_at dksX8_with_0 16 rfl rfl)
theorem dX8_with_17 : decode cX8_with 17 = .ok (.invokespecial 23, 3) := dk_183 0 23 (dk_at dksX8_with_0 17 rfl rfl)
theorem dX8_with_20 : decode cX8_with 20 = .ok (.areturn, 1) := dk_176 (dk_at dksX8_with_0 20 rfl rfl)
abbrev cJ13_init : ByteArray := prog_57_method_3_code
def yJ13_init : MethodName := ⟨RJ13, "<init>", "()V"⟩
def dkwJ13_init_0 : List UInt8 := [42, 183, 0, 42, 42, 16, 17, 189, 0, 47, 181, 0, 3, 177]
abbrev dktJ13_init_0 : List UInt8 := dkwJ13_init_0 ++ []
theorem dksJ13_init_0 : cJ13_init.data.toList.drop 0 = dktJ13_init_0 := by decide +kernel
theorem dJ13_init_0 : decode cJ13_init 0 = .ok (.aload_n 0, 1) := dk_42 (dk_at dksJ13_init_0 0 rfl rfl)
theorem dJ13_init_1 : decode cJ13_init 1 = .ok (.invokespecial 42, 3) := dk_183 0 42 (dk_at dksJ13_init_0 1 rfl rfl)
theorem dJ13_init_4 : decode cJ13_init 4 = .ok (.aload_n 0, 1) := dk_42 (dk_at dksJ13_init_0 4 rfl rfl)
theorem dJ13_init_5 : decode cJ13_init 5 = .ok (.bipush 17, 2) := dk_16 17 (dk_at dksJ13_init_0 5 rfl rfl)
theorem dJ13_init_7 : decode cJ13_init 7 = .ok (.anewarray 47, 3) := dk_189 0 47 (dk_at dksJ13_init_0 7 rfl rfl)
theorem dJ13_init_10 : decode cJ13_init 10 = .ok (.putfield 3, 3) := dk_181 0 3 (dk_at dksJ13_init_0 10 rfl rfl)
theorem dJ13_init_13 : decode cJ13_init 13 = .ok (.return_, 1) := dk_177 (dk_at dksJ13_init_0 13 rfl rfl)
abbrev cJ13_isEmpty : ByteArray := prog_57_method_38_code
def yJ13_isEmpty : MethodName := ⟨RJ13, "isEmpty", "()Z"⟩
def dkwJ13_isEmpty_0 : List UInt8 := [42, 180, 0, 24, 42, 180, 0, 20, 160, 0, 7, 4, 167, 0, 4, 3, 172]
abbrev dktJ13_isEmpty_0 : List UInt8 := dkwJ13_isEmpty_0 ++ []
theorem dksJ13_isEmpty_0 : cJ13_isEmpty.data.toList.drop 0 = dktJ13_isEmpty_0 := by decide +kernel
theorem dJ13_isEmpty_0 : decode cJ13_isEmpty 0 = .ok (.aload_n 0, 1) := dk_42 (dk_at dksJ13_isEmpty_0 0 rfl rfl)
theorem dJ13_isEmpty_1 : decode cJ13_isEmpty 1 = .ok (.getfield 24, 3) := dk_180 0 24 (dk_at dksJ13_isEmpty_0 1 rfl rfl)
theorem dJ13_isEmpty_4 : decode cJ13_isEmpty 4 = .ok (.aload_n 0, 1) := dk_42 (dk_at dksJ13_isEmpty_0 4 rfl rfl)
theorem dJ13_isEmpty_5 : decode cJ13_isEmpty 5 = .ok (.getfield 20, 3) := dk_180 0 20 (dk_at dksJ13_isEmpty_0 5 rfl rfl)
theorem dJ13_isEmpty_8 : decode cJ13_isEmpty 8 = .ok (.if_icmp .ne 7, 3) := dk_160 0 7 (dk_at dksJ13_isEmpty_0 8 rfl rfl)
theorem dJ13_isEmpty_11 : decode cJ13_isEmpty 11 = .ok (.iconst 1, 1) := dk_4 (dk_at dksJ13_isEmpty_0 11 rfl rfl)
theorem dJ13_isEmpty_12 : decode cJ13_isEmpty 12 = .ok (.goto 4, 3) := dk_167 0 4 (dk_at dksJ13_isEmpty_0 12 rfl rfl)
theorem dJ13_isEmpty_15 : decode cJ13_isEmpty 15 = .ok (.iconst 0, 1) := dk_3 (dk_at dksJ13_isEmpty_0 15 rfl rfl)
theorem dJ13_isEmpty_16 : decode cJ13_isEmpty 16 = .ok (.ireturn, 1) := dk_172 (dk_at dksJ13_isEmpty_0 16 rfl rfl)
abbrev cJ13_elementAt : ByteArray := prog_57_method_10_code
def yJ13_elementAt : MethodName := ⟨RJ13, "elementAt", "([Ljava/lang/Object;I)Ljava/lang/Object;"⟩
def dkwJ13_elementAt_0 : List UInt8 := [42, 27, 50, 176]
abbrev dktJ13_elementAt_0 : List UInt8 := dkwJ13_elementAt_0 ++ []
theorem dksJ13_elementAt_0 : cJ13_elementAt.data.toList.drop 0 = dktJ13_elementAt_0 := by decide +kernel
theorem dJ13_elementAt_0 : decode cJ13_elementAt 0 = .ok (.aload_n 0, 1) := dk_42 (dk_at dksJ13_elementAt_0 0 rfl rfl)
theorem dJ13_elementAt_1 : decode cJ13_elementAt 1 = .ok (.iload_n 1, 1) := dk_27 (dk_at dksJ13_elementAt_0 1 rfl rfl)
theorem dJ13_elementAt_2 : decode cJ13_elementAt 2 = .ok (.aaload, 1) := dk_50 (dk_at dksJ13_elementAt_0 2 rfl rfl)
theorem dJ13_elementAt_3 : decode cJ13_elementAt 3 = .ok (.areturn, 1) := dk_176 (dk_at dksJ13_elementAt_0 3 rfl rfl)
abbrev cJ13_inc : ByteArray := prog_57_method_6_code
def yJ13_inc : MethodName := ⟨RJ13, "inc", "(II)I"⟩
def dkwJ13_inc_0 : List UInt8 := [132, 0, 1, 26, 27, 161, 0, 5, 3, 59, 26, 172]
abbrev dktJ13_inc_0 : List UInt8 := dkwJ13_inc_0 ++ []
theorem dksJ13_inc_0 : cJ13_inc.data.toList.drop 0 = dktJ13_inc_0 := by decide +kernel
theorem dJ13_inc_0 : decode cJ13_inc 0 = .ok (.iinc 0 1, 3) := dk_132 0 1 (dk_at dksJ13_inc_0 0 rfl rfl)
theorem dJ13_inc_3 : decode cJ13_inc 3 = .ok (.iload_n 0, 1) := dk_26 (dk_at dksJ13_inc_0 3 rfl rfl)
theorem dJ13_inc_4 : decode cJ13_inc 4 = .ok (.iload_n 1, 1) := dk_27 (dk_at dksJ13_inc_0 4 rfl rfl)
theorem dJ13_inc_5 : decode cJ13_inc 5 = .ok (.if_icmp .lt 5, 3) := dk_161 0 5 (dk_at dksJ13_inc_0 5 rfl rfl)
theorem dJ13_inc_8 : decode cJ13_inc 8 = .ok (.iconst 0, 1) := dk_3 (dk_at dksJ13_inc_0 8 rfl rfl)
theorem dJ13_inc_9 : decode cJ13_inc 9 = .ok (.istore_n 0, 1) := dk_59 (dk_at dksJ13_inc_0 9 rfl rfl)
theorem dJ13_inc_10 : decode cJ13_inc 10 = .ok (.iload_n 0, 1) := dk_26 (dk_at dksJ13_inc_0 10 rfl rfl)
theorem dJ13_inc_11 : decode cJ13_inc 11 = .ok (.ireturn, 1) := dk_172 (dk_at dksJ13_inc_0 11 rfl rfl)
abbrev cJ13_pollFirst : ByteArray := prog_57_method_20_code
def yJ13_pollFirst : MethodName := ⟨RJ13, "pollFirst", "()Ljava/lang/Object;"⟩
def dkwJ13_pollFirst_1 : List UInt8 := [42, 28, 43, 190, 184, 0, 74, 181, 0, 24, 45, 176]
abbrev dktJ13_pollFirst_1 : List UInt8 := dkwJ13_pollFirst_1 ++ []
def dkwJ13_pollFirst_0 : List UInt8 := [42, 180, 0, 3, 89, 76, 42, 180, 0, 24, 89, 61, 184, 0, 103, 78, 45, 198, 0, 17, 43, 28, 1, 83]
abbrev dktJ13_pollFirst_0 : List UInt8 := dkwJ13_pollFirst_0 ++ dktJ13_pollFirst_1
theorem dksJ13_pollFirst_0 : cJ13_pollFirst.data.toList.drop 0 = dktJ13_pollFirst_0 := by decide +kernel
theorem dksJ13_pollFirst_1 : cJ13_pollFirst.data.toList.drop 24 = dktJ13_pollFirst_1 := dk_seg dksJ13_pollFirst_0 24 rfl rfl
theorem dJ13_pollFirst_0 : decode cJ13_pollFirst 0 = .ok (.aload_n 0, 1) := dk_42 (dk_at dksJ13_pollFirst_0 0 rfl rfl)
theorem dJ13_pollFirst_1 : decode cJ13_pollFirst 1 = .ok (.getfield 3, 3) := dk_180 0 3 (dk_at dksJ13_pollFirst_0 1 rfl rfl)
theorem dJ13_pollFirst_4 : decode cJ13_pollFirst 4 = .ok (.dup, 1) := dk_89 (dk_at dksJ13_pollFirst_0 4 rfl rfl)
theorem dJ13_pollFirst_5 : decode cJ13_pollFirst 5 = .ok (.astore_n 1, 1) := dk_76 (dk_at dksJ13_pollFirst_0 5 rfl rfl)
theorem dJ13_pollFirst_6 : decode cJ13_pollFirst 6 = .ok (.aload_n 0, 1) := dk_42 (dk_at dksJ13_pollFirst_0 6 rfl rfl)
theorem dJ13_pollFirst_7 : decode cJ13_pollFirst 7 = .ok (.getfield 24, 3) := dk_180 0 24 (dk_at dksJ13_pollFirst_0 7 rfl rfl)
theorem dJ13_pollFirst_10 : decode cJ13_pollFirst 10 = .ok (.dup, 1) := dk_89 (dk_at dksJ13_pollFirst_0 10 rfl rfl)
theorem dJ13_pollFirst_11 : decode cJ13_pollFirst 11 = .ok (.istore_n 2, 1) := dk_61 (dk_at dksJ13_pollFirst_0 11 rfl rfl)
theorem dJ13_pollFirst_12 : decode cJ13_pollFirst 12 = .ok (.invokestatic 103, 3) := dk_184 0 103 (dk_at dksJ13_pollFirst_0 12 rfl rfl)
theorem dJ13_pollFirst_15 : decode cJ13_pollFirst 15 = .ok (.astore_n 3, 1) := dk_78 (dk_at dksJ13_pollFirst_0 15 rfl rfl)
theorem dJ13_pollFirst_16 : decode cJ13_pollFirst 16 = .ok (.aload_n 3, 1) := dk_45 (dk_at dksJ13_pollFirst_0 16 rfl rfl)
theorem dJ13_pollFirst_17 : decode cJ13_pollFirst 17 = .ok (.ifnull 17, 3) := dk_198 0 17 (dk_at dksJ13_pollFirst_0 17 rfl rfl)
theorem dJ13_pollFirst_20 : decode cJ13_pollFirst 20 = .ok (.aload_n 1, 1) := dk_43 (dk_at dksJ13_pollFirst_0 20 rfl rfl)
theorem dJ13_pollFirst_21 : decode cJ13_pollFirst 21 = .ok (.iload_n 2, 1) := dk_28 (dk_at dksJ13_pollFirst_0 21 rfl rfl)
theorem dJ13_pollFirst_22 : decode cJ13_pollFirst 22 = .ok (.aconst_null, 1) := dk_1 (dk_at dksJ13_pollFirst_0 22 rfl rfl)
theorem dJ13_pollFirst_23 : decode cJ13_pollFirst 23 = .ok (.aastore, 1) := dk_83 (dk_at dksJ13_pollFirst_0 23 rfl rfl)
theorem dJ13_pollFirst_24 : decode cJ13_pollFirst 24 = .ok (.aload_n 0, 1) := dk_42 (dk_at dksJ13_pollFirst_1 0 rfl rfl)
theorem dJ13_pollFirst_25 : decode cJ13_pollFirst 25 = .ok (.iload_n 2, 1) := dk_28 (dk_at dksJ13_pollFirst_1 1 rfl rfl)
theorem dJ13_pollFirst_26 : decode cJ13_pollFirst 26 = .ok (.aload_n 1, 1) := dk_43 (dk_at dksJ13_pollFirst_1 2 rfl rfl)
theorem dJ13_pollFirst_27 : decode cJ13_pollFirst 27 = .ok (.arraylength, 1) := dk_190 (dk_at dksJ13_pollFirst_1 3 rfl rfl)
theorem dJ13_pollFirst_28 : decode cJ13_pollFirst 28 = .ok (.invokestatic 74, 3) := dk_184 0 74 (dk_at dksJ13_pollFirst_1 4 rfl rfl)
theorem dJ13_pollFirst_31 : decode cJ13_pollFirst 31 = .ok (.putfield 24, 3) := dk_181 0 24 (dk_at dksJ13_pollFirst_1 7 rfl rfl)
theorem dJ13_pollFirst_34 : decode cJ13_pollFirst 34 = .ok (.aload_n 3, 1) := dk_45 (dk_at dksJ13_pollFirst_1 10 rfl rfl)
theorem dJ13_pollFirst_35 : decode cJ13_pollFirst 35 = .ok (.areturn, 1) := dk_176 (dk_at dksJ13_pollFirst_1 11 rfl rfl)
abbrev cJ13_removeFirst : ByteArray := prog_57_method_18_code
def yJ13_removeFirst : MethodName := ⟨RJ13, "removeFirst", "()Ljava/lang/Object;"⟩
def dkwJ13_removeFirst_0 : List UInt8 := [42, 182, 0, 93, 76, 43, 199, 0, 11, 187, 0, 97, 89, 183, 0, 99, 191, 43, 176]
abbrev dktJ13_removeFirst_0 : List UInt8 := dkwJ13_removeFirst_0 ++ []
theorem dksJ13_removeFirst_0 : cJ13_removeFirst.data.toList.drop 0 = dktJ13_removeFirst_0 := by decide +kernel
theorem dJ13_removeFirst_0 : decode cJ13_removeFirst 0 = .ok (.aload_n 0, 1) := dk_42 (dk_at dksJ13_removeFirst_0 0 rfl rfl)
theorem dJ13_removeFirst_1 : decode cJ13_removeFirst 1 = .ok (.invokevirtual 93, 3) := dk_182 0 93 (dk_at dksJ13_removeFirst_0 1 rfl rfl)
theorem dJ13_removeFirst_4 : decode cJ13_removeFirst 4 = .ok (.astore_n 1, 1) := dk_76 (dk_at dksJ13_removeFirst_0 4 rfl rfl)
theorem dJ13_removeFirst_5 : decode cJ13_removeFirst 5 = .ok (.aload_n 1, 1) := dk_43 (dk_at dksJ13_removeFirst_0 5 rfl rfl)
theorem dJ13_removeFirst_6 : decode cJ13_removeFirst 6 = .ok (.ifnonnull 11, 3) := dk_199 0 11 (dk_at dksJ13_removeFirst_0 6 rfl rfl)
theorem dJ13_removeFirst_9 : decode cJ13_removeFirst 9 = .ok (.new 97, 3) := dk_187 0 97 (dk_at dksJ13_removeFirst_0 9 rfl rfl)
theorem dJ13_removeFirst_17 : decode cJ13_removeFirst 17 = .ok (.aload_n 1, 1) := dk_43 (dk_at dksJ13_removeFirst_0 17 rfl rfl)
theorem dJ13_removeFirst_18 : decode cJ13_removeFirst 18 = .ok (.areturn, 1) := dk_176 (dk_at dksJ13_removeFirst_0 18 rfl rfl)
abbrev cJ13_pop : ByteArray := prog_57_method_35_code
def yJ13_pop : MethodName := ⟨RJ13, "pop", "()Ljava/lang/Object;"⟩
theorem dJ13_pop_0 : decode cJ13_pop 0 = .ok (.aload_n 0, 1) := by decide +kernel
theorem dJ13_pop_1 : decode cJ13_pop 1 = .ok (.invokevirtual 118, 3) := by decide +kernel
theorem dJ13_pop_4 : decode cJ13_pop 4 = .ok (.areturn, 1) := by decide +kernel
abbrev cJ13_dec : ByteArray := prog_57_method_7_code
def yJ13_dec : MethodName := ⟨RJ13, "dec", "(II)I"⟩
def dkwJ13_dec_0 : List UInt8 := [132, 0, 255, 26, 156, 0, 7, 27, 4, 100, 59, 26, 172]
abbrev dktJ13_dec_0 : List UInt8 := dkwJ13_dec_0 ++ []
theorem dksJ13_dec_0 : cJ13_dec.data.toList.drop 0 = dktJ13_dec_0 := by decide +kernel
theorem dJ13_dec_0 : decode cJ13_dec 0 = .ok (.iinc 0 (-1), 3) := dk_132 0 255 (dk_at dksJ13_dec_0 0 rfl rfl)
theorem dJ13_dec_3 : decode cJ13_dec 3 = .ok (.iload_n 0, 1) := dk_26 (dk_at dksJ13_dec_0 3 rfl rfl)
theorem dJ13_dec_4 : decode cJ13_dec 4 = .ok (.ifCond .ge 7, 3) := dk_156 0 7 (dk_at dksJ13_dec_0 4 rfl rfl)
theorem dJ13_dec_7 : decode cJ13_dec 7 = .ok (.iload_n 1, 1) := dk_27 (dk_at dksJ13_dec_0 7 rfl rfl)
theorem dJ13_dec_8 : decode cJ13_dec 8 = .ok (.iconst 1, 1) := dk_4 (dk_at dksJ13_dec_0 8 rfl rfl)
theorem dJ13_dec_9 : decode cJ13_dec 9 = .ok (.isub, 1) := dk_100 (dk_at dksJ13_dec_0 9 rfl rfl)
theorem dJ13_dec_10 : decode cJ13_dec 10 = .ok (.istore_n 0, 1) := dk_59 (dk_at dksJ13_dec_0 10 rfl rfl)
theorem dJ13_dec_11 : decode cJ13_dec 11 = .ok (.iload_n 0, 1) := dk_26 (dk_at dksJ13_dec_0 11 rfl rfl)
theorem dJ13_dec_12 : decode cJ13_dec 12 = .ok (.ireturn, 1) := dk_172 (dk_at dksJ13_dec_0 12 rfl rfl)
abbrev cJ13_newCapacity : ByteArray := prog_57_method_2_code
def yJ13_newCapacity : MethodName := ⟨RJ13, "newCapacity", "(II)I"⟩
def dkwJ13_newCapacity_2 : List UInt8 := [18, 9, 100, 156, 0, 9, 29, 28, 96, 167, 0, 5, 18, 9, 172]
abbrev dktJ13_newCapacity_2 : List UInt8 := dkwJ13_newCapacity_2 ++ []
def dkwJ13_newCapacity_1 : List UInt8 := [187, 0, 33, 89, 18, 35, 183, 0, 37, 191, 18, 41, 172, 27, 28, 164, 0, 6, 21, 4, 172, 29, 28, 96]
abbrev dktJ13_newCapacity_1 : List UInt8 := dkwJ13_newCapacity_1 ++ dktJ13_newCapacity_2
def dkwJ13_newCapacity_0 : List UInt8 := [42, 180, 0, 3, 190, 62, 29, 27, 96, 89, 54, 4, 18, 9, 100, 158, 0, 21, 21, 4, 156, 0, 13]
abbrev dktJ13_newCapacity_0 : List UInt8 := dkwJ13_newCapacity_0 ++ dktJ13_newCapacity_1
theorem dksJ13_newCapacity_0 : cJ13_newCapacity.data.toList.drop 0 = dktJ13_newCapacity_0 := by decide +kernel
theorem dksJ13_newCapacity_1 : cJ13_newCapacity.data.toList.drop 23 = dktJ13_newCapacity_1 := dk_seg dksJ13_newCapacity_0 23 rfl rfl
theorem dksJ13_newCapacity_2 : cJ13_newCapacity.data.toList.drop 47 = dktJ13_newCapacity_2 := dk_seg dksJ13_newCapacity_1 24 rfl rfl
theorem dJ13_newCapacity_0 : decode cJ13_newCapacity 0 = .ok (.aload_n 0, 1) := dk_42 (dk_at dksJ13_newCapacity_0 0 rfl rfl)
theorem dJ13_newCapacity_1 : decode cJ13_newCapacity 1 = .ok (.getfield 3, 3) := dk_180 0 3 (dk_at dksJ13_newCapacity_0 1 rfl rfl)
theorem dJ13_newCapacity_4 : decode cJ13_newCapacity 4 = .ok (.arraylength, 1) := dk_190 (dk_at dksJ13_newCapacity_0 4 rfl rfl)
theorem dJ13_newCapacity_5 : decode cJ13_newCapacity 5 = .ok (.istore_n 3, 1) := dk_62 (dk_at dksJ13_newCapacity_0 5 rfl rfl)
theorem dJ13_newCapacity_6 : decode cJ13_newCapacity 6 = .ok (.iload_n 3, 1) := dk_29 (dk_at dksJ13_newCapacity_0 6 rfl rfl)
theorem dJ13_newCapacity_7 : decode cJ13_newCapacity 7 = .ok (.iload_n 1, 1) := dk_27 (dk_at dksJ13_newCapacity_0 7 rfl rfl)
theorem dJ13_newCapacity_8 : decode cJ13_newCapacity 8 = .ok (.iadd, 1) := dk_96 (dk_at dksJ13_newCapacity_0 8 rfl rfl)
theorem dJ13_newCapacity_9 : decode cJ13_newCapacity 9 = .ok (.dup, 1) := dk_89 (dk_at dksJ13_newCapacity_0 9 rfl rfl)
theorem dJ13_newCapacity_10 : decode cJ13_newCapacity 10 = .ok (.istore 4, 2) := dk_54 4 (dk_at dksJ13_newCapacity_0 10 rfl rfl)
theorem dJ13_newCapacity_12 : decode cJ13_newCapacity 12 = .ok (.ldc 9, 2) := dk_18 9 (dk_at dksJ13_newCapacity_0 12 rfl rfl)
theorem dJ13_newCapacity_14 : decode cJ13_newCapacity 14 = .ok (.isub, 1) := dk_100 (dk_at dksJ13_newCapacity_0 14 rfl rfl)
theorem dJ13_newCapacity_15 : decode cJ13_newCapacity 15 = .ok (.ifCond .le 21, 3) := dk_158 0 21 (dk_at dksJ13_newCapacity_0 15 rfl rfl)
theorem dJ13_newCapacity_18 : decode cJ13_newCapacity 18 = .ok (.iload 4, 2) := dk_21 4 (dk_at dksJ13_newCapacity_0 18 rfl rfl)
theorem dJ13_newCapacity_20 : decode cJ13_newCapacity 20 = .ok (.ifCond .ge 13, 3) := dk_156 0 13 (dk_at dksJ13_newCapacity_0 20 rfl rfl)
theorem dJ13_newCapacity_23 : decode cJ13_newCapacity 23 = .ok (.new 33, 3) := dk_187 0 33 (dk_at dksJ13_newCapacity_1 0 rfl rfl)
theorem dJ13_newCapacity_33 : decode cJ13_newCapacity 33 = .ok (.ldc 41, 2) := dk_18 41 (dk_at dksJ13_newCapacity_1 10 rfl rfl)
theorem dJ13_newCapacity_35 : decode cJ13_newCapacity 35 = .ok (.ireturn, 1) := dk_172 (dk_at dksJ13_newCapacity_1 12 rfl rfl)
theorem dJ13_newCapacity_36 : decode cJ13_newCapacity 36 = .ok (.iload_n 1, 1) := dk_27 (dk_at dksJ13_newCapacity_1 13 rfl rfl)
theorem dJ13_newCapacity_37 : decode cJ13_newCapacity 37 = .ok (.iload_n 2, 1) := dk_28 (dk_at dksJ13_newCapacity_1 14 rfl rfl)
theorem dJ13_newCapacity_38 : decode cJ13_newCapacity 38 = .ok (.if_icmp .le 6, 3) := dk_164 0 6 (dk_at dksJ13_newCapacity_1 15 rfl rfl)
theorem dJ13_newCapacity_41 : decode cJ13_newCapacity 41 = .ok (.iload 4, 2) := dk_21 4 (dk_at dksJ13_newCapacity_1 18 rfl rfl)
theorem dJ13_newCapacity_43 : decode cJ13_newCapacity 43 = .ok (.ireturn, 1) := dk_172 (dk_at dksJ13_newCapacity_1 20 rfl rfl)
theorem dJ13_newCapacity_44 : decode cJ13_newCapacity 44 = .ok (.iload_n 3, 1) := dk_29 (dk_at dksJ13_newCapacity_1 21 rfl rfl)
theorem dJ13_newCapacity_45 : decode cJ13_newCapacity 45 = .ok (.iload_n 2, 1) := dk_28 (dk_at dksJ13_newCapacity_1 22 rfl rfl)
theorem dJ13_newCapacity_46 : decode cJ13_newCapacity 46 = .ok (.iadd, 1) := dk_96 (dk_at dksJ13_newCapacity_1 23 rfl rfl)
theorem dJ13_newCapacity_47 : decode cJ13_newCapacity 47 = .ok (.ldc 9, 2) := dk_18 9 (dk_at dksJ13_newCapacity_2 0 rfl rfl)
theorem dJ13_newCapacity_49 : decode cJ13_newCapacity 49 = .ok (.isub, 1) := dk_100 (dk_at dksJ13_newCapacity_2 2 rfl rfl)
theorem dJ13_newCapacity_50 : decode cJ13_newCapacity 50 = .ok (.ifCond .ge 9, 3) := dk_156 0 9 (dk_at dksJ13_newCapacity_2 3 rfl rfl)
theorem dJ13_newCapacity_53 : decode cJ13_newCapacity 53 = .ok (.iload_n 3, 1) := dk_29 (dk_at dksJ13_newCapacity_2 6 rfl rfl)
theorem dJ13_newCapacity_54 : decode cJ13_newCapacity 54 = .ok (.iload_n 2, 1) := dk_28 (dk_at dksJ13_newCapacity_2 7 rfl rfl)
theorem dJ13_newCapacity_55 : decode cJ13_newCapacity 55 = .ok (.iadd, 1) := dk_96 (dk_at dksJ13_newCapacity_2 8 rfl rfl)
theorem dJ13_newCapacity_56 : decode cJ13_newCapacity 56 = .ok (.goto 5, 3) := dk_167 0 5 (dk_at dksJ13_newCapacity_2 9 rfl rfl)
theorem dJ13_newCapacity_59 : decode cJ13_newCapacity 59 = .ok (.ldc 9, 2) := dk_18 9 (dk_at dksJ13_newCapacity_2 12 rfl rfl)
theorem dJ13_newCapacity_61 : decode cJ13_newCapacity 61 = .ok (.ireturn, 1) := dk_172 (dk_at dksJ13_newCapacity_2 14 rfl rfl)
abbrev cJ13_grow : ByteArray := prog_57_method_1_code
def yJ13_grow : MethodName := ⟨RJ13, "grow", "(I)V"⟩
def dkwJ13_grow_7 : List UInt8 := [177]
abbrev dktJ13_grow_7 : List UInt8 := dkwJ13_grow_7 ++ []
def dkwJ13_grow_6 : List UInt8 := [181, 0, 24, 54, 8, 21, 7, 21, 8, 162, 0, 15, 25, 5, 21, 7, 1, 83, 132, 7, 1, 167, 255, 240]
abbrev dktJ13_grow_6 : List UInt8 := dkwJ13_grow_6 ++ dktJ13_grow_7
def dkwJ13_grow_5 : List UInt8 := [42, 180, 0, 24, 100, 184, 0, 27, 42, 180, 0, 24, 54, 7, 42, 89, 180, 0, 24, 21, 6, 96, 90]
abbrev dktJ13_grow_5 : List UInt8 := dkwJ13_grow_5 ++ dktJ13_grow_6
def dkwJ13_grow_4 : List UInt8 := [198, 0, 71, 29, 28, 100, 54, 6, 25, 5, 42, 180, 0, 24, 25, 5, 42, 180, 0, 24, 21, 6, 96, 28]
abbrev dktJ13_grow_4 : List UInt8 := dkwJ13_grow_4 ++ dktJ13_grow_5
def dkwJ13_grow_3 : List UInt8 := [180, 0, 24, 161, 0, 24, 42, 180, 0, 20, 42, 180, 0, 24, 160, 0, 81, 25, 5, 42, 180, 0, 24, 50]
abbrev dktJ13_grow_3 : List UInt8 := dkwJ13_grow_3 ++ dktJ13_grow_4
def dkwJ13_grow_2 : List UInt8 := [182, 0, 10, 62, 42, 42, 180, 0, 3, 29, 184, 0, 14, 90, 181, 0, 3, 58, 5, 42, 180, 0, 20, 42]
abbrev dktJ13_grow_2 : List UInt8 := dkwJ13_grow_2 ++ dktJ13_grow_3
def dkwJ13_grow_1 : List UInt8 := [21, 4, 27, 161, 0, 15, 28, 21, 4, 96, 89, 62, 18, 9, 100, 158, 0, 11, 42, 27, 21, 4]
abbrev dktJ13_grow_1 : List UInt8 := dkwJ13_grow_1 ++ dktJ13_grow_2
def dkwJ13_grow_0 : List UInt8 := [42, 180, 0, 3, 190, 61, 28, 16, 64, 162, 0, 9, 28, 5, 96, 167, 0, 6, 28, 4, 122, 54, 4]
abbrev dktJ13_grow_0 : List UInt8 := dkwJ13_grow_0 ++ dktJ13_grow_1
theorem dksJ13_grow_0 : cJ13_grow.data.toList.drop 0 = dktJ13_grow_0 := by decide +kernel
theorem dksJ13_grow_1 : cJ13_grow.data.toList.drop 23 = dktJ13_grow_1 := dk_seg dksJ13_grow_0 23 rfl rfl
theorem dksJ13_grow_2 : cJ13_grow.data.toList.drop 45 = dktJ13_grow_2 := dk_seg dksJ13_grow_1 22 rfl rfl
theorem dksJ13_grow_3 : cJ13_grow.data.toList.drop 69 = dktJ13_grow_3 := dk_seg dksJ13_grow_2 24 rfl rfl
theorem dksJ13_grow_4 : cJ13_grow.data.toList.drop 93 = dktJ13_grow_4 := dk_seg dksJ13_grow_3 24 rfl rfl
theorem dksJ13_grow_5 : cJ13_grow.data.toList.drop 117 = dktJ13_grow_5 := dk_seg dksJ13_grow_4 24 rfl rfl
theorem dksJ13_grow_6 : cJ13_grow.data.toList.drop 140 = dktJ13_grow_6 := dk_seg dksJ13_grow_5 23 rfl rfl
theorem dksJ13_grow_7 : cJ13_grow.data.toList.drop 164 = dktJ13_grow_7 := dk_seg dksJ13_grow_6 24 rfl rfl
theorem dJ13_grow_0 : decode cJ13_grow 0 = .ok (.aload_n 0, 1) := dk_42 (dk_at dksJ13_grow_0 0 rfl rfl)
theorem dJ13_grow_1 : decode cJ13_grow 1 = .ok (.getfield 3, 3) := dk_180 0 3 (dk_at dksJ13_grow_0 1 rfl rfl)
theorem dJ13_grow_4 : decode cJ13_grow 4 = .ok (.arraylength, 1) := dk_190 (dk_at dksJ13_grow_0 4 rfl rfl)
theorem dJ13_grow_5 : decode cJ13_grow 5 = .ok (.istore_n 2, 1) := dk_61 (dk_at dksJ13_grow_0 5 rfl rfl)
theorem dJ13_grow_6 : decode cJ13_grow 6 = .ok (.iload_n 2, 1) := dk_28 (dk_at dksJ13_grow_0 6 rfl rfl)
theorem dJ13_grow_7 : decode cJ13_grow 7 = .ok (.bipush 64, 2) := dk_16 64 (dk_at dksJ13_grow_0 7 rfl rfl)
theorem dJ13_grow_9 : decode cJ13_grow 9 = .ok (.if_icmp .ge 9, 3) := dk_162 0 9 (dk_at dksJ13_grow_0 9 rfl rfl)
theorem dJ13_grow_12 : decode cJ13_grow 12 = .ok (.iload_n 2, 1) := dk_28 (dk_at dksJ13_grow_0 12 rfl rfl)
theorem dJ13_grow_13 : decode cJ13_grow 13 = .ok (.iconst 2, 1) := dk_5 (dk_at dksJ13_grow_0 13 rfl rfl)
theorem dJ13_grow_14 : decode cJ13_grow 14 = .ok (.iadd, 1) := dk_96 (dk_at dksJ13_grow_0 14 rfl rfl)
theorem dJ13_grow_15 : decode cJ13_grow 15 = .ok (.goto 6, 3) := dk_167 0 6 (dk_at dksJ13_grow_0 15 rfl rfl)
theorem dJ13_grow_18 : decode cJ13_grow 18 = .ok (.iload_n 2, 1) := dk_28 (dk_at dksJ13_grow_0 18 rfl rfl)
theorem dJ13_grow_19 : decode cJ13_grow 19 = .ok (.iconst 1, 1) := dk_4 (dk_at dksJ13_grow_0 19 rfl rfl)
theorem dJ13_grow_20 : decode cJ13_grow 20 = .ok (.ishr, 1) := dk_122 (dk_at dksJ13_grow_0 20 rfl rfl)
theorem dJ13_grow_21 : decode cJ13_grow 21 = .ok (.istore 4, 2) := dk_54 4 (dk_at dksJ13_grow_0 21 rfl rfl)
theorem dJ13_grow_23 : decode cJ13_grow 23 = .ok (.iload 4, 2) := dk_21 4 (dk_at dksJ13_grow_1 0 rfl rfl)
theorem dJ13_grow_25 : decode cJ13_grow 25 = .ok (.iload_n 1, 1) := dk_27 (dk_at dksJ13_grow_1 2 rfl rfl)
theorem dJ13_grow_26 : decode cJ13_grow 26 = .ok (.if_icmp .lt 15, 3) := dk_161 0 15 (dk_at dksJ13_grow_1 3 rfl rfl)
theorem dJ13_grow_29 : decode cJ13_grow 29 = .ok (.iload_n 2, 1) := dk_28 (dk_at dksJ13_grow_1 6 rfl rfl)
theorem dJ13_grow_30 : decode cJ13_grow 30 = .ok (.iload 4, 2) := dk_21 4 (dk_at dksJ13_grow_1 7 rfl rfl)
theorem dJ13_grow_32 : decode cJ13_grow 32 = .ok (.iadd, 1) := dk_96 (dk_at dksJ13_grow_1 9 rfl rfl)
theorem dJ13_grow_33 : decode cJ13_grow 33 = .ok (.dup, 1) := dk_89 (dk_at dksJ13_grow_1 10 rfl rfl)
theorem dJ13_grow_34 : decode cJ13_grow 34 = .ok (.istore_n 3, 1) := dk_62 (dk_at dksJ13_grow_1 11 rfl rfl)
theorem dJ13_grow_35 : decode cJ13_grow 35 = .ok (.ldc 9, 2) := dk_18 9 (dk_at dksJ13_grow_1 12 rfl rfl)
theorem dJ13_grow_37 : decode cJ13_grow 37 = .ok (.isub, 1) := dk_100 (dk_at dksJ13_grow_1 14 rfl rfl)
theorem dJ13_grow_38 : decode cJ13_grow 38 = .ok (.ifCond .le 11, 3) := dk_158 0 11 (dk_at dksJ13_grow_1 15 rfl rfl)
theorem dJ13_grow_41 : decode cJ13_grow 41 = .ok (.aload_n 0, 1) := dk_42 (dk_at dksJ13_grow_1 18 rfl rfl)
theorem dJ13_grow_42 : decode cJ13_grow 42 = .ok (.iload_n 1, 1) := dk_27 (dk_at dksJ13_grow_1 19 rfl rfl)
theorem dJ13_grow_43 : decode cJ13_grow 43 = .ok (.iload 4, 2) := dk_21 4 (dk_at dksJ13_grow_1 20 rfl rfl)
theorem dJ13_grow_45 : decode cJ13_grow 45 = .ok (.invokevirtual 10, 3) := dk_182 0 10 (dk_at dksJ13_grow_2 0 rfl rfl)
theorem dJ13_grow_48 : decode cJ13_grow 48 = .ok (.istore_n 3, 1) := dk_62 (dk_at dksJ13_grow_2 3 rfl rfl)
theorem dJ13_grow_49 : decode cJ13_grow 49 = .ok (.aload_n 0, 1) := dk_42 (dk_at dksJ13_grow_2 4 rfl rfl)
theorem dJ13_grow_50 : decode cJ13_grow 50 = .ok (.aload_n 0, 1) := dk_42 (dk_at dksJ13_grow_2 5 rfl rfl)
theorem dJ13_grow_51 : decode cJ13_grow 51 = .ok (.getfield 3, 3) := dk_180 0 3 (dk_at dksJ13_grow_2 6 rfl rfl)
theorem dJ13_grow_54 : decode cJ13_grow 54 = .ok (.iload_n 3, 1) := dk_29 (dk_at dksJ13_grow_2 9 rfl rfl)
theorem dJ13_grow_55 : decode cJ13_grow 55 = .ok (.invokestatic 14, 3) := dk_184 0 14 (dk_at dksJ13_grow_2 10 rfl rfl)
theorem dJ13_grow_58 : decode cJ13_grow 58 = .ok (.dup_x1, 1) := dk_90 (dk_at dksJ13_grow_2 13 rfl rfl)
theorem dJ13_grow_59 : decode cJ13_grow 59 = .ok (.putfield 3, 3) := dk_181 0 3 (dk_at dksJ13_grow_2 14 rfl rfl)
theorem dJ13_grow_62 : decode cJ13_grow 62 = .ok (.astore 5, 2) := dk_58 5 (dk_at dksJ13_grow_2 17 rfl rfl)
theorem dJ13_grow_64 : decode cJ13_grow 64 = .ok (.aload_n 0, 1) := dk_42 (dk_at dksJ13_grow_2 19 rfl rfl)
theorem dJ13_grow_65 : decode cJ13_grow 65 = .ok (.getfield 20, 3) := dk_180 0 20 (dk_at dksJ13_grow_2 20 rfl rfl)
theorem dJ13_grow_68 : decode cJ13_grow 68 = .ok (.aload_n 0, 1) := dk_42 (dk_at dksJ13_grow_2 23 rfl rfl)
theorem dJ13_grow_69 : decode cJ13_grow 69 = .ok (.getfield 24, 3) := dk_180 0 24 (dk_at dksJ13_grow_3 0 rfl rfl)
theorem dJ13_grow_72 : decode cJ13_grow 72 = .ok (.if_icmp .lt 24, 3) := dk_161 0 24 (dk_at dksJ13_grow_3 3 rfl rfl)
theorem dJ13_grow_75 : decode cJ13_grow 75 = .ok (.aload_n 0, 1) := dk_42 (dk_at dksJ13_grow_3 6 rfl rfl)
theorem dJ13_grow_76 : decode cJ13_grow 76 = .ok (.getfield 20, 3) := dk_180 0 20 (dk_at dksJ13_grow_3 7 rfl rfl)
theorem dJ13_grow_79 : decode cJ13_grow 79 = .ok (.aload_n 0, 1) := dk_42 (dk_at dksJ13_grow_3 10 rfl rfl)
theorem dJ13_grow_80 : decode cJ13_grow 80 = .ok (.getfield 24, 3) := dk_180 0 24 (dk_at dksJ13_grow_3 11 rfl rfl)
theorem dJ13_grow_83 : decode cJ13_grow 83 = .ok (.if_icmp .ne 81, 3) := dk_160 0 81 (dk_at dksJ13_grow_3 14 rfl rfl)
theorem dJ13_grow_86 : decode cJ13_grow 86 = .ok (.aload 5, 2) := dk_25 5 (dk_at dksJ13_grow_3 17 rfl rfl)
theorem dJ13_grow_88 : decode cJ13_grow 88 = .ok (.aload_n 0, 1) := dk_42 (dk_at dksJ13_grow_3 19 rfl rfl)
theorem dJ13_grow_89 : decode cJ13_grow 89 = .ok (.getfield 24, 3) := dk_180 0 24 (dk_at dksJ13_grow_3 20 rfl rfl)
theorem dJ13_grow_92 : decode cJ13_grow 92 = .ok (.aaload, 1) := dk_50 (dk_at dksJ13_grow_3 23 rfl rfl)
theorem dJ13_grow_93 : decode cJ13_grow 93 = .ok (.ifnull 71, 3) := dk_198 0 71 (dk_at dksJ13_grow_4 0 rfl rfl)
theorem dJ13_grow_96 : decode cJ13_grow 96 = .ok (.iload_n 3, 1) := dk_29 (dk_at dksJ13_grow_4 3 rfl rfl)
theorem dJ13_grow_97 : decode cJ13_grow 97 = .ok (.iload_n 2, 1) := dk_28 (dk_at dksJ13_grow_4 4 rfl rfl)
theorem dJ13_grow_98 : decode cJ13_grow 98 = .ok (.isub, 1) := dk_100 (dk_at dksJ13_grow_4 5 rfl rfl)
theorem dJ13_grow_99 : decode cJ13_grow 99 = .ok (.istore 6, 2) := dk_54 6 (dk_at dksJ13_grow_4 6 rfl rfl)
theorem dJ13_grow_101 : decode cJ13_grow 101 = .ok (.aload 5, 2) := dk_25 5 (dk_at dksJ13_grow_4 8 rfl rfl)
theorem dJ13_grow_103 : decode cJ13_grow 103 = .ok (.aload_n 0, 1) := dk_42 (dk_at dksJ13_grow_4 10 rfl rfl)
theorem dJ13_grow_104 : decode cJ13_grow 104 = .ok (.getfield 24, 3) := dk_180 0 24 (dk_at dksJ13_grow_4 11 rfl rfl)
theorem dJ13_grow_107 : decode cJ13_grow 107 = .ok (.aload 5, 2) := dk_25 5 (dk_at dksJ13_grow_4 14 rfl rfl)
theorem dJ13_grow_109 : decode cJ13_grow 109 = .ok (.aload_n 0, 1) := dk_42 (dk_at dksJ13_grow_4 16 rfl rfl)
theorem dJ13_grow_110 : decode cJ13_grow 110 = .ok (.getfield 24, 3) := dk_180 0 24 (dk_at dksJ13_grow_4 17 rfl rfl)
theorem dJ13_grow_113 : decode cJ13_grow 113 = .ok (.iload 6, 2) := dk_21 6 (dk_at dksJ13_grow_4 20 rfl rfl)
theorem dJ13_grow_115 : decode cJ13_grow 115 = .ok (.iadd, 1) := dk_96 (dk_at dksJ13_grow_4 22 rfl rfl)
theorem dJ13_grow_116 : decode cJ13_grow 116 = .ok (.iload_n 2, 1) := dk_28 (dk_at dksJ13_grow_4 23 rfl rfl)
theorem dJ13_grow_117 : decode cJ13_grow 117 = .ok (.aload_n 0, 1) := dk_42 (dk_at dksJ13_grow_5 0 rfl rfl)
theorem dJ13_grow_118 : decode cJ13_grow 118 = .ok (.getfield 24, 3) := dk_180 0 24 (dk_at dksJ13_grow_5 1 rfl rfl)
theorem dJ13_grow_121 : decode cJ13_grow 121 = .ok (.isub, 1) := dk_100 (dk_at dksJ13_grow_5 4 rfl rfl)
theorem dJ13_grow_122 : decode cJ13_grow 122 = .ok (.invokestatic 27, 3) := dk_184 0 27 (dk_at dksJ13_grow_5 5 rfl rfl)
theorem dJ13_grow_125 : decode cJ13_grow 125 = .ok (.aload_n 0, 1) := dk_42 (dk_at dksJ13_grow_5 8 rfl rfl)
theorem dJ13_grow_126 : decode cJ13_grow 126 = .ok (.getfield 24, 3) := dk_180 0 24 (dk_at dksJ13_grow_5 9 rfl rfl)
theorem dJ13_grow_129 : decode cJ13_grow 129 = .ok (.istore 7, 2) := dk_54 7 (dk_at dksJ13_grow_5 12 rfl rfl)
theorem dJ13_grow_131 : decode cJ13_grow 131 = .ok (.aload_n 0, 1) := dk_42 (dk_at dksJ13_grow_5 14 rfl rfl)
theorem dJ13_grow_132 : decode cJ13_grow 132 = .ok (.dup, 1) := dk_89 (dk_at dksJ13_grow_5 15 rfl rfl)
theorem dJ13_grow_133 : decode cJ13_grow 133 = .ok (.getfield 24, 3) := dk_180 0 24 (dk_at dksJ13_grow_5 16 rfl rfl)
theorem dJ13_grow_136 : decode cJ13_grow 136 = .ok (.iload 6, 2) := dk_21 6 (dk_at dksJ13_grow_5 19 rfl rfl)
theorem dJ13_grow_138 : decode cJ13_grow 138 = .ok (.iadd, 1) := dk_96 (dk_at dksJ13_grow_5 21 rfl rfl)
theorem dJ13_grow_139 : decode cJ13_grow 139 = .ok (.dup_x1, 1) := dk_90 (dk_at dksJ13_grow_5 22 rfl rfl)
theorem dJ13_grow_140 : decode cJ13_grow 140 = .ok (.putfield 24, 3) := dk_181 0 24 (dk_at dksJ13_grow_6 0 rfl rfl)
theorem dJ13_grow_143 : decode cJ13_grow 143 = .ok (.istore 8, 2) := dk_54 8 (dk_at dksJ13_grow_6 3 rfl rfl)
theorem dJ13_grow_145 : decode cJ13_grow 145 = .ok (.iload 7, 2) := dk_21 7 (dk_at dksJ13_grow_6 5 rfl rfl)
theorem dJ13_grow_147 : decode cJ13_grow 147 = .ok (.iload 8, 2) := dk_21 8 (dk_at dksJ13_grow_6 7 rfl rfl)
theorem dJ13_grow_149 : decode cJ13_grow 149 = .ok (.if_icmp .ge 15, 3) := dk_162 0 15 (dk_at dksJ13_grow_6 9 rfl rfl)
theorem dJ13_grow_152 : decode cJ13_grow 152 = .ok (.aload 5, 2) := dk_25 5 (dk_at dksJ13_grow_6 12 rfl rfl)
theorem dJ13_grow_154 : decode cJ13_grow 154 = .ok (.iload 7, 2) := dk_21 7 (dk_at dksJ13_grow_6 14 rfl rfl)
theorem dJ13_grow_156 : decode cJ13_grow 156 = .ok (.aconst_null, 1) := dk_1 (dk_at dksJ13_grow_6 16 rfl rfl)
theorem dJ13_grow_157 : decode cJ13_grow 157 = .ok (.aastore, 1) := dk_83 (dk_at dksJ13_grow_6 17 rfl rfl)
theorem dJ13_grow_158 : decode cJ13_grow 158 = .ok (.iinc 7 1, 3) := dk_132 7 1 (dk_at dksJ13_grow_6 18 rfl rfl)
theorem dJ13_grow_161 : decode cJ13_grow 161 = .ok (.goto (-16), 3) := dk_167 255 240 (dk_at dksJ13_grow_6 21 rfl rfl)
theorem dJ13_grow_164 : decode cJ13_grow 164 = .ok (.return_, 1) := dk_177 (dk_at dksJ13_grow_7 0 rfl rfl)
abbrev cJ13_addFirst : ByteArray := prog_57_method_12_code
def yJ13_addFirst : MethodName := ⟨RJ13, "addFirst", "(Ljava/lang/Object;)V"⟩
def dkwJ13_addFirst_2 : List UInt8 := [182, 0, 71, 177]
abbrev dktJ13_addFirst_2 : List UInt8 := dkwJ13_addFirst_2 ++ []
def dkwJ13_addFirst_1 : List UInt8 := [190, 184, 0, 68, 90, 181, 0, 24, 43, 83, 42, 180, 0, 24, 42, 180, 0, 20, 160, 0, 8, 42, 4]
abbrev dktJ13_addFirst_1 : List UInt8 := dkwJ13_addFirst_1 ++ dktJ13_addFirst_2
def dkwJ13_addFirst_0 : List UInt8 := [43, 199, 0, 11, 187, 0, 65, 89, 183, 0, 67, 191, 42, 180, 0, 3, 77, 44, 42, 42, 180, 0, 24, 44]
abbrev dktJ13_addFirst_0 : List UInt8 := dkwJ13_addFirst_0 ++ dktJ13_addFirst_1
theorem dksJ13_addFirst_0 : cJ13_addFirst.data.toList.drop 0 = dktJ13_addFirst_0 := by decide +kernel
theorem dksJ13_addFirst_1 : cJ13_addFirst.data.toList.drop 24 = dktJ13_addFirst_1 := dk_seg dksJ13_addFirst_0 24 rfl rfl
theorem dksJ13_addFirst_2 : cJ13_addFirst.data.toList.drop 47 = dktJ13_addFirst_2 := dk_seg dksJ13_addFirst_1 23 rfl rfl
theorem dJ13_addFirst_0 : decode cJ13_addFirst 0 = .ok (.aload_n 1, 1) := dk_43 (dk_at dksJ13_addFirst_0 0 rfl rfl)
theorem dJ13_addFirst_1 : decode cJ13_addFirst 1 = .ok (.ifnonnull 11, 3) := dk_199 0 11 (dk_at dksJ13_addFirst_0 1 rfl rfl)
theorem dJ13_addFirst_4 : decode cJ13_addFirst 4 = .ok (.new 65, 3) := dk_187 0 65 (dk_at dksJ13_addFirst_0 4 rfl rfl)
theorem dJ13_addFirst_12 : decode cJ13_addFirst 12 = .ok (.aload_n 0, 1) := dk_42 (dk_at dksJ13_addFirst_0 12 rfl rfl)
theorem dJ13_addFirst_13 : decode cJ13_addFirst 13 = .ok (.getfield 3, 3) := dk_180 0 3 (dk_at dksJ13_addFirst_0 13 rfl rfl)
theorem dJ13_addFirst_16 : decode cJ13_addFirst 16 = .ok (.astore_n 2, 1) := dk_77 (dk_at dksJ13_addFirst_0 16 rfl rfl)
theorem dJ13_addFirst_17 : decode cJ13_addFirst 17 = .ok (.aload_n 2, 1) := dk_44 (dk_at dksJ13_addFirst_0 17 rfl rfl)
theorem dJ13_addFirst_18 : decode cJ13_addFirst 18 = .ok (.aload_n 0, 1) := dk_42 (dk_at dksJ13_addFirst_0 18 rfl rfl)
theorem dJ13_addFirst_19 : decode cJ13_addFirst 19 = .ok (.aload_n 0, 1) := dk_42 (dk_at dksJ13_addFirst_0 19 rfl rfl)
theorem dJ13_addFirst_20 : decode cJ13_addFirst 20 = .ok (.getfield 24, 3) := dk_180 0 24 (dk_at dksJ13_addFirst_0 20 rfl rfl)
theorem dJ13_addFirst_23 : decode cJ13_addFirst 23 = .ok (.aload_n 2, 1) := dk_44 (dk_at dksJ13_addFirst_0 23 rfl rfl)
theorem dJ13_addFirst_24 : decode cJ13_addFirst 24 = .ok (.arraylength, 1) := dk_190 (dk_at dksJ13_addFirst_1 0 rfl rfl)
theorem dJ13_addFirst_25 : decode cJ13_addFirst 25 = .ok (.invokestatic 68, 3) := dk_184 0 68 (dk_at dksJ13_addFirst_1 1 rfl rfl)
theorem dJ13_addFirst_28 : decode cJ13_addFirst 28 = .ok (.dup_x1, 1) := dk_90 (dk_at dksJ13_addFirst_1 4 rfl rfl)
theorem dJ13_addFirst_29 : decode cJ13_addFirst 29 = .ok (.putfield 24, 3) := dk_181 0 24 (dk_at dksJ13_addFirst_1 5 rfl rfl)
theorem dJ13_addFirst_32 : decode cJ13_addFirst 32 = .ok (.aload_n 1, 1) := dk_43 (dk_at dksJ13_addFirst_1 8 rfl rfl)
theorem dJ13_addFirst_33 : decode cJ13_addFirst 33 = .ok (.aastore, 1) := dk_83 (dk_at dksJ13_addFirst_1 9 rfl rfl)
theorem dJ13_addFirst_34 : decode cJ13_addFirst 34 = .ok (.aload_n 0, 1) := dk_42 (dk_at dksJ13_addFirst_1 10 rfl rfl)
theorem dJ13_addFirst_35 : decode cJ13_addFirst 35 = .ok (.getfield 24, 3) := dk_180 0 24 (dk_at dksJ13_addFirst_1 11 rfl rfl)
theorem dJ13_addFirst_38 : decode cJ13_addFirst 38 = .ok (.aload_n 0, 1) := dk_42 (dk_at dksJ13_addFirst_1 14 rfl rfl)
theorem dJ13_addFirst_39 : decode cJ13_addFirst 39 = .ok (.getfield 20, 3) := dk_180 0 20 (dk_at dksJ13_addFirst_1 15 rfl rfl)
theorem dJ13_addFirst_42 : decode cJ13_addFirst 42 = .ok (.if_icmp .ne 8, 3) := dk_160 0 8 (dk_at dksJ13_addFirst_1 18 rfl rfl)
theorem dJ13_addFirst_45 : decode cJ13_addFirst 45 = .ok (.aload_n 0, 1) := dk_42 (dk_at dksJ13_addFirst_1 21 rfl rfl)
theorem dJ13_addFirst_46 : decode cJ13_addFirst 46 = .ok (.iconst 1, 1) := dk_4 (dk_at dksJ13_addFirst_1 22 rfl rfl)
theorem dJ13_addFirst_47 : decode cJ13_addFirst 47 = .ok (.invokevirtual 71, 3) := dk_182 0 71 (dk_at dksJ13_addFirst_2 0 rfl rfl)
theorem dJ13_addFirst_50 : decode cJ13_addFirst 50 = .ok (.return_, 1) := dk_177 (dk_at dksJ13_addFirst_2 3 rfl rfl)
abbrev cJ13_push : ByteArray := prog_57_method_34_code
def yJ13_push : MethodName := ⟨RJ13, "push", "(Ljava/lang/Object;)V"⟩
def dkwJ13_push_0 : List UInt8 := [42, 43, 182, 0, 86, 177]
abbrev dktJ13_push_0 : List UInt8 := dkwJ13_push_0 ++ []
theorem dksJ13_push_0 : cJ13_push.data.toList.drop 0 = dktJ13_push_0 := by decide +kernel
theorem dJ13_push_0 : decode cJ13_push 0 = .ok (.aload_n 0, 1) := dk_42 (dk_at dksJ13_push_0 0 rfl rfl)
theorem dJ13_push_1 : decode cJ13_push 1 = .ok (.aload_n 1, 1) := dk_43 (dk_at dksJ13_push_0 1 rfl rfl)
theorem dJ13_push_2 : decode cJ13_push 2 = .ok (.invokevirtual 86, 3) := dk_182 0 86 (dk_at dksJ13_push_0 2 rfl rfl)
theorem dJ13_push_5 : decode cJ13_push 5 = .ok (.return_, 1) := dk_177 (dk_at dksJ13_push_0 5 rfl rfl)
