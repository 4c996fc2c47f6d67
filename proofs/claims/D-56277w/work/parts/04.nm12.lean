set_option maxRecDepth 100000
abbrev cX4_does : ByteArray := prog_18_method_86_code
def yX4_does : MethodName := ⟨RX4, "does", "(IIII)I"⟩
def dkwX4_does_4 : List UInt8 := [42, 28, 182, 0, 123, 172, 42, 28, 182, 0, 126, 172]
abbrev dktX4_does_4 : List UInt8 := dkwX4_does_4 ++ []
def dkwX4_does_3 : List UInt8 := [172, 42, 28, 182, 0, 111, 172, 42, 182, 0, 117, 172, 42, 182, 0, 75, 172, 42, 28, 29, 182, 0, 120, 172]
abbrev dktX4_does_3 : List UInt8 := dkwX4_does_3 ++ dktX4_does_4
def dkwX4_does_2 : List UInt8 := [42, 28, 29, 21, 4, 182, 0, 92, 172, 42, 28, 29, 4, 182, 0, 105, 172, 42, 28, 29, 2, 182, 0, 105]
abbrev dktX4_does_2 : List UInt8 := dkwX4_does_2 ++ dktX4_does_3
def dkwX4_does_1 : List UInt8 := [170, 0, 0, 0, 0, 0, 101, 0, 0, 0, 0, 0, 0, 0, 7, 0, 0, 0, 47, 0, 0, 0, 56, 0, 0, 0, 64, 0, 0, 0, 72, 0, 0, 0, 78, 0, 0, 0, 83, 0, 0, 0, 88, 0, 0, 0, 95]
abbrev dktX4_does_1 : List UInt8 := dkwX4_does_1 ++ dktX4_does_2
def dkwX4_does_0 : List UInt8 := [27]
abbrev dktX4_does_0 : List UInt8 := dkwX4_does_0 ++ dktX4_does_1
theorem dksX4_does_0 : cX4_does.data.toList.drop 0 = dktX4_does_0 := by decide +kernel
theorem dksX4_does_1 : cX4_does.data.toList.drop 1 = dktX4_does_1 := dk_seg dksX4_does_0 1 rfl rfl
theorem dksX4_does_2 : cX4_does.data.toList.drop 48 = dktX4_does_2 := dk_seg dksX4_does_1 47 rfl rfl
theorem dksX4_does_3 : cX4_does.data.toList.drop 72 = dktX4_does_3 := dk_seg dksX4_does_2 24 rfl rfl
theorem dksX4_does_4 : cX4_does.data.toList.drop 96 = dktX4_does_4 := dk_seg dksX4_does_3 24 rfl rfl
theorem dX4_does_0 : decode cX4_does 0 = .ok (.iload_n 1, 1) := dk_27 (dk_at dksX4_does_0 0 rfl rfl)
theorem dX4_does_1 : decode cX4_does 1 = .ok (.tableswitch 101 0 7 #[47, 56, 64, 72, 78, 83, 88, 95], 47) := by decide +kernel
theorem dX4_does_48 : decode cX4_does 48 = .ok (.aload_n 0, 1) := dk_42 (dk_at dksX4_does_2 0 rfl rfl)
theorem dX4_does_49 : decode cX4_does 49 = .ok (.iload_n 2, 1) := dk_28 (dk_at dksX4_does_2 1 rfl rfl)
theorem dX4_does_50 : decode cX4_does 50 = .ok (.iload_n 3, 1) := dk_29 (dk_at dksX4_does_2 2 rfl rfl)
theorem dX4_does_51 : decode cX4_does 51 = .ok (.iload 4, 2) := dk_21 4 (dk_at dksX4_does_2 3 rfl rfl)
theorem dX4_does_53 : decode cX4_does 53 = .ok (.invokevirtual 92, 3) := dk_182 0 92 (dk_at dksX4_does_2 5 rfl rfl)
theorem dX4_does_56 : decode cX4_does 56 = .ok (.ireturn, 1) := dk_172 (dk_at dksX4_does_2 8 rfl rfl)
theorem dX4_does_57 : decode cX4_does 57 = .ok (.aload_n 0, 1) := dk_42 (dk_at dksX4_does_2 9 rfl rfl)
theorem dX4_does_58 : decode cX4_does 58 = .ok (.iload_n 2, 1) := dk_28 (dk_at dksX4_does_2 10 rfl rfl)
theorem dX4_does_59 : decode cX4_does 59 = .ok (.iload_n 3, 1) := dk_29 (dk_at dksX4_does_2 11 rfl rfl)
theorem dX4_does_60 : decode cX4_does 60 = .ok (.iconst 1, 1) := dk_4 (dk_at dksX4_does_2 12 rfl rfl)
theorem dX4_does_61 : decode cX4_does 61 = .ok (.invokevirtual 105, 3) := dk_182 0 105 (dk_at dksX4_does_2 13 rfl rfl)
theorem dX4_does_64 : decode cX4_does 64 = .ok (.ireturn, 1) := dk_172 (dk_at dksX4_does_2 16 rfl rfl)
theorem dX4_does_65 : decode cX4_does 65 = .ok (.aload_n 0, 1) := dk_42 (dk_at dksX4_does_2 17 rfl rfl)
theorem dX4_does_66 : decode cX4_does 66 = .ok (.iload_n 2, 1) := dk_28 (dk_at dksX4_does_2 18 rfl rfl)
theorem dX4_does_67 : decode cX4_does 67 = .ok (.iload_n 3, 1) := dk_29 (dk_at dksX4_does_2 19 rfl rfl)
theorem dX4_does_68 : decode cX4_does 68 = .ok (.iconst (-1), 1) := dk_2 (dk_at dksX4_does_2 20 rfl rfl)
theorem dX4_does_69 : decode cX4_does 69 = .ok (.invokevirtual 105, 3) := dk_182 0 105 (dk_at dksX4_does_2 21 rfl rfl)
theorem dX4_does_72 : decode cX4_does 72 = .ok (.ireturn, 1) := dk_172 (dk_at dksX4_does_3 0 rfl rfl)
theorem dX4_does_73 : decode cX4_does 73 = .ok (.aload_n 0, 1) := dk_42 (dk_at dksX4_does_3 1 rfl rfl)
theorem dX4_does_74 : decode cX4_does 74 = .ok (.iload_n 2, 1) := dk_28 (dk_at dksX4_does_3 2 rfl rfl)
theorem dX4_does_75 : decode cX4_does 75 = .ok (.invokevirtual 111, 3) := dk_182 0 111 (dk_at dksX4_does_3 3 rfl rfl)
theorem dX4_does_78 : decode cX4_does 78 = .ok (.ireturn, 1) := dk_172 (dk_at dksX4_does_3 6 rfl rfl)
theorem dX4_does_79 : decode cX4_does 79 = .ok (.aload_n 0, 1) := dk_42 (dk_at dksX4_does_3 7 rfl rfl)
theorem dX4_does_80 : decode cX4_does 80 = .ok (.invokevirtual 117, 3) := dk_182 0 117 (dk_at dksX4_does_3 8 rfl rfl)
theorem dX4_does_83 : decode cX4_does 83 = .ok (.ireturn, 1) := dk_172 (dk_at dksX4_does_3 11 rfl rfl)
theorem dX4_does_84 : decode cX4_does 84 = .ok (.aload_n 0, 1) := dk_42 (dk_at dksX4_does_3 12 rfl rfl)
theorem dX4_does_85 : decode cX4_does 85 = .ok (.invokevirtual 75, 3) := dk_182 0 75 (dk_at dksX4_does_3 13 rfl rfl)
theorem dX4_does_88 : decode cX4_does 88 = .ok (.ireturn, 1) := dk_172 (dk_at dksX4_does_3 16 rfl rfl)
theorem dX4_does_89 : decode cX4_does 89 = .ok (.aload_n 0, 1) := dk_42 (dk_at dksX4_does_3 17 rfl rfl)
theorem dX4_does_90 : decode cX4_does 90 = .ok (.iload_n 2, 1) := dk_28 (dk_at dksX4_does_3 18 rfl rfl)
theorem dX4_does_91 : decode cX4_does 91 = .ok (.iload_n 3, 1) := dk_29 (dk_at dksX4_does_3 19 rfl rfl)
theorem dX4_does_92 : decode cX4_does 92 = .ok (.invokevirtual 120, 3) := dk_182 0 120 (dk_at dksX4_does_3 20 rfl rfl)
theorem dX4_does_95 : decode cX4_does 95 = .ok (.ireturn, 1) := dk_172 (dk_at dksX4_does_3 23 rfl rfl)
theorem dX4_does_96 : decode cX4_does 96 = .ok (.aload_n 0, 1) := dk_42 (dk_at dksX4_does_4 0 rfl rfl)
theorem dX4_does_97 : decode cX4_does 97 = .ok (.iload_n 2, 1) := dk_28 (dk_at dksX4_does_4 1 rfl rfl)
theorem dX4_does_98 : decode cX4_does 98 = .ok (.invokevirtual 123, 3) := dk_182 0 123 (dk_at dksX4_does_4 2 rfl rfl)
theorem dX4_does_101 : decode cX4_does 101 = .ok (.ireturn, 1) := dk_172 (dk_at dksX4_does_4 5 rfl rfl)
theorem dX4_does_102 : decode cX4_does 102 = .ok (.aload_n 0, 1) := dk_42 (dk_at dksX4_does_4 6 rfl rfl)
theorem dX4_does_103 : decode cX4_does 103 = .ok (.iload_n 2, 1) := dk_28 (dk_at dksX4_does_4 7 rfl rfl)
theorem dX4_does_104 : decode cX4_does 104 = .ok (.invokevirtual 126, 3) := dk_182 0 126 (dk_at dksX4_does_4 8 rfl rfl)
theorem dX4_does_107 : decode cX4_does 107 = .ok (.ireturn, 1) := dk_172 (dk_at dksX4_does_4 11 rfl rfl)
abbrev cX4_word : ByteArray := prog_18_method_85_code
def yX4_word : MethodName := ⟨RX4, "word", "()I"⟩
def dkwX4_word_9 : List UInt8 := [167, 0, 4, 28, 61, 132, 4, 1, 167, 255, 207, 167, 255, 62, 28, 172]
abbrev dktX4_word_9 : List UInt8 := dkwX4_word_9 ++ []
def dkwX4_word_8 : List UInt8 := [180, 0, 44, 21, 4, 46, 27, 96, 42, 180, 0, 44, 21, 4, 4, 96, 46, 160, 0, 8, 21, 4]
abbrev dktX4_word_8 : List UInt8 := dkwX4_word_8 ++ dktX4_word_9
def dkwX4_word_7 : List UInt8 := [3, 54, 4, 21, 4, 16, 9, 162, 0, 48, 42, 180, 0, 38, 21, 4, 46, 4, 160, 0, 29, 42]
abbrev dktX4_word_7 : List UInt8 := dkwX4_word_7 ++ dktX4_word_8
def dkwX4_word_6 : List UInt8 := [181, 0, 186, 42, 89, 180, 0, 180, 29, 153, 0, 7, 4, 167, 0, 4, 3, 96, 181, 0, 180, 132, 1, 1]
abbrev dktX4_word_6 : List UInt8 := dkwX4_word_6 ++ dktX4_word_7
def dkwX4_word_5 : List UInt8 := [167, 0, 4, 3, 128, 62, 132, 4, 1, 167, 255, 170, 42, 29, 154, 0, 7, 4, 167, 0, 4, 3]
abbrev dktX4_word_5 : List UInt8 := dkwX4_word_5 ++ dktX4_word_6
def dkwX4_word_4 : List UInt8 := [160, 0, 7, 4, 167, 0, 4, 3, 126, 79, 29, 42, 180, 0, 38, 21, 4, 46, 4, 160, 0, 7, 4]
abbrev dktX4_word_4 : List UInt8 := dkwX4_word_4 ++ dktX4_word_5
def dkwX4_word_3 : List UInt8 := [96, 46, 162, 0, 28, 42, 180, 0, 41, 42, 180, 0, 44, 21, 4, 46, 27, 96, 46, 42, 182, 0, 190]
abbrev dktX4_word_3 : List UInt8 := dkwX4_word_3 ++ dktX4_word_4
def dkwX4_word_2 : List UInt8 := [42, 180, 0, 38, 21, 4, 92, 46, 42, 180, 0, 44, 21, 4, 46, 27, 96, 42, 180, 0, 44, 21, 4, 4]
abbrev dktX4_word_2 : List UInt8 := dkwX4_word_2 ++ dktX4_word_3
def dkwX4_word_1 : List UInt8 := [61, 28, 156, 0, 196, 42, 180, 0, 186, 154, 0, 189, 3, 62, 3, 54, 4, 21, 4, 16, 9, 162, 0, 85]
abbrev dktX4_word_1 : List UInt8 := dkwX4_word_1 ++ dktX4_word_2
def dkwX4_word_0 : List UInt8 := [3, 60, 27, 16, 9, 162, 0, 16, 42, 180, 0, 38, 27, 4, 79, 132, 1, 1, 167, 255, 240, 3, 60, 2]
abbrev dktX4_word_0 : List UInt8 := dkwX4_word_0 ++ dktX4_word_1
theorem dksX4_word_0 : cX4_word.data.toList.drop 0 = dktX4_word_0 := by decide +kernel
theorem dksX4_word_1 : cX4_word.data.toList.drop 24 = dktX4_word_1 := dk_seg dksX4_word_0 24 rfl rfl
theorem dksX4_word_2 : cX4_word.data.toList.drop 48 = dktX4_word_2 := dk_seg dksX4_word_1 24 rfl rfl
theorem dksX4_word_3 : cX4_word.data.toList.drop 72 = dktX4_word_3 := dk_seg dksX4_word_2 24 rfl rfl
theorem dksX4_word_4 : cX4_word.data.toList.drop 95 = dktX4_word_4 := dk_seg dksX4_word_3 23 rfl rfl
theorem dksX4_word_5 : cX4_word.data.toList.drop 118 = dktX4_word_5 := dk_seg dksX4_word_4 23 rfl rfl
theorem dksX4_word_6 : cX4_word.data.toList.drop 140 = dktX4_word_6 := dk_seg dksX4_word_5 22 rfl rfl
theorem dksX4_word_7 : cX4_word.data.toList.drop 164 = dktX4_word_7 := dk_seg dksX4_word_6 24 rfl rfl
theorem dksX4_word_8 : cX4_word.data.toList.drop 186 = dktX4_word_8 := dk_seg dksX4_word_7 22 rfl rfl
theorem dksX4_word_9 : cX4_word.data.toList.drop 208 = dktX4_word_9 := dk_seg dksX4_word_8 22 rfl rfl
theorem dX4_word_0 : decode cX4_word 0 = .ok (.iconst 0, 1) := dk_3 (dk_at dksX4_word_0 0 rfl rfl)
theorem dX4_word_1 : decode cX4_word 1 = .ok (.istore_n 1, 1) := dk_60 (dk_at dksX4_word_0 1 rfl rfl)
theorem dX4_word_2 : decode cX4_word 2 = .ok (.iload_n 1, 1) := dk_27 (dk_at dksX4_word_0 2 rfl rfl)
theorem dX4_word_3 : decode cX4_word 3 = .ok (.bipush 9, 2) := dk_16 9 (dk_at dksX4_word_0 3 rfl rfl)
theorem dX4_word_5 : decode cX4_word 5 = .ok (.if_icmp .ge 16, 3) := dk_162 0 16 (dk_at dksX4_word_0 5 rfl rfl)
theorem dX4_word_8 : decode cX4_word 8 = .ok (.aload_n 0, 1) := dk_42 (dk_at dksX4_word_0 8 rfl rfl)
theorem dX4_word_9 : decode cX4_word 9 = .ok (.getfield 38, 3) := dk_180 0 38 (dk_at dksX4_word_0 9 rfl rfl)
theorem dX4_word_12 : decode cX4_word 12 = .ok (.iload_n 1, 1) := dk_27 (dk_at dksX4_word_0 12 rfl rfl)
theorem dX4_word_13 : decode cX4_word 13 = .ok (.iconst 1, 1) := dk_4 (dk_at dksX4_word_0 13 rfl rfl)
theorem dX4_word_14 : decode cX4_word 14 = .ok (.iastore, 1) := dk_79 (dk_at dksX4_word_0 14 rfl rfl)
theorem dX4_word_15 : decode cX4_word 15 = .ok (.iinc 1 1, 3) := dk_132 1 1 (dk_at dksX4_word_0 15 rfl rfl)
theorem dX4_word_18 : decode cX4_word 18 = .ok (.goto (-16), 3) := dk_167 255 240 (dk_at dksX4_word_0 18 rfl rfl)
theorem dX4_word_21 : decode cX4_word 21 = .ok (.iconst 0, 1) := dk_3 (dk_at dksX4_word_0 21 rfl rfl)
theorem dX4_word_22 : decode cX4_word 22 = .ok (.istore_n 1, 1) := dk_60 (dk_at dksX4_word_0 22 rfl rfl)
theorem dX4_word_23 : decode cX4_word 23 = .ok (.iconst (-1), 1) := dk_2 (dk_at dksX4_word_0 23 rfl rfl)
theorem dX4_word_24 : decode cX4_word 24 = .ok (.istore_n 2, 1) := dk_61 (dk_at dksX4_word_1 0 rfl rfl)
theorem dX4_word_25 : decode cX4_word 25 = .ok (.iload_n 2, 1) := dk_28 (dk_at dksX4_word_1 1 rfl rfl)
theorem dX4_word_26 : decode cX4_word 26 = .ok (.ifCond .ge 196, 3) := dk_156 0 196 (dk_at dksX4_word_1 2 rfl rfl)
theorem dX4_word_29 : decode cX4_word 29 = .ok (.aload_n 0, 1) := dk_42 (dk_at dksX4_word_1 5 rfl rfl)
theorem dX4_word_30 : decode cX4_word 30 = .ok (.getfield 186, 3) := dk_180 0 186 (dk_at dksX4_word_1 6 rfl rfl)
theorem dX4_word_33 : decode cX4_word 33 = .ok (.ifCond .ne 189, 3) := dk_154 0 189 (dk_at dksX4_word_1 9 rfl rfl)
theorem dX4_word_36 : decode cX4_word 36 = .ok (.iconst 0, 1) := dk_3 (dk_at dksX4_word_1 12 rfl rfl)
theorem dX4_word_37 : decode cX4_word 37 = .ok (.istore_n 3, 1) := dk_62 (dk_at dksX4_word_1 13 rfl rfl)
theorem dX4_word_38 : decode cX4_word 38 = .ok (.iconst 0, 1) := dk_3 (dk_at dksX4_word_1 14 rfl rfl)
theorem dX4_word_39 : decode cX4_word 39 = .ok (.istore 4, 2) := dk_54 4 (dk_at dksX4_word_1 15 rfl rfl)
theorem dX4_word_41 : decode cX4_word 41 = .ok (.iload 4, 2) := dk_21 4 (dk_at dksX4_word_1 17 rfl rfl)
theorem dX4_word_43 : decode cX4_word 43 = .ok (.bipush 9, 2) := dk_16 9 (dk_at dksX4_word_1 19 rfl rfl)
theorem dX4_word_45 : decode cX4_word 45 = .ok (.if_icmp .ge 85, 3) := dk_162 0 85 (dk_at dksX4_word_1 21 rfl rfl)
theorem dX4_word_48 : decode cX4_word 48 = .ok (.aload_n 0, 1) := dk_42 (dk_at dksX4_word_2 0 rfl rfl)
theorem dX4_word_49 : decode cX4_word 49 = .ok (.getfield 38, 3) := dk_180 0 38 (dk_at dksX4_word_2 1 rfl rfl)
theorem dX4_word_52 : decode cX4_word 52 = .ok (.iload 4, 2) := dk_21 4 (dk_at dksX4_word_2 4 rfl rfl)
theorem dX4_word_54 : decode cX4_word 54 = .ok (.dup2, 1) := dk_92 (dk_at dksX4_word_2 6 rfl rfl)
theorem dX4_word_55 : decode cX4_word 55 = .ok (.iaload, 1) := dk_46 (dk_at dksX4_word_2 7 rfl rfl)
theorem dX4_word_56 : decode cX4_word 56 = .ok (.aload_n 0, 1) := dk_42 (dk_at dksX4_word_2 8 rfl rfl)
theorem dX4_word_57 : decode cX4_word 57 = .ok (.getfield 44, 3) := dk_180 0 44 (dk_at dksX4_word_2 9 rfl rfl)
theorem dX4_word_60 : decode cX4_word 60 = .ok (.iload 4, 2) := dk_21 4 (dk_at dksX4_word_2 12 rfl rfl)
theorem dX4_word_62 : decode cX4_word 62 = .ok (.iaload, 1) := dk_46 (dk_at dksX4_word_2 14 rfl rfl)
theorem dX4_word_63 : decode cX4_word 63 = .ok (.iload_n 1, 1) := dk_27 (dk_at dksX4_word_2 15 rfl rfl)
theorem dX4_word_64 : decode cX4_word 64 = .ok (.iadd, 1) := dk_96 (dk_at dksX4_word_2 16 rfl rfl)
theorem dX4_word_65 : decode cX4_word 65 = .ok (.aload_n 0, 1) := dk_42 (dk_at dksX4_word_2 17 rfl rfl)
theorem dX4_word_66 : decode cX4_word 66 = .ok (.getfield 44, 3) := dk_180 0 44 (dk_at dksX4_word_2 18 rfl rfl)
theorem dX4_word_69 : decode cX4_word 69 = .ok (.iload 4, 2) := dk_21 4 (dk_at dksX4_word_2 21 rfl rfl)
theorem dX4_word_71 : decode cX4_word 71 = .ok (.iconst 1, 1) := dk_4 (dk_at dksX4_word_2 23 rfl rfl)
theorem dX4_word_72 : decode cX4_word 72 = .ok (.iadd, 1) := dk_96 (dk_at dksX4_word_3 0 rfl rfl)
theorem dX4_word_73 : decode cX4_word 73 = .ok (.iaload, 1) := dk_46 (dk_at dksX4_word_3 1 rfl rfl)
theorem dX4_word_74 : decode cX4_word 74 = .ok (.if_icmp .ge 28, 3) := dk_162 0 28 (dk_at dksX4_word_3 2 rfl rfl)
theorem dX4_word_77 : decode cX4_word 77 = .ok (.aload_n 0, 1) := dk_42 (dk_at dksX4_word_3 5 rfl rfl)
theorem dX4_word_78 : decode cX4_word 78 = .ok (.getfield 41, 3) := dk_180 0 41 (dk_at dksX4_word_3 6 rfl rfl)
theorem dX4_word_81 : decode cX4_word 81 = .ok (.aload_n 0, 1) := dk_42 (dk_at dksX4_word_3 9 rfl rfl)
theorem dX4_word_82 : decode cX4_word 82 = .ok (.getfield 44, 3) := dk_180 0 44 (dk_at dksX4_word_3 10 rfl rfl)
theorem dX4_word_85 : decode cX4_word 85 = .ok (.iload 4, 2) := dk_21 4 (dk_at dksX4_word_3 13 rfl rfl)
theorem dX4_word_87 : decode cX4_word 87 = .ok (.iaload, 1) := dk_46 (dk_at dksX4_word_3 15 rfl rfl)
theorem dX4_word_88 : decode cX4_word 88 = .ok (.iload_n 1, 1) := dk_27 (dk_at dksX4_word_3 16 rfl rfl)
theorem dX4_word_89 : decode cX4_word 89 = .ok (.iadd, 1) := dk_96 (dk_at dksX4_word_3 17 rfl rfl)
theorem dX4_word_90 : decode cX4_word 90 = .ok (.iaload, 1) := dk_46 (dk_at dksX4_word_3 18 rfl rfl)
theorem dX4_word_91 : decode cX4_word 91 = .ok (.aload_n 0, 1) := dk_42 (dk_at dksX4_word_3 19 rfl rfl)
theorem dX4_word_92 : decode cX4_word 92 = .ok (.invokevirtual 190, 3) := dk_182 0 190 (dk_at dksX4_word_3 20 rfl rfl)
theorem dX4_word_95 : decode cX4_word 95 = .ok (.if_icmp .ne 7, 3) := dk_160 0 7 (dk_at dksX4_word_4 0 rfl rfl)
theorem dX4_word_98 : decode cX4_word 98 = .ok (.iconst 1, 1) := dk_4 (dk_at dksX4_word_4 3 rfl rfl)
theorem dX4_word_99 : decode cX4_word 99 = .ok (.goto 4, 3) := dk_167 0 4 (dk_at dksX4_word_4 4 rfl rfl)
theorem dX4_word_102 : decode cX4_word 102 = .ok (.iconst 0, 1) := dk_3 (dk_at dksX4_word_4 7 rfl rfl)
theorem dX4_word_103 : decode cX4_word 103 = .ok (.iand, 1) := dk_126 (dk_at dksX4_word_4 8 rfl rfl)
theorem dX4_word_104 : decode cX4_word 104 = .ok (.iastore, 1) := dk_79 (dk_at dksX4_word_4 9 rfl rfl)
theorem dX4_word_105 : decode cX4_word 105 = .ok (.iload_n 3, 1) := dk_29 (dk_at dksX4_word_4 10 rfl rfl)
theorem dX4_word_106 : decode cX4_word 106 = .ok (.aload_n 0, 1) := dk_42 (dk_at dksX4_word_4 11 rfl rfl)
theorem dX4_word_107 : decode cX4_word 107 = .ok (.getfield 38, 3) := dk_180 0 38 (dk_at dksX4_word_4 12 rfl rfl)
theorem dX4_word_110 : decode cX4_word 110 = .ok (.iload 4, 2) := dk_21 4 (dk_at dksX4_word_4 15 rfl rfl)
theorem dX4_word_112 : decode cX4_word 112 = .ok (.iaload, 1) := dk_46 (dk_at dksX4_word_4 17 rfl rfl)
theorem dX4_word_113 : decode cX4_word 113 = .ok (.iconst 1, 1) := dk_4 (dk_at dksX4_word_4 18 rfl rfl)
theorem dX4_word_114 : decode cX4_word 114 = .ok (.if_icmp .ne 7, 3) := dk_160 0 7 (dk_at dksX4_word_4 19 rfl rfl)
theorem dX4_word_117 : decode cX4_word 117 = .ok (.iconst 1, 1) := dk_4 (dk_at dksX4_word_4 22 rfl rfl)
theorem dX4_word_118 : decode cX4_word 118 = .ok (.goto 4, 3) := dk_167 0 4 (dk_at dksX4_word_5 0 rfl rfl)
theorem dX4_word_121 : decode cX4_word 121 = .ok (.iconst 0, 1) := dk_3 (dk_at dksX4_word_5 3 rfl rfl)
theorem dX4_word_122 : decode cX4_word 122 = .ok (.ior, 1) := dk_128 (dk_at dksX4_word_5 4 rfl rfl)
theorem dX4_word_123 : decode cX4_word 123 = .ok (.istore_n 3, 1) := dk_62 (dk_at dksX4_word_5 5 rfl rfl)
theorem dX4_word_124 : decode cX4_word 124 = .ok (.iinc 4 1, 3) := dk_132 4 1 (dk_at dksX4_word_5 6 rfl rfl)
theorem dX4_word_127 : decode cX4_word 127 = .ok (.goto (-86), 3) := dk_167 255 170 (dk_at dksX4_word_5 9 rfl rfl)
theorem dX4_word_130 : decode cX4_word 130 = .ok (.aload_n 0, 1) := dk_42 (dk_at dksX4_word_5 12 rfl rfl)
theorem dX4_word_131 : decode cX4_word 131 = .ok (.iload_n 3, 1) := dk_29 (dk_at dksX4_word_5 13 rfl rfl)
theorem dX4_word_132 : decode cX4_word 132 = .ok (.ifCond .ne 7, 3) := dk_154 0 7 (dk_at dksX4_word_5 14 rfl rfl)
theorem dX4_word_135 : decode cX4_word 135 = .ok (.iconst 1, 1) := dk_4 (dk_at dksX4_word_5 17 rfl rfl)
theorem dX4_word_136 : decode cX4_word 136 = .ok (.goto 4, 3) := dk_167 0 4 (dk_at dksX4_word_5 18 rfl rfl)
theorem dX4_word_139 : decode cX4_word 139 = .ok (.iconst 0, 1) := dk_3 (dk_at dksX4_word_5 21 rfl rfl)
theorem dX4_word_140 : decode cX4_word 140 = .ok (.putfield 186, 3) := dk_181 0 186 (dk_at dksX4_word_6 0 rfl rfl)
theorem dX4_word_143 : decode cX4_word 143 = .ok (.aload_n 0, 1) := dk_42 (dk_at dksX4_word_6 3 rfl rfl)
theorem dX4_word_144 : decode cX4_word 144 = .ok (.dup, 1) := dk_89 (dk_at dksX4_word_6 4 rfl rfl)
theorem dX4_word_145 : decode cX4_word 145 = .ok (.getfield 180, 3) := dk_180 0 180 (dk_at dksX4_word_6 5 rfl rfl)
theorem dX4_word_148 : decode cX4_word 148 = .ok (.iload_n 3, 1) := dk_29 (dk_at dksX4_word_6 8 rfl rfl)
theorem dX4_word_149 : decode cX4_word 149 = .ok (.ifCond .eq 7, 3) := dk_153 0 7 (dk_at dksX4_word_6 9 rfl rfl)
theorem dX4_word_152 : decode cX4_word 152 = .ok (.iconst 1, 1) := dk_4 (dk_at dksX4_word_6 12 rfl rfl)
theorem dX4_word_153 : decode cX4_word 153 = .ok (.goto 4, 3) := dk_167 0 4 (dk_at dksX4_word_6 13 rfl rfl)
theorem dX4_word_156 : decode cX4_word 156 = .ok (.iconst 0, 1) := dk_3 (dk_at dksX4_word_6 16 rfl rfl)
theorem dX4_word_157 : decode cX4_word 157 = .ok (.iadd, 1) := dk_96 (dk_at dksX4_word_6 17 rfl rfl)
theorem dX4_word_158 : decode cX4_word 158 = .ok (.putfield 180, 3) := dk_181 0 180 (dk_at dksX4_word_6 18 rfl rfl)
theorem dX4_word_161 : decode cX4_word 161 = .ok (.iinc 1 1, 3) := dk_132 1 1 (dk_at dksX4_word_6 21 rfl rfl)
theorem dX4_word_164 : decode cX4_word 164 = .ok (.iconst 0, 1) := dk_3 (dk_at dksX4_word_7 0 rfl rfl)
theorem dX4_word_165 : decode cX4_word 165 = .ok (.istore 4, 2) := dk_54 4 (dk_at dksX4_word_7 1 rfl rfl)
theorem dX4_word_167 : decode cX4_word 167 = .ok (.iload 4, 2) := dk_21 4 (dk_at dksX4_word_7 3 rfl rfl)
theorem dX4_word_169 : decode cX4_word 169 = .ok (.bipush 9, 2) := dk_16 9 (dk_at dksX4_word_7 5 rfl rfl)
theorem dX4_word_171 : decode cX4_word 171 = .ok (.if_icmp .ge 48, 3) := dk_162 0 48 (dk_at dksX4_word_7 7 rfl rfl)
theorem dX4_word_174 : decode cX4_word 174 = .ok (.aload_n 0, 1) := dk_42 (dk_at dksX4_word_7 10 rfl rfl)
theorem dX4_word_175 : decode cX4_word 175 = .ok (.getfield 38, 3) := dk_180 0 38 (dk_at dksX4_word_7 11 rfl rfl)
theorem dX4_word_178 : decode cX4_word 178 = .ok (.iload 4, 2) := dk_21 4 (dk_at dksX4_word_7 14 rfl rfl)
theorem dX4_word_180 : decode cX4_word 180 = .ok (.iaload, 1) := dk_46 (dk_at dksX4_word_7 16 rfl rfl)
theorem dX4_word_181 : decode cX4_word 181 = .ok (.iconst 1, 1) := dk_4 (dk_at dksX4_word_7 17 rfl rfl)
theorem dX4_word_182 : decode cX4_word 182 = .ok (.if_icmp .ne 29, 3) := dk_160 0 29 (dk_at dksX4_word_7 18 rfl rfl)
theorem dX4_word_185 : decode cX4_word 185 = .ok (.aload_n 0, 1) := dk_42 (dk_at dksX4_word_7 21 rfl rfl)
theorem dX4_word_186 : decode cX4_word 186 = .ok (.getfield 44, 3) := dk_180 0 44 (dk_at dksX4_word_8 0 rfl rfl)
theorem dX4_word_189 : decode cX4_word 189 = .ok (.iload 4, 2) := dk_21 4 (dk_at dksX4_word_8 3 rfl rfl)
theorem dX4_word_191 : decode cX4_word 191 = .ok (.iaload, 1) := dk_46 (dk_at dksX4_word_8 5 rfl rfl)
theorem dX4_word_192 : decode cX4_word 192 = .ok (.iload_n 1, 1) := dk_27 (dk_at dksX4_word_8 6 rfl rfl)
theorem dX4_word_193 : decode cX4_word 193 = .ok (.iadd, 1) := dk_96 (dk_at dksX4_word_8 7 rfl rfl)
theorem dX4_word_194 : decode cX4_word 194 = .ok (.aload_n 0, 1) := dk_42 (dk_at dksX4_word_8 8 rfl rfl)
theorem dX4_word_195 : decode cX4_word 195 = .ok (.getfield 44, 3) := dk_180 0 44 (dk_at dksX4_word_8 9 rfl rfl)
theorem dX4_word_198 : decode cX4_word 198 = .ok (.iload 4, 2) := dk_21 4 (dk_at dksX4_word_8 12 rfl rfl)
theorem dX4_word_200 : decode cX4_word 200 = .ok (.iconst 1, 1) := dk_4 (dk_at dksX4_word_8 14 rfl rfl)
theorem dX4_word_201 : decode cX4_word 201 = .ok (.iadd, 1) := dk_96 (dk_at dksX4_word_8 15 rfl rfl)
theorem dX4_word_202 : decode cX4_word 202 = .ok (.iaload, 1) := dk_46 (dk_at dksX4_word_8 16 rfl rfl)
theorem dX4_word_203 : decode cX4_word 203 = .ok (.if_icmp .ne 8, 3) := dk_160 0 8 (dk_at dksX4_word_8 17 rfl rfl)
theorem dX4_word_206 : decode cX4_word 206 = .ok (.iload 4, 2) := dk_21 4 (dk_at dksX4_word_8 20 rfl rfl)
theorem dX4_word_208 : decode cX4_word 208 = .ok (.goto 4, 3) := dk_167 0 4 (dk_at dksX4_word_9 0 rfl rfl)
theorem dX4_word_211 : decode cX4_word 211 = .ok (.iload_n 2, 1) := dk_28 (dk_at dksX4_word_9 3 rfl rfl)
theorem dX4_word_212 : decode cX4_word 212 = .ok (.istore_n 2, 1) := dk_61 (dk_at dksX4_word_9 4 rfl rfl)
theorem dX4_word_213 : decode cX4_word 213 = .ok (.iinc 4 1, 3) := dk_132 4 1 (dk_at dksX4_word_9 5 rfl rfl)
theorem dX4_word_216 : decode cX4_word 216 = .ok (.goto (-49), 3) := dk_167 255 207 (dk_at dksX4_word_9 8 rfl rfl)
theorem dX4_word_219 : decode cX4_word 219 = .ok (.goto (-194), 3) := dk_167 255 62 (dk_at dksX4_word_9 11 rfl rfl)
theorem dX4_word_222 : decode cX4_word 222 = .ok (.iload_n 2, 1) := dk_28 (dk_at dksX4_word_9 14 rfl rfl)
theorem dX4_word_223 : decode cX4_word 223 = .ok (.ireturn, 1) := dk_172 (dk_at dksX4_word_9 15 rfl rfl)
abbrev cX4_command : ByteArray := prog_18_method_87_code
def yX4_command : MethodName := ⟨RX4, "command", "()V"⟩
def dkwX4_command_6 : List UInt8 := [182, 0, 211, 54, 5, 177]
abbrev dktX4_command_6 : List UInt8 := dkwX4_command_6 ++ []
def dkwX4_command_5 : List UInt8 := [154, 0, 10, 42, 180, 0, 205, 154, 0, 4, 177, 42, 27, 181, 0, 208, 42, 27, 21, 4, 28, 29]
abbrev dktX4_command_5 : List UInt8 := dkwX4_command_5 ++ dktX4_command_6
def dkwX4_command_4 : List UInt8 := [16, 6, 160, 0, 18, 42, 180, 0, 186, 154, 0, 11, 42, 16, 45, 6, 182, 0, 202, 61, 42, 180, 0, 186]
abbrev dktX4_command_4 : List UInt8 := dkwX4_command_4 ++ dktX4_command_5
def dkwX4_command_3 : List UInt8 := [182, 0, 202, 61, 27, 154, 0, 18, 42, 180, 0, 186, 154, 0, 11, 42, 16, 32, 6, 182, 0, 202, 62, 27]
abbrev dktX4_command_3 : List UInt8 := dkwX4_command_3 ++ dktX4_command_4
def dkwX4_command_2 : List UInt8 := [27, 6, 162, 0, 26, 42, 180, 0, 186, 154, 0, 19, 42, 16, 32, 27, 154, 0, 7, 4, 167, 0, 4, 6]
abbrev dktX4_command_2 : List UInt8 := dkwX4_command_2 ++ dktX4_command_3
def dkwX4_command_1 : List UInt8 := [160, 0, 7, 3, 167, 0, 18, 42, 27, 16, 7, 160, 0, 7, 4, 167, 0, 4, 6, 182, 0, 196, 54, 4]
abbrev dktX4_command_1 : List UInt8 := dkwX4_command_1 ++ dktX4_command_2
def dkwX4_command_0 : List UInt8 := [42, 182, 0, 199, 60, 3, 61, 3, 62, 42, 180, 0, 186, 153, 0, 4, 177, 27, 7, 159, 0, 8, 27, 8]
abbrev dktX4_command_0 : List UInt8 := dkwX4_command_0 ++ dktX4_command_1
theorem dksX4_command_0 : cX4_command.data.toList.drop 0 = dktX4_command_0 := by decide +kernel
theorem dksX4_command_1 : cX4_command.data.toList.drop 24 = dktX4_command_1 := dk_seg dksX4_command_0 24 rfl rfl
theorem dksX4_command_2 : cX4_command.data.toList.drop 48 = dktX4_command_2 := dk_seg dksX4_command_1 24 rfl rfl
theorem dksX4_command_3 : cX4_command.data.toList.drop 72 = dktX4_command_3 := dk_seg dksX4_command_2 24 rfl rfl
theorem dksX4_command_4 : cX4_command.data.toList.drop 96 = dktX4_command_4 := dk_seg dksX4_command_3 24 rfl rfl
theorem dksX4_command_5 : cX4_command.data.toList.drop 120 = dktX4_command_5 := dk_seg dksX4_command_4 24 rfl rfl
theorem dksX4_command_6 : cX4_command.data.toList.drop 142 = dktX4_command_6 := dk_seg dksX4_command_5 22 rfl rfl
theorem dX4_command_0 : decode cX4_command 0 = .ok (.aload_n 0, 1) := dk_42 (dk_at dksX4_command_0 0 rfl rfl)
theorem dX4_command_1 : decode cX4_command 1 = .ok (.invokevirtual 199, 3) := dk_182 0 199 (dk_at dksX4_command_0 1 rfl rfl)
theorem dX4_command_4 : decode cX4_command 4 = .ok (.istore_n 1, 1) := dk_60 (dk_at dksX4_command_0 4 rfl rfl)
theorem dX4_command_5 : decode cX4_command 5 = .ok (.iconst 0, 1) := dk_3 (dk_at dksX4_command_0 5 rfl rfl)
theorem dX4_command_6 : decode cX4_command 6 = .ok (.istore_n 2, 1) := dk_61 (dk_at dksX4_command_0 6 rfl rfl)
theorem dX4_command_7 : decode cX4_command 7 = .ok (.iconst 0, 1) := dk_3 (dk_at dksX4_command_0 7 rfl rfl)
theorem dX4_command_8 : decode cX4_command 8 = .ok (.istore_n 3, 1) := dk_62 (dk_at dksX4_command_0 8 rfl rfl)
theorem dX4_command_9 : decode cX4_command 9 = .ok (.aload_n 0, 1) := dk_42 (dk_at dksX4_command_0 9 rfl rfl)
theorem dX4_command_10 : decode cX4_command 10 = .ok (.getfield 186, 3) := dk_180 0 186 (dk_at dksX4_command_0 10 rfl rfl)
theorem dX4_command_13 : decode cX4_command 13 = .ok (.ifCond .eq 4, 3) := dk_153 0 4 (dk_at dksX4_command_0 13 rfl rfl)
theorem dX4_command_16 : decode cX4_command 16 = .ok (.return_, 1) := dk_177 (dk_at dksX4_command_0 16 rfl rfl)
theorem dX4_command_17 : decode cX4_command 17 = .ok (.iload_n 1, 1) := dk_27 (dk_at dksX4_command_0 17 rfl rfl)
theorem dX4_command_18 : decode cX4_command 18 = .ok (.iconst 4, 1) := dk_7 (dk_at dksX4_command_0 18 rfl rfl)
theorem dX4_command_19 : decode cX4_command 19 = .ok (.if_icmp .eq 8, 3) := dk_159 0 8 (dk_at dksX4_command_0 19 rfl rfl)
theorem dX4_command_22 : decode cX4_command 22 = .ok (.iload_n 1, 1) := dk_27 (dk_at dksX4_command_0 22 rfl rfl)
theorem dX4_command_23 : decode cX4_command 23 = .ok (.iconst 5, 1) := dk_8 (dk_at dksX4_command_0 23 rfl rfl)
theorem dX4_command_24 : decode cX4_command 24 = .ok (.if_icmp .ne 7, 3) := dk_160 0 7 (dk_at dksX4_command_1 0 rfl rfl)
theorem dX4_command_27 : decode cX4_command 27 = .ok (.iconst 0, 1) := dk_3 (dk_at dksX4_command_1 3 rfl rfl)
theorem dX4_command_28 : decode cX4_command 28 = .ok (.goto 18, 3) := dk_167 0 18 (dk_at dksX4_command_1 4 rfl rfl)
theorem dX4_command_31 : decode cX4_command 31 = .ok (.aload_n 0, 1) := dk_42 (dk_at dksX4_command_1 7 rfl rfl)
theorem dX4_command_32 : decode cX4_command 32 = .ok (.iload_n 1, 1) := dk_27 (dk_at dksX4_command_1 8 rfl rfl)
theorem dX4_command_33 : decode cX4_command 33 = .ok (.bipush 7, 2) := dk_16 7 (dk_at dksX4_command_1 9 rfl rfl)
theorem dX4_command_35 : decode cX4_command 35 = .ok (.if_icmp .ne 7, 3) := dk_160 0 7 (dk_at dksX4_command_1 11 rfl rfl)
theorem dX4_command_38 : decode cX4_command 38 = .ok (.iconst 1, 1) := dk_4 (dk_at dksX4_command_1 14 rfl rfl)
theorem dX4_command_39 : decode cX4_command 39 = .ok (.goto 4, 3) := dk_167 0 4 (dk_at dksX4_command_1 15 rfl rfl)
theorem dX4_command_42 : decode cX4_command 42 = .ok (.iconst 3, 1) := dk_6 (dk_at dksX4_command_1 18 rfl rfl)
theorem dX4_command_43 : decode cX4_command 43 = .ok (.invokevirtual 196, 3) := dk_182 0 196 (dk_at dksX4_command_1 19 rfl rfl)
theorem dX4_command_46 : decode cX4_command 46 = .ok (.istore 4, 2) := dk_54 4 (dk_at dksX4_command_1 22 rfl rfl)
theorem dX4_command_48 : decode cX4_command 48 = .ok (.iload_n 1, 1) := dk_27 (dk_at dksX4_command_2 0 rfl rfl)
theorem dX4_command_49 : decode cX4_command 49 = .ok (.iconst 3, 1) := dk_6 (dk_at dksX4_command_2 1 rfl rfl)
theorem dX4_command_50 : decode cX4_command 50 = .ok (.if_icmp .ge 26, 3) := dk_162 0 26 (dk_at dksX4_command_2 2 rfl rfl)
theorem dX4_command_53 : decode cX4_command 53 = .ok (.aload_n 0, 1) := dk_42 (dk_at dksX4_command_2 5 rfl rfl)
theorem dX4_command_54 : decode cX4_command 54 = .ok (.getfield 186, 3) := dk_180 0 186 (dk_at dksX4_command_2 6 rfl rfl)
theorem dX4_command_57 : decode cX4_command 57 = .ok (.ifCond .ne 19, 3) := dk_154 0 19 (dk_at dksX4_command_2 9 rfl rfl)
theorem dX4_command_60 : decode cX4_command 60 = .ok (.aload_n 0, 1) := dk_42 (dk_at dksX4_command_2 12 rfl rfl)
theorem dX4_command_61 : decode cX4_command 61 = .ok (.bipush 32, 2) := dk_16 32 (dk_at dksX4_command_2 13 rfl rfl)
theorem dX4_command_63 : decode cX4_command 63 = .ok (.iload_n 1, 1) := dk_27 (dk_at dksX4_command_2 15 rfl rfl)
theorem dX4_command_64 : decode cX4_command 64 = .ok (.ifCond .ne 7, 3) := dk_154 0 7 (dk_at dksX4_command_2 16 rfl rfl)
theorem dX4_command_67 : decode cX4_command 67 = .ok (.iconst 1, 1) := dk_4 (dk_at dksX4_command_2 19 rfl rfl)
theorem dX4_command_68 : decode cX4_command 68 = .ok (.goto 4, 3) := dk_167 0 4 (dk_at dksX4_command_2 20 rfl rfl)
theorem dX4_command_71 : decode cX4_command 71 = .ok (.iconst 3, 1) := dk_6 (dk_at dksX4_command_2 23 rfl rfl)
theorem dX4_command_72 : decode cX4_command 72 = .ok (.invokevirtual 202, 3) := dk_182 0 202 (dk_at dksX4_command_3 0 rfl rfl)
theorem dX4_command_75 : decode cX4_command 75 = .ok (.istore_n 2, 1) := dk_61 (dk_at dksX4_command_3 3 rfl rfl)
theorem dX4_command_76 : decode cX4_command 76 = .ok (.iload_n 1, 1) := dk_27 (dk_at dksX4_command_3 4 rfl rfl)
theorem dX4_command_77 : decode cX4_command 77 = .ok (.ifCond .ne 18, 3) := dk_154 0 18 (dk_at dksX4_command_3 5 rfl rfl)
theorem dX4_command_80 : decode cX4_command 80 = .ok (.aload_n 0, 1) := dk_42 (dk_at dksX4_command_3 8 rfl rfl)
theorem dX4_command_81 : decode cX4_command 81 = .ok (.getfield 186, 3) := dk_180 0 186 (dk_at dksX4_command_3 9 rfl rfl)
theorem dX4_command_84 : decode cX4_command 84 = .ok (.ifCond .ne 11, 3) := dk_154 0 11 (dk_at dksX4_command_3 12 rfl rfl)
theorem dX4_command_87 : decode cX4_command 87 = .ok (.aload_n 0, 1) := dk_42 (dk_at dksX4_command_3 15 rfl rfl)
theorem dX4_command_88 : decode cX4_command 88 = .ok (.bipush 32, 2) := dk_16 32 (dk_at dksX4_command_3 16 rfl rfl)
theorem dX4_command_90 : decode cX4_command 90 = .ok (.iconst 3, 1) := dk_6 (dk_at dksX4_command_3 18 rfl rfl)
theorem dX4_command_91 : decode cX4_command 91 = .ok (.invokevirtual 202, 3) := dk_182 0 202 (dk_at dksX4_command_3 19 rfl rfl)
theorem dX4_command_94 : decode cX4_command 94 = .ok (.istore_n 3, 1) := dk_62 (dk_at dksX4_command_3 22 rfl rfl)
theorem dX4_command_95 : decode cX4_command 95 = .ok (.iload_n 1, 1) := dk_27 (dk_at dksX4_command_3 23 rfl rfl)
theorem dX4_command_96 : decode cX4_command 96 = .ok (.bipush 6, 2) := dk_16 6 (dk_at dksX4_command_4 0 rfl rfl)
theorem dX4_command_98 : decode cX4_command 98 = .ok (.if_icmp .ne 18, 3) := dk_160 0 18 (dk_at dksX4_command_4 2 rfl rfl)
theorem dX4_command_101 : decode cX4_command 101 = .ok (.aload_n 0, 1) := dk_42 (dk_at dksX4_command_4 5 rfl rfl)
theorem dX4_command_102 : decode cX4_command 102 = .ok (.getfield 186, 3) := dk_180 0 186 (dk_at dksX4_command_4 6 rfl rfl)
theorem dX4_command_105 : decode cX4_command 105 = .ok (.ifCond .ne 11, 3) := dk_154 0 11 (dk_at dksX4_command_4 9 rfl rfl)
theorem dX4_command_108 : decode cX4_command 108 = .ok (.aload_n 0, 1) := dk_42 (dk_at dksX4_command_4 12 rfl rfl)
theorem dX4_command_109 : decode cX4_command 109 = .ok (.bipush 45, 2) := dk_16 45 (dk_at dksX4_command_4 13 rfl rfl)
theorem dX4_command_111 : decode cX4_command 111 = .ok (.iconst 3, 1) := dk_6 (dk_at dksX4_command_4 15 rfl rfl)
theorem dX4_command_112 : decode cX4_command 112 = .ok (.invokevirtual 202, 3) := dk_182 0 202 (dk_at dksX4_command_4 16 rfl rfl)
theorem dX4_command_115 : decode cX4_command 115 = .ok (.istore_n 2, 1) := dk_61 (dk_at dksX4_command_4 19 rfl rfl)
theorem dX4_command_116 : decode cX4_command 116 = .ok (.aload_n 0, 1) := dk_42 (dk_at dksX4_command_4 20 rfl rfl)
theorem dX4_command_117 : decode cX4_command 117 = .ok (.getfield 186, 3) := dk_180 0 186 (dk_at dksX4_command_4 21 rfl rfl)
theorem dX4_command_120 : decode cX4_command 120 = .ok (.ifCond .ne 10, 3) := dk_154 0 10 (dk_at dksX4_command_5 0 rfl rfl)
theorem dX4_command_123 : decode cX4_command 123 = .ok (.aload_n 0, 1) := dk_42 (dk_at dksX4_command_5 3 rfl rfl)
theorem dX4_command_124 : decode cX4_command 124 = .ok (.getfield 205, 3) := dk_180 0 205 (dk_at dksX4_command_5 4 rfl rfl)
theorem dX4_command_127 : decode cX4_command 127 = .ok (.ifCond .ne 4, 3) := dk_154 0 4 (dk_at dksX4_command_5 7 rfl rfl)
theorem dX4_command_130 : decode cX4_command 130 = .ok (.return_, 1) := dk_177 (dk_at dksX4_command_5 10 rfl rfl)
theorem dX4_command_131 : decode cX4_command 131 = .ok (.aload_n 0, 1) := dk_42 (dk_at dksX4_command_5 11 rfl rfl)
theorem dX4_command_132 : decode cX4_command 132 = .ok (.iload_n 1, 1) := dk_27 (dk_at dksX4_command_5 12 rfl rfl)
theorem dX4_command_133 : decode cX4_command 133 = .ok (.putfield 208, 3) := dk_181 0 208 (dk_at dksX4_command_5 13 rfl rfl)
theorem dX4_command_136 : decode cX4_command 136 = .ok (.aload_n 0, 1) := dk_42 (dk_at dksX4_command_5 16 rfl rfl)
theorem dX4_command_137 : decode cX4_command 137 = .ok (.iload_n 1, 1) := dk_27 (dk_at dksX4_command_5 17 rfl rfl)
theorem dX4_command_138 : decode cX4_command 138 = .ok (.iload 4, 2) := dk_21 4 (dk_at dksX4_command_5 18 rfl rfl)
theorem dX4_command_140 : decode cX4_command 140 = .ok (.iload_n 2, 1) := dk_28 (dk_at dksX4_command_5 20 rfl rfl)
theorem dX4_command_141 : decode cX4_command 141 = .ok (.iload_n 3, 1) := dk_29 (dk_at dksX4_command_5 21 rfl rfl)
theorem dX4_command_142 : decode cX4_command 142 = .ok (.invokevirtual 211, 3) := dk_182 0 211 (dk_at dksX4_command_6 0 rfl rfl)
theorem dX4_command_145 : decode cX4_command 145 = .ok (.istore 5, 2) := dk_54 5 (dk_at dksX4_command_6 3 rfl rfl)
theorem dX4_command_147 : decode cX4_command 147 = .ok (.return_, 1) := dk_177 (dk_at dksX4_command_6 5 rfl rfl)
abbrev cX4_commands : ByteArray := prog_18_method_88_code
def yX4_commands : MethodName := ⟨RX4, "commands", "()I"⟩
def dkwX4_commands_2 : List UInt8 := [180, 0, 186, 154, 0, 7, 42, 182, 0, 215, 132, 1, 1, 167, 255, 211, 27, 172]
abbrev dktX4_commands_2 : List UInt8 := dkwX4_commands_2 ++ []
def dkwX4_commands_1 : List UInt8 := [180, 0, 50, 154, 0, 37, 42, 180, 0, 180, 42, 180, 0, 183, 162, 0, 26, 42, 16, 59, 182, 0, 193, 42]
abbrev dktX4_commands_1 : List UInt8 := dkwX4_commands_1 ++ dktX4_commands_2
def dkwX4_commands_0 : List UInt8 := [42, 3, 181, 0, 180, 42, 3, 181, 0, 186, 4, 60, 42, 182, 0, 215, 42, 180, 0, 186, 154, 0, 44, 42]
abbrev dktX4_commands_0 : List UInt8 := dkwX4_commands_0 ++ dktX4_commands_1
theorem dksX4_commands_0 : cX4_commands.data.toList.drop 0 = dktX4_commands_0 := by decide +kernel
theorem dksX4_commands_1 : cX4_commands.data.toList.drop 24 = dktX4_commands_1 := dk_seg dksX4_commands_0 24 rfl rfl
theorem dksX4_commands_2 : cX4_commands.data.toList.drop 48 = dktX4_commands_2 := dk_seg dksX4_commands_1 24 rfl rfl
theorem dX4_commands_0 : decode cX4_commands 0 = .ok (.aload_n 0, 1) := dk_42 (dk_at dksX4_commands_0 0 rfl rfl)
theorem dX4_commands_1 : decode cX4_commands 1 = .ok (.iconst 0, 1) := dk_3 (dk_at dksX4_commands_0 1 rfl rfl)
theorem dX4_commands_2 : decode cX4_commands 2 = .ok (.putfield 180, 3) := dk_181 0 180 (dk_at dksX4_commands_0 2 rfl rfl)
theorem dX4_commands_5 : decode cX4_commands 5 = .ok (.aload_n 0, 1) := dk_42 (dk_at dksX4_commands_0 5 rfl rfl)
theorem dX4_commands_6 : decode cX4_commands 6 = .ok (.iconst 0, 1) := dk_3 (dk_at dksX4_commands_0 6 rfl rfl)
theorem dX4_commands_7 : decode cX4_commands 7 = .ok (.putfield 186, 3) := dk_181 0 186 (dk_at dksX4_commands_0 7 rfl rfl)
theorem dX4_commands_10 : decode cX4_commands 10 = .ok (.iconst 1, 1) := dk_4 (dk_at dksX4_commands_0 10 rfl rfl)
theorem dX4_commands_11 : decode cX4_commands 11 = .ok (.istore_n 1, 1) := dk_60 (dk_at dksX4_commands_0 11 rfl rfl)
theorem dX4_commands_12 : decode cX4_commands 12 = .ok (.aload_n 0, 1) := dk_42 (dk_at dksX4_commands_0 12 rfl rfl)
theorem dX4_commands_13 : decode cX4_commands 13 = .ok (.invokevirtual 215, 3) := dk_182 0 215 (dk_at dksX4_commands_0 13 rfl rfl)
theorem dX4_commands_16 : decode cX4_commands 16 = .ok (.aload_n 0, 1) := dk_42 (dk_at dksX4_commands_0 16 rfl rfl)
theorem dX4_commands_17 : decode cX4_commands 17 = .ok (.getfield 186, 3) := dk_180 0 186 (dk_at dksX4_commands_0 17 rfl rfl)
theorem dX4_commands_20 : decode cX4_commands 20 = .ok (.ifCond .ne 44, 3) := dk_154 0 44 (dk_at dksX4_commands_0 20 rfl rfl)
theorem dX4_commands_23 : decode cX4_commands 23 = .ok (.aload_n 0, 1) := dk_42 (dk_at dksX4_commands_0 23 rfl rfl)
theorem dX4_commands_24 : decode cX4_commands 24 = .ok (.getfield 50, 3) := dk_180 0 50 (dk_at dksX4_commands_1 0 rfl rfl)
theorem dX4_commands_27 : decode cX4_commands 27 = .ok (.ifCond .ne 37, 3) := dk_154 0 37 (dk_at dksX4_commands_1 3 rfl rfl)
theorem dX4_commands_30 : decode cX4_commands 30 = .ok (.aload_n 0, 1) := dk_42 (dk_at dksX4_commands_1 6 rfl rfl)
theorem dX4_commands_31 : decode cX4_commands 31 = .ok (.getfield 180, 3) := dk_180 0 180 (dk_at dksX4_commands_1 7 rfl rfl)
theorem dX4_commands_34 : decode cX4_commands 34 = .ok (.aload_n 0, 1) := dk_42 (dk_at dksX4_commands_1 10 rfl rfl)
theorem dX4_commands_35 : decode cX4_commands 35 = .ok (.getfield 183, 3) := dk_180 0 183 (dk_at dksX4_commands_1 11 rfl rfl)
theorem dX4_commands_38 : decode cX4_commands 38 = .ok (.if_icmp .ge 26, 3) := dk_162 0 26 (dk_at dksX4_commands_1 14 rfl rfl)
theorem dX4_commands_41 : decode cX4_commands 41 = .ok (.aload_n 0, 1) := dk_42 (dk_at dksX4_commands_1 17 rfl rfl)
theorem dX4_commands_42 : decode cX4_commands 42 = .ok (.bipush 59, 2) := dk_16 59 (dk_at dksX4_commands_1 18 rfl rfl)
theorem dX4_commands_44 : decode cX4_commands 44 = .ok (.invokevirtual 193, 3) := dk_182 0 193 (dk_at dksX4_commands_1 20 rfl rfl)
theorem dX4_commands_47 : decode cX4_commands 47 = .ok (.aload_n 0, 1) := dk_42 (dk_at dksX4_commands_1 23 rfl rfl)
theorem dX4_commands_48 : decode cX4_commands 48 = .ok (.getfield 186, 3) := dk_180 0 186 (dk_at dksX4_commands_2 0 rfl rfl)
theorem dX4_commands_51 : decode cX4_commands 51 = .ok (.ifCond .ne 7, 3) := dk_154 0 7 (dk_at dksX4_commands_2 3 rfl rfl)
theorem dX4_commands_54 : decode cX4_commands 54 = .ok (.aload_n 0, 1) := dk_42 (dk_at dksX4_commands_2 6 rfl rfl)
theorem dX4_commands_55 : decode cX4_commands 55 = .ok (.invokevirtual 215, 3) := dk_182 0 215 (dk_at dksX4_commands_2 7 rfl rfl)
theorem dX4_commands_58 : decode cX4_commands 58 = .ok (.iinc 1 1, 3) := dk_132 1 1 (dk_at dksX4_commands_2 10 rfl rfl)
theorem dX4_commands_61 : decode cX4_commands 61 = .ok (.goto (-45), 3) := dk_167 255 211 (dk_at dksX4_commands_2 13 rfl rfl)
theorem dX4_commands_64 : decode cX4_commands 64 = .ok (.iload_n 1, 1) := dk_27 (dk_at dksX4_commands_2 16 rfl rfl)
theorem dX4_commands_65 : decode cX4_commands 65 = .ok (.ireturn, 1) := dk_172 (dk_at dksX4_commands_2 17 rfl rfl)
abbrev cX4_runScript : ByteArray := prog_18_method_89_code
def yX4_runScript : MethodName := ⟨RX4, "runScript", "()I"⟩
def dkwX4_runScript_4 : List UInt8 := [181, 0, 221, 42, 5, 181, 0, 50, 42, 27, 182, 0, 96, 172]
abbrev dktX4_runScript_4 : List UInt8 := dkwX4_runScript_4 ++ []
def dkwX4_runScript_3 : List UInt8 := [181, 0, 13, 42, 42, 180, 0, 47, 5, 42, 180, 0, 208, 104, 42, 180, 0, 50, 96, 4, 100, 46]
abbrev dktX4_runScript_3 : List UInt8 := dkwX4_runScript_3 ++ dktX4_runScript_4
def dkwX4_runScript_2 : List UInt8 := [172, 42, 4, 181, 0, 205, 42, 182, 0, 218, 60, 42, 180, 0, 50, 153, 0, 37, 42, 27, 4, 100]
abbrev dktX4_runScript_2 : List UInt8 := dkwX4_runScript_2 ++ dktX4_runScript_3
def dkwX4_runScript_1 : List UInt8 := [182, 0, 218, 60, 42, 180, 0, 186, 153, 0, 17, 42, 42, 180, 0, 180, 181, 0, 7, 42, 4, 182, 0, 86]
abbrev dktX4_runScript_1 : List UInt8 := dkwX4_runScript_1 ++ dktX4_runScript_2
def dkwX4_runScript_0 : List UInt8 := [42, 182, 0, 89, 42, 42, 180, 0, 177, 181, 0, 183, 42, 3, 181, 0, 177, 42, 3, 181, 0, 205, 42]
abbrev dktX4_runScript_0 : List UInt8 := dkwX4_runScript_0 ++ dktX4_runScript_1
theorem dksX4_runScript_0 : cX4_runScript.data.toList.drop 0 = dktX4_runScript_0 := by decide +kernel
theorem dksX4_runScript_1 : cX4_runScript.data.toList.drop 23 = dktX4_runScript_1 := dk_seg dksX4_runScript_0 23 rfl rfl
theorem dksX4_runScript_2 : cX4_runScript.data.toList.drop 47 = dktX4_runScript_2 := dk_seg dksX4_runScript_1 24 rfl rfl
theorem dksX4_runScript_3 : cX4_runScript.data.toList.drop 69 = dktX4_runScript_3 := dk_seg dksX4_runScript_2 22 rfl rfl
theorem dksX4_runScript_4 : cX4_runScript.data.toList.drop 91 = dktX4_runScript_4 := dk_seg dksX4_runScript_3 22 rfl rfl
theorem dX4_runScript_0 : decode cX4_runScript 0 = .ok (.aload_n 0, 1) := dk_42 (dk_at dksX4_runScript_0 0 rfl rfl)
theorem dX4_runScript_1 : decode cX4_runScript 1 = .ok (.invokevirtual 89, 3) := dk_182 0 89 (dk_at dksX4_runScript_0 1 rfl rfl)
theorem dX4_runScript_4 : decode cX4_runScript 4 = .ok (.aload_n 0, 1) := dk_42 (dk_at dksX4_runScript_0 4 rfl rfl)
theorem dX4_runScript_5 : decode cX4_runScript 5 = .ok (.aload_n 0, 1) := dk_42 (dk_at dksX4_runScript_0 5 rfl rfl)
theorem dX4_runScript_6 : decode cX4_runScript 6 = .ok (.getfield 177, 3) := dk_180 0 177 (dk_at dksX4_runScript_0 6 rfl rfl)
theorem dX4_runScript_9 : decode cX4_runScript 9 = .ok (.putfield 183, 3) := dk_181 0 183 (dk_at dksX4_runScript_0 9 rfl rfl)
theorem dX4_runScript_12 : decode cX4_runScript 12 = .ok (.aload_n 0, 1) := dk_42 (dk_at dksX4_runScript_0 12 rfl rfl)
theorem dX4_runScript_13 : decode cX4_runScript 13 = .ok (.iconst 0, 1) := dk_3 (dk_at dksX4_runScript_0 13 rfl rfl)
theorem dX4_runScript_14 : decode cX4_runScript 14 = .ok (.putfield 177, 3) := dk_181 0 177 (dk_at dksX4_runScript_0 14 rfl rfl)
theorem dX4_runScript_17 : decode cX4_runScript 17 = .ok (.aload_n 0, 1) := dk_42 (dk_at dksX4_runScript_0 17 rfl rfl)
theorem dX4_runScript_18 : decode cX4_runScript 18 = .ok (.iconst 0, 1) := dk_3 (dk_at dksX4_runScript_0 18 rfl rfl)
theorem dX4_runScript_19 : decode cX4_runScript 19 = .ok (.putfield 205, 3) := dk_181 0 205 (dk_at dksX4_runScript_0 19 rfl rfl)
theorem dX4_runScript_22 : decode cX4_runScript 22 = .ok (.aload_n 0, 1) := dk_42 (dk_at dksX4_runScript_0 22 rfl rfl)
theorem dX4_runScript_23 : decode cX4_runScript 23 = .ok (.invokevirtual 218, 3) := dk_182 0 218 (dk_at dksX4_runScript_1 0 rfl rfl)
theorem dX4_runScript_26 : decode cX4_runScript 26 = .ok (.istore_n 1, 1) := dk_60 (dk_at dksX4_runScript_1 3 rfl rfl)
theorem dX4_runScript_27 : decode cX4_runScript 27 = .ok (.aload_n 0, 1) := dk_42 (dk_at dksX4_runScript_1 4 rfl rfl)
theorem dX4_runScript_28 : decode cX4_runScript 28 = .ok (.getfield 186, 3) := dk_180 0 186 (dk_at dksX4_runScript_1 5 rfl rfl)
theorem dX4_runScript_31 : decode cX4_runScript 31 = .ok (.ifCond .eq 17, 3) := dk_153 0 17 (dk_at dksX4_runScript_1 8 rfl rfl)
theorem dX4_runScript_34 : decode cX4_runScript 34 = .ok (.aload_n 0, 1) := dk_42 (dk_at dksX4_runScript_1 11 rfl rfl)
theorem dX4_runScript_35 : decode cX4_runScript 35 = .ok (.aload_n 0, 1) := dk_42 (dk_at dksX4_runScript_1 12 rfl rfl)
theorem dX4_runScript_36 : decode cX4_runScript 36 = .ok (.getfield 180, 3) := dk_180 0 180 (dk_at dksX4_runScript_1 13 rfl rfl)
theorem dX4_runScript_39 : decode cX4_runScript 39 = .ok (.putfield 7, 3) := dk_181 0 7 (dk_at dksX4_runScript_1 16 rfl rfl)
theorem dX4_runScript_42 : decode cX4_runScript 42 = .ok (.aload_n 0, 1) := dk_42 (dk_at dksX4_runScript_1 19 rfl rfl)
theorem dX4_runScript_43 : decode cX4_runScript 43 = .ok (.iconst 1, 1) := dk_4 (dk_at dksX4_runScript_1 20 rfl rfl)
theorem dX4_runScript_44 : decode cX4_runScript 44 = .ok (.invokevirtual 86, 3) := dk_182 0 86 (dk_at dksX4_runScript_1 21 rfl rfl)
theorem dX4_runScript_47 : decode cX4_runScript 47 = .ok (.ireturn, 1) := dk_172 (dk_at dksX4_runScript_2 0 rfl rfl)
theorem dX4_runScript_48 : decode cX4_runScript 48 = .ok (.aload_n 0, 1) := dk_42 (dk_at dksX4_runScript_2 1 rfl rfl)
theorem dX4_runScript_49 : decode cX4_runScript 49 = .ok (.iconst 1, 1) := dk_4 (dk_at dksX4_runScript_2 2 rfl rfl)
theorem dX4_runScript_50 : decode cX4_runScript 50 = .ok (.putfield 205, 3) := dk_181 0 205 (dk_at dksX4_runScript_2 3 rfl rfl)
theorem dX4_runScript_53 : decode cX4_runScript 53 = .ok (.aload_n 0, 1) := dk_42 (dk_at dksX4_runScript_2 6 rfl rfl)
theorem dX4_runScript_54 : decode cX4_runScript 54 = .ok (.invokevirtual 218, 3) := dk_182 0 218 (dk_at dksX4_runScript_2 7 rfl rfl)
theorem dX4_runScript_57 : decode cX4_runScript 57 = .ok (.istore_n 1, 1) := dk_60 (dk_at dksX4_runScript_2 10 rfl rfl)
theorem dX4_runScript_58 : decode cX4_runScript 58 = .ok (.aload_n 0, 1) := dk_42 (dk_at dksX4_runScript_2 11 rfl rfl)
theorem dX4_runScript_59 : decode cX4_runScript 59 = .ok (.getfield 50, 3) := dk_180 0 50 (dk_at dksX4_runScript_2 12 rfl rfl)
theorem dX4_runScript_62 : decode cX4_runScript 62 = .ok (.ifCond .eq 37, 3) := dk_153 0 37 (dk_at dksX4_runScript_2 15 rfl rfl)
theorem dX4_runScript_65 : decode cX4_runScript 65 = .ok (.aload_n 0, 1) := dk_42 (dk_at dksX4_runScript_2 18 rfl rfl)
theorem dX4_runScript_66 : decode cX4_runScript 66 = .ok (.iload_n 1, 1) := dk_27 (dk_at dksX4_runScript_2 19 rfl rfl)
theorem dX4_runScript_67 : decode cX4_runScript 67 = .ok (.iconst 1, 1) := dk_4 (dk_at dksX4_runScript_2 20 rfl rfl)
theorem dX4_runScript_68 : decode cX4_runScript 68 = .ok (.isub, 1) := dk_100 (dk_at dksX4_runScript_2 21 rfl rfl)
theorem dX4_runScript_69 : decode cX4_runScript 69 = .ok (.putfield 13, 3) := dk_181 0 13 (dk_at dksX4_runScript_3 0 rfl rfl)
theorem dX4_runScript_72 : decode cX4_runScript 72 = .ok (.aload_n 0, 1) := dk_42 (dk_at dksX4_runScript_3 3 rfl rfl)
theorem dX4_runScript_73 : decode cX4_runScript 73 = .ok (.aload_n 0, 1) := dk_42 (dk_at dksX4_runScript_3 4 rfl rfl)
theorem dX4_runScript_74 : decode cX4_runScript 74 = .ok (.getfield 47, 3) := dk_180 0 47 (dk_at dksX4_runScript_3 5 rfl rfl)
theorem dX4_runScript_77 : decode cX4_runScript 77 = .ok (.iconst 2, 1) := dk_5 (dk_at dksX4_runScript_3 8 rfl rfl)
theorem dX4_runScript_78 : decode cX4_runScript 78 = .ok (.aload_n 0, 1) := dk_42 (dk_at dksX4_runScript_3 9 rfl rfl)
theorem dX4_runScript_79 : decode cX4_runScript 79 = .ok (.getfield 208, 3) := dk_180 0 208 (dk_at dksX4_runScript_3 10 rfl rfl)
theorem dX4_runScript_82 : decode cX4_runScript 82 = .ok (.imul, 1) := dk_104 (dk_at dksX4_runScript_3 13 rfl rfl)
theorem dX4_runScript_83 : decode cX4_runScript 83 = .ok (.aload_n 0, 1) := dk_42 (dk_at dksX4_runScript_3 14 rfl rfl)
theorem dX4_runScript_84 : decode cX4_runScript 84 = .ok (.getfield 50, 3) := dk_180 0 50 (dk_at dksX4_runScript_3 15 rfl rfl)
theorem dX4_runScript_87 : decode cX4_runScript 87 = .ok (.iadd, 1) := dk_96 (dk_at dksX4_runScript_3 18 rfl rfl)
theorem dX4_runScript_88 : decode cX4_runScript 88 = .ok (.iconst 1, 1) := dk_4 (dk_at dksX4_runScript_3 19 rfl rfl)
theorem dX4_runScript_89 : decode cX4_runScript 89 = .ok (.isub, 1) := dk_100 (dk_at dksX4_runScript_3 20 rfl rfl)
theorem dX4_runScript_90 : decode cX4_runScript 90 = .ok (.iaload, 1) := dk_46 (dk_at dksX4_runScript_3 21 rfl rfl)
theorem dX4_runScript_91 : decode cX4_runScript 91 = .ok (.putfield 221, 3) := dk_181 0 221 (dk_at dksX4_runScript_4 0 rfl rfl)
theorem dX4_runScript_94 : decode cX4_runScript 94 = .ok (.aload_n 0, 1) := dk_42 (dk_at dksX4_runScript_4 3 rfl rfl)
theorem dX4_runScript_95 : decode cX4_runScript 95 = .ok (.iconst 2, 1) := dk_5 (dk_at dksX4_runScript_4 4 rfl rfl)
theorem dX4_runScript_96 : decode cX4_runScript 96 = .ok (.putfield 50, 3) := dk_181 0 50 (dk_at dksX4_runScript_4 5 rfl rfl)
theorem dX4_runScript_99 : decode cX4_runScript 99 = .ok (.aload_n 0, 1) := dk_42 (dk_at dksX4_runScript_4 8 rfl rfl)
theorem dX4_runScript_100 : decode cX4_runScript 100 = .ok (.iload_n 1, 1) := dk_27 (dk_at dksX4_runScript_4 9 rfl rfl)
theorem dX4_runScript_101 : decode cX4_runScript 101 = .ok (.invokevirtual 96, 3) := dk_182 0 96 (dk_at dksX4_runScript_4 10 rfl rfl)
theorem dX4_runScript_104 : decode cX4_runScript 104 = .ok (.ireturn, 1) := dk_172 (dk_at dksX4_runScript_4 13 rfl rfl)
abbrev cX4_save : ByteArray := prog_18_method_94_code
def yX4_save : MethodName := ⟨RX4, "save", "()I"⟩
def dkwX4_save_1 : List UInt8 := [180, 0, 16, 6, 46, 172]
abbrev dktX4_save_1 : List UInt8 := dkwX4_save_1 ++ []
def dkwX4_save_0 : List UInt8 := [42, 3, 181, 0, 50, 42, 180, 0, 23, 42, 180, 0, 16, 184, 0, 53, 42, 4, 181, 0, 224, 42]
abbrev dktX4_save_0 : List UInt8 := dkwX4_save_0 ++ dktX4_save_1
theorem dksX4_save_0 : cX4_save.data.toList.drop 0 = dktX4_save_0 := by decide +kernel
theorem dksX4_save_1 : cX4_save.data.toList.drop 22 = dktX4_save_1 := dk_seg dksX4_save_0 22 rfl rfl
theorem dX4_save_0 : decode cX4_save 0 = .ok (.aload_n 0, 1) := dk_42 (dk_at dksX4_save_0 0 rfl rfl)
theorem dX4_save_1 : decode cX4_save 1 = .ok (.iconst 0, 1) := dk_3 (dk_at dksX4_save_0 1 rfl rfl)
theorem dX4_save_2 : decode cX4_save 2 = .ok (.putfield 50, 3) := dk_181 0 50 (dk_at dksX4_save_0 2 rfl rfl)
theorem dX4_save_5 : decode cX4_save 5 = .ok (.aload_n 0, 1) := dk_42 (dk_at dksX4_save_0 5 rfl rfl)
theorem dX4_save_6 : decode cX4_save 6 = .ok (.getfield 23, 3) := dk_180 0 23 (dk_at dksX4_save_0 6 rfl rfl)
theorem dX4_save_9 : decode cX4_save 9 = .ok (.aload_n 0, 1) := dk_42 (dk_at dksX4_save_0 9 rfl rfl)
theorem dX4_save_10 : decode cX4_save 10 = .ok (.getfield 16, 3) := dk_180 0 16 (dk_at dksX4_save_0 10 rfl rfl)
theorem dX4_save_13 : decode cX4_save 13 = .ok (.invokestatic 53, 3) := dk_184 0 53 (dk_at dksX4_save_0 13 rfl rfl)
theorem dX4_save_16 : decode cX4_save 16 = .ok (.aload_n 0, 1) := dk_42 (dk_at dksX4_save_0 16 rfl rfl)
theorem dX4_save_17 : decode cX4_save 17 = .ok (.iconst 1, 1) := dk_4 (dk_at dksX4_save_0 17 rfl rfl)
theorem dX4_save_18 : decode cX4_save 18 = .ok (.putfield 224, 3) := dk_181 0 224 (dk_at dksX4_save_0 18 rfl rfl)
theorem dX4_save_21 : decode cX4_save 21 = .ok (.aload_n 0, 1) := dk_42 (dk_at dksX4_save_0 21 rfl rfl)
theorem dX4_save_22 : decode cX4_save 22 = .ok (.getfield 16, 3) := dk_180 0 16 (dk_at dksX4_save_1 0 rfl rfl)
theorem dX4_save_25 : decode cX4_save 25 = .ok (.iconst 3, 1) := dk_6 (dk_at dksX4_save_1 3 rfl rfl)
theorem dX4_save_26 : decode cX4_save 26 = .ok (.iaload, 1) := dk_46 (dk_at dksX4_save_1 4 rfl rfl)
theorem dX4_save_27 : decode cX4_save 27 = .ok (.ireturn, 1) := dk_172 (dk_at dksX4_save_1 5 rfl rfl)
abbrev cX4_serve : ByteArray := prog_18_method_26_code
def yX4_serve : MethodName := ⟨RX4, "serve", "()I"⟩
def dkwX4_serve_0 : List UInt8 := [42, 182, 0, 89, 42, 42, 182, 0, 117, 182, 0, 96, 172]
abbrev dktX4_serve_0 : List UInt8 := dkwX4_serve_0 ++ []
theorem dksX4_serve_0 : cX4_serve.data.toList.drop 0 = dktX4_serve_0 := by decide +kernel
theorem dX4_serve_0 : decode cX4_serve 0 = .ok (.aload_n 0, 1) := dk_42 (dk_at dksX4_serve_0 0 rfl rfl)
theorem dX4_serve_1 : decode cX4_serve 1 = .ok (.invokevirtual 89, 3) := dk_182 0 89 (dk_at dksX4_serve_0 1 rfl rfl)
theorem dX4_serve_4 : decode cX4_serve 4 = .ok (.aload_n 0, 1) := dk_42 (dk_at dksX4_serve_0 4 rfl rfl)
theorem dX4_serve_5 : decode cX4_serve 5 = .ok (.aload_n 0, 1) := dk_42 (dk_at dksX4_serve_0 5 rfl rfl)
theorem dX4_serve_6 : decode cX4_serve 6 = .ok (.invokevirtual 117, 3) := dk_182 0 117 (dk_at dksX4_serve_0 6 rfl rfl)
theorem dX4_serve_9 : decode cX4_serve 9 = .ok (.invokevirtual 96, 3) := dk_182 0 96 (dk_at dksX4_serve_0 9 rfl rfl)
theorem dX4_serve_12 : decode cX4_serve 12 = .ok (.ireturn, 1) := dk_172 (dk_at dksX4_serve_0 12 rfl rfl)
abbrev cX4_servedTotal : ByteArray := prog_18_method_65_code
def yX4_servedTotal : MethodName := ⟨RX4, "servedTotal", "()I"⟩
def dkwX4_servedTotal_0 : List UInt8 := [42, 16, 6, 182, 0, 129, 172]
abbrev dktX4_servedTotal_0 : List UInt8 := dkwX4_servedTotal_0 ++ []
theorem dksX4_servedTotal_0 : cX4_servedTotal.data.toList.drop 0 = dktX4_servedTotal_0 := by decide +kernel
theorem dX4_servedTotal_0 : decode cX4_servedTotal 0 = .ok (.aload_n 0, 1) := dk_42 (dk_at dksX4_servedTotal_0 0 rfl rfl)
theorem dX4_servedTotal_1 : decode cX4_servedTotal 1 = .ok (.bipush 6, 2) := dk_16 6 (dk_at dksX4_servedTotal_0 1 rfl rfl)
theorem dX4_servedTotal_3 : decode cX4_servedTotal 3 = .ok (.invokevirtual 129, 3) := dk_182 0 129 (dk_at dksX4_servedTotal_0 3 rfl rfl)
theorem dX4_servedTotal_6 : decode cX4_servedTotal 6 = .ok (.ireturn, 1) := dk_172 (dk_at dksX4_servedTotal_0 6 rfl rfl)
abbrev cX4_staleCount : ByteArray := prog_18_method_46_code
def yX4_staleCount : MethodName := ⟨RX4, "staleCount", "()I"⟩
def dkwX4_staleCount_0 : List UInt8 := [42, 3, 181, 0, 50, 42, 180, 0, 16, 8, 46, 42, 180, 0, 16, 6, 46, 100, 172]
abbrev dktX4_staleCount_0 : List UInt8 := dkwX4_staleCount_0 ++ []
theorem dksX4_staleCount_0 : cX4_staleCount.data.toList.drop 0 = dktX4_staleCount_0 := by decide +kernel
theorem dX4_staleCount_0 : decode cX4_staleCount 0 = .ok (.aload_n 0, 1) := dk_42 (dk_at dksX4_staleCount_0 0 rfl rfl)
theorem dX4_staleCount_1 : decode cX4_staleCount 1 = .ok (.iconst 0, 1) := dk_3 (dk_at dksX4_staleCount_0 1 rfl rfl)
theorem dX4_staleCount_2 : decode cX4_staleCount 2 = .ok (.putfield 50, 3) := dk_181 0 50 (dk_at dksX4_staleCount_0 2 rfl rfl)
theorem dX4_staleCount_5 : decode cX4_staleCount 5 = .ok (.aload_n 0, 1) := dk_42 (dk_at dksX4_staleCount_0 5 rfl rfl)
theorem dX4_staleCount_6 : decode cX4_staleCount 6 = .ok (.getfield 16, 3) := dk_180 0 16 (dk_at dksX4_staleCount_0 6 rfl rfl)
theorem dX4_staleCount_9 : decode cX4_staleCount 9 = .ok (.iconst 5, 1) := dk_8 (dk_at dksX4_staleCount_0 9 rfl rfl)
theorem dX4_staleCount_10 : decode cX4_staleCount 10 = .ok (.iaload, 1) := dk_46 (dk_at dksX4_staleCount_0 10 rfl rfl)
theorem dX4_staleCount_11 : decode cX4_staleCount 11 = .ok (.aload_n 0, 1) := dk_42 (dk_at dksX4_staleCount_0 11 rfl rfl)
theorem dX4_staleCount_12 : decode cX4_staleCount 12 = .ok (.getfield 16, 3) := dk_180 0 16 (dk_at dksX4_staleCount_0 12 rfl rfl)
theorem dX4_staleCount_15 : decode cX4_staleCount 15 = .ok (.iconst 3, 1) := dk_6 (dk_at dksX4_staleCount_0 15 rfl rfl)
theorem dX4_staleCount_16 : decode cX4_staleCount 16 = .ok (.iaload, 1) := dk_46 (dk_at dksX4_staleCount_0 16 rfl rfl)
theorem dX4_staleCount_17 : decode cX4_staleCount 17 = .ok (.isub, 1) := dk_100 (dk_at dksX4_staleCount_0 17 rfl rfl)
theorem dX4_staleCount_18 : decode cX4_staleCount 18 = .ok (.ireturn, 1) := dk_172 (dk_at dksX4_staleCount_0 18 rfl rfl)
abbrev cX4_startOf : ByteArray := prog_18_method_57_code
def yX4_startOf : MethodName := ⟨RX4, "startOf", "(I)I"⟩
def dkwX4_startOf_0 : List UInt8 := [42, 27, 3, 182, 0, 151, 172]
abbrev dktX4_startOf_0 : List UInt8 := dkwX4_startOf_0 ++ []
theorem dksX4_startOf_0 : cX4_startOf.data.toList.drop 0 = dktX4_startOf_0 := by decide +kernel
theorem dX4_startOf_0 : decode cX4_startOf 0 = .ok (.aload_n 0, 1) := dk_42 (dk_at dksX4_startOf_0 0 rfl rfl)
theorem dX4_startOf_1 : decode cX4_startOf 1 = .ok (.iload_n 1, 1) := dk_27 (dk_at dksX4_startOf_0 1 rfl rfl)
theorem dX4_startOf_2 : decode cX4_startOf 2 = .ok (.iconst 0, 1) := dk_3 (dk_at dksX4_startOf_0 2 rfl rfl)
theorem dX4_startOf_3 : decode cX4_startOf 3 = .ok (.invokevirtual 151, 3) := dk_182 0 151 (dk_at dksX4_startOf_0 3 rfl rfl)
theorem dX4_startOf_6 : decode cX4_startOf 6 = .ok (.ireturn, 1) := dk_172 (dk_at dksX4_startOf_0 6 rfl rfl)
abbrev cX4_thrown : ByteArray := prog_18_method_2_code
def yX4_thrown : MethodName := ⟨RX4, "thrown", "()I"⟩
theorem dX4_thrown_0 : decode cX4_thrown 0 = .ok (.aload_n 0, 1) := by decide +kernel
theorem dX4_thrown_1 : decode cX4_thrown 1 = .ok (.getfield 50, 3) := by decide +kernel
theorem dX4_thrown_4 : decode cX4_thrown 4 = .ok (.ireturn, 1) := by decide +kernel
abbrev cX4_thrownTotal : ByteArray := prog_18_method_69_code
def yX4_thrownTotal : MethodName := ⟨RX4, "thrownTotal", "()I"⟩
def dkwX4_thrownTotal_0 : List UInt8 := [42, 16, 9, 182, 0, 129, 172]
abbrev dktX4_thrownTotal_0 : List UInt8 := dkwX4_thrownTotal_0 ++ []
theorem dksX4_thrownTotal_0 : cX4_thrownTotal.data.toList.drop 0 = dktX4_thrownTotal_0 := by decide +kernel
theorem dX4_thrownTotal_0 : decode cX4_thrownTotal 0 = .ok (.aload_n 0, 1) := dk_42 (dk_at dksX4_thrownTotal_0 0 rfl rfl)
theorem dX4_thrownTotal_1 : decode cX4_thrownTotal 1 = .ok (.bipush 9, 2) := dk_16 9 (dk_at dksX4_thrownTotal_0 1 rfl rfl)
theorem dX4_thrownTotal_3 : decode cX4_thrownTotal 3 = .ok (.invokevirtual 129, 3) := dk_182 0 129 (dk_at dksX4_thrownTotal_0 3 rfl rfl)
theorem dX4_thrownTotal_6 : decode cX4_thrownTotal 6 = .ok (.ireturn, 1) := dk_172 (dk_at dksX4_thrownTotal_0 6 rfl rfl)
abbrev cX4_ticketAtRank : ByteArray := prog_18_method_47_code
def yX4_ticketAtRank : MethodName := ⟨RX4, "ticketAtRank", "(I)I"⟩
def dkwX4_ticketAtRank_1 : List UInt8 := [181, 0, 50, 42, 180, 0, 50, 154, 0, 15, 42, 180, 0, 16, 27, 184, 0, 64, 46, 167, 0, 4, 3, 172]
abbrev dktX4_ticketAtRank_1 : List UInt8 := dkwX4_ticketAtRank_1 ++ []
def dkwX4_ticketAtRank_0 : List UInt8 := [42, 27, 3, 42, 180, 0, 16, 8, 46, 4, 100, 184, 0, 82, 153, 0, 7, 3, 167, 0, 4, 4]
abbrev dktX4_ticketAtRank_0 : List UInt8 := dkwX4_ticketAtRank_0 ++ dktX4_ticketAtRank_1
theorem dksX4_ticketAtRank_0 : cX4_ticketAtRank.data.toList.drop 0 = dktX4_ticketAtRank_0 := by decide +kernel
theorem dksX4_ticketAtRank_1 : cX4_ticketAtRank.data.toList.drop 22 = dktX4_ticketAtRank_1 := dk_seg dksX4_ticketAtRank_0 22 rfl rfl
theorem dX4_ticketAtRank_0 : decode cX4_ticketAtRank 0 = .ok (.aload_n 0, 1) := dk_42 (dk_at dksX4_ticketAtRank_0 0 rfl rfl)
theorem dX4_ticketAtRank_1 : decode cX4_ticketAtRank 1 = .ok (.iload_n 1, 1) := dk_27 (dk_at dksX4_ticketAtRank_0 1 rfl rfl)
theorem dX4_ticketAtRank_2 : decode cX4_ticketAtRank 2 = .ok (.iconst 0, 1) := dk_3 (dk_at dksX4_ticketAtRank_0 2 rfl rfl)
theorem dX4_ticketAtRank_3 : decode cX4_ticketAtRank 3 = .ok (.aload_n 0, 1) := dk_42 (dk_at dksX4_ticketAtRank_0 3 rfl rfl)
theorem dX4_ticketAtRank_4 : decode cX4_ticketAtRank 4 = .ok (.getfield 16, 3) := dk_180 0 16 (dk_at dksX4_ticketAtRank_0 4 rfl rfl)
theorem dX4_ticketAtRank_7 : decode cX4_ticketAtRank 7 = .ok (.iconst 5, 1) := dk_8 (dk_at dksX4_ticketAtRank_0 7 rfl rfl)
theorem dX4_ticketAtRank_8 : decode cX4_ticketAtRank 8 = .ok (.iaload, 1) := dk_46 (dk_at dksX4_ticketAtRank_0 8 rfl rfl)
theorem dX4_ticketAtRank_9 : decode cX4_ticketAtRank 9 = .ok (.iconst 1, 1) := dk_4 (dk_at dksX4_ticketAtRank_0 9 rfl rfl)
theorem dX4_ticketAtRank_10 : decode cX4_ticketAtRank 10 = .ok (.isub, 1) := dk_100 (dk_at dksX4_ticketAtRank_0 10 rfl rfl)
theorem dX4_ticketAtRank_11 : decode cX4_ticketAtRank 11 = .ok (.invokestatic 82, 3) := dk_184 0 82 (dk_at dksX4_ticketAtRank_0 11 rfl rfl)
theorem dX4_ticketAtRank_14 : decode cX4_ticketAtRank 14 = .ok (.ifCond .eq 7, 3) := dk_153 0 7 (dk_at dksX4_ticketAtRank_0 14 rfl rfl)
theorem dX4_ticketAtRank_17 : decode cX4_ticketAtRank 17 = .ok (.iconst 0, 1) := dk_3 (dk_at dksX4_ticketAtRank_0 17 rfl rfl)
theorem dX4_ticketAtRank_18 : decode cX4_ticketAtRank 18 = .ok (.goto 4, 3) := dk_167 0 4 (dk_at dksX4_ticketAtRank_0 18 rfl rfl)
theorem dX4_ticketAtRank_21 : decode cX4_ticketAtRank 21 = .ok (.iconst 1, 1) := dk_4 (dk_at dksX4_ticketAtRank_0 21 rfl rfl)
theorem dX4_ticketAtRank_22 : decode cX4_ticketAtRank 22 = .ok (.putfield 50, 3) := dk_181 0 50 (dk_at dksX4_ticketAtRank_1 0 rfl rfl)
theorem dX4_ticketAtRank_25 : decode cX4_ticketAtRank 25 = .ok (.aload_n 0, 1) := dk_42 (dk_at dksX4_ticketAtRank_1 3 rfl rfl)
theorem dX4_ticketAtRank_26 : decode cX4_ticketAtRank 26 = .ok (.getfield 50, 3) := dk_180 0 50 (dk_at dksX4_ticketAtRank_1 4 rfl rfl)
theorem dX4_ticketAtRank_29 : decode cX4_ticketAtRank 29 = .ok (.ifCond .ne 15, 3) := dk_154 0 15 (dk_at dksX4_ticketAtRank_1 7 rfl rfl)
theorem dX4_ticketAtRank_32 : decode cX4_ticketAtRank 32 = .ok (.aload_n 0, 1) := dk_42 (dk_at dksX4_ticketAtRank_1 10 rfl rfl)
theorem dX4_ticketAtRank_33 : decode cX4_ticketAtRank 33 = .ok (.getfield 16, 3) := dk_180 0 16 (dk_at dksX4_ticketAtRank_1 11 rfl rfl)
theorem dX4_ticketAtRank_36 : decode cX4_ticketAtRank 36 = .ok (.iload_n 1, 1) := dk_27 (dk_at dksX4_ticketAtRank_1 14 rfl rfl)
theorem dX4_ticketAtRank_37 : decode cX4_ticketAtRank 37 = .ok (.invokestatic 64, 3) := dk_184 0 64 (dk_at dksX4_ticketAtRank_1 15 rfl rfl)
theorem dX4_ticketAtRank_40 : decode cX4_ticketAtRank 40 = .ok (.iaload, 1) := dk_46 (dk_at dksX4_ticketAtRank_1 18 rfl rfl)
theorem dX4_ticketAtRank_41 : decode cX4_ticketAtRank 41 = .ok (.goto 4, 3) := dk_167 0 4 (dk_at dksX4_ticketAtRank_1 19 rfl rfl)
theorem dX4_ticketAtRank_44 : decode cX4_ticketAtRank 44 = .ok (.iconst 0, 1) := dk_3 (dk_at dksX4_ticketAtRank_1 22 rfl rfl)
theorem dX4_ticketAtRank_45 : decode cX4_ticketAtRank 45 = .ok (.ireturn, 1) := dk_172 (dk_at dksX4_ticketAtRank_1 23 rfl rfl)
abbrev cX4_ticketCount : ByteArray := prog_18_method_45_code
def yX4_ticketCount : MethodName := ⟨RX4, "ticketCount", "()I"⟩
def dkwX4_ticketCount_0 : List UInt8 := [42, 8, 182, 0, 129, 172]
abbrev dktX4_ticketCount_0 : List UInt8 := dkwX4_ticketCount_0 ++ []
theorem dksX4_ticketCount_0 : cX4_ticketCount.data.toList.drop 0 = dktX4_ticketCount_0 := by decide +kernel
theorem dX4_ticketCount_0 : decode cX4_ticketCount 0 = .ok (.aload_n 0, 1) := dk_42 (dk_at dksX4_ticketCount_0 0 rfl rfl)
theorem dX4_ticketCount_1 : decode cX4_ticketCount 1 = .ok (.iconst 5, 1) := dk_8 (dk_at dksX4_ticketCount_0 1 rfl rfl)
theorem dX4_ticketCount_2 : decode cX4_ticketCount 2 = .ok (.invokevirtual 129, 3) := dk_182 0 129 (dk_at dksX4_ticketCount_0 2 rfl rfl)
theorem dX4_ticketCount_5 : decode cX4_ticketCount 5 = .ok (.ireturn, 1) := dk_172 (dk_at dksX4_ticketCount_0 5 rfl rfl)
abbrev cX4_ticketOf : ByteArray := prog_18_method_41_code
def yX4_ticketOf : MethodName := ⟨RX4, "ticketOf", "(I)I"⟩
def dkwX4_ticketOf_0 : List UInt8 := [42, 27, 7, 182, 0, 132, 172]
abbrev dktX4_ticketOf_0 : List UInt8 := dkwX4_ticketOf_0 ++ []
theorem dksX4_ticketOf_0 : cX4_ticketOf.data.toList.drop 0 = dktX4_ticketOf_0 := by decide +kernel
theorem dX4_ticketOf_0 : decode cX4_ticketOf 0 = .ok (.aload_n 0, 1) := dk_42 (dk_at dksX4_ticketOf_0 0 rfl rfl)
theorem dX4_ticketOf_1 : decode cX4_ticketOf 1 = .ok (.iload_n 1, 1) := dk_27 (dk_at dksX4_ticketOf_0 1 rfl rfl)
theorem dX4_ticketOf_2 : decode cX4_ticketOf 2 = .ok (.iconst 4, 1) := dk_7 (dk_at dksX4_ticketOf_0 2 rfl rfl)
theorem dX4_ticketOf_3 : decode cX4_ticketOf 3 = .ok (.invokevirtual 132, 3) := dk_182 0 132 (dk_at dksX4_ticketOf_0 3 rfl rfl)
theorem dX4_ticketOf_6 : decode cX4_ticketOf 6 = .ok (.ireturn, 1) := dk_172 (dk_at dksX4_ticketOf_0 6 rfl rfl)
abbrev cX4_ticketsByAccounts : ByteArray := prog_18_method_70_code
def yX4_ticketsByAccounts : MethodName := ⟨RX4, "ticketsByAccounts", "()I"⟩
def dkwX4_ticketsByAccounts_0 : List UInt8 := [42, 8, 182, 0, 129, 172]
abbrev dktX4_ticketsByAccounts_0 : List UInt8 := dkwX4_ticketsByAccounts_0 ++ []
theorem dksX4_ticketsByAccounts_0 : cX4_ticketsByAccounts.data.toList.drop 0 = dktX4_ticketsByAccounts_0 := by decide +kernel
theorem dX4_ticketsByAccounts_0 : decode cX4_ticketsByAccounts 0 = .ok (.aload_n 0, 1) := dk_42 (dk_at dksX4_ticketsByAccounts_0 0 rfl rfl)
theorem dX4_ticketsByAccounts_1 : decode cX4_ticketsByAccounts 1 = .ok (.iconst 5, 1) := dk_8 (dk_at dksX4_ticketsByAccounts_0 1 rfl rfl)
theorem dX4_ticketsByAccounts_2 : decode cX4_ticketsByAccounts 2 = .ok (.invokevirtual 129, 3) := dk_182 0 129 (dk_at dksX4_ticketsByAccounts_0 2 rfl rfl)
theorem dX4_ticketsByAccounts_5 : decode cX4_ticketsByAccounts 5 = .ok (.ireturn, 1) := dk_172 (dk_at dksX4_ticketsByAccounts_0 5 rfl rfl)
abbrev cX4_type : ByteArray := prog_18_method_80_code
def yX4_type : MethodName := ⟨RX4, "type", "(C)I"⟩
def dkwX4_type_2 : List UInt8 := [42, 180, 0, 177, 27, 79, 42, 89, 180, 0, 177, 4, 96, 181, 0, 177, 42, 180, 0, 177, 172]
abbrev dktX4_type_2 : List UInt8 := dkwX4_type_2 ++ []
def dkwX4_type_1 : List UInt8 := [160, 0, 7, 5, 167, 0, 4, 3, 181, 0, 50, 42, 180, 0, 50, 153, 0, 5, 3, 172, 42, 180, 0, 32]
abbrev dktX4_type_1 : List UInt8 := dkwX4_type_1 ++ dktX4_type_2
def dkwX4_type_0 : List UInt8 := [42, 27, 16, 32, 16, 126, 184, 0, 82, 154, 0, 7, 4, 167, 0, 17, 42, 180, 0, 177, 16, 60]
abbrev dktX4_type_0 : List UInt8 := dkwX4_type_0 ++ dktX4_type_1
theorem dksX4_type_0 : cX4_type.data.toList.drop 0 = dktX4_type_0 := by decide +kernel
theorem dksX4_type_1 : cX4_type.data.toList.drop 22 = dktX4_type_1 := dk_seg dksX4_type_0 22 rfl rfl
theorem dksX4_type_2 : cX4_type.data.toList.drop 46 = dktX4_type_2 := dk_seg dksX4_type_1 24 rfl rfl
theorem dX4_type_0 : decode cX4_type 0 = .ok (.aload_n 0, 1) := dk_42 (dk_at dksX4_type_0 0 rfl rfl)
theorem dX4_type_1 : decode cX4_type 1 = .ok (.iload_n 1, 1) := dk_27 (dk_at dksX4_type_0 1 rfl rfl)
theorem dX4_type_2 : decode cX4_type 2 = .ok (.bipush 32, 2) := dk_16 32 (dk_at dksX4_type_0 2 rfl rfl)
theorem dX4_type_4 : decode cX4_type 4 = .ok (.bipush 126, 2) := dk_16 126 (dk_at dksX4_type_0 4 rfl rfl)
theorem dX4_type_6 : decode cX4_type 6 = .ok (.invokestatic 82, 3) := dk_184 0 82 (dk_at dksX4_type_0 6 rfl rfl)
theorem dX4_type_9 : decode cX4_type 9 = .ok (.ifCond .ne 7, 3) := dk_154 0 7 (dk_at dksX4_type_0 9 rfl rfl)
theorem dX4_type_12 : decode cX4_type 12 = .ok (.iconst 1, 1) := dk_4 (dk_at dksX4_type_0 12 rfl rfl)
theorem dX4_type_13 : decode cX4_type 13 = .ok (.goto 17, 3) := dk_167 0 17 (dk_at dksX4_type_0 13 rfl rfl)
theorem dX4_type_16 : decode cX4_type 16 = .ok (.aload_n 0, 1) := dk_42 (dk_at dksX4_type_0 16 rfl rfl)
theorem dX4_type_17 : decode cX4_type 17 = .ok (.getfield 177, 3) := dk_180 0 177 (dk_at dksX4_type_0 17 rfl rfl)
theorem dX4_type_20 : decode cX4_type 20 = .ok (.bipush 60, 2) := dk_16 60 (dk_at dksX4_type_0 20 rfl rfl)
theorem dX4_type_22 : decode cX4_type 22 = .ok (.if_icmp .ne 7, 3) := dk_160 0 7 (dk_at dksX4_type_1 0 rfl rfl)
theorem dX4_type_25 : decode cX4_type 25 = .ok (.iconst 2, 1) := dk_5 (dk_at dksX4_type_1 3 rfl rfl)
theorem dX4_type_26 : decode cX4_type 26 = .ok (.goto 4, 3) := dk_167 0 4 (dk_at dksX4_type_1 4 rfl rfl)
theorem dX4_type_29 : decode cX4_type 29 = .ok (.iconst 0, 1) := dk_3 (dk_at dksX4_type_1 7 rfl rfl)
theorem dX4_type_30 : decode cX4_type 30 = .ok (.putfield 50, 3) := dk_181 0 50 (dk_at dksX4_type_1 8 rfl rfl)
theorem dX4_type_33 : decode cX4_type 33 = .ok (.aload_n 0, 1) := dk_42 (dk_at dksX4_type_1 11 rfl rfl)
theorem dX4_type_34 : decode cX4_type 34 = .ok (.getfield 50, 3) := dk_180 0 50 (dk_at dksX4_type_1 12 rfl rfl)
theorem dX4_type_37 : decode cX4_type 37 = .ok (.ifCond .eq 5, 3) := dk_153 0 5 (dk_at dksX4_type_1 15 rfl rfl)
theorem dX4_type_40 : decode cX4_type 40 = .ok (.iconst 0, 1) := dk_3 (dk_at dksX4_type_1 18 rfl rfl)
theorem dX4_type_41 : decode cX4_type 41 = .ok (.ireturn, 1) := dk_172 (dk_at dksX4_type_1 19 rfl rfl)
theorem dX4_type_42 : decode cX4_type 42 = .ok (.aload_n 0, 1) := dk_42 (dk_at dksX4_type_1 20 rfl rfl)
theorem dX4_type_43 : decode cX4_type 43 = .ok (.getfield 32, 3) := dk_180 0 32 (dk_at dksX4_type_1 21 rfl rfl)
theorem dX4_type_46 : decode cX4_type 46 = .ok (.aload_n 0, 1) := dk_42 (dk_at dksX4_type_2 0 rfl rfl)
theorem dX4_type_47 : decode cX4_type 47 = .ok (.getfield 177, 3) := dk_180 0 177 (dk_at dksX4_type_2 1 rfl rfl)
theorem dX4_type_50 : decode cX4_type 50 = .ok (.iload_n 1, 1) := dk_27 (dk_at dksX4_type_2 4 rfl rfl)
theorem dX4_type_51 : decode cX4_type 51 = .ok (.iastore, 1) := dk_79 (dk_at dksX4_type_2 5 rfl rfl)
theorem dX4_type_52 : decode cX4_type 52 = .ok (.aload_n 0, 1) := dk_42 (dk_at dksX4_type_2 6 rfl rfl)
theorem dX4_type_53 : decode cX4_type 53 = .ok (.dup, 1) := dk_89 (dk_at dksX4_type_2 7 rfl rfl)
theorem dX4_type_54 : decode cX4_type 54 = .ok (.getfield 177, 3) := dk_180 0 177 (dk_at dksX4_type_2 8 rfl rfl)
theorem dX4_type_57 : decode cX4_type 57 = .ok (.iconst 1, 1) := dk_4 (dk_at dksX4_type_2 11 rfl rfl)
theorem dX4_type_58 : decode cX4_type 58 = .ok (.iadd, 1) := dk_96 (dk_at dksX4_type_2 12 rfl rfl)
theorem dX4_type_59 : decode cX4_type 59 = .ok (.putfield 177, 3) := dk_181 0 177 (dk_at dksX4_type_2 13 rfl rfl)
theorem dX4_type_62 : decode cX4_type 62 = .ok (.aload_n 0, 1) := dk_42 (dk_at dksX4_type_2 16 rfl rfl)
theorem dX4_type_63 : decode cX4_type 63 = .ok (.getfield 177, 3) := dk_180 0 177 (dk_at dksX4_type_2 17 rfl rfl)
theorem dX4_type_66 : decode cX4_type 66 = .ok (.ireturn, 1) := dk_172 (dk_at dksX4_type_2 20 rfl rfl)
abbrev cX4_undo : ByteArray := prog_18_method_93_code
def yX4_undo : MethodName := ⟨RX4, "undo", "()I"⟩
def dkwX4_undo_3 : List UInt8 := [180, 0, 57, 172]
abbrev dktX4_undo_3 : List UInt8 := dkwX4_undo_3 ++ []
def dkwX4_undo_2 : List UInt8 := [42, 180, 0, 26, 42, 180, 0, 57, 16, 112, 104, 27, 96, 46, 79, 132, 1, 1, 167, 255, 227, 42]
abbrev dktX4_undo_2 : List UInt8 := dkwX4_undo_2 ++ dktX4_undo_3
def dkwX4_undo_1 : List UInt8 := [172, 42, 89, 180, 0, 57, 4, 100, 181, 0, 57, 3, 60, 27, 16, 112, 162, 0, 29, 42, 180, 0, 16, 27]
abbrev dktX4_undo_1 : List UInt8 := dkwX4_undo_1 ++ dktX4_undo_2
def dkwX4_undo_0 : List UInt8 := [42, 42, 180, 0, 57, 154, 0, 7, 4, 167, 0, 4, 3, 181, 0, 50, 42, 180, 0, 50, 153, 0, 5, 3]
abbrev dktX4_undo_0 : List UInt8 := dkwX4_undo_0 ++ dktX4_undo_1
theorem dksX4_undo_0 : cX4_undo.data.toList.drop 0 = dktX4_undo_0 := by decide +kernel
theorem dksX4_undo_1 : cX4_undo.data.toList.drop 24 = dktX4_undo_1 := dk_seg dksX4_undo_0 24 rfl rfl
theorem dksX4_undo_2 : cX4_undo.data.toList.drop 48 = dktX4_undo_2 := dk_seg dksX4_undo_1 24 rfl rfl
theorem dksX4_undo_3 : cX4_undo.data.toList.drop 70 = dktX4_undo_3 := dk_seg dksX4_undo_2 22 rfl rfl
theorem dX4_undo_0 : decode cX4_undo 0 = .ok (.aload_n 0, 1) := dk_42 (dk_at dksX4_undo_0 0 rfl rfl)
theorem dX4_undo_1 : decode cX4_undo 1 = .ok (.aload_n 0, 1) := dk_42 (dk_at dksX4_undo_0 1 rfl rfl)
theorem dX4_undo_2 : decode cX4_undo 2 = .ok (.getfield 57, 3) := dk_180 0 57 (dk_at dksX4_undo_0 2 rfl rfl)
theorem dX4_undo_5 : decode cX4_undo 5 = .ok (.ifCond .ne 7, 3) := dk_154 0 7 (dk_at dksX4_undo_0 5 rfl rfl)
theorem dX4_undo_8 : decode cX4_undo 8 = .ok (.iconst 1, 1) := dk_4 (dk_at dksX4_undo_0 8 rfl rfl)
theorem dX4_undo_9 : decode cX4_undo 9 = .ok (.goto 4, 3) := dk_167 0 4 (dk_at dksX4_undo_0 9 rfl rfl)
theorem dX4_undo_12 : decode cX4_undo 12 = .ok (.iconst 0, 1) := dk_3 (dk_at dksX4_undo_0 12 rfl rfl)
theorem dX4_undo_13 : decode cX4_undo 13 = .ok (.putfield 50, 3) := dk_181 0 50 (dk_at dksX4_undo_0 13 rfl rfl)
theorem dX4_undo_16 : decode cX4_undo 16 = .ok (.aload_n 0, 1) := dk_42 (dk_at dksX4_undo_0 16 rfl rfl)
theorem dX4_undo_17 : decode cX4_undo 17 = .ok (.getfield 50, 3) := dk_180 0 50 (dk_at dksX4_undo_0 17 rfl rfl)
theorem dX4_undo_20 : decode cX4_undo 20 = .ok (.ifCond .eq 5, 3) := dk_153 0 5 (dk_at dksX4_undo_0 20 rfl rfl)
theorem dX4_undo_23 : decode cX4_undo 23 = .ok (.iconst 0, 1) := dk_3 (dk_at dksX4_undo_0 23 rfl rfl)
theorem dX4_undo_24 : decode cX4_undo 24 = .ok (.ireturn, 1) := dk_172 (dk_at dksX4_undo_1 0 rfl rfl)
theorem dX4_undo_25 : decode cX4_undo 25 = .ok (.aload_n 0, 1) := dk_42 (dk_at dksX4_undo_1 1 rfl rfl)
theorem dX4_undo_26 : decode cX4_undo 26 = .ok (.dup, 1) := dk_89 (dk_at dksX4_undo_1 2 rfl rfl)
theorem dX4_undo_27 : decode cX4_undo 27 = .ok (.getfield 57, 3) := dk_180 0 57 (dk_at dksX4_undo_1 3 rfl rfl)
theorem dX4_undo_30 : decode cX4_undo 30 = .ok (.iconst 1, 1) := dk_4 (dk_at dksX4_undo_1 6 rfl rfl)
theorem dX4_undo_31 : decode cX4_undo 31 = .ok (.isub, 1) := dk_100 (dk_at dksX4_undo_1 7 rfl rfl)
theorem dX4_undo_32 : decode cX4_undo 32 = .ok (.putfield 57, 3) := dk_181 0 57 (dk_at dksX4_undo_1 8 rfl rfl)
theorem dX4_undo_35 : decode cX4_undo 35 = .ok (.iconst 0, 1) := dk_3 (dk_at dksX4_undo_1 11 rfl rfl)
theorem dX4_undo_36 : decode cX4_undo 36 = .ok (.istore_n 1, 1) := dk_60 (dk_at dksX4_undo_1 12 rfl rfl)
theorem dX4_undo_37 : decode cX4_undo 37 = .ok (.iload_n 1, 1) := dk_27 (dk_at dksX4_undo_1 13 rfl rfl)
theorem dX4_undo_38 : decode cX4_undo 38 = .ok (.bipush 112, 2) := dk_16 112 (dk_at dksX4_undo_1 14 rfl rfl)
theorem dX4_undo_40 : decode cX4_undo 40 = .ok (.if_icmp .ge 29, 3) := dk_162 0 29 (dk_at dksX4_undo_1 16 rfl rfl)
theorem dX4_undo_43 : decode cX4_undo 43 = .ok (.aload_n 0, 1) := dk_42 (dk_at dksX4_undo_1 19 rfl rfl)
theorem dX4_undo_44 : decode cX4_undo 44 = .ok (.getfield 16, 3) := dk_180 0 16 (dk_at dksX4_undo_1 20 rfl rfl)
theorem dX4_undo_47 : decode cX4_undo 47 = .ok (.iload_n 1, 1) := dk_27 (dk_at dksX4_undo_1 23 rfl rfl)
theorem dX4_undo_48 : decode cX4_undo 48 = .ok (.aload_n 0, 1) := dk_42 (dk_at dksX4_undo_2 0 rfl rfl)
theorem dX4_undo_49 : decode cX4_undo 49 = .ok (.getfield 26, 3) := dk_180 0 26 (dk_at dksX4_undo_2 1 rfl rfl)
theorem dX4_undo_52 : decode cX4_undo 52 = .ok (.aload_n 0, 1) := dk_42 (dk_at dksX4_undo_2 4 rfl rfl)
theorem dX4_undo_53 : decode cX4_undo 53 = .ok (.getfield 57, 3) := dk_180 0 57 (dk_at dksX4_undo_2 5 rfl rfl)
theorem dX4_undo_56 : decode cX4_undo 56 = .ok (.bipush 112, 2) := dk_16 112 (dk_at dksX4_undo_2 8 rfl rfl)
theorem dX4_undo_58 : decode cX4_undo 58 = .ok (.imul, 1) := dk_104 (dk_at dksX4_undo_2 10 rfl rfl)
theorem dX4_undo_59 : decode cX4_undo 59 = .ok (.iload_n 1, 1) := dk_27 (dk_at dksX4_undo_2 11 rfl rfl)
theorem dX4_undo_60 : decode cX4_undo 60 = .ok (.iadd, 1) := dk_96 (dk_at dksX4_undo_2 12 rfl rfl)
theorem dX4_undo_61 : decode cX4_undo 61 = .ok (.iaload, 1) := dk_46 (dk_at dksX4_undo_2 13 rfl rfl)
theorem dX4_undo_62 : decode cX4_undo 62 = .ok (.iastore, 1) := dk_79 (dk_at dksX4_undo_2 14 rfl rfl)
theorem dX4_undo_63 : decode cX4_undo 63 = .ok (.iinc 1 1, 3) := dk_132 1 1 (dk_at dksX4_undo_2 15 rfl rfl)
theorem dX4_undo_66 : decode cX4_undo 66 = .ok (.goto (-29), 3) := dk_167 255 227 (dk_at dksX4_undo_2 18 rfl rfl)
theorem dX4_undo_69 : decode cX4_undo 69 = .ok (.aload_n 0, 1) := dk_42 (dk_at dksX4_undo_2 21 rfl rfl)
theorem dX4_undo_70 : decode cX4_undo 70 = .ok (.getfield 57, 3) := dk_180 0 57 (dk_at dksX4_undo_3 0 rfl rfl)
theorem dX4_undo_73 : decode cX4_undo 73 = .ok (.ireturn, 1) := dk_172 (dk_at dksX4_undo_3 3 rfl rfl)
abbrev cX4_yawn : ByteArray := prog_18_method_20_code
def yX4_yawn : MethodName := ⟨RX4, "yawn", "(II)I"⟩
def dkwX4_yawn_0 : List UInt8 := [42, 182, 0, 89, 42, 42, 27, 28, 2, 182, 0, 105, 182, 0, 96, 172]
abbrev dktX4_yawn_0 : List UInt8 := dkwX4_yawn_0 ++ []
theorem dksX4_yawn_0 : cX4_yawn.data.toList.drop 0 = dktX4_yawn_0 := by decide +kernel
theorem dX4_yawn_0 : decode cX4_yawn 0 = .ok (.aload_n 0, 1) := dk_42 (dk_at dksX4_yawn_0 0 rfl rfl)
theorem dX4_yawn_1 : decode cX4_yawn 1 = .ok (.invokevirtual 89, 3) := dk_182 0 89 (dk_at dksX4_yawn_0 1 rfl rfl)
theorem dX4_yawn_4 : decode cX4_yawn 4 = .ok (.aload_n 0, 1) := dk_42 (dk_at dksX4_yawn_0 4 rfl rfl)
theorem dX4_yawn_5 : decode cX4_yawn 5 = .ok (.aload_n 0, 1) := dk_42 (dk_at dksX4_yawn_0 5 rfl rfl)
theorem dX4_yawn_6 : decode cX4_yawn 6 = .ok (.iload_n 1, 1) := dk_27 (dk_at dksX4_yawn_0 6 rfl rfl)
theorem dX4_yawn_7 : decode cX4_yawn 7 = .ok (.iload_n 2, 1) := dk_28 (dk_at dksX4_yawn_0 7 rfl rfl)
theorem dX4_yawn_8 : decode cX4_yawn 8 = .ok (.iconst (-1), 1) := dk_2 (dk_at dksX4_yawn_0 8 rfl rfl)
theorem dX4_yawn_9 : decode cX4_yawn 9 = .ok (.invokevirtual 105, 3) := dk_182 0 105 (dk_at dksX4_yawn_0 9 rfl rfl)
theorem dX4_yawn_12 : decode cX4_yawn 12 = .ok (.invokevirtual 96, 3) := dk_182 0 96 (dk_at dksX4_yawn_0 12 rfl rfl)
theorem dX4_yawn_15 : decode cX4_yawn 15 = .ok (.ireturn, 1) := dk_172 (dk_at dksX4_yawn_0 15 rfl rfl)
