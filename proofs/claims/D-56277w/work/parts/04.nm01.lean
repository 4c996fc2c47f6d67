set_option maxRecDepth 100000
abbrev cJ47_offer : ByteArray := prog_86_method_14_code
def yJ47_offer : MethodName := ⟨RJ47, "offer", "(Ljava/lang/Object;)Z"⟩
def dkwJ47_offer_2 : List UInt8 := [182, 0, 100, 42, 28, 4, 96, 181, 0, 58, 4, 172]
abbrev dktJ47_offer_2 : List UInt8 := dkwJ47_offer_2 ++ []
def dkwJ47_offer_1 : List UInt8 := [180, 0, 58, 61, 28, 42, 180, 0, 17, 190, 161, 0, 10, 42, 28, 4, 96, 182, 0, 96, 42, 28, 43]
abbrev dktJ47_offer_1 : List UInt8 := dkwJ47_offer_1 ++ dktJ47_offer_2
def dkwJ47_offer_0 : List UInt8 := [43, 199, 0, 11, 187, 0, 74, 89, 183, 0, 76, 191, 42, 89, 180, 0, 93, 4, 96, 181, 0, 93, 42]
abbrev dktJ47_offer_0 : List UInt8 := dkwJ47_offer_0 ++ dktJ47_offer_1
theorem dksJ47_offer_0 : cJ47_offer.data.toList.drop 0 = dktJ47_offer_0 := by decide +kernel
theorem dksJ47_offer_1 : cJ47_offer.data.toList.drop 23 = dktJ47_offer_1 := dk_seg dksJ47_offer_0 23 rfl rfl
theorem dksJ47_offer_2 : cJ47_offer.data.toList.drop 46 = dktJ47_offer_2 := dk_seg dksJ47_offer_1 23 rfl rfl
theorem dJ47_offer_0 : decode cJ47_offer 0 = .ok (.aload_n 1, 1) := dk_43 (dk_at dksJ47_offer_0 0 rfl rfl)
theorem dJ47_offer_1 : decode cJ47_offer 1 = .ok (.ifnonnull 11, 3) := dk_199 0 11 (dk_at dksJ47_offer_0 1 rfl rfl)
theorem dJ47_offer_4 : decode cJ47_offer 4 = .ok (.new 74, 3) := dk_187 0 74 (dk_at dksJ47_offer_0 4 rfl rfl)
theorem dJ47_offer_12 : decode cJ47_offer 12 = .ok (.aload_n 0, 1) := dk_42 (dk_at dksJ47_offer_0 12 rfl rfl)
theorem dJ47_offer_13 : decode cJ47_offer 13 = .ok (.dup, 1) := dk_89 (dk_at dksJ47_offer_0 13 rfl rfl)
theorem dJ47_offer_14 : decode cJ47_offer 14 = .ok (.getfield 93, 3) := dk_180 0 93 (dk_at dksJ47_offer_0 14 rfl rfl)
theorem dJ47_offer_17 : decode cJ47_offer 17 = .ok (.iconst 1, 1) := dk_4 (dk_at dksJ47_offer_0 17 rfl rfl)
theorem dJ47_offer_18 : decode cJ47_offer 18 = .ok (.iadd, 1) := dk_96 (dk_at dksJ47_offer_0 18 rfl rfl)
theorem dJ47_offer_19 : decode cJ47_offer 19 = .ok (.putfield 93, 3) := dk_181 0 93 (dk_at dksJ47_offer_0 19 rfl rfl)
theorem dJ47_offer_22 : decode cJ47_offer 22 = .ok (.aload_n 0, 1) := dk_42 (dk_at dksJ47_offer_0 22 rfl rfl)
theorem dJ47_offer_23 : decode cJ47_offer 23 = .ok (.getfield 58, 3) := dk_180 0 58 (dk_at dksJ47_offer_1 0 rfl rfl)
theorem dJ47_offer_26 : decode cJ47_offer 26 = .ok (.istore_n 2, 1) := dk_61 (dk_at dksJ47_offer_1 3 rfl rfl)
theorem dJ47_offer_27 : decode cJ47_offer 27 = .ok (.iload_n 2, 1) := dk_28 (dk_at dksJ47_offer_1 4 rfl rfl)
theorem dJ47_offer_28 : decode cJ47_offer 28 = .ok (.aload_n 0, 1) := dk_42 (dk_at dksJ47_offer_1 5 rfl rfl)
theorem dJ47_offer_29 : decode cJ47_offer 29 = .ok (.getfield 17, 3) := dk_180 0 17 (dk_at dksJ47_offer_1 6 rfl rfl)
theorem dJ47_offer_32 : decode cJ47_offer 32 = .ok (.arraylength, 1) := dk_190 (dk_at dksJ47_offer_1 9 rfl rfl)
theorem dJ47_offer_33 : decode cJ47_offer 33 = .ok (.if_icmp .lt 10, 3) := dk_161 0 10 (dk_at dksJ47_offer_1 10 rfl rfl)
theorem dJ47_offer_36 : decode cJ47_offer 36 = .ok (.aload_n 0, 1) := dk_42 (dk_at dksJ47_offer_1 13 rfl rfl)
theorem dJ47_offer_37 : decode cJ47_offer 37 = .ok (.iload_n 2, 1) := dk_28 (dk_at dksJ47_offer_1 14 rfl rfl)
theorem dJ47_offer_38 : decode cJ47_offer 38 = .ok (.iconst 1, 1) := dk_4 (dk_at dksJ47_offer_1 15 rfl rfl)
theorem dJ47_offer_39 : decode cJ47_offer 39 = .ok (.iadd, 1) := dk_96 (dk_at dksJ47_offer_1 16 rfl rfl)
theorem dJ47_offer_40 : decode cJ47_offer 40 = .ok (.invokevirtual 96, 3) := dk_182 0 96 (dk_at dksJ47_offer_1 17 rfl rfl)
theorem dJ47_offer_43 : decode cJ47_offer 43 = .ok (.aload_n 0, 1) := dk_42 (dk_at dksJ47_offer_1 20 rfl rfl)
theorem dJ47_offer_44 : decode cJ47_offer 44 = .ok (.iload_n 2, 1) := dk_28 (dk_at dksJ47_offer_1 21 rfl rfl)
theorem dJ47_offer_45 : decode cJ47_offer 45 = .ok (.aload_n 1, 1) := dk_43 (dk_at dksJ47_offer_1 22 rfl rfl)
theorem dJ47_offer_46 : decode cJ47_offer 46 = .ok (.invokevirtual 100, 3) := dk_182 0 100 (dk_at dksJ47_offer_2 0 rfl rfl)
theorem dJ47_offer_49 : decode cJ47_offer 49 = .ok (.aload_n 0, 1) := dk_42 (dk_at dksJ47_offer_2 3 rfl rfl)
theorem dJ47_offer_50 : decode cJ47_offer 50 = .ok (.iload_n 2, 1) := dk_28 (dk_at dksJ47_offer_2 4 rfl rfl)
theorem dJ47_offer_51 : decode cJ47_offer 51 = .ok (.iconst 1, 1) := dk_4 (dk_at dksJ47_offer_2 5 rfl rfl)
theorem dJ47_offer_52 : decode cJ47_offer 52 = .ok (.iadd, 1) := dk_96 (dk_at dksJ47_offer_2 6 rfl rfl)
theorem dJ47_offer_53 : decode cJ47_offer 53 = .ok (.putfield 58, 3) := dk_181 0 58 (dk_at dksJ47_offer_2 7 rfl rfl)
theorem dJ47_offer_56 : decode cJ47_offer 56 = .ok (.iconst 1, 1) := dk_4 (dk_at dksJ47_offer_2 10 rfl rfl)
theorem dJ47_offer_57 : decode cJ47_offer 57 = .ok (.ireturn, 1) := dk_172 (dk_at dksJ47_offer_2 11 rfl rfl)
abbrev cJ47_add : ByteArray := prog_86_method_13_code
def yJ47_add : MethodName := ⟨RJ47, "add", "(Ljava/lang/Object;)Z"⟩
def dkwJ47_add_0 : List UInt8 := [42, 43, 182, 0, 89, 172]
abbrev dktJ47_add_0 : List UInt8 := dkwJ47_add_0 ++ []
theorem dksJ47_add_0 : cJ47_add.data.toList.drop 0 = dktJ47_add_0 := by decide +kernel
theorem dJ47_add_0 : decode cJ47_add 0 = .ok (.aload_n 0, 1) := dk_42 (dk_at dksJ47_add_0 0 rfl rfl)
theorem dJ47_add_1 : decode cJ47_add 1 = .ok (.aload_n 1, 1) := dk_43 (dk_at dksJ47_add_0 1 rfl rfl)
theorem dJ47_add_2 : decode cJ47_add 2 = .ok (.invokevirtual 89, 3) := dk_182 0 89 (dk_at dksJ47_add_0 2 rfl rfl)
theorem dJ47_add_5 : decode cJ47_add 5 = .ok (.ireturn, 1) := dk_172 (dk_at dksJ47_add_0 5 rfl rfl)
abbrev cJ47_siftDownUsingComparator : ByteArray := prog_86_method_32_code
def yJ47_siftDownUsingComparator : MethodName := ⟨RJ47, "siftDownUsingComparator", "(ILjava/lang/Object;[Ljava/lang/Object;ILjava/util/Comparator;)V"⟩
def dkwJ47_siftDownUsingComparator_4 : List UInt8 := [43, 83, 177]
abbrev dktJ47_siftDownUsingComparator_4 : List UInt8 := dkwJ47_siftDownUsingComparator_4 ++ []
def dkwJ47_siftDownUsingComparator_3 : List UInt8 := [185, 0, 149, 3, 0, 157, 0, 6, 167, 0, 14, 44, 26, 25, 7, 83, 21, 6, 59, 167, 255, 176, 44, 26]
abbrev dktJ47_siftDownUsingComparator_3 : List UInt8 := dkwJ47_siftDownUsingComparator_3 ++ dktJ47_siftDownUsingComparator_4
def dkwJ47_siftDownUsingComparator_2 : List UInt8 := [185, 0, 149, 3, 0, 158, 0, 12, 44, 21, 8, 89, 54, 6, 50, 58, 7, 25, 4, 43, 25, 7]
abbrev dktJ47_siftDownUsingComparator_2 : List UInt8 := dkwJ47_siftDownUsingComparator_2 ++ dktJ47_siftDownUsingComparator_3
def dkwJ47_siftDownUsingComparator_1 : List UInt8 := [21, 6, 4, 96, 54, 8, 21, 8, 29, 162, 0, 28, 25, 4, 25, 7, 44, 21, 8, 50]
abbrev dktJ47_siftDownUsingComparator_1 : List UInt8 := dkwJ47_siftDownUsingComparator_1 ++ dktJ47_siftDownUsingComparator_2
def dkwJ47_siftDownUsingComparator_0 : List UInt8 := [29, 4, 124, 54, 5, 26, 21, 5, 162, 0, 80, 26, 4, 120, 4, 96, 54, 6, 44, 21, 6, 50, 58, 7]
abbrev dktJ47_siftDownUsingComparator_0 : List UInt8 := dkwJ47_siftDownUsingComparator_0 ++ dktJ47_siftDownUsingComparator_1
theorem dksJ47_siftDownUsingComparator_0 : cJ47_siftDownUsingComparator.data.toList.drop 0 = dktJ47_siftDownUsingComparator_0 := by decide +kernel
theorem dksJ47_siftDownUsingComparator_1 : cJ47_siftDownUsingComparator.data.toList.drop 24 = dktJ47_siftDownUsingComparator_1 := dk_seg dksJ47_siftDownUsingComparator_0 24 rfl rfl
theorem dksJ47_siftDownUsingComparator_2 : cJ47_siftDownUsingComparator.data.toList.drop 44 = dktJ47_siftDownUsingComparator_2 := dk_seg dksJ47_siftDownUsingComparator_1 20 rfl rfl
theorem dksJ47_siftDownUsingComparator_3 : cJ47_siftDownUsingComparator.data.toList.drop 66 = dktJ47_siftDownUsingComparator_3 := dk_seg dksJ47_siftDownUsingComparator_2 22 rfl rfl
theorem dksJ47_siftDownUsingComparator_4 : cJ47_siftDownUsingComparator.data.toList.drop 90 = dktJ47_siftDownUsingComparator_4 := dk_seg dksJ47_siftDownUsingComparator_3 24 rfl rfl
theorem dJ47_siftDownUsingComparator_0 : decode cJ47_siftDownUsingComparator 0 = .ok (.iload_n 3, 1) := dk_29 (dk_at dksJ47_siftDownUsingComparator_0 0 rfl rfl)
theorem dJ47_siftDownUsingComparator_1 : decode cJ47_siftDownUsingComparator 1 = .ok (.iconst 1, 1) := dk_4 (dk_at dksJ47_siftDownUsingComparator_0 1 rfl rfl)
theorem dJ47_siftDownUsingComparator_2 : decode cJ47_siftDownUsingComparator 2 = .ok (.iushr, 1) := dk_124 (dk_at dksJ47_siftDownUsingComparator_0 2 rfl rfl)
theorem dJ47_siftDownUsingComparator_3 : decode cJ47_siftDownUsingComparator 3 = .ok (.istore 5, 2) := dk_54 5 (dk_at dksJ47_siftDownUsingComparator_0 3 rfl rfl)
theorem dJ47_siftDownUsingComparator_5 : decode cJ47_siftDownUsingComparator 5 = .ok (.iload_n 0, 1) := dk_26 (dk_at dksJ47_siftDownUsingComparator_0 5 rfl rfl)
theorem dJ47_siftDownUsingComparator_6 : decode cJ47_siftDownUsingComparator 6 = .ok (.iload 5, 2) := dk_21 5 (dk_at dksJ47_siftDownUsingComparator_0 6 rfl rfl)
theorem dJ47_siftDownUsingComparator_8 : decode cJ47_siftDownUsingComparator 8 = .ok (.if_icmp .ge 80, 3) := dk_162 0 80 (dk_at dksJ47_siftDownUsingComparator_0 8 rfl rfl)
theorem dJ47_siftDownUsingComparator_11 : decode cJ47_siftDownUsingComparator 11 = .ok (.iload_n 0, 1) := dk_26 (dk_at dksJ47_siftDownUsingComparator_0 11 rfl rfl)
theorem dJ47_siftDownUsingComparator_12 : decode cJ47_siftDownUsingComparator 12 = .ok (.iconst 1, 1) := dk_4 (dk_at dksJ47_siftDownUsingComparator_0 12 rfl rfl)
theorem dJ47_siftDownUsingComparator_13 : decode cJ47_siftDownUsingComparator 13 = .ok (.ishl, 1) := dk_120 (dk_at dksJ47_siftDownUsingComparator_0 13 rfl rfl)
theorem dJ47_siftDownUsingComparator_14 : decode cJ47_siftDownUsingComparator 14 = .ok (.iconst 1, 1) := dk_4 (dk_at dksJ47_siftDownUsingComparator_0 14 rfl rfl)
theorem dJ47_siftDownUsingComparator_15 : decode cJ47_siftDownUsingComparator 15 = .ok (.iadd, 1) := dk_96 (dk_at dksJ47_siftDownUsingComparator_0 15 rfl rfl)
theorem dJ47_siftDownUsingComparator_16 : decode cJ47_siftDownUsingComparator 16 = .ok (.istore 6, 2) := dk_54 6 (dk_at dksJ47_siftDownUsingComparator_0 16 rfl rfl)
theorem dJ47_siftDownUsingComparator_18 : decode cJ47_siftDownUsingComparator 18 = .ok (.aload_n 2, 1) := dk_44 (dk_at dksJ47_siftDownUsingComparator_0 18 rfl rfl)
theorem dJ47_siftDownUsingComparator_19 : decode cJ47_siftDownUsingComparator 19 = .ok (.iload 6, 2) := dk_21 6 (dk_at dksJ47_siftDownUsingComparator_0 19 rfl rfl)
theorem dJ47_siftDownUsingComparator_21 : decode cJ47_siftDownUsingComparator 21 = .ok (.aaload, 1) := dk_50 (dk_at dksJ47_siftDownUsingComparator_0 21 rfl rfl)
theorem dJ47_siftDownUsingComparator_22 : decode cJ47_siftDownUsingComparator 22 = .ok (.astore 7, 2) := dk_58 7 (dk_at dksJ47_siftDownUsingComparator_0 22 rfl rfl)
theorem dJ47_siftDownUsingComparator_24 : decode cJ47_siftDownUsingComparator 24 = .ok (.iload 6, 2) := dk_21 6 (dk_at dksJ47_siftDownUsingComparator_1 0 rfl rfl)
theorem dJ47_siftDownUsingComparator_26 : decode cJ47_siftDownUsingComparator 26 = .ok (.iconst 1, 1) := dk_4 (dk_at dksJ47_siftDownUsingComparator_1 2 rfl rfl)
theorem dJ47_siftDownUsingComparator_27 : decode cJ47_siftDownUsingComparator 27 = .ok (.iadd, 1) := dk_96 (dk_at dksJ47_siftDownUsingComparator_1 3 rfl rfl)
theorem dJ47_siftDownUsingComparator_28 : decode cJ47_siftDownUsingComparator 28 = .ok (.istore 8, 2) := dk_54 8 (dk_at dksJ47_siftDownUsingComparator_1 4 rfl rfl)
theorem dJ47_siftDownUsingComparator_30 : decode cJ47_siftDownUsingComparator 30 = .ok (.iload 8, 2) := dk_21 8 (dk_at dksJ47_siftDownUsingComparator_1 6 rfl rfl)
theorem dJ47_siftDownUsingComparator_32 : decode cJ47_siftDownUsingComparator 32 = .ok (.iload_n 3, 1) := dk_29 (dk_at dksJ47_siftDownUsingComparator_1 8 rfl rfl)
theorem dJ47_siftDownUsingComparator_33 : decode cJ47_siftDownUsingComparator 33 = .ok (.if_icmp .ge 28, 3) := dk_162 0 28 (dk_at dksJ47_siftDownUsingComparator_1 9 rfl rfl)
theorem dJ47_siftDownUsingComparator_36 : decode cJ47_siftDownUsingComparator 36 = .ok (.aload 4, 2) := dk_25 4 (dk_at dksJ47_siftDownUsingComparator_1 12 rfl rfl)
theorem dJ47_siftDownUsingComparator_38 : decode cJ47_siftDownUsingComparator 38 = .ok (.aload 7, 2) := dk_25 7 (dk_at dksJ47_siftDownUsingComparator_1 14 rfl rfl)
theorem dJ47_siftDownUsingComparator_40 : decode cJ47_siftDownUsingComparator 40 = .ok (.aload_n 2, 1) := dk_44 (dk_at dksJ47_siftDownUsingComparator_1 16 rfl rfl)
theorem dJ47_siftDownUsingComparator_41 : decode cJ47_siftDownUsingComparator 41 = .ok (.iload 8, 2) := dk_21 8 (dk_at dksJ47_siftDownUsingComparator_1 17 rfl rfl)
theorem dJ47_siftDownUsingComparator_43 : decode cJ47_siftDownUsingComparator 43 = .ok (.aaload, 1) := dk_50 (dk_at dksJ47_siftDownUsingComparator_1 19 rfl rfl)
theorem dJ47_siftDownUsingComparator_44 : decode cJ47_siftDownUsingComparator 44 = .ok (.invokeinterface 149 3, 5) := by decide +kernel
theorem dJ47_siftDownUsingComparator_49 : decode cJ47_siftDownUsingComparator 49 = .ok (.ifCond .le 12, 3) := dk_158 0 12 (dk_at dksJ47_siftDownUsingComparator_2 5 rfl rfl)
theorem dJ47_siftDownUsingComparator_52 : decode cJ47_siftDownUsingComparator 52 = .ok (.aload_n 2, 1) := dk_44 (dk_at dksJ47_siftDownUsingComparator_2 8 rfl rfl)
theorem dJ47_siftDownUsingComparator_53 : decode cJ47_siftDownUsingComparator 53 = .ok (.iload 8, 2) := dk_21 8 (dk_at dksJ47_siftDownUsingComparator_2 9 rfl rfl)
theorem dJ47_siftDownUsingComparator_55 : decode cJ47_siftDownUsingComparator 55 = .ok (.dup, 1) := dk_89 (dk_at dksJ47_siftDownUsingComparator_2 11 rfl rfl)
theorem dJ47_siftDownUsingComparator_56 : decode cJ47_siftDownUsingComparator 56 = .ok (.istore 6, 2) := dk_54 6 (dk_at dksJ47_siftDownUsingComparator_2 12 rfl rfl)
theorem dJ47_siftDownUsingComparator_58 : decode cJ47_siftDownUsingComparator 58 = .ok (.aaload, 1) := dk_50 (dk_at dksJ47_siftDownUsingComparator_2 14 rfl rfl)
theorem dJ47_siftDownUsingComparator_59 : decode cJ47_siftDownUsingComparator 59 = .ok (.astore 7, 2) := dk_58 7 (dk_at dksJ47_siftDownUsingComparator_2 15 rfl rfl)
theorem dJ47_siftDownUsingComparator_61 : decode cJ47_siftDownUsingComparator 61 = .ok (.aload 4, 2) := dk_25 4 (dk_at dksJ47_siftDownUsingComparator_2 17 rfl rfl)
theorem dJ47_siftDownUsingComparator_63 : decode cJ47_siftDownUsingComparator 63 = .ok (.aload_n 1, 1) := dk_43 (dk_at dksJ47_siftDownUsingComparator_2 19 rfl rfl)
theorem dJ47_siftDownUsingComparator_64 : decode cJ47_siftDownUsingComparator 64 = .ok (.aload 7, 2) := dk_25 7 (dk_at dksJ47_siftDownUsingComparator_2 20 rfl rfl)
theorem dJ47_siftDownUsingComparator_66 : decode cJ47_siftDownUsingComparator 66 = .ok (.invokeinterface 149 3, 5) := by decide +kernel
theorem dJ47_siftDownUsingComparator_71 : decode cJ47_siftDownUsingComparator 71 = .ok (.ifCond .gt 6, 3) := dk_157 0 6 (dk_at dksJ47_siftDownUsingComparator_3 5 rfl rfl)
theorem dJ47_siftDownUsingComparator_74 : decode cJ47_siftDownUsingComparator 74 = .ok (.goto 14, 3) := dk_167 0 14 (dk_at dksJ47_siftDownUsingComparator_3 8 rfl rfl)
theorem dJ47_siftDownUsingComparator_77 : decode cJ47_siftDownUsingComparator 77 = .ok (.aload_n 2, 1) := dk_44 (dk_at dksJ47_siftDownUsingComparator_3 11 rfl rfl)
theorem dJ47_siftDownUsingComparator_78 : decode cJ47_siftDownUsingComparator 78 = .ok (.iload_n 0, 1) := dk_26 (dk_at dksJ47_siftDownUsingComparator_3 12 rfl rfl)
theorem dJ47_siftDownUsingComparator_79 : decode cJ47_siftDownUsingComparator 79 = .ok (.aload 7, 2) := dk_25 7 (dk_at dksJ47_siftDownUsingComparator_3 13 rfl rfl)
theorem dJ47_siftDownUsingComparator_81 : decode cJ47_siftDownUsingComparator 81 = .ok (.aastore, 1) := dk_83 (dk_at dksJ47_siftDownUsingComparator_3 15 rfl rfl)
theorem dJ47_siftDownUsingComparator_82 : decode cJ47_siftDownUsingComparator 82 = .ok (.iload 6, 2) := dk_21 6 (dk_at dksJ47_siftDownUsingComparator_3 16 rfl rfl)
theorem dJ47_siftDownUsingComparator_84 : decode cJ47_siftDownUsingComparator 84 = .ok (.istore_n 0, 1) := dk_59 (dk_at dksJ47_siftDownUsingComparator_3 18 rfl rfl)
theorem dJ47_siftDownUsingComparator_85 : decode cJ47_siftDownUsingComparator 85 = .ok (.goto (-80), 3) := dk_167 255 176 (dk_at dksJ47_siftDownUsingComparator_3 19 rfl rfl)
theorem dJ47_siftDownUsingComparator_88 : decode cJ47_siftDownUsingComparator 88 = .ok (.aload_n 2, 1) := dk_44 (dk_at dksJ47_siftDownUsingComparator_3 22 rfl rfl)
theorem dJ47_siftDownUsingComparator_89 : decode cJ47_siftDownUsingComparator 89 = .ok (.iload_n 0, 1) := dk_26 (dk_at dksJ47_siftDownUsingComparator_3 23 rfl rfl)
theorem dJ47_siftDownUsingComparator_90 : decode cJ47_siftDownUsingComparator 90 = .ok (.aload_n 1, 1) := dk_43 (dk_at dksJ47_siftDownUsingComparator_4 0 rfl rfl)
theorem dJ47_siftDownUsingComparator_91 : decode cJ47_siftDownUsingComparator 91 = .ok (.aastore, 1) := dk_83 (dk_at dksJ47_siftDownUsingComparator_4 1 rfl rfl)
theorem dJ47_siftDownUsingComparator_92 : decode cJ47_siftDownUsingComparator 92 = .ok (.return_, 1) := dk_177 (dk_at dksJ47_siftDownUsingComparator_4 2 rfl rfl)
abbrev cJ47_poll : ByteArray := prog_86_method_25_code
def yJ47_poll : MethodName := ⟨RJ47, "poll", "()Ljava/lang/Object;"⟩
def dkwJ47_poll_3 : List UInt8 := [43, 29, 25, 5, 184, 0, 129, 44, 176]
abbrev dktJ47_poll_3 : List UInt8 := dkwJ47_poll_3 ++ []
def dkwJ47_poll_2 : List UInt8 := [42, 180, 0, 21, 89, 58, 5, 199, 0, 14, 3, 25, 4, 43, 29, 184, 0, 125, 167, 0, 13, 3, 25, 4]
abbrev dktJ47_poll_2 : List UInt8 := dkwJ47_poll_2 ++ dktJ47_poll_3
def dkwJ47_poll_1 : List UInt8 := [42, 89, 180, 0, 58, 4, 100, 90, 181, 0, 58, 89, 62, 50, 58, 4, 43, 29, 1, 83, 29, 158, 0, 34]
abbrev dktJ47_poll_1 : List UInt8 := dkwJ47_poll_1 ++ dktJ47_poll_2
def dkwJ47_poll_0 : List UInt8 := [42, 180, 0, 17, 89, 76, 3, 50, 89, 77, 198, 0, 69, 42, 89, 180, 0, 93, 4, 96, 181, 0, 93, 43]
abbrev dktJ47_poll_0 : List UInt8 := dkwJ47_poll_0 ++ dktJ47_poll_1
theorem dksJ47_poll_0 : cJ47_poll.data.toList.drop 0 = dktJ47_poll_0 := by decide +kernel
theorem dksJ47_poll_1 : cJ47_poll.data.toList.drop 24 = dktJ47_poll_1 := dk_seg dksJ47_poll_0 24 rfl rfl
theorem dksJ47_poll_2 : cJ47_poll.data.toList.drop 48 = dktJ47_poll_2 := dk_seg dksJ47_poll_1 24 rfl rfl
theorem dksJ47_poll_3 : cJ47_poll.data.toList.drop 72 = dktJ47_poll_3 := dk_seg dksJ47_poll_2 24 rfl rfl
theorem dJ47_poll_0 : decode cJ47_poll 0 = .ok (.aload_n 0, 1) := dk_42 (dk_at dksJ47_poll_0 0 rfl rfl)
theorem dJ47_poll_1 : decode cJ47_poll 1 = .ok (.getfield 17, 3) := dk_180 0 17 (dk_at dksJ47_poll_0 1 rfl rfl)
theorem dJ47_poll_4 : decode cJ47_poll 4 = .ok (.dup, 1) := dk_89 (dk_at dksJ47_poll_0 4 rfl rfl)
theorem dJ47_poll_5 : decode cJ47_poll 5 = .ok (.astore_n 1, 1) := dk_76 (dk_at dksJ47_poll_0 5 rfl rfl)
theorem dJ47_poll_6 : decode cJ47_poll 6 = .ok (.iconst 0, 1) := dk_3 (dk_at dksJ47_poll_0 6 rfl rfl)
theorem dJ47_poll_7 : decode cJ47_poll 7 = .ok (.aaload, 1) := dk_50 (dk_at dksJ47_poll_0 7 rfl rfl)
theorem dJ47_poll_8 : decode cJ47_poll 8 = .ok (.dup, 1) := dk_89 (dk_at dksJ47_poll_0 8 rfl rfl)
theorem dJ47_poll_9 : decode cJ47_poll 9 = .ok (.astore_n 2, 1) := dk_77 (dk_at dksJ47_poll_0 9 rfl rfl)
theorem dJ47_poll_10 : decode cJ47_poll 10 = .ok (.ifnull 69, 3) := dk_198 0 69 (dk_at dksJ47_poll_0 10 rfl rfl)
theorem dJ47_poll_13 : decode cJ47_poll 13 = .ok (.aload_n 0, 1) := dk_42 (dk_at dksJ47_poll_0 13 rfl rfl)
theorem dJ47_poll_14 : decode cJ47_poll 14 = .ok (.dup, 1) := dk_89 (dk_at dksJ47_poll_0 14 rfl rfl)
theorem dJ47_poll_15 : decode cJ47_poll 15 = .ok (.getfield 93, 3) := dk_180 0 93 (dk_at dksJ47_poll_0 15 rfl rfl)
theorem dJ47_poll_18 : decode cJ47_poll 18 = .ok (.iconst 1, 1) := dk_4 (dk_at dksJ47_poll_0 18 rfl rfl)
theorem dJ47_poll_19 : decode cJ47_poll 19 = .ok (.iadd, 1) := dk_96 (dk_at dksJ47_poll_0 19 rfl rfl)
theorem dJ47_poll_20 : decode cJ47_poll 20 = .ok (.putfield 93, 3) := dk_181 0 93 (dk_at dksJ47_poll_0 20 rfl rfl)
theorem dJ47_poll_23 : decode cJ47_poll 23 = .ok (.aload_n 1, 1) := dk_43 (dk_at dksJ47_poll_0 23 rfl rfl)
theorem dJ47_poll_24 : decode cJ47_poll 24 = .ok (.aload_n 0, 1) := dk_42 (dk_at dksJ47_poll_1 0 rfl rfl)
theorem dJ47_poll_25 : decode cJ47_poll 25 = .ok (.dup, 1) := dk_89 (dk_at dksJ47_poll_1 1 rfl rfl)
theorem dJ47_poll_26 : decode cJ47_poll 26 = .ok (.getfield 58, 3) := dk_180 0 58 (dk_at dksJ47_poll_1 2 rfl rfl)
theorem dJ47_poll_29 : decode cJ47_poll 29 = .ok (.iconst 1, 1) := dk_4 (dk_at dksJ47_poll_1 5 rfl rfl)
theorem dJ47_poll_30 : decode cJ47_poll 30 = .ok (.isub, 1) := dk_100 (dk_at dksJ47_poll_1 6 rfl rfl)
theorem dJ47_poll_31 : decode cJ47_poll 31 = .ok (.dup_x1, 1) := dk_90 (dk_at dksJ47_poll_1 7 rfl rfl)
theorem dJ47_poll_32 : decode cJ47_poll 32 = .ok (.putfield 58, 3) := dk_181 0 58 (dk_at dksJ47_poll_1 8 rfl rfl)
theorem dJ47_poll_35 : decode cJ47_poll 35 = .ok (.dup, 1) := dk_89 (dk_at dksJ47_poll_1 11 rfl rfl)
theorem dJ47_poll_36 : decode cJ47_poll 36 = .ok (.istore_n 3, 1) := dk_62 (dk_at dksJ47_poll_1 12 rfl rfl)
theorem dJ47_poll_37 : decode cJ47_poll 37 = .ok (.aaload, 1) := dk_50 (dk_at dksJ47_poll_1 13 rfl rfl)
theorem dJ47_poll_38 : decode cJ47_poll 38 = .ok (.astore 4, 2) := dk_58 4 (dk_at dksJ47_poll_1 14 rfl rfl)
theorem dJ47_poll_40 : decode cJ47_poll 40 = .ok (.aload_n 1, 1) := dk_43 (dk_at dksJ47_poll_1 16 rfl rfl)
theorem dJ47_poll_41 : decode cJ47_poll 41 = .ok (.iload_n 3, 1) := dk_29 (dk_at dksJ47_poll_1 17 rfl rfl)
theorem dJ47_poll_42 : decode cJ47_poll 42 = .ok (.aconst_null, 1) := dk_1 (dk_at dksJ47_poll_1 18 rfl rfl)
theorem dJ47_poll_43 : decode cJ47_poll 43 = .ok (.aastore, 1) := dk_83 (dk_at dksJ47_poll_1 19 rfl rfl)
theorem dJ47_poll_44 : decode cJ47_poll 44 = .ok (.iload_n 3, 1) := dk_29 (dk_at dksJ47_poll_1 20 rfl rfl)
theorem dJ47_poll_45 : decode cJ47_poll 45 = .ok (.ifCond .le 34, 3) := dk_158 0 34 (dk_at dksJ47_poll_1 21 rfl rfl)
theorem dJ47_poll_48 : decode cJ47_poll 48 = .ok (.aload_n 0, 1) := dk_42 (dk_at dksJ47_poll_2 0 rfl rfl)
theorem dJ47_poll_49 : decode cJ47_poll 49 = .ok (.getfield 21, 3) := dk_180 0 21 (dk_at dksJ47_poll_2 1 rfl rfl)
theorem dJ47_poll_52 : decode cJ47_poll 52 = .ok (.dup, 1) := dk_89 (dk_at dksJ47_poll_2 4 rfl rfl)
theorem dJ47_poll_53 : decode cJ47_poll 53 = .ok (.astore 5, 2) := dk_58 5 (dk_at dksJ47_poll_2 5 rfl rfl)
theorem dJ47_poll_55 : decode cJ47_poll 55 = .ok (.ifnonnull 14, 3) := dk_199 0 14 (dk_at dksJ47_poll_2 7 rfl rfl)
theorem dJ47_poll_58 : decode cJ47_poll 58 = .ok (.iconst 0, 1) := dk_3 (dk_at dksJ47_poll_2 10 rfl rfl)
theorem dJ47_poll_59 : decode cJ47_poll 59 = .ok (.aload 4, 2) := dk_25 4 (dk_at dksJ47_poll_2 11 rfl rfl)
theorem dJ47_poll_61 : decode cJ47_poll 61 = .ok (.aload_n 1, 1) := dk_43 (dk_at dksJ47_poll_2 13 rfl rfl)
theorem dJ47_poll_62 : decode cJ47_poll 62 = .ok (.iload_n 3, 1) := dk_29 (dk_at dksJ47_poll_2 14 rfl rfl)
theorem dJ47_poll_63 : decode cJ47_poll 63 = .ok (.invokestatic 125, 3) := dk_184 0 125 (dk_at dksJ47_poll_2 15 rfl rfl)
theorem dJ47_poll_69 : decode cJ47_poll 69 = .ok (.iconst 0, 1) := dk_3 (dk_at dksJ47_poll_2 21 rfl rfl)
theorem dJ47_poll_70 : decode cJ47_poll 70 = .ok (.aload 4, 2) := dk_25 4 (dk_at dksJ47_poll_2 22 rfl rfl)
theorem dJ47_poll_72 : decode cJ47_poll 72 = .ok (.aload_n 1, 1) := dk_43 (dk_at dksJ47_poll_3 0 rfl rfl)
theorem dJ47_poll_73 : decode cJ47_poll 73 = .ok (.iload_n 3, 1) := dk_29 (dk_at dksJ47_poll_3 1 rfl rfl)
theorem dJ47_poll_74 : decode cJ47_poll 74 = .ok (.aload 5, 2) := dk_25 5 (dk_at dksJ47_poll_3 2 rfl rfl)
theorem dJ47_poll_76 : decode cJ47_poll 76 = .ok (.invokestatic 129, 3) := dk_184 0 129 (dk_at dksJ47_poll_3 4 rfl rfl)
theorem dJ47_poll_79 : decode cJ47_poll 79 = .ok (.aload_n 2, 1) := dk_44 (dk_at dksJ47_poll_3 7 rfl rfl)
theorem dJ47_poll_80 : decode cJ47_poll 80 = .ok (.areturn, 1) := dk_176 (dk_at dksJ47_poll_3 8 rfl rfl)
abbrev cJ47_size : ByteArray := prog_86_method_23_code
def yJ47_size : MethodName := ⟨RJ47, "size", "()I"⟩
theorem dJ47_size_0 : decode cJ47_size 0 = .ok (.aload_n 0, 1) := by decide +kernel
theorem dJ47_size_1 : decode cJ47_size 1 = .ok (.getfield 58, 3) := by decide +kernel
theorem dJ47_size_4 : decode cJ47_size 4 = .ok (.ireturn, 1) := by decide +kernel
abbrev cX12_most : ByteArray := prog_8_method_4_code
def yX12_most : MethodName := ⟨RX12, "most", "()I"⟩
def dkwX12_most_3 : List UInt8 := [164, 0, 16, 28, 43, 182, 0, 81, 192, 0, 39, 180, 0, 59, 100, 61, 167, 255, 199, 43, 182, 0, 84, 172]
abbrev dktX12_most_3 : List UInt8 := dkwX12_most_3 ++ []
def dkwX12_most_2 : List UInt8 := [58, 4, 43, 25, 4, 182, 0, 78, 87, 28, 25, 4, 180, 0, 59, 96, 61, 28, 25, 4, 180, 0, 62]
abbrev dktX12_most_2 : List UInt8 := dkwX12_most_2 ++ dktX12_most_3
def dkwX12_most_1 : List UInt8 := [185, 0, 77, 1, 0, 78, 45, 185, 0, 29, 1, 0, 153, 0, 54, 45, 185, 0, 35, 1, 0, 192, 0, 39]
abbrev dktX12_most_1 : List UInt8 := dkwX12_most_1 ++ dktX12_most_2
def dkwX12_most_0 : List UInt8 := [187, 0, 69, 89, 187, 0, 71, 89, 183, 0, 73, 183, 0, 74, 76, 42, 180, 0, 16, 61, 42, 180, 0, 10]
abbrev dktX12_most_0 : List UInt8 := dkwX12_most_0 ++ dktX12_most_1
theorem dksX12_most_0 : cX12_most.data.toList.drop 0 = dktX12_most_0 := by decide +kernel
theorem dksX12_most_1 : cX12_most.data.toList.drop 24 = dktX12_most_1 := dk_seg dksX12_most_0 24 rfl rfl
theorem dksX12_most_2 : cX12_most.data.toList.drop 48 = dktX12_most_2 := dk_seg dksX12_most_1 24 rfl rfl
theorem dksX12_most_3 : cX12_most.data.toList.drop 71 = dktX12_most_3 := dk_seg dksX12_most_2 23 rfl rfl
theorem dX12_most_0 : decode cX12_most 0 = .ok (.new 69, 3) := dk_187 0 69 (dk_at dksX12_most_0 0 rfl rfl)
theorem dX12_most_3 : decode cX12_most 3 = .ok (.dup, 1) := dk_89 (dk_at dksX12_most_0 3 rfl rfl)
theorem dX12_most_4 : decode cX12_most 4 = .ok (.new 71, 3) := dk_187 0 71 (dk_at dksX12_most_0 4 rfl rfl)
theorem dX12_most_7 : decode cX12_most 7 = .ok (.dup, 1) := dk_89 (dk_at dksX12_most_0 7 rfl rfl)
theorem dX12_most_8 : decode cX12_most 8 = .ok (.invokespecial 73, 3) := dk_183 0 73 (dk_at dksX12_most_0 8 rfl rfl)
theorem dX12_most_11 : decode cX12_most 11 = .ok (.invokespecial 74, 3) := dk_183 0 74 (dk_at dksX12_most_0 11 rfl rfl)
theorem dX12_most_14 : decode cX12_most 14 = .ok (.astore_n 1, 1) := dk_76 (dk_at dksX12_most_0 14 rfl rfl)
theorem dX12_most_15 : decode cX12_most 15 = .ok (.aload_n 0, 1) := dk_42 (dk_at dksX12_most_0 15 rfl rfl)
theorem dX12_most_16 : decode cX12_most 16 = .ok (.getfield 16, 3) := dk_180 0 16 (dk_at dksX12_most_0 16 rfl rfl)
theorem dX12_most_19 : decode cX12_most 19 = .ok (.istore_n 2, 1) := dk_61 (dk_at dksX12_most_0 19 rfl rfl)
theorem dX12_most_20 : decode cX12_most 20 = .ok (.aload_n 0, 1) := dk_42 (dk_at dksX12_most_0 20 rfl rfl)
theorem dX12_most_21 : decode cX12_most 21 = .ok (.getfield 10, 3) := dk_180 0 10 (dk_at dksX12_most_0 21 rfl rfl)
theorem dX12_most_24 : decode cX12_most 24 = .ok (.invokeinterface 77 1, 5) := by decide +kernel
theorem dX12_most_29 : decode cX12_most 29 = .ok (.astore_n 3, 1) := dk_78 (dk_at dksX12_most_1 5 rfl rfl)
theorem dX12_most_30 : decode cX12_most 30 = .ok (.aload_n 3, 1) := dk_45 (dk_at dksX12_most_1 6 rfl rfl)
theorem dX12_most_31 : decode cX12_most 31 = .ok (.invokeinterface 29 1, 5) := by decide +kernel
theorem dX12_most_36 : decode cX12_most 36 = .ok (.ifCond .eq 54, 3) := dk_153 0 54 (dk_at dksX12_most_1 12 rfl rfl)
theorem dX12_most_39 : decode cX12_most 39 = .ok (.aload_n 3, 1) := dk_45 (dk_at dksX12_most_1 15 rfl rfl)
theorem dX12_most_40 : decode cX12_most 40 = .ok (.invokeinterface 35 1, 5) := by decide +kernel
theorem dX12_most_45 : decode cX12_most 45 = .ok (.checkcast 39, 3) := dk_192 0 39 (dk_at dksX12_most_1 21 rfl rfl)
theorem dX12_most_48 : decode cX12_most 48 = .ok (.astore 4, 2) := dk_58 4 (dk_at dksX12_most_2 0 rfl rfl)
theorem dX12_most_50 : decode cX12_most 50 = .ok (.aload_n 1, 1) := dk_43 (dk_at dksX12_most_2 2 rfl rfl)
theorem dX12_most_51 : decode cX12_most 51 = .ok (.aload 4, 2) := dk_25 4 (dk_at dksX12_most_2 3 rfl rfl)
theorem dX12_most_53 : decode cX12_most 53 = .ok (.invokevirtual 78, 3) := dk_182 0 78 (dk_at dksX12_most_2 5 rfl rfl)
theorem dX12_most_56 : decode cX12_most 56 = .ok (.pop, 1) := dk_87 (dk_at dksX12_most_2 8 rfl rfl)
theorem dX12_most_57 : decode cX12_most 57 = .ok (.iload_n 2, 1) := dk_28 (dk_at dksX12_most_2 9 rfl rfl)
theorem dX12_most_58 : decode cX12_most 58 = .ok (.aload 4, 2) := dk_25 4 (dk_at dksX12_most_2 10 rfl rfl)
theorem dX12_most_60 : decode cX12_most 60 = .ok (.getfield 59, 3) := dk_180 0 59 (dk_at dksX12_most_2 12 rfl rfl)
theorem dX12_most_63 : decode cX12_most 63 = .ok (.iadd, 1) := dk_96 (dk_at dksX12_most_2 15 rfl rfl)
theorem dX12_most_64 : decode cX12_most 64 = .ok (.istore_n 2, 1) := dk_61 (dk_at dksX12_most_2 16 rfl rfl)
theorem dX12_most_65 : decode cX12_most 65 = .ok (.iload_n 2, 1) := dk_28 (dk_at dksX12_most_2 17 rfl rfl)
theorem dX12_most_66 : decode cX12_most 66 = .ok (.aload 4, 2) := dk_25 4 (dk_at dksX12_most_2 18 rfl rfl)
theorem dX12_most_68 : decode cX12_most 68 = .ok (.getfield 62, 3) := dk_180 0 62 (dk_at dksX12_most_2 20 rfl rfl)
theorem dX12_most_71 : decode cX12_most 71 = .ok (.if_icmp .le 16, 3) := dk_164 0 16 (dk_at dksX12_most_3 0 rfl rfl)
theorem dX12_most_74 : decode cX12_most 74 = .ok (.iload_n 2, 1) := dk_28 (dk_at dksX12_most_3 3 rfl rfl)
theorem dX12_most_75 : decode cX12_most 75 = .ok (.aload_n 1, 1) := dk_43 (dk_at dksX12_most_3 4 rfl rfl)
theorem dX12_most_76 : decode cX12_most 76 = .ok (.invokevirtual 81, 3) := dk_182 0 81 (dk_at dksX12_most_3 5 rfl rfl)
theorem dX12_most_79 : decode cX12_most 79 = .ok (.checkcast 39, 3) := dk_192 0 39 (dk_at dksX12_most_3 8 rfl rfl)
theorem dX12_most_82 : decode cX12_most 82 = .ok (.getfield 59, 3) := dk_180 0 59 (dk_at dksX12_most_3 11 rfl rfl)
theorem dX12_most_85 : decode cX12_most 85 = .ok (.isub, 1) := dk_100 (dk_at dksX12_most_3 14 rfl rfl)
theorem dX12_most_86 : decode cX12_most 86 = .ok (.istore_n 2, 1) := dk_61 (dk_at dksX12_most_3 15 rfl rfl)
theorem dX12_most_87 : decode cX12_most 87 = .ok (.goto (-57), 3) := dk_167 255 199 (dk_at dksX12_most_3 16 rfl rfl)
theorem dX12_most_90 : decode cX12_most 90 = .ok (.aload_n 1, 1) := dk_43 (dk_at dksX12_most_3 19 rfl rfl)
theorem dX12_most_91 : decode cX12_most 91 = .ok (.invokevirtual 84, 3) := dk_182 0 84 (dk_at dksX12_most_3 20 rfl rfl)
theorem dX12_most_94 : decode cX12_most 94 = .ok (.ireturn, 1) := dk_172 (dk_at dksX12_most_3 23 rfl rfl)
abbrev cJ27_bitCount : ByteArray := prog_31_method_49_code
def yJ27_bitCount : MethodName := ⟨RJ27, "bitCount", "(I)I"⟩
def dkwJ27_bitCount_2 : List UInt8 := [26, 16, 63, 126, 172]
abbrev dktJ27_bitCount_2 : List UInt8 := dkwJ27_bitCount_2 ++ []
def dkwJ27_bitCount_1 : List UInt8 := [26, 26, 7, 124, 96, 19, 1, 11, 126, 59, 26, 26, 16, 8, 124, 96, 59, 26, 26, 16, 16, 124, 96, 59]
abbrev dktJ27_bitCount_1 : List UInt8 := dkwJ27_bitCount_1 ++ dktJ27_bitCount_2
def dkwJ27_bitCount_0 : List UInt8 := [26, 26, 4, 124, 19, 1, 9, 126, 100, 59, 26, 19, 1, 10, 126, 26, 5, 124, 19, 1, 10, 126, 96, 59]
abbrev dktJ27_bitCount_0 : List UInt8 := dkwJ27_bitCount_0 ++ dktJ27_bitCount_1
theorem dksJ27_bitCount_0 : cJ27_bitCount.data.toList.drop 0 = dktJ27_bitCount_0 := by decide +kernel
theorem dksJ27_bitCount_1 : cJ27_bitCount.data.toList.drop 24 = dktJ27_bitCount_1 := dk_seg dksJ27_bitCount_0 24 rfl rfl
theorem dksJ27_bitCount_2 : cJ27_bitCount.data.toList.drop 48 = dktJ27_bitCount_2 := dk_seg dksJ27_bitCount_1 24 rfl rfl
theorem dJ27_bitCount_0 : decode cJ27_bitCount 0 = .ok (.iload_n 0, 1) := dk_26 (dk_at dksJ27_bitCount_0 0 rfl rfl)
theorem dJ27_bitCount_1 : decode cJ27_bitCount 1 = .ok (.iload_n 0, 1) := dk_26 (dk_at dksJ27_bitCount_0 1 rfl rfl)
theorem dJ27_bitCount_2 : decode cJ27_bitCount 2 = .ok (.iconst 1, 1) := dk_4 (dk_at dksJ27_bitCount_0 2 rfl rfl)
theorem dJ27_bitCount_3 : decode cJ27_bitCount 3 = .ok (.iushr, 1) := dk_124 (dk_at dksJ27_bitCount_0 3 rfl rfl)
theorem dJ27_bitCount_4 : decode cJ27_bitCount 4 = .ok (.ldc_w 265, 3) := dk_19 1 9 (dk_at dksJ27_bitCount_0 4 rfl rfl)
theorem dJ27_bitCount_7 : decode cJ27_bitCount 7 = .ok (.iand, 1) := dk_126 (dk_at dksJ27_bitCount_0 7 rfl rfl)
theorem dJ27_bitCount_8 : decode cJ27_bitCount 8 = .ok (.isub, 1) := dk_100 (dk_at dksJ27_bitCount_0 8 rfl rfl)
theorem dJ27_bitCount_9 : decode cJ27_bitCount 9 = .ok (.istore_n 0, 1) := dk_59 (dk_at dksJ27_bitCount_0 9 rfl rfl)
theorem dJ27_bitCount_10 : decode cJ27_bitCount 10 = .ok (.iload_n 0, 1) := dk_26 (dk_at dksJ27_bitCount_0 10 rfl rfl)
theorem dJ27_bitCount_11 : decode cJ27_bitCount 11 = .ok (.ldc_w 266, 3) := dk_19 1 10 (dk_at dksJ27_bitCount_0 11 rfl rfl)
theorem dJ27_bitCount_14 : decode cJ27_bitCount 14 = .ok (.iand, 1) := dk_126 (dk_at dksJ27_bitCount_0 14 rfl rfl)
theorem dJ27_bitCount_15 : decode cJ27_bitCount 15 = .ok (.iload_n 0, 1) := dk_26 (dk_at dksJ27_bitCount_0 15 rfl rfl)
theorem dJ27_bitCount_16 : decode cJ27_bitCount 16 = .ok (.iconst 2, 1) := dk_5 (dk_at dksJ27_bitCount_0 16 rfl rfl)
theorem dJ27_bitCount_17 : decode cJ27_bitCount 17 = .ok (.iushr, 1) := dk_124 (dk_at dksJ27_bitCount_0 17 rfl rfl)
theorem dJ27_bitCount_18 : decode cJ27_bitCount 18 = .ok (.ldc_w 266, 3) := dk_19 1 10 (dk_at dksJ27_bitCount_0 18 rfl rfl)
theorem dJ27_bitCount_21 : decode cJ27_bitCount 21 = .ok (.iand, 1) := dk_126 (dk_at dksJ27_bitCount_0 21 rfl rfl)
theorem dJ27_bitCount_22 : decode cJ27_bitCount 22 = .ok (.iadd, 1) := dk_96 (dk_at dksJ27_bitCount_0 22 rfl rfl)
theorem dJ27_bitCount_23 : decode cJ27_bitCount 23 = .ok (.istore_n 0, 1) := dk_59 (dk_at dksJ27_bitCount_0 23 rfl rfl)
theorem dJ27_bitCount_24 : decode cJ27_bitCount 24 = .ok (.iload_n 0, 1) := dk_26 (dk_at dksJ27_bitCount_1 0 rfl rfl)
theorem dJ27_bitCount_25 : decode cJ27_bitCount 25 = .ok (.iload_n 0, 1) := dk_26 (dk_at dksJ27_bitCount_1 1 rfl rfl)
theorem dJ27_bitCount_26 : decode cJ27_bitCount 26 = .ok (.iconst 4, 1) := dk_7 (dk_at dksJ27_bitCount_1 2 rfl rfl)
theorem dJ27_bitCount_27 : decode cJ27_bitCount 27 = .ok (.iushr, 1) := dk_124 (dk_at dksJ27_bitCount_1 3 rfl rfl)
theorem dJ27_bitCount_28 : decode cJ27_bitCount 28 = .ok (.iadd, 1) := dk_96 (dk_at dksJ27_bitCount_1 4 rfl rfl)
theorem dJ27_bitCount_29 : decode cJ27_bitCount 29 = .ok (.ldc_w 267, 3) := dk_19 1 11 (dk_at dksJ27_bitCount_1 5 rfl rfl)
theorem dJ27_bitCount_32 : decode cJ27_bitCount 32 = .ok (.iand, 1) := dk_126 (dk_at dksJ27_bitCount_1 8 rfl rfl)
theorem dJ27_bitCount_33 : decode cJ27_bitCount 33 = .ok (.istore_n 0, 1) := dk_59 (dk_at dksJ27_bitCount_1 9 rfl rfl)
theorem dJ27_bitCount_34 : decode cJ27_bitCount 34 = .ok (.iload_n 0, 1) := dk_26 (dk_at dksJ27_bitCount_1 10 rfl rfl)
theorem dJ27_bitCount_35 : decode cJ27_bitCount 35 = .ok (.iload_n 0, 1) := dk_26 (dk_at dksJ27_bitCount_1 11 rfl rfl)
theorem dJ27_bitCount_36 : decode cJ27_bitCount 36 = .ok (.bipush 8, 2) := dk_16 8 (dk_at dksJ27_bitCount_1 12 rfl rfl)
theorem dJ27_bitCount_38 : decode cJ27_bitCount 38 = .ok (.iushr, 1) := dk_124 (dk_at dksJ27_bitCount_1 14 rfl rfl)
theorem dJ27_bitCount_39 : decode cJ27_bitCount 39 = .ok (.iadd, 1) := dk_96 (dk_at dksJ27_bitCount_1 15 rfl rfl)
theorem dJ27_bitCount_40 : decode cJ27_bitCount 40 = .ok (.istore_n 0, 1) := dk_59 (dk_at dksJ27_bitCount_1 16 rfl rfl)
theorem dJ27_bitCount_41 : decode cJ27_bitCount 41 = .ok (.iload_n 0, 1) := dk_26 (dk_at dksJ27_bitCount_1 17 rfl rfl)
theorem dJ27_bitCount_42 : decode cJ27_bitCount 42 = .ok (.iload_n 0, 1) := dk_26 (dk_at dksJ27_bitCount_1 18 rfl rfl)
theorem dJ27_bitCount_43 : decode cJ27_bitCount 43 = .ok (.bipush 16, 2) := dk_16 16 (dk_at dksJ27_bitCount_1 19 rfl rfl)
theorem dJ27_bitCount_45 : decode cJ27_bitCount 45 = .ok (.iushr, 1) := dk_124 (dk_at dksJ27_bitCount_1 21 rfl rfl)
theorem dJ27_bitCount_46 : decode cJ27_bitCount 46 = .ok (.iadd, 1) := dk_96 (dk_at dksJ27_bitCount_1 22 rfl rfl)
theorem dJ27_bitCount_47 : decode cJ27_bitCount 47 = .ok (.istore_n 0, 1) := dk_59 (dk_at dksJ27_bitCount_1 23 rfl rfl)
theorem dJ27_bitCount_48 : decode cJ27_bitCount 48 = .ok (.iload_n 0, 1) := dk_26 (dk_at dksJ27_bitCount_2 0 rfl rfl)
theorem dJ27_bitCount_49 : decode cJ27_bitCount 49 = .ok (.bipush 63, 2) := dk_16 63 (dk_at dksJ27_bitCount_2 1 rfl rfl)
theorem dJ27_bitCount_51 : decode cJ27_bitCount 51 = .ok (.iand, 1) := dk_126 (dk_at dksJ27_bitCount_2 3 rfl rfl)
theorem dJ27_bitCount_52 : decode cJ27_bitCount 52 = .ok (.ireturn, 1) := dk_172 (dk_at dksJ27_bitCount_2 4 rfl rfl)
abbrev cX12_mostBySets : ByteArray := prog_8_method_5_code
def yX12_mostBySets : MethodName := ⟨RX12, "mostBySets", "()I"⟩
def dkwX12_mostBySets_2 : List UInt8 := [167, 255, 213, 27, 172]
abbrev dktX12_mostBySets_2 : List UInt8 := dkwX12_mostBySets_2 ++ []
def dkwX12_mostBySets_1 : List UInt8 := [164, 0, 18, 42, 28, 182, 0, 65, 153, 0, 10, 28, 184, 0, 85, 167, 0, 4, 27, 60, 132, 2, 1]
abbrev dktX12_mostBySets_1 : List UInt8 := dkwX12_mostBySets_1 ++ dktX12_mostBySets_2
def dkwX12_mostBySets_0 : List UInt8 := [3, 60, 4, 61, 28, 4, 42, 180, 0, 10, 185, 0, 41, 1, 0, 120, 162, 0, 34, 28, 184, 0, 85, 27]
abbrev dktX12_mostBySets_0 : List UInt8 := dkwX12_mostBySets_0 ++ dktX12_mostBySets_1
theorem dksX12_mostBySets_0 : cX12_mostBySets.data.toList.drop 0 = dktX12_mostBySets_0 := by decide +kernel
theorem dksX12_mostBySets_1 : cX12_mostBySets.data.toList.drop 24 = dktX12_mostBySets_1 := dk_seg dksX12_mostBySets_0 24 rfl rfl
theorem dksX12_mostBySets_2 : cX12_mostBySets.data.toList.drop 47 = dktX12_mostBySets_2 := dk_seg dksX12_mostBySets_1 23 rfl rfl
theorem dX12_mostBySets_0 : decode cX12_mostBySets 0 = .ok (.iconst 0, 1) := dk_3 (dk_at dksX12_mostBySets_0 0 rfl rfl)
theorem dX12_mostBySets_1 : decode cX12_mostBySets 1 = .ok (.istore_n 1, 1) := dk_60 (dk_at dksX12_mostBySets_0 1 rfl rfl)
theorem dX12_mostBySets_2 : decode cX12_mostBySets 2 = .ok (.iconst 1, 1) := dk_4 (dk_at dksX12_mostBySets_0 2 rfl rfl)
theorem dX12_mostBySets_3 : decode cX12_mostBySets 3 = .ok (.istore_n 2, 1) := dk_61 (dk_at dksX12_mostBySets_0 3 rfl rfl)
theorem dX12_mostBySets_4 : decode cX12_mostBySets 4 = .ok (.iload_n 2, 1) := dk_28 (dk_at dksX12_mostBySets_0 4 rfl rfl)
theorem dX12_mostBySets_5 : decode cX12_mostBySets 5 = .ok (.iconst 1, 1) := dk_4 (dk_at dksX12_mostBySets_0 5 rfl rfl)
theorem dX12_mostBySets_6 : decode cX12_mostBySets 6 = .ok (.aload_n 0, 1) := dk_42 (dk_at dksX12_mostBySets_0 6 rfl rfl)
theorem dX12_mostBySets_7 : decode cX12_mostBySets 7 = .ok (.getfield 10, 3) := dk_180 0 10 (dk_at dksX12_mostBySets_0 7 rfl rfl)
theorem dX12_mostBySets_10 : decode cX12_mostBySets 10 = .ok (.invokeinterface 41 1, 5) := by decide +kernel
theorem dX12_mostBySets_15 : decode cX12_mostBySets 15 = .ok (.ishl, 1) := dk_120 (dk_at dksX12_mostBySets_0 15 rfl rfl)
theorem dX12_mostBySets_16 : decode cX12_mostBySets 16 = .ok (.if_icmp .ge 34, 3) := dk_162 0 34 (dk_at dksX12_mostBySets_0 16 rfl rfl)
theorem dX12_mostBySets_19 : decode cX12_mostBySets 19 = .ok (.iload_n 2, 1) := dk_28 (dk_at dksX12_mostBySets_0 19 rfl rfl)
theorem dX12_mostBySets_20 : decode cX12_mostBySets 20 = .ok (.invokestatic 85, 3) := dk_184 0 85 (dk_at dksX12_mostBySets_0 20 rfl rfl)
theorem dX12_mostBySets_23 : decode cX12_mostBySets 23 = .ok (.iload_n 1, 1) := dk_27 (dk_at dksX12_mostBySets_0 23 rfl rfl)
theorem dX12_mostBySets_24 : decode cX12_mostBySets 24 = .ok (.if_icmp .le 18, 3) := dk_164 0 18 (dk_at dksX12_mostBySets_1 0 rfl rfl)
theorem dX12_mostBySets_27 : decode cX12_mostBySets 27 = .ok (.aload_n 0, 1) := dk_42 (dk_at dksX12_mostBySets_1 3 rfl rfl)
theorem dX12_mostBySets_28 : decode cX12_mostBySets 28 = .ok (.iload_n 2, 1) := dk_28 (dk_at dksX12_mostBySets_1 4 rfl rfl)
theorem dX12_mostBySets_29 : decode cX12_mostBySets 29 = .ok (.invokevirtual 65, 3) := dk_182 0 65 (dk_at dksX12_mostBySets_1 5 rfl rfl)
theorem dX12_mostBySets_32 : decode cX12_mostBySets 32 = .ok (.ifCond .eq 10, 3) := dk_153 0 10 (dk_at dksX12_mostBySets_1 8 rfl rfl)
theorem dX12_mostBySets_35 : decode cX12_mostBySets 35 = .ok (.iload_n 2, 1) := dk_28 (dk_at dksX12_mostBySets_1 11 rfl rfl)
theorem dX12_mostBySets_36 : decode cX12_mostBySets 36 = .ok (.invokestatic 85, 3) := dk_184 0 85 (dk_at dksX12_mostBySets_1 12 rfl rfl)
theorem dX12_mostBySets_39 : decode cX12_mostBySets 39 = .ok (.goto 4, 3) := dk_167 0 4 (dk_at dksX12_mostBySets_1 15 rfl rfl)
theorem dX12_mostBySets_42 : decode cX12_mostBySets 42 = .ok (.iload_n 1, 1) := dk_27 (dk_at dksX12_mostBySets_1 18 rfl rfl)
theorem dX12_mostBySets_43 : decode cX12_mostBySets 43 = .ok (.istore_n 1, 1) := dk_60 (dk_at dksX12_mostBySets_1 19 rfl rfl)
theorem dX12_mostBySets_44 : decode cX12_mostBySets 44 = .ok (.iinc 2 1, 3) := dk_132 2 1 (dk_at dksX12_mostBySets_1 20 rfl rfl)
theorem dX12_mostBySets_47 : decode cX12_mostBySets 47 = .ok (.goto (-43), 3) := dk_167 255 213 (dk_at dksX12_mostBySets_2 0 rfl rfl)
theorem dX12_mostBySets_50 : decode cX12_mostBySets 50 = .ok (.iload_n 1, 1) := dk_27 (dk_at dksX12_mostBySets_2 3 rfl rfl)
theorem dX12_mostBySets_51 : decode cX12_mostBySets 51 = .ok (.ireturn, 1) := dk_172 (dk_at dksX12_mostBySets_2 4 rfl rfl)
abbrev cX11_isOnDuty : ByteArray := prog_9_method_2_code
def yX11_isOnDuty : MethodName := ⟨RX11, "isOnDuty", "(I)Z"⟩
def dkwX11_isOnDuty_0 : List UInt8 := [27, 42, 180, 0, 7, 161, 0, 15, 27, 42, 180, 0, 13, 162, 0, 7, 4, 167, 0, 4, 3, 172]
abbrev dktX11_isOnDuty_0 : List UInt8 := dkwX11_isOnDuty_0 ++ []
theorem dksX11_isOnDuty_0 : cX11_isOnDuty.data.toList.drop 0 = dktX11_isOnDuty_0 := by decide +kernel
theorem dX11_isOnDuty_0 : decode cX11_isOnDuty 0 = .ok (.iload_n 1, 1) := dk_27 (dk_at dksX11_isOnDuty_0 0 rfl rfl)
theorem dX11_isOnDuty_1 : decode cX11_isOnDuty 1 = .ok (.aload_n 0, 1) := dk_42 (dk_at dksX11_isOnDuty_0 1 rfl rfl)
theorem dX11_isOnDuty_2 : decode cX11_isOnDuty 2 = .ok (.getfield 7, 3) := dk_180 0 7 (dk_at dksX11_isOnDuty_0 2 rfl rfl)
theorem dX11_isOnDuty_5 : decode cX11_isOnDuty 5 = .ok (.if_icmp .lt 15, 3) := dk_161 0 15 (dk_at dksX11_isOnDuty_0 5 rfl rfl)
theorem dX11_isOnDuty_8 : decode cX11_isOnDuty 8 = .ok (.iload_n 1, 1) := dk_27 (dk_at dksX11_isOnDuty_0 8 rfl rfl)
theorem dX11_isOnDuty_9 : decode cX11_isOnDuty 9 = .ok (.aload_n 0, 1) := dk_42 (dk_at dksX11_isOnDuty_0 9 rfl rfl)
theorem dX11_isOnDuty_10 : decode cX11_isOnDuty 10 = .ok (.getfield 13, 3) := dk_180 0 13 (dk_at dksX11_isOnDuty_0 10 rfl rfl)
theorem dX11_isOnDuty_13 : decode cX11_isOnDuty 13 = .ok (.if_icmp .ge 7, 3) := dk_162 0 7 (dk_at dksX11_isOnDuty_0 13 rfl rfl)
theorem dX11_isOnDuty_16 : decode cX11_isOnDuty 16 = .ok (.iconst 1, 1) := dk_4 (dk_at dksX11_isOnDuty_0 16 rfl rfl)
theorem dX11_isOnDuty_17 : decode cX11_isOnDuty 17 = .ok (.goto 4, 3) := dk_167 0 4 (dk_at dksX11_isOnDuty_0 17 rfl rfl)
theorem dX11_isOnDuty_20 : decode cX11_isOnDuty 20 = .ok (.iconst 0, 1) := dk_3 (dk_at dksX11_isOnDuty_0 20 rfl rfl)
theorem dX11_isOnDuty_21 : decode cX11_isOnDuty 21 = .ok (.ireturn, 1) := dk_172 (dk_at dksX11_isOnDuty_0 21 rfl rfl)
abbrev cX3_latestEnd : ByteArray := prog_10_method_9_code
def yX3_latestEnd : MethodName := ⟨RX3, "latestEnd", "(I)I"⟩
def dkwX3_latestEnd_2 : List UInt8 := [180, 0, 66, 184, 0, 78, 167, 0, 4, 28, 61, 167, 255, 213, 28, 172]
abbrev dktX3_latestEnd_2 : List UInt8 := dkwX3_latestEnd_2 ++ []
def dkwX3_latestEnd_1 : List UInt8 := [185, 0, 31, 1, 0, 192, 0, 35, 58, 4, 25, 4, 27, 182, 0, 53, 153, 0, 15, 28, 25, 4]
abbrev dktX3_latestEnd_1 : List UInt8 := dkwX3_latestEnd_1 ++ dktX3_latestEnd_2
def dkwX3_latestEnd_0 : List UInt8 := [27, 61, 42, 180, 0, 12, 185, 0, 19, 1, 0, 78, 45, 185, 0, 25, 1, 0, 153, 0, 40, 45]
abbrev dktX3_latestEnd_0 : List UInt8 := dkwX3_latestEnd_0 ++ dktX3_latestEnd_1
theorem dksX3_latestEnd_0 : cX3_latestEnd.data.toList.drop 0 = dktX3_latestEnd_0 := by decide +kernel
theorem dksX3_latestEnd_1 : cX3_latestEnd.data.toList.drop 22 = dktX3_latestEnd_1 := dk_seg dksX3_latestEnd_0 22 rfl rfl
theorem dksX3_latestEnd_2 : cX3_latestEnd.data.toList.drop 44 = dktX3_latestEnd_2 := dk_seg dksX3_latestEnd_1 22 rfl rfl
theorem dX3_latestEnd_0 : decode cX3_latestEnd 0 = .ok (.iload_n 1, 1) := dk_27 (dk_at dksX3_latestEnd_0 0 rfl rfl)
theorem dX3_latestEnd_1 : decode cX3_latestEnd 1 = .ok (.istore_n 2, 1) := dk_61 (dk_at dksX3_latestEnd_0 1 rfl rfl)
theorem dX3_latestEnd_2 : decode cX3_latestEnd 2 = .ok (.aload_n 0, 1) := dk_42 (dk_at dksX3_latestEnd_0 2 rfl rfl)
theorem dX3_latestEnd_3 : decode cX3_latestEnd 3 = .ok (.getfield 12, 3) := dk_180 0 12 (dk_at dksX3_latestEnd_0 3 rfl rfl)
theorem dX3_latestEnd_6 : decode cX3_latestEnd 6 = .ok (.invokeinterface 19 1, 5) := by decide +kernel
theorem dX3_latestEnd_11 : decode cX3_latestEnd 11 = .ok (.astore_n 3, 1) := dk_78 (dk_at dksX3_latestEnd_0 11 rfl rfl)
theorem dX3_latestEnd_12 : decode cX3_latestEnd 12 = .ok (.aload_n 3, 1) := dk_45 (dk_at dksX3_latestEnd_0 12 rfl rfl)
theorem dX3_latestEnd_13 : decode cX3_latestEnd 13 = .ok (.invokeinterface 25 1, 5) := by decide +kernel
theorem dX3_latestEnd_18 : decode cX3_latestEnd 18 = .ok (.ifCond .eq 40, 3) := dk_153 0 40 (dk_at dksX3_latestEnd_0 18 rfl rfl)
theorem dX3_latestEnd_21 : decode cX3_latestEnd 21 = .ok (.aload_n 3, 1) := dk_45 (dk_at dksX3_latestEnd_0 21 rfl rfl)
theorem dX3_latestEnd_22 : decode cX3_latestEnd 22 = .ok (.invokeinterface 31 1, 5) := by decide +kernel
theorem dX3_latestEnd_27 : decode cX3_latestEnd 27 = .ok (.checkcast 35, 3) := dk_192 0 35 (dk_at dksX3_latestEnd_1 5 rfl rfl)
theorem dX3_latestEnd_30 : decode cX3_latestEnd 30 = .ok (.astore 4, 2) := dk_58 4 (dk_at dksX3_latestEnd_1 8 rfl rfl)
theorem dX3_latestEnd_32 : decode cX3_latestEnd 32 = .ok (.aload 4, 2) := dk_25 4 (dk_at dksX3_latestEnd_1 10 rfl rfl)
theorem dX3_latestEnd_34 : decode cX3_latestEnd 34 = .ok (.iload_n 1, 1) := dk_27 (dk_at dksX3_latestEnd_1 12 rfl rfl)
theorem dX3_latestEnd_35 : decode cX3_latestEnd 35 = .ok (.invokevirtual 53, 3) := dk_182 0 53 (dk_at dksX3_latestEnd_1 13 rfl rfl)
theorem dX3_latestEnd_38 : decode cX3_latestEnd 38 = .ok (.ifCond .eq 15, 3) := dk_153 0 15 (dk_at dksX3_latestEnd_1 16 rfl rfl)
theorem dX3_latestEnd_41 : decode cX3_latestEnd 41 = .ok (.iload_n 2, 1) := dk_28 (dk_at dksX3_latestEnd_1 19 rfl rfl)
theorem dX3_latestEnd_42 : decode cX3_latestEnd 42 = .ok (.aload 4, 2) := dk_25 4 (dk_at dksX3_latestEnd_1 20 rfl rfl)
theorem dX3_latestEnd_44 : decode cX3_latestEnd 44 = .ok (.getfield 66, 3) := dk_180 0 66 (dk_at dksX3_latestEnd_2 0 rfl rfl)
theorem dX3_latestEnd_47 : decode cX3_latestEnd 47 = .ok (.invokestatic 78, 3) := dk_184 0 78 (dk_at dksX3_latestEnd_2 3 rfl rfl)
theorem dX3_latestEnd_50 : decode cX3_latestEnd 50 = .ok (.goto 4, 3) := dk_167 0 4 (dk_at dksX3_latestEnd_2 6 rfl rfl)
theorem dX3_latestEnd_53 : decode cX3_latestEnd 53 = .ok (.iload_n 2, 1) := dk_28 (dk_at dksX3_latestEnd_2 9 rfl rfl)
theorem dX3_latestEnd_54 : decode cX3_latestEnd 54 = .ok (.istore_n 2, 1) := dk_61 (dk_at dksX3_latestEnd_2 10 rfl rfl)
theorem dX3_latestEnd_55 : decode cX3_latestEnd 55 = .ok (.goto (-43), 3) := dk_167 255 213 (dk_at dksX3_latestEnd_2 11 rfl rfl)
theorem dX3_latestEnd_58 : decode cX3_latestEnd 58 = .ok (.iload_n 2, 1) := dk_28 (dk_at dksX3_latestEnd_2 14 rfl rfl)
theorem dX3_latestEnd_59 : decode cX3_latestEnd 59 = .ok (.ireturn, 1) := dk_172 (dk_at dksX3_latestEnd_2 15 rfl rfl)
abbrev cX3_fewest : ByteArray := prog_10_method_10_code
def yX3_fewest : MethodName := ⟨RX3, "fewest", "(II)I"⟩
def dkwX3_fewest_1 : List UInt8 := [167, 255, 239, 29, 172]
abbrev dktX3_fewest_1 : List UInt8 := dkwX3_fewest_1 ++ []
def dkwX3_fewest_0 : List UInt8 := [3, 62, 27, 54, 4, 21, 4, 28, 162, 0, 17, 42, 21, 4, 182, 0, 84, 54, 4, 132, 3, 1]
abbrev dktX3_fewest_0 : List UInt8 := dkwX3_fewest_0 ++ dktX3_fewest_1
theorem dksX3_fewest_0 : cX3_fewest.data.toList.drop 0 = dktX3_fewest_0 := by decide +kernel
theorem dksX3_fewest_1 : cX3_fewest.data.toList.drop 22 = dktX3_fewest_1 := dk_seg dksX3_fewest_0 22 rfl rfl
theorem dX3_fewest_0 : decode cX3_fewest 0 = .ok (.iconst 0, 1) := dk_3 (dk_at dksX3_fewest_0 0 rfl rfl)
theorem dX3_fewest_1 : decode cX3_fewest 1 = .ok (.istore_n 3, 1) := dk_62 (dk_at dksX3_fewest_0 1 rfl rfl)
theorem dX3_fewest_2 : decode cX3_fewest 2 = .ok (.iload_n 1, 1) := dk_27 (dk_at dksX3_fewest_0 2 rfl rfl)
theorem dX3_fewest_3 : decode cX3_fewest 3 = .ok (.istore 4, 2) := dk_54 4 (dk_at dksX3_fewest_0 3 rfl rfl)
theorem dX3_fewest_5 : decode cX3_fewest 5 = .ok (.iload 4, 2) := dk_21 4 (dk_at dksX3_fewest_0 5 rfl rfl)
theorem dX3_fewest_7 : decode cX3_fewest 7 = .ok (.iload_n 2, 1) := dk_28 (dk_at dksX3_fewest_0 7 rfl rfl)
theorem dX3_fewest_8 : decode cX3_fewest 8 = .ok (.if_icmp .ge 17, 3) := dk_162 0 17 (dk_at dksX3_fewest_0 8 rfl rfl)
theorem dX3_fewest_11 : decode cX3_fewest 11 = .ok (.aload_n 0, 1) := dk_42 (dk_at dksX3_fewest_0 11 rfl rfl)
theorem dX3_fewest_12 : decode cX3_fewest 12 = .ok (.iload 4, 2) := dk_21 4 (dk_at dksX3_fewest_0 12 rfl rfl)
theorem dX3_fewest_14 : decode cX3_fewest 14 = .ok (.invokevirtual 84, 3) := dk_182 0 84 (dk_at dksX3_fewest_0 14 rfl rfl)
theorem dX3_fewest_17 : decode cX3_fewest 17 = .ok (.istore 4, 2) := dk_54 4 (dk_at dksX3_fewest_0 17 rfl rfl)
theorem dX3_fewest_19 : decode cX3_fewest 19 = .ok (.iinc 3 1, 3) := dk_132 3 1 (dk_at dksX3_fewest_0 19 rfl rfl)
theorem dX3_fewest_22 : decode cX3_fewest 22 = .ok (.goto (-17), 3) := dk_167 255 239 (dk_at dksX3_fewest_1 0 rfl rfl)
theorem dX3_fewest_25 : decode cX3_fewest 25 = .ok (.iload_n 3, 1) := dk_29 (dk_at dksX3_fewest_1 3 rfl rfl)
theorem dX3_fewest_26 : decode cX3_fewest 26 = .ok (.ireturn, 1) := dk_172 (dk_at dksX3_fewest_1 4 rfl rfl)
abbrev cX3_covers : ByteArray := prog_10_method_12_code
def yX3_covers : MethodName := ⟨RX3, "covers", "(III)Z"⟩
def dkwX3_covers_4 : List UInt8 := [4, 167, 0, 4, 3, 172]
abbrev dktX3_covers_4 : List UInt8 := dkwX3_covers_4 ++ []
def dkwX3_covers_3 : List UInt8 := [167, 0, 5, 21, 4, 54, 4, 132, 6, 1, 167, 255, 199, 132, 5, 1, 167, 255, 176, 21, 4, 154, 0, 7]
abbrev dktX3_covers_3 : List UInt8 := dkwX3_covers_3 ++ dktX3_covers_4
def dkwX3_covers_2 : List UInt8 := [42, 180, 0, 12, 21, 6, 185, 0, 49, 2, 0, 192, 0, 35, 21, 5, 182, 0, 53, 153, 0, 7, 3]
abbrev dktX3_covers_2 : List UInt8 := dkwX3_covers_2 ++ dktX3_covers_3
def dkwX3_covers_1 : List UInt8 := [21, 6, 42, 180, 0, 12, 185, 0, 41, 1, 0, 162, 0, 49, 27, 21, 6, 122, 4, 126, 4, 160, 0, 29]
abbrev dktX3_covers_1 : List UInt8 := dkwX3_covers_1 ++ dktX3_covers_2
def dkwX3_covers_0 : List UInt8 := [3, 54, 4, 28, 54, 5, 21, 5, 29, 162, 0, 80, 21, 4, 154, 0, 75, 4, 54, 4, 3, 54, 6]
abbrev dktX3_covers_0 : List UInt8 := dkwX3_covers_0 ++ dktX3_covers_1
theorem dksX3_covers_0 : cX3_covers.data.toList.drop 0 = dktX3_covers_0 := by decide +kernel
theorem dksX3_covers_1 : cX3_covers.data.toList.drop 23 = dktX3_covers_1 := dk_seg dksX3_covers_0 23 rfl rfl
theorem dksX3_covers_2 : cX3_covers.data.toList.drop 47 = dktX3_covers_2 := dk_seg dksX3_covers_1 24 rfl rfl
theorem dksX3_covers_3 : cX3_covers.data.toList.drop 70 = dktX3_covers_3 := dk_seg dksX3_covers_2 23 rfl rfl
theorem dksX3_covers_4 : cX3_covers.data.toList.drop 94 = dktX3_covers_4 := dk_seg dksX3_covers_3 24 rfl rfl
theorem dX3_covers_0 : decode cX3_covers 0 = .ok (.iconst 0, 1) := dk_3 (dk_at dksX3_covers_0 0 rfl rfl)
theorem dX3_covers_1 : decode cX3_covers 1 = .ok (.istore 4, 2) := dk_54 4 (dk_at dksX3_covers_0 1 rfl rfl)
theorem dX3_covers_3 : decode cX3_covers 3 = .ok (.iload_n 2, 1) := dk_28 (dk_at dksX3_covers_0 3 rfl rfl)
theorem dX3_covers_4 : decode cX3_covers 4 = .ok (.istore 5, 2) := dk_54 5 (dk_at dksX3_covers_0 4 rfl rfl)
theorem dX3_covers_6 : decode cX3_covers 6 = .ok (.iload 5, 2) := dk_21 5 (dk_at dksX3_covers_0 6 rfl rfl)
theorem dX3_covers_8 : decode cX3_covers 8 = .ok (.iload_n 3, 1) := dk_29 (dk_at dksX3_covers_0 8 rfl rfl)
theorem dX3_covers_9 : decode cX3_covers 9 = .ok (.if_icmp .ge 80, 3) := dk_162 0 80 (dk_at dksX3_covers_0 9 rfl rfl)
theorem dX3_covers_12 : decode cX3_covers 12 = .ok (.iload 4, 2) := dk_21 4 (dk_at dksX3_covers_0 12 rfl rfl)
theorem dX3_covers_14 : decode cX3_covers 14 = .ok (.ifCond .ne 75, 3) := dk_154 0 75 (dk_at dksX3_covers_0 14 rfl rfl)
theorem dX3_covers_17 : decode cX3_covers 17 = .ok (.iconst 1, 1) := dk_4 (dk_at dksX3_covers_0 17 rfl rfl)
theorem dX3_covers_18 : decode cX3_covers 18 = .ok (.istore 4, 2) := dk_54 4 (dk_at dksX3_covers_0 18 rfl rfl)
theorem dX3_covers_20 : decode cX3_covers 20 = .ok (.iconst 0, 1) := dk_3 (dk_at dksX3_covers_0 20 rfl rfl)
theorem dX3_covers_21 : decode cX3_covers 21 = .ok (.istore 6, 2) := dk_54 6 (dk_at dksX3_covers_0 21 rfl rfl)
theorem dX3_covers_23 : decode cX3_covers 23 = .ok (.iload 6, 2) := dk_21 6 (dk_at dksX3_covers_1 0 rfl rfl)
theorem dX3_covers_25 : decode cX3_covers 25 = .ok (.aload_n 0, 1) := dk_42 (dk_at dksX3_covers_1 2 rfl rfl)
theorem dX3_covers_26 : decode cX3_covers 26 = .ok (.getfield 12, 3) := dk_180 0 12 (dk_at dksX3_covers_1 3 rfl rfl)
theorem dX3_covers_29 : decode cX3_covers 29 = .ok (.invokeinterface 41 1, 5) := by decide +kernel
theorem dX3_covers_34 : decode cX3_covers 34 = .ok (.if_icmp .ge 49, 3) := dk_162 0 49 (dk_at dksX3_covers_1 11 rfl rfl)
theorem dX3_covers_37 : decode cX3_covers 37 = .ok (.iload_n 1, 1) := dk_27 (dk_at dksX3_covers_1 14 rfl rfl)
theorem dX3_covers_38 : decode cX3_covers 38 = .ok (.iload 6, 2) := dk_21 6 (dk_at dksX3_covers_1 15 rfl rfl)
theorem dX3_covers_40 : decode cX3_covers 40 = .ok (.ishr, 1) := dk_122 (dk_at dksX3_covers_1 17 rfl rfl)
theorem dX3_covers_41 : decode cX3_covers 41 = .ok (.iconst 1, 1) := dk_4 (dk_at dksX3_covers_1 18 rfl rfl)
theorem dX3_covers_42 : decode cX3_covers 42 = .ok (.iand, 1) := dk_126 (dk_at dksX3_covers_1 19 rfl rfl)
theorem dX3_covers_43 : decode cX3_covers 43 = .ok (.iconst 1, 1) := dk_4 (dk_at dksX3_covers_1 20 rfl rfl)
theorem dX3_covers_44 : decode cX3_covers 44 = .ok (.if_icmp .ne 29, 3) := dk_160 0 29 (dk_at dksX3_covers_1 21 rfl rfl)
theorem dX3_covers_47 : decode cX3_covers 47 = .ok (.aload_n 0, 1) := dk_42 (dk_at dksX3_covers_2 0 rfl rfl)
theorem dX3_covers_48 : decode cX3_covers 48 = .ok (.getfield 12, 3) := dk_180 0 12 (dk_at dksX3_covers_2 1 rfl rfl)
theorem dX3_covers_51 : decode cX3_covers 51 = .ok (.iload 6, 2) := dk_21 6 (dk_at dksX3_covers_2 4 rfl rfl)
theorem dX3_covers_53 : decode cX3_covers 53 = .ok (.invokeinterface 49 2, 5) := by decide +kernel
theorem dX3_covers_58 : decode cX3_covers 58 = .ok (.checkcast 35, 3) := dk_192 0 35 (dk_at dksX3_covers_2 11 rfl rfl)
theorem dX3_covers_61 : decode cX3_covers 61 = .ok (.iload 5, 2) := dk_21 5 (dk_at dksX3_covers_2 14 rfl rfl)
theorem dX3_covers_63 : decode cX3_covers 63 = .ok (.invokevirtual 53, 3) := dk_182 0 53 (dk_at dksX3_covers_2 16 rfl rfl)
theorem dX3_covers_66 : decode cX3_covers 66 = .ok (.ifCond .eq 7, 3) := dk_153 0 7 (dk_at dksX3_covers_2 19 rfl rfl)
theorem dX3_covers_69 : decode cX3_covers 69 = .ok (.iconst 0, 1) := dk_3 (dk_at dksX3_covers_2 22 rfl rfl)
theorem dX3_covers_70 : decode cX3_covers 70 = .ok (.goto 5, 3) := dk_167 0 5 (dk_at dksX3_covers_3 0 rfl rfl)
theorem dX3_covers_73 : decode cX3_covers 73 = .ok (.iload 4, 2) := dk_21 4 (dk_at dksX3_covers_3 3 rfl rfl)
theorem dX3_covers_75 : decode cX3_covers 75 = .ok (.istore 4, 2) := dk_54 4 (dk_at dksX3_covers_3 5 rfl rfl)
theorem dX3_covers_77 : decode cX3_covers 77 = .ok (.iinc 6 1, 3) := dk_132 6 1 (dk_at dksX3_covers_3 7 rfl rfl)
theorem dX3_covers_80 : decode cX3_covers 80 = .ok (.goto (-57), 3) := dk_167 255 199 (dk_at dksX3_covers_3 10 rfl rfl)
theorem dX3_covers_83 : decode cX3_covers 83 = .ok (.iinc 5 1, 3) := dk_132 5 1 (dk_at dksX3_covers_3 13 rfl rfl)
theorem dX3_covers_86 : decode cX3_covers 86 = .ok (.goto (-80), 3) := dk_167 255 176 (dk_at dksX3_covers_3 16 rfl rfl)
theorem dX3_covers_89 : decode cX3_covers 89 = .ok (.iload 4, 2) := dk_21 4 (dk_at dksX3_covers_3 19 rfl rfl)
theorem dX3_covers_91 : decode cX3_covers 91 = .ok (.ifCond .ne 7, 3) := dk_154 0 7 (dk_at dksX3_covers_3 21 rfl rfl)
theorem dX3_covers_94 : decode cX3_covers 94 = .ok (.iconst 1, 1) := dk_4 (dk_at dksX3_covers_4 0 rfl rfl)
theorem dX3_covers_95 : decode cX3_covers 95 = .ok (.goto 4, 3) := dk_167 0 4 (dk_at dksX3_covers_4 1 rfl rfl)
theorem dX3_covers_98 : decode cX3_covers 98 = .ok (.iconst 0, 1) := dk_3 (dk_at dksX3_covers_4 4 rfl rfl)
theorem dX3_covers_99 : decode cX3_covers 99 = .ok (.ireturn, 1) := dk_172 (dk_at dksX3_covers_4 5 rfl rfl)
abbrev cX3_fewestBySets : ByteArray := prog_10_method_11_code
def yX3_fewestBySets : MethodName := ⟨RX3, "fewestBySets", "(II)I"⟩
def dkwX3_fewestBySets_3 : List UInt8 := [172]
abbrev dktX3_fewestBySets_3 : List UInt8 := dkwX3_fewestBySets_3 ++ []
def dkwX3_fewestBySets_2 : List UInt8 := [54, 5, 21, 5, 153, 0, 11, 21, 4, 184, 0, 89, 167, 0, 4, 29, 62, 132, 4, 1, 167, 255, 195, 29]
abbrev dktX3_fewestBySets_2 : List UInt8 := dkwX3_fewestBySets_2 ++ dktX3_fewestBySets_3
def dkwX3_fewestBySets_1 : List UInt8 := [184, 0, 89, 29, 162, 0, 18, 42, 21, 4, 27, 28, 182, 0, 94, 153, 0, 7, 4, 167, 0, 4, 3]
abbrev dktX3_fewestBySets_1 : List UInt8 := dkwX3_fewestBySets_1 ++ dktX3_fewestBySets_2
def dkwX3_fewestBySets_0 : List UInt8 := [18, 88, 62, 4, 54, 4, 21, 4, 4, 42, 180, 0, 12, 185, 0, 41, 1, 0, 120, 162, 0, 51, 21, 4]
abbrev dktX3_fewestBySets_0 : List UInt8 := dkwX3_fewestBySets_0 ++ dktX3_fewestBySets_1
theorem dksX3_fewestBySets_0 : cX3_fewestBySets.data.toList.drop 0 = dktX3_fewestBySets_0 := by decide +kernel
theorem dksX3_fewestBySets_1 : cX3_fewestBySets.data.toList.drop 24 = dktX3_fewestBySets_1 := dk_seg dksX3_fewestBySets_0 24 rfl rfl
theorem dksX3_fewestBySets_2 : cX3_fewestBySets.data.toList.drop 47 = dktX3_fewestBySets_2 := dk_seg dksX3_fewestBySets_1 23 rfl rfl
theorem dksX3_fewestBySets_3 : cX3_fewestBySets.data.toList.drop 71 = dktX3_fewestBySets_3 := dk_seg dksX3_fewestBySets_2 24 rfl rfl
theorem dX3_fewestBySets_0 : decode cX3_fewestBySets 0 = .ok (.ldc 88, 2) := dk_18 88 (dk_at dksX3_fewestBySets_0 0 rfl rfl)
theorem dX3_fewestBySets_2 : decode cX3_fewestBySets 2 = .ok (.istore_n 3, 1) := dk_62 (dk_at dksX3_fewestBySets_0 2 rfl rfl)
theorem dX3_fewestBySets_3 : decode cX3_fewestBySets 3 = .ok (.iconst 1, 1) := dk_4 (dk_at dksX3_fewestBySets_0 3 rfl rfl)
theorem dX3_fewestBySets_4 : decode cX3_fewestBySets 4 = .ok (.istore 4, 2) := dk_54 4 (dk_at dksX3_fewestBySets_0 4 rfl rfl)
theorem dX3_fewestBySets_6 : decode cX3_fewestBySets 6 = .ok (.iload 4, 2) := dk_21 4 (dk_at dksX3_fewestBySets_0 6 rfl rfl)
theorem dX3_fewestBySets_8 : decode cX3_fewestBySets 8 = .ok (.iconst 1, 1) := dk_4 (dk_at dksX3_fewestBySets_0 8 rfl rfl)
theorem dX3_fewestBySets_9 : decode cX3_fewestBySets 9 = .ok (.aload_n 0, 1) := dk_42 (dk_at dksX3_fewestBySets_0 9 rfl rfl)
theorem dX3_fewestBySets_10 : decode cX3_fewestBySets 10 = .ok (.getfield 12, 3) := dk_180 0 12 (dk_at dksX3_fewestBySets_0 10 rfl rfl)
theorem dX3_fewestBySets_13 : decode cX3_fewestBySets 13 = .ok (.invokeinterface 41 1, 5) := by decide +kernel
theorem dX3_fewestBySets_18 : decode cX3_fewestBySets 18 = .ok (.ishl, 1) := dk_120 (dk_at dksX3_fewestBySets_0 18 rfl rfl)
theorem dX3_fewestBySets_19 : decode cX3_fewestBySets 19 = .ok (.if_icmp .ge 51, 3) := dk_162 0 51 (dk_at dksX3_fewestBySets_0 19 rfl rfl)
theorem dX3_fewestBySets_22 : decode cX3_fewestBySets 22 = .ok (.iload 4, 2) := dk_21 4 (dk_at dksX3_fewestBySets_0 22 rfl rfl)
theorem dX3_fewestBySets_24 : decode cX3_fewestBySets 24 = .ok (.invokestatic 89, 3) := dk_184 0 89 (dk_at dksX3_fewestBySets_1 0 rfl rfl)
theorem dX3_fewestBySets_27 : decode cX3_fewestBySets 27 = .ok (.iload_n 3, 1) := dk_29 (dk_at dksX3_fewestBySets_1 3 rfl rfl)
theorem dX3_fewestBySets_28 : decode cX3_fewestBySets 28 = .ok (.if_icmp .ge 18, 3) := dk_162 0 18 (dk_at dksX3_fewestBySets_1 4 rfl rfl)
theorem dX3_fewestBySets_31 : decode cX3_fewestBySets 31 = .ok (.aload_n 0, 1) := dk_42 (dk_at dksX3_fewestBySets_1 7 rfl rfl)
theorem dX3_fewestBySets_32 : decode cX3_fewestBySets 32 = .ok (.iload 4, 2) := dk_21 4 (dk_at dksX3_fewestBySets_1 8 rfl rfl)
theorem dX3_fewestBySets_34 : decode cX3_fewestBySets 34 = .ok (.iload_n 1, 1) := dk_27 (dk_at dksX3_fewestBySets_1 10 rfl rfl)
theorem dX3_fewestBySets_35 : decode cX3_fewestBySets 35 = .ok (.iload_n 2, 1) := dk_28 (dk_at dksX3_fewestBySets_1 11 rfl rfl)
theorem dX3_fewestBySets_36 : decode cX3_fewestBySets 36 = .ok (.invokevirtual 94, 3) := dk_182 0 94 (dk_at dksX3_fewestBySets_1 12 rfl rfl)
theorem dX3_fewestBySets_39 : decode cX3_fewestBySets 39 = .ok (.ifCond .eq 7, 3) := dk_153 0 7 (dk_at dksX3_fewestBySets_1 15 rfl rfl)
theorem dX3_fewestBySets_42 : decode cX3_fewestBySets 42 = .ok (.iconst 1, 1) := dk_4 (dk_at dksX3_fewestBySets_1 18 rfl rfl)
theorem dX3_fewestBySets_43 : decode cX3_fewestBySets 43 = .ok (.goto 4, 3) := dk_167 0 4 (dk_at dksX3_fewestBySets_1 19 rfl rfl)
theorem dX3_fewestBySets_46 : decode cX3_fewestBySets 46 = .ok (.iconst 0, 1) := dk_3 (dk_at dksX3_fewestBySets_1 22 rfl rfl)
theorem dX3_fewestBySets_47 : decode cX3_fewestBySets 47 = .ok (.istore 5, 2) := dk_54 5 (dk_at dksX3_fewestBySets_2 0 rfl rfl)
theorem dX3_fewestBySets_49 : decode cX3_fewestBySets 49 = .ok (.iload 5, 2) := dk_21 5 (dk_at dksX3_fewestBySets_2 2 rfl rfl)
theorem dX3_fewestBySets_51 : decode cX3_fewestBySets 51 = .ok (.ifCond .eq 11, 3) := dk_153 0 11 (dk_at dksX3_fewestBySets_2 4 rfl rfl)
theorem dX3_fewestBySets_54 : decode cX3_fewestBySets 54 = .ok (.iload 4, 2) := dk_21 4 (dk_at dksX3_fewestBySets_2 7 rfl rfl)
theorem dX3_fewestBySets_56 : decode cX3_fewestBySets 56 = .ok (.invokestatic 89, 3) := dk_184 0 89 (dk_at dksX3_fewestBySets_2 9 rfl rfl)
theorem dX3_fewestBySets_59 : decode cX3_fewestBySets 59 = .ok (.goto 4, 3) := dk_167 0 4 (dk_at dksX3_fewestBySets_2 12 rfl rfl)
theorem dX3_fewestBySets_62 : decode cX3_fewestBySets 62 = .ok (.iload_n 3, 1) := dk_29 (dk_at dksX3_fewestBySets_2 15 rfl rfl)
theorem dX3_fewestBySets_63 : decode cX3_fewestBySets 63 = .ok (.istore_n 3, 1) := dk_62 (dk_at dksX3_fewestBySets_2 16 rfl rfl)
theorem dX3_fewestBySets_64 : decode cX3_fewestBySets 64 = .ok (.iinc 4 1, 3) := dk_132 4 1 (dk_at dksX3_fewestBySets_2 17 rfl rfl)
theorem dX3_fewestBySets_67 : decode cX3_fewestBySets 67 = .ok (.goto (-61), 3) := dk_167 255 195 (dk_at dksX3_fewestBySets_2 20 rfl rfl)
theorem dX3_fewestBySets_70 : decode cX3_fewestBySets 70 = .ok (.iload_n 3, 1) := dk_29 (dk_at dksX3_fewestBySets_2 23 rfl rfl)
theorem dX3_fewestBySets_71 : decode cX3_fewestBySets 71 = .ok (.ireturn, 1) := dk_172 (dk_at dksX3_fewestBySets_3 0 rfl rfl)
abbrev cJ52_wordIndex : ByteArray := prog_63_method_1_code
def yJ52_wordIndex : MethodName := ⟨RJ52, "wordIndex", "(I)I"⟩
def dkwJ52_wordIndex_0 : List UInt8 := [26, 16, 6, 122, 172]
abbrev dktJ52_wordIndex_0 : List UInt8 := dkwJ52_wordIndex_0 ++ []
theorem dksJ52_wordIndex_0 : cJ52_wordIndex.data.toList.drop 0 = dktJ52_wordIndex_0 := by decide +kernel
theorem dJ52_wordIndex_0 : decode cJ52_wordIndex 0 = .ok (.iload_n 0, 1) := dk_26 (dk_at dksJ52_wordIndex_0 0 rfl rfl)
theorem dJ52_wordIndex_1 : decode cJ52_wordIndex 1 = .ok (.bipush 6, 2) := dk_16 6 (dk_at dksJ52_wordIndex_0 1 rfl rfl)
theorem dJ52_wordIndex_3 : decode cJ52_wordIndex 3 = .ok (.ishr, 1) := dk_122 (dk_at dksJ52_wordIndex_0 3 rfl rfl)
theorem dJ52_wordIndex_4 : decode cJ52_wordIndex 4 = .ok (.ireturn, 1) := dk_172 (dk_at dksJ52_wordIndex_0 4 rfl rfl)
abbrev cJ52_initWords : ByteArray := prog_63_method_6_code
def yJ52_initWords : MethodName := ⟨RJ52, "initWords", "(I)V"⟩
def dkwJ52_initWords_0 : List UInt8 := [42, 27, 4, 100, 184, 0, 52, 4, 96, 188, 11, 181, 0, 11, 177]
abbrev dktJ52_initWords_0 : List UInt8 := dkwJ52_initWords_0 ++ []
theorem dksJ52_initWords_0 : cJ52_initWords.data.toList.drop 0 = dktJ52_initWords_0 := by decide +kernel
theorem dJ52_initWords_0 : decode cJ52_initWords 0 = .ok (.aload_n 0, 1) := dk_42 (dk_at dksJ52_initWords_0 0 rfl rfl)
theorem dJ52_initWords_1 : decode cJ52_initWords 1 = .ok (.iload_n 1, 1) := dk_27 (dk_at dksJ52_initWords_0 1 rfl rfl)
theorem dJ52_initWords_2 : decode cJ52_initWords 2 = .ok (.iconst 1, 1) := dk_4 (dk_at dksJ52_initWords_0 2 rfl rfl)
theorem dJ52_initWords_3 : decode cJ52_initWords 3 = .ok (.isub, 1) := dk_100 (dk_at dksJ52_initWords_0 3 rfl rfl)
theorem dJ52_initWords_4 : decode cJ52_initWords 4 = .ok (.invokestatic 52, 3) := dk_184 0 52 (dk_at dksJ52_initWords_0 4 rfl rfl)
theorem dJ52_initWords_7 : decode cJ52_initWords 7 = .ok (.iconst 1, 1) := dk_4 (dk_at dksJ52_initWords_0 7 rfl rfl)
theorem dJ52_initWords_8 : decode cJ52_initWords 8 = .ok (.iadd, 1) := dk_96 (dk_at dksJ52_initWords_0 8 rfl rfl)
theorem dJ52_initWords_9 : decode cJ52_initWords 9 = .ok (.newarray .long, 2) := dk_188_11 (dk_at dksJ52_initWords_0 9 rfl rfl)
theorem dJ52_initWords_11 : decode cJ52_initWords 11 = .ok (.putfield 11, 3) := dk_181 0 11 (dk_at dksJ52_initWords_0 11 rfl rfl)
theorem dJ52_initWords_14 : decode cJ52_initWords 14 = .ok (.return_, 1) := dk_177 (dk_at dksJ52_initWords_0 14 rfl rfl)
abbrev cJ52_init : ByteArray := prog_63_method_5_code
def yJ52_init : MethodName := ⟨RJ52, "<init>", "(I)V"⟩
def dkwJ52_init_2 : List UInt8 := [27, 182, 0, 27, 42, 4, 181, 0, 24, 177]
abbrev dktJ52_init_2 : List UInt8 := dkwJ52_init_2 ++ []
def dkwJ52_init_1 : List UInt8 := [187, 0, 33, 89, 183, 0, 35, 18, 36, 182, 0, 38, 27, 182, 0, 42, 182, 0, 45, 183, 0, 49, 191, 42]
abbrev dktJ52_init_1 : List UInt8 := dkwJ52_init_1 ++ dktJ52_init_2
def dkwJ52_init_0 : List UInt8 := [42, 183, 0, 21, 42, 3, 181, 0, 7, 42, 3, 181, 0, 24, 27, 156, 0, 30, 187, 0, 31, 89]
abbrev dktJ52_init_0 : List UInt8 := dkwJ52_init_0 ++ dktJ52_init_1
theorem dksJ52_init_0 : cJ52_init.data.toList.drop 0 = dktJ52_init_0 := by decide +kernel
theorem dksJ52_init_1 : cJ52_init.data.toList.drop 22 = dktJ52_init_1 := dk_seg dksJ52_init_0 22 rfl rfl
theorem dksJ52_init_2 : cJ52_init.data.toList.drop 46 = dktJ52_init_2 := dk_seg dksJ52_init_1 24 rfl rfl
theorem dJ52_init_0 : decode cJ52_init 0 = .ok (.aload_n 0, 1) := dk_42 (dk_at dksJ52_init_0 0 rfl rfl)
theorem dJ52_init_1 : decode cJ52_init 1 = .ok (.invokespecial 21, 3) := dk_183 0 21 (dk_at dksJ52_init_0 1 rfl rfl)
theorem dJ52_init_4 : decode cJ52_init 4 = .ok (.aload_n 0, 1) := dk_42 (dk_at dksJ52_init_0 4 rfl rfl)
theorem dJ52_init_5 : decode cJ52_init 5 = .ok (.iconst 0, 1) := dk_3 (dk_at dksJ52_init_0 5 rfl rfl)
theorem dJ52_init_6 : decode cJ52_init 6 = .ok (.putfield 7, 3) := dk_181 0 7 (dk_at dksJ52_init_0 6 rfl rfl)
theorem dJ52_init_9 : decode cJ52_init 9 = .ok (.aload_n 0, 1) := dk_42 (dk_at dksJ52_init_0 9 rfl rfl)
theorem dJ52_init_10 : decode cJ52_init 10 = .ok (.iconst 0, 1) := dk_3 (dk_at dksJ52_init_0 10 rfl rfl)
theorem dJ52_init_11 : decode cJ52_init 11 = .ok (.putfield 24, 3) := dk_181 0 24 (dk_at dksJ52_init_0 11 rfl rfl)
theorem dJ52_init_14 : decode cJ52_init 14 = .ok (.iload_n 1, 1) := dk_27 (dk_at dksJ52_init_0 14 rfl rfl)
theorem dJ52_init_15 : decode cJ52_init 15 = .ok (.ifCond .ge 30, 3) := dk_156 0 30 (dk_at dksJ52_init_0 15 rfl rfl)
theorem dJ52_init_18 : decode cJ52_init 18 = .ok (.new 31, 3) := dk_187 0 31 (dk_at dksJ52_init_0 18 rfl rfl)
theorem dJ52_init_45 : decode cJ52_init 45 = .ok (.aload_n 0, 1) := dk_42 (dk_at dksJ52_init_1 23 rfl rfl)
theorem dJ52_init_46 : decode cJ52_init 46 = .ok (.iload_n 1, 1) := dk_27 (dk_at dksJ52_init_2 0 rfl rfl)
theorem dJ52_init_47 : decode cJ52_init 47 = .ok (.invokevirtual 27, 3) := dk_182 0 27 (dk_at dksJ52_init_2 1 rfl rfl)
theorem dJ52_init_50 : decode cJ52_init 50 = .ok (.aload_n 0, 1) := dk_42 (dk_at dksJ52_init_2 4 rfl rfl)
theorem dJ52_init_51 : decode cJ52_init 51 = .ok (.iconst 1, 1) := dk_4 (dk_at dksJ52_init_2 5 rfl rfl)
theorem dJ52_init_52 : decode cJ52_init 52 = .ok (.putfield 24, 3) := dk_181 0 24 (dk_at dksJ52_init_2 6 rfl rfl)
theorem dJ52_init_55 : decode cJ52_init 55 = .ok (.return_, 1) := dk_177 (dk_at dksJ52_init_2 9 rfl rfl)
abbrev cJ52_checkInvariants : ByteArray := prog_63_method_2_code
def yJ52_checkInvariants : MethodName := ⟨RJ52, "checkInvariants", "()V"⟩
def dkwJ52_checkInvariants_4 : List UInt8 := [180, 0, 7, 47, 9, 148, 153, 0, 11, 187, 0, 15, 89, 183, 0, 17, 191, 177]
abbrev dktJ52_checkInvariants_4 : List UInt8 := dkwJ52_checkInvariants_4 ++ []
def dkwJ52_checkInvariants_3 : List UInt8 := [178, 0, 3, 154, 0, 37, 42, 180, 0, 7, 42, 180, 0, 11, 190, 159, 0, 25, 42, 180, 0, 11, 42]
abbrev dktJ52_checkInvariants_3 : List UInt8 := dkwJ52_checkInvariants_3 ++ dktJ52_checkInvariants_4
def dkwJ52_checkInvariants_2 : List UInt8 := [155, 0, 15, 42, 180, 0, 7, 42, 180, 0, 11, 190, 164, 0, 11, 187, 0, 15, 89, 183, 0, 17, 191]
abbrev dktJ52_checkInvariants_2 : List UInt8 := dkwJ52_checkInvariants_2 ++ dktJ52_checkInvariants_3
def dkwJ52_checkInvariants_1 : List UInt8 := [9, 148, 154, 0, 11, 187, 0, 15, 89, 183, 0, 17, 191, 178, 0, 3, 154, 0, 30, 42, 180, 0, 7]
abbrev dktJ52_checkInvariants_1 : List UInt8 := dkwJ52_checkInvariants_1 ++ dktJ52_checkInvariants_2
def dkwJ52_checkInvariants_0 : List UInt8 := [178, 0, 3, 154, 0, 34, 42, 180, 0, 7, 153, 0, 27, 42, 180, 0, 11, 42, 180, 0, 7, 4, 100, 47]
abbrev dktJ52_checkInvariants_0 : List UInt8 := dkwJ52_checkInvariants_0 ++ dktJ52_checkInvariants_1
theorem dksJ52_checkInvariants_0 : cJ52_checkInvariants.data.toList.drop 0 = dktJ52_checkInvariants_0 := by decide +kernel
theorem dksJ52_checkInvariants_1 : cJ52_checkInvariants.data.toList.drop 24 = dktJ52_checkInvariants_1 := dk_seg dksJ52_checkInvariants_0 24 rfl rfl
theorem dksJ52_checkInvariants_2 : cJ52_checkInvariants.data.toList.drop 47 = dktJ52_checkInvariants_2 := dk_seg dksJ52_checkInvariants_1 23 rfl rfl
theorem dksJ52_checkInvariants_3 : cJ52_checkInvariants.data.toList.drop 70 = dktJ52_checkInvariants_3 := dk_seg dksJ52_checkInvariants_2 23 rfl rfl
theorem dksJ52_checkInvariants_4 : cJ52_checkInvariants.data.toList.drop 93 = dktJ52_checkInvariants_4 := dk_seg dksJ52_checkInvariants_3 23 rfl rfl
theorem dJ52_checkInvariants_0 : decode cJ52_checkInvariants 0 = .ok (.getstatic 3, 3) := dk_178 0 3 (dk_at dksJ52_checkInvariants_0 0 rfl rfl)
theorem dJ52_checkInvariants_3 : decode cJ52_checkInvariants 3 = .ok (.ifCond .ne 34, 3) := dk_154 0 34 (dk_at dksJ52_checkInvariants_0 3 rfl rfl)
theorem dJ52_checkInvariants_6 : decode cJ52_checkInvariants 6 = .ok (.aload_n 0, 1) := dk_42 (dk_at dksJ52_checkInvariants_0 6 rfl rfl)
theorem dJ52_checkInvariants_7 : decode cJ52_checkInvariants 7 = .ok (.getfield 7, 3) := dk_180 0 7 (dk_at dksJ52_checkInvariants_0 7 rfl rfl)
theorem dJ52_checkInvariants_10 : decode cJ52_checkInvariants 10 = .ok (.ifCond .eq 27, 3) := dk_153 0 27 (dk_at dksJ52_checkInvariants_0 10 rfl rfl)
theorem dJ52_checkInvariants_13 : decode cJ52_checkInvariants 13 = .ok (.aload_n 0, 1) := dk_42 (dk_at dksJ52_checkInvariants_0 13 rfl rfl)
theorem dJ52_checkInvariants_14 : decode cJ52_checkInvariants 14 = .ok (.getfield 11, 3) := dk_180 0 11 (dk_at dksJ52_checkInvariants_0 14 rfl rfl)
theorem dJ52_checkInvariants_17 : decode cJ52_checkInvariants 17 = .ok (.aload_n 0, 1) := dk_42 (dk_at dksJ52_checkInvariants_0 17 rfl rfl)
theorem dJ52_checkInvariants_18 : decode cJ52_checkInvariants 18 = .ok (.getfield 7, 3) := dk_180 0 7 (dk_at dksJ52_checkInvariants_0 18 rfl rfl)
theorem dJ52_checkInvariants_21 : decode cJ52_checkInvariants 21 = .ok (.iconst 1, 1) := dk_4 (dk_at dksJ52_checkInvariants_0 21 rfl rfl)
theorem dJ52_checkInvariants_22 : decode cJ52_checkInvariants 22 = .ok (.isub, 1) := dk_100 (dk_at dksJ52_checkInvariants_0 22 rfl rfl)
theorem dJ52_checkInvariants_23 : decode cJ52_checkInvariants 23 = .ok (.laload, 1) := dk_47 (dk_at dksJ52_checkInvariants_0 23 rfl rfl)
theorem dJ52_checkInvariants_24 : decode cJ52_checkInvariants 24 = .ok (.lconst 0, 1) := dk_9 (dk_at dksJ52_checkInvariants_1 0 rfl rfl)
theorem dJ52_checkInvariants_25 : decode cJ52_checkInvariants 25 = .ok (.lcmp, 1) := dk_148 (dk_at dksJ52_checkInvariants_1 1 rfl rfl)
theorem dJ52_checkInvariants_26 : decode cJ52_checkInvariants 26 = .ok (.ifCond .ne 11, 3) := dk_154 0 11 (dk_at dksJ52_checkInvariants_1 2 rfl rfl)
theorem dJ52_checkInvariants_29 : decode cJ52_checkInvariants 29 = .ok (.new 15, 3) := dk_187 0 15 (dk_at dksJ52_checkInvariants_1 5 rfl rfl)
theorem dJ52_checkInvariants_37 : decode cJ52_checkInvariants 37 = .ok (.getstatic 3, 3) := dk_178 0 3 (dk_at dksJ52_checkInvariants_1 13 rfl rfl)
theorem dJ52_checkInvariants_40 : decode cJ52_checkInvariants 40 = .ok (.ifCond .ne 30, 3) := dk_154 0 30 (dk_at dksJ52_checkInvariants_1 16 rfl rfl)
theorem dJ52_checkInvariants_43 : decode cJ52_checkInvariants 43 = .ok (.aload_n 0, 1) := dk_42 (dk_at dksJ52_checkInvariants_1 19 rfl rfl)
theorem dJ52_checkInvariants_44 : decode cJ52_checkInvariants 44 = .ok (.getfield 7, 3) := dk_180 0 7 (dk_at dksJ52_checkInvariants_1 20 rfl rfl)
theorem dJ52_checkInvariants_47 : decode cJ52_checkInvariants 47 = .ok (.ifCond .lt 15, 3) := dk_155 0 15 (dk_at dksJ52_checkInvariants_2 0 rfl rfl)
theorem dJ52_checkInvariants_50 : decode cJ52_checkInvariants 50 = .ok (.aload_n 0, 1) := dk_42 (dk_at dksJ52_checkInvariants_2 3 rfl rfl)
theorem dJ52_checkInvariants_51 : decode cJ52_checkInvariants 51 = .ok (.getfield 7, 3) := dk_180 0 7 (dk_at dksJ52_checkInvariants_2 4 rfl rfl)
theorem dJ52_checkInvariants_54 : decode cJ52_checkInvariants 54 = .ok (.aload_n 0, 1) := dk_42 (dk_at dksJ52_checkInvariants_2 7 rfl rfl)
theorem dJ52_checkInvariants_55 : decode cJ52_checkInvariants 55 = .ok (.getfield 11, 3) := dk_180 0 11 (dk_at dksJ52_checkInvariants_2 8 rfl rfl)
theorem dJ52_checkInvariants_58 : decode cJ52_checkInvariants 58 = .ok (.arraylength, 1) := dk_190 (dk_at dksJ52_checkInvariants_2 11 rfl rfl)
theorem dJ52_checkInvariants_59 : decode cJ52_checkInvariants 59 = .ok (.if_icmp .le 11, 3) := dk_164 0 11 (dk_at dksJ52_checkInvariants_2 12 rfl rfl)
theorem dJ52_checkInvariants_62 : decode cJ52_checkInvariants 62 = .ok (.new 15, 3) := dk_187 0 15 (dk_at dksJ52_checkInvariants_2 15 rfl rfl)
theorem dJ52_checkInvariants_70 : decode cJ52_checkInvariants 70 = .ok (.getstatic 3, 3) := dk_178 0 3 (dk_at dksJ52_checkInvariants_3 0 rfl rfl)
theorem dJ52_checkInvariants_73 : decode cJ52_checkInvariants 73 = .ok (.ifCond .ne 37, 3) := dk_154 0 37 (dk_at dksJ52_checkInvariants_3 3 rfl rfl)
theorem dJ52_checkInvariants_76 : decode cJ52_checkInvariants 76 = .ok (.aload_n 0, 1) := dk_42 (dk_at dksJ52_checkInvariants_3 6 rfl rfl)
theorem dJ52_checkInvariants_77 : decode cJ52_checkInvariants 77 = .ok (.getfield 7, 3) := dk_180 0 7 (dk_at dksJ52_checkInvariants_3 7 rfl rfl)
theorem dJ52_checkInvariants_80 : decode cJ52_checkInvariants 80 = .ok (.aload_n 0, 1) := dk_42 (dk_at dksJ52_checkInvariants_3 10 rfl rfl)
theorem dJ52_checkInvariants_81 : decode cJ52_checkInvariants 81 = .ok (.getfield 11, 3) := dk_180 0 11 (dk_at dksJ52_checkInvariants_3 11 rfl rfl)
theorem dJ52_checkInvariants_84 : decode cJ52_checkInvariants 84 = .ok (.arraylength, 1) := dk_190 (dk_at dksJ52_checkInvariants_3 14 rfl rfl)
theorem dJ52_checkInvariants_85 : decode cJ52_checkInvariants 85 = .ok (.if_icmp .eq 25, 3) := dk_159 0 25 (dk_at dksJ52_checkInvariants_3 15 rfl rfl)
theorem dJ52_checkInvariants_88 : decode cJ52_checkInvariants 88 = .ok (.aload_n 0, 1) := dk_42 (dk_at dksJ52_checkInvariants_3 18 rfl rfl)
theorem dJ52_checkInvariants_89 : decode cJ52_checkInvariants 89 = .ok (.getfield 11, 3) := dk_180 0 11 (dk_at dksJ52_checkInvariants_3 19 rfl rfl)
theorem dJ52_checkInvariants_92 : decode cJ52_checkInvariants 92 = .ok (.aload_n 0, 1) := dk_42 (dk_at dksJ52_checkInvariants_3 22 rfl rfl)
theorem dJ52_checkInvariants_93 : decode cJ52_checkInvariants 93 = .ok (.getfield 7, 3) := dk_180 0 7 (dk_at dksJ52_checkInvariants_4 0 rfl rfl)
theorem dJ52_checkInvariants_96 : decode cJ52_checkInvariants 96 = .ok (.laload, 1) := dk_47 (dk_at dksJ52_checkInvariants_4 3 rfl rfl)
theorem dJ52_checkInvariants_97 : decode cJ52_checkInvariants 97 = .ok (.lconst 0, 1) := dk_9 (dk_at dksJ52_checkInvariants_4 4 rfl rfl)
theorem dJ52_checkInvariants_98 : decode cJ52_checkInvariants 98 = .ok (.lcmp, 1) := dk_148 (dk_at dksJ52_checkInvariants_4 5 rfl rfl)
theorem dJ52_checkInvariants_99 : decode cJ52_checkInvariants 99 = .ok (.ifCond .eq 11, 3) := dk_153 0 11 (dk_at dksJ52_checkInvariants_4 6 rfl rfl)
theorem dJ52_checkInvariants_102 : decode cJ52_checkInvariants 102 = .ok (.new 15, 3) := dk_187 0 15 (dk_at dksJ52_checkInvariants_4 9 rfl rfl)
theorem dJ52_checkInvariants_110 : decode cJ52_checkInvariants 110 = .ok (.return_, 1) := dk_177 (dk_at dksJ52_checkInvariants_4 17 rfl rfl)
abbrev cJ23_copyOf_4 : ByteArray := prog_62_method_124_code
def yJ23_copyOf_4 : MethodName := ⟨RJ23, "copyOf", "([JI)[J"⟩
def dkwJ23_copyOf_4_1 : List UInt8 := [27, 184, 1, 48, 184, 0, 150, 44, 176]
abbrev dktJ23_copyOf_4_1 : List UInt8 := dkwJ23_copyOf_4_1 ++ []
def dkwJ23_copyOf_4_0 : List UInt8 := [27, 42, 190, 160, 0, 11, 42, 182, 1, 63, 192, 1, 64, 176, 27, 188, 11, 77, 42, 3, 44, 3, 42, 190]
abbrev dktJ23_copyOf_4_0 : List UInt8 := dkwJ23_copyOf_4_0 ++ dktJ23_copyOf_4_1
theorem dksJ23_copyOf_4_0 : cJ23_copyOf_4.data.toList.drop 0 = dktJ23_copyOf_4_0 := by decide +kernel
theorem dksJ23_copyOf_4_1 : cJ23_copyOf_4.data.toList.drop 24 = dktJ23_copyOf_4_1 := dk_seg dksJ23_copyOf_4_0 24 rfl rfl
theorem dJ23_copyOf_4_0 : decode cJ23_copyOf_4 0 = .ok (.iload_n 1, 1) := dk_27 (dk_at dksJ23_copyOf_4_0 0 rfl rfl)
theorem dJ23_copyOf_4_1 : decode cJ23_copyOf_4 1 = .ok (.aload_n 0, 1) := dk_42 (dk_at dksJ23_copyOf_4_0 1 rfl rfl)
theorem dJ23_copyOf_4_2 : decode cJ23_copyOf_4 2 = .ok (.arraylength, 1) := dk_190 (dk_at dksJ23_copyOf_4_0 2 rfl rfl)
theorem dJ23_copyOf_4_3 : decode cJ23_copyOf_4 3 = .ok (.if_icmp .ne 11, 3) := dk_160 0 11 (dk_at dksJ23_copyOf_4_0 3 rfl rfl)
theorem dJ23_copyOf_4_6 : decode cJ23_copyOf_4 6 = .ok (.aload_n 0, 1) := dk_42 (dk_at dksJ23_copyOf_4_0 6 rfl rfl)
theorem dJ23_copyOf_4_7 : decode cJ23_copyOf_4 7 = .ok (.invokevirtual 319, 3) := dk_182 1 63 (dk_at dksJ23_copyOf_4_0 7 rfl rfl)
theorem dJ23_copyOf_4_10 : decode cJ23_copyOf_4 10 = .ok (.checkcast 320, 3) := dk_192 1 64 (dk_at dksJ23_copyOf_4_0 10 rfl rfl)
theorem dJ23_copyOf_4_13 : decode cJ23_copyOf_4 13 = .ok (.areturn, 1) := dk_176 (dk_at dksJ23_copyOf_4_0 13 rfl rfl)
theorem dJ23_copyOf_4_14 : decode cJ23_copyOf_4 14 = .ok (.iload_n 1, 1) := dk_27 (dk_at dksJ23_copyOf_4_0 14 rfl rfl)
theorem dJ23_copyOf_4_15 : decode cJ23_copyOf_4 15 = .ok (.newarray .long, 2) := dk_188_11 (dk_at dksJ23_copyOf_4_0 15 rfl rfl)
theorem dJ23_copyOf_4_17 : decode cJ23_copyOf_4 17 = .ok (.astore_n 2, 1) := dk_77 (dk_at dksJ23_copyOf_4_0 17 rfl rfl)
theorem dJ23_copyOf_4_18 : decode cJ23_copyOf_4 18 = .ok (.aload_n 0, 1) := dk_42 (dk_at dksJ23_copyOf_4_0 18 rfl rfl)
theorem dJ23_copyOf_4_19 : decode cJ23_copyOf_4 19 = .ok (.iconst 0, 1) := dk_3 (dk_at dksJ23_copyOf_4_0 19 rfl rfl)
theorem dJ23_copyOf_4_20 : decode cJ23_copyOf_4 20 = .ok (.aload_n 2, 1) := dk_44 (dk_at dksJ23_copyOf_4_0 20 rfl rfl)
theorem dJ23_copyOf_4_21 : decode cJ23_copyOf_4 21 = .ok (.iconst 0, 1) := dk_3 (dk_at dksJ23_copyOf_4_0 21 rfl rfl)
theorem dJ23_copyOf_4_22 : decode cJ23_copyOf_4 22 = .ok (.aload_n 0, 1) := dk_42 (dk_at dksJ23_copyOf_4_0 22 rfl rfl)
theorem dJ23_copyOf_4_23 : decode cJ23_copyOf_4 23 = .ok (.arraylength, 1) := dk_190 (dk_at dksJ23_copyOf_4_0 23 rfl rfl)
theorem dJ23_copyOf_4_24 : decode cJ23_copyOf_4 24 = .ok (.iload_n 1, 1) := dk_27 (dk_at dksJ23_copyOf_4_1 0 rfl rfl)
theorem dJ23_copyOf_4_25 : decode cJ23_copyOf_4 25 = .ok (.invokestatic 304, 3) := dk_184 1 48 (dk_at dksJ23_copyOf_4_1 1 rfl rfl)
theorem dJ23_copyOf_4_28 : decode cJ23_copyOf_4 28 = .ok (.invokestatic 150, 3) := dk_184 0 150 (dk_at dksJ23_copyOf_4_1 4 rfl rfl)
theorem dJ23_copyOf_4_31 : decode cJ23_copyOf_4 31 = .ok (.aload_n 2, 1) := dk_44 (dk_at dksJ23_copyOf_4_1 7 rfl rfl)
theorem dJ23_copyOf_4_32 : decode cJ23_copyOf_4 32 = .ok (.areturn, 1) := dk_176 (dk_at dksJ23_copyOf_4_1 8 rfl rfl)
abbrev cJ52_ensureCapacity : ByteArray := prog_63_method_14_code
def yJ52_ensureCapacity : MethodName := ⟨RJ52, "ensureCapacity", "(I)V"⟩
def dkwJ52_ensureCapacity_1 : List UInt8 := [180, 0, 11, 28, 184, 0, 59, 181, 0, 11, 42, 3, 181, 0, 24, 177]
abbrev dktJ52_ensureCapacity_1 : List UInt8 := dkwJ52_ensureCapacity_1 ++ []
def dkwJ52_ensureCapacity_0 : List UInt8 := [42, 180, 0, 11, 190, 27, 162, 0, 32, 5, 42, 180, 0, 11, 190, 104, 27, 184, 0, 133, 61, 42, 42]
abbrev dktJ52_ensureCapacity_0 : List UInt8 := dkwJ52_ensureCapacity_0 ++ dktJ52_ensureCapacity_1
theorem dksJ52_ensureCapacity_0 : cJ52_ensureCapacity.data.toList.drop 0 = dktJ52_ensureCapacity_0 := by decide +kernel
theorem dksJ52_ensureCapacity_1 : cJ52_ensureCapacity.data.toList.drop 23 = dktJ52_ensureCapacity_1 := dk_seg dksJ52_ensureCapacity_0 23 rfl rfl
theorem dJ52_ensureCapacity_0 : decode cJ52_ensureCapacity 0 = .ok (.aload_n 0, 1) := dk_42 (dk_at dksJ52_ensureCapacity_0 0 rfl rfl)
theorem dJ52_ensureCapacity_1 : decode cJ52_ensureCapacity 1 = .ok (.getfield 11, 3) := dk_180 0 11 (dk_at dksJ52_ensureCapacity_0 1 rfl rfl)
theorem dJ52_ensureCapacity_4 : decode cJ52_ensureCapacity 4 = .ok (.arraylength, 1) := dk_190 (dk_at dksJ52_ensureCapacity_0 4 rfl rfl)
theorem dJ52_ensureCapacity_5 : decode cJ52_ensureCapacity 5 = .ok (.iload_n 1, 1) := dk_27 (dk_at dksJ52_ensureCapacity_0 5 rfl rfl)
theorem dJ52_ensureCapacity_6 : decode cJ52_ensureCapacity 6 = .ok (.if_icmp .ge 32, 3) := dk_162 0 32 (dk_at dksJ52_ensureCapacity_0 6 rfl rfl)
theorem dJ52_ensureCapacity_9 : decode cJ52_ensureCapacity 9 = .ok (.iconst 2, 1) := dk_5 (dk_at dksJ52_ensureCapacity_0 9 rfl rfl)
theorem dJ52_ensureCapacity_10 : decode cJ52_ensureCapacity 10 = .ok (.aload_n 0, 1) := dk_42 (dk_at dksJ52_ensureCapacity_0 10 rfl rfl)
theorem dJ52_ensureCapacity_11 : decode cJ52_ensureCapacity 11 = .ok (.getfield 11, 3) := dk_180 0 11 (dk_at dksJ52_ensureCapacity_0 11 rfl rfl)
theorem dJ52_ensureCapacity_14 : decode cJ52_ensureCapacity 14 = .ok (.arraylength, 1) := dk_190 (dk_at dksJ52_ensureCapacity_0 14 rfl rfl)
theorem dJ52_ensureCapacity_15 : decode cJ52_ensureCapacity 15 = .ok (.imul, 1) := dk_104 (dk_at dksJ52_ensureCapacity_0 15 rfl rfl)
theorem dJ52_ensureCapacity_16 : decode cJ52_ensureCapacity 16 = .ok (.iload_n 1, 1) := dk_27 (dk_at dksJ52_ensureCapacity_0 16 rfl rfl)
theorem dJ52_ensureCapacity_17 : decode cJ52_ensureCapacity 17 = .ok (.invokestatic 133, 3) := dk_184 0 133 (dk_at dksJ52_ensureCapacity_0 17 rfl rfl)
theorem dJ52_ensureCapacity_20 : decode cJ52_ensureCapacity 20 = .ok (.istore_n 2, 1) := dk_61 (dk_at dksJ52_ensureCapacity_0 20 rfl rfl)
theorem dJ52_ensureCapacity_21 : decode cJ52_ensureCapacity 21 = .ok (.aload_n 0, 1) := dk_42 (dk_at dksJ52_ensureCapacity_0 21 rfl rfl)
theorem dJ52_ensureCapacity_22 : decode cJ52_ensureCapacity 22 = .ok (.aload_n 0, 1) := dk_42 (dk_at dksJ52_ensureCapacity_0 22 rfl rfl)
theorem dJ52_ensureCapacity_23 : decode cJ52_ensureCapacity 23 = .ok (.getfield 11, 3) := dk_180 0 11 (dk_at dksJ52_ensureCapacity_1 0 rfl rfl)
theorem dJ52_ensureCapacity_26 : decode cJ52_ensureCapacity 26 = .ok (.iload_n 2, 1) := dk_28 (dk_at dksJ52_ensureCapacity_1 3 rfl rfl)
theorem dJ52_ensureCapacity_27 : decode cJ52_ensureCapacity 27 = .ok (.invokestatic 59, 3) := dk_184 0 59 (dk_at dksJ52_ensureCapacity_1 4 rfl rfl)
theorem dJ52_ensureCapacity_30 : decode cJ52_ensureCapacity 30 = .ok (.putfield 11, 3) := dk_181 0 11 (dk_at dksJ52_ensureCapacity_1 7 rfl rfl)
theorem dJ52_ensureCapacity_33 : decode cJ52_ensureCapacity 33 = .ok (.aload_n 0, 1) := dk_42 (dk_at dksJ52_ensureCapacity_1 10 rfl rfl)
theorem dJ52_ensureCapacity_34 : decode cJ52_ensureCapacity 34 = .ok (.iconst 0, 1) := dk_3 (dk_at dksJ52_ensureCapacity_1 11 rfl rfl)
theorem dJ52_ensureCapacity_35 : decode cJ52_ensureCapacity 35 = .ok (.putfield 24, 3) := dk_181 0 24 (dk_at dksJ52_ensureCapacity_1 12 rfl rfl)
theorem dJ52_ensureCapacity_38 : decode cJ52_ensureCapacity 38 = .ok (.return_, 1) := dk_177 (dk_at dksJ52_ensureCapacity_1 15 rfl rfl)
abbrev cJ52_expandTo : ByteArray := prog_63_method_15_code
def yJ52_expandTo : MethodName := ⟨RJ52, "expandTo", "(I)V"⟩
def dkwJ52_expandTo_0 : List UInt8 := [27, 4, 96, 61, 42, 180, 0, 7, 28, 162, 0, 13, 42, 28, 182, 0, 139, 42, 28, 181, 0, 7, 177]
abbrev dktJ52_expandTo_0 : List UInt8 := dkwJ52_expandTo_0 ++ []
theorem dksJ52_expandTo_0 : cJ52_expandTo.data.toList.drop 0 = dktJ52_expandTo_0 := by decide +kernel
theorem dJ52_expandTo_0 : decode cJ52_expandTo 0 = .ok (.iload_n 1, 1) := dk_27 (dk_at dksJ52_expandTo_0 0 rfl rfl)
theorem dJ52_expandTo_1 : decode cJ52_expandTo 1 = .ok (.iconst 1, 1) := dk_4 (dk_at dksJ52_expandTo_0 1 rfl rfl)
theorem dJ52_expandTo_2 : decode cJ52_expandTo 2 = .ok (.iadd, 1) := dk_96 (dk_at dksJ52_expandTo_0 2 rfl rfl)
theorem dJ52_expandTo_3 : decode cJ52_expandTo 3 = .ok (.istore_n 2, 1) := dk_61 (dk_at dksJ52_expandTo_0 3 rfl rfl)
theorem dJ52_expandTo_4 : decode cJ52_expandTo 4 = .ok (.aload_n 0, 1) := dk_42 (dk_at dksJ52_expandTo_0 4 rfl rfl)
theorem dJ52_expandTo_5 : decode cJ52_expandTo 5 = .ok (.getfield 7, 3) := dk_180 0 7 (dk_at dksJ52_expandTo_0 5 rfl rfl)
theorem dJ52_expandTo_8 : decode cJ52_expandTo 8 = .ok (.iload_n 2, 1) := dk_28 (dk_at dksJ52_expandTo_0 8 rfl rfl)
theorem dJ52_expandTo_9 : decode cJ52_expandTo 9 = .ok (.if_icmp .ge 13, 3) := dk_162 0 13 (dk_at dksJ52_expandTo_0 9 rfl rfl)
theorem dJ52_expandTo_12 : decode cJ52_expandTo 12 = .ok (.aload_n 0, 1) := dk_42 (dk_at dksJ52_expandTo_0 12 rfl rfl)
theorem dJ52_expandTo_13 : decode cJ52_expandTo 13 = .ok (.iload_n 2, 1) := dk_28 (dk_at dksJ52_expandTo_0 13 rfl rfl)
theorem dJ52_expandTo_14 : decode cJ52_expandTo 14 = .ok (.invokevirtual 139, 3) := dk_182 0 139 (dk_at dksJ52_expandTo_0 14 rfl rfl)
theorem dJ52_expandTo_17 : decode cJ52_expandTo 17 = .ok (.aload_n 0, 1) := dk_42 (dk_at dksJ52_expandTo_0 17 rfl rfl)
theorem dJ52_expandTo_18 : decode cJ52_expandTo 18 = .ok (.iload_n 2, 1) := dk_28 (dk_at dksJ52_expandTo_0 18 rfl rfl)
theorem dJ52_expandTo_19 : decode cJ52_expandTo 19 = .ok (.putfield 7, 3) := dk_181 0 7 (dk_at dksJ52_expandTo_0 19 rfl rfl)
theorem dJ52_expandTo_22 : decode cJ52_expandTo 22 = .ok (.return_, 1) := dk_177 (dk_at dksJ52_expandTo_0 22 rfl rfl)
abbrev cJ52_set : ByteArray := prog_63_method_19_code
def yJ52_set : MethodName := ⟨RJ52, "set", "(I)V"⟩
def dkwJ52_set_2 : List UInt8 := [10, 27, 121, 129, 80, 42, 182, 0, 56, 177]
abbrev dktJ52_set_2 : List UInt8 := dkwJ52_set_2 ++ []
def dkwJ52_set_1 : List UInt8 := [182, 0, 45, 183, 0, 146, 191, 27, 184, 0, 52, 61, 42, 28, 182, 0, 155, 42, 180, 0, 11, 28, 92, 47]
abbrev dktJ52_set_1 : List UInt8 := dkwJ52_set_1 ++ dktJ52_set_2
def dkwJ52_set_0 : List UInt8 := [27, 156, 0, 30, 187, 0, 142, 89, 187, 0, 33, 89, 183, 0, 35, 18, 153, 182, 0, 38, 27, 182, 0, 42]
abbrev dktJ52_set_0 : List UInt8 := dkwJ52_set_0 ++ dktJ52_set_1
theorem dksJ52_set_0 : cJ52_set.data.toList.drop 0 = dktJ52_set_0 := by decide +kernel
theorem dksJ52_set_1 : cJ52_set.data.toList.drop 24 = dktJ52_set_1 := dk_seg dksJ52_set_0 24 rfl rfl
theorem dksJ52_set_2 : cJ52_set.data.toList.drop 48 = dktJ52_set_2 := dk_seg dksJ52_set_1 24 rfl rfl
theorem dJ52_set_0 : decode cJ52_set 0 = .ok (.iload_n 1, 1) := dk_27 (dk_at dksJ52_set_0 0 rfl rfl)
theorem dJ52_set_1 : decode cJ52_set 1 = .ok (.ifCond .ge 30, 3) := dk_156 0 30 (dk_at dksJ52_set_0 1 rfl rfl)
theorem dJ52_set_4 : decode cJ52_set 4 = .ok (.new 142, 3) := dk_187 0 142 (dk_at dksJ52_set_0 4 rfl rfl)
theorem dJ52_set_31 : decode cJ52_set 31 = .ok (.iload_n 1, 1) := dk_27 (dk_at dksJ52_set_1 7 rfl rfl)
theorem dJ52_set_32 : decode cJ52_set 32 = .ok (.invokestatic 52, 3) := dk_184 0 52 (dk_at dksJ52_set_1 8 rfl rfl)
theorem dJ52_set_35 : decode cJ52_set 35 = .ok (.istore_n 2, 1) := dk_61 (dk_at dksJ52_set_1 11 rfl rfl)
theorem dJ52_set_36 : decode cJ52_set 36 = .ok (.aload_n 0, 1) := dk_42 (dk_at dksJ52_set_1 12 rfl rfl)
theorem dJ52_set_37 : decode cJ52_set 37 = .ok (.iload_n 2, 1) := dk_28 (dk_at dksJ52_set_1 13 rfl rfl)
theorem dJ52_set_38 : decode cJ52_set 38 = .ok (.invokevirtual 155, 3) := dk_182 0 155 (dk_at dksJ52_set_1 14 rfl rfl)
theorem dJ52_set_41 : decode cJ52_set 41 = .ok (.aload_n 0, 1) := dk_42 (dk_at dksJ52_set_1 17 rfl rfl)
theorem dJ52_set_42 : decode cJ52_set 42 = .ok (.getfield 11, 3) := dk_180 0 11 (dk_at dksJ52_set_1 18 rfl rfl)
theorem dJ52_set_45 : decode cJ52_set 45 = .ok (.iload_n 2, 1) := dk_28 (dk_at dksJ52_set_1 21 rfl rfl)
theorem dJ52_set_46 : decode cJ52_set 46 = .ok (.dup2, 1) := dk_92 (dk_at dksJ52_set_1 22 rfl rfl)
theorem dJ52_set_47 : decode cJ52_set 47 = .ok (.laload, 1) := dk_47 (dk_at dksJ52_set_1 23 rfl rfl)
theorem dJ52_set_48 : decode cJ52_set 48 = .ok (.lconst 1, 1) := dk_10 (dk_at dksJ52_set_2 0 rfl rfl)
theorem dJ52_set_49 : decode cJ52_set 49 = .ok (.iload_n 1, 1) := dk_27 (dk_at dksJ52_set_2 1 rfl rfl)
theorem dJ52_set_50 : decode cJ52_set 50 = .ok (.lshl, 1) := dk_121 (dk_at dksJ52_set_2 2 rfl rfl)
theorem dJ52_set_51 : decode cJ52_set 51 = .ok (.lor, 1) := dk_129 (dk_at dksJ52_set_2 3 rfl rfl)
theorem dJ52_set_52 : decode cJ52_set 52 = .ok (.lastore, 1) := dk_80 (dk_at dksJ52_set_2 4 rfl rfl)
theorem dJ52_set_53 : decode cJ52_set 53 = .ok (.aload_n 0, 1) := dk_42 (dk_at dksJ52_set_2 5 rfl rfl)
theorem dJ52_set_54 : decode cJ52_set 54 = .ok (.invokevirtual 56, 3) := dk_182 0 56 (dk_at dksJ52_set_2 6 rfl rfl)
theorem dJ52_set_57 : decode cJ52_set 57 = .ok (.return_, 1) := dk_177 (dk_at dksJ52_set_2 9 rfl rfl)
abbrev cX3_hours : ByteArray := prog_10_method_7_code
def yX3_hours : MethodName := ⟨RX3, "hours", "()Ljava/util/BitSet;"⟩
def dkwX3_hours_3 : List UInt8 := [43, 176]
abbrev dktX3_hours_3 : List UInt8 := dkwX3_hours_3 ++ []
def dkwX3_hours_2 : List UInt8 := [21, 4, 45, 180, 0, 66, 162, 0, 15, 43, 21, 4, 182, 0, 69, 132, 4, 1, 167, 255, 238, 167, 255, 210]
abbrev dktX3_hours_2 : List UInt8 := dkwX3_hours_2 ++ dktX3_hours_3
def dkwX3_hours_1 : List UInt8 := [185, 0, 25, 1, 0, 153, 0, 43, 44, 185, 0, 31, 1, 0, 192, 0, 35, 78, 45, 180, 0, 62, 54, 4]
abbrev dktX3_hours_1 : List UInt8 := dkwX3_hours_1 ++ dktX3_hours_2
def dkwX3_hours_0 : List UInt8 := [187, 0, 57, 89, 16, 24, 183, 0, 59, 76, 42, 180, 0, 12, 185, 0, 19, 1, 0, 77, 44]
abbrev dktX3_hours_0 : List UInt8 := dkwX3_hours_0 ++ dktX3_hours_1
theorem dksX3_hours_0 : cX3_hours.data.toList.drop 0 = dktX3_hours_0 := by decide +kernel
theorem dksX3_hours_1 : cX3_hours.data.toList.drop 21 = dktX3_hours_1 := dk_seg dksX3_hours_0 21 rfl rfl
theorem dksX3_hours_2 : cX3_hours.data.toList.drop 45 = dktX3_hours_2 := dk_seg dksX3_hours_1 24 rfl rfl
theorem dksX3_hours_3 : cX3_hours.data.toList.drop 69 = dktX3_hours_3 := dk_seg dksX3_hours_2 24 rfl rfl
theorem dX3_hours_0 : decode cX3_hours 0 = .ok (.new 57, 3) := dk_187 0 57 (dk_at dksX3_hours_0 0 rfl rfl)
theorem dX3_hours_3 : decode cX3_hours 3 = .ok (.dup, 1) := dk_89 (dk_at dksX3_hours_0 3 rfl rfl)
theorem dX3_hours_4 : decode cX3_hours 4 = .ok (.bipush 24, 2) := dk_16 24 (dk_at dksX3_hours_0 4 rfl rfl)
theorem dX3_hours_6 : decode cX3_hours 6 = .ok (.invokespecial 59, 3) := dk_183 0 59 (dk_at dksX3_hours_0 6 rfl rfl)
theorem dX3_hours_9 : decode cX3_hours 9 = .ok (.astore_n 1, 1) := dk_76 (dk_at dksX3_hours_0 9 rfl rfl)
theorem dX3_hours_10 : decode cX3_hours 10 = .ok (.aload_n 0, 1) := dk_42 (dk_at dksX3_hours_0 10 rfl rfl)
theorem dX3_hours_11 : decode cX3_hours 11 = .ok (.getfield 12, 3) := dk_180 0 12 (dk_at dksX3_hours_0 11 rfl rfl)
theorem dX3_hours_14 : decode cX3_hours 14 = .ok (.invokeinterface 19 1, 5) := by decide +kernel
theorem dX3_hours_19 : decode cX3_hours 19 = .ok (.astore_n 2, 1) := dk_77 (dk_at dksX3_hours_0 19 rfl rfl)
theorem dX3_hours_20 : decode cX3_hours 20 = .ok (.aload_n 2, 1) := dk_44 (dk_at dksX3_hours_0 20 rfl rfl)
theorem dX3_hours_21 : decode cX3_hours 21 = .ok (.invokeinterface 25 1, 5) := by decide +kernel
theorem dX3_hours_26 : decode cX3_hours 26 = .ok (.ifCond .eq 43, 3) := dk_153 0 43 (dk_at dksX3_hours_1 5 rfl rfl)
theorem dX3_hours_29 : decode cX3_hours 29 = .ok (.aload_n 2, 1) := dk_44 (dk_at dksX3_hours_1 8 rfl rfl)
theorem dX3_hours_30 : decode cX3_hours 30 = .ok (.invokeinterface 31 1, 5) := by decide +kernel
theorem dX3_hours_35 : decode cX3_hours 35 = .ok (.checkcast 35, 3) := dk_192 0 35 (dk_at dksX3_hours_1 14 rfl rfl)
theorem dX3_hours_38 : decode cX3_hours 38 = .ok (.astore_n 3, 1) := dk_78 (dk_at dksX3_hours_1 17 rfl rfl)
theorem dX3_hours_39 : decode cX3_hours 39 = .ok (.aload_n 3, 1) := dk_45 (dk_at dksX3_hours_1 18 rfl rfl)
theorem dX3_hours_40 : decode cX3_hours 40 = .ok (.getfield 62, 3) := dk_180 0 62 (dk_at dksX3_hours_1 19 rfl rfl)
theorem dX3_hours_43 : decode cX3_hours 43 = .ok (.istore 4, 2) := dk_54 4 (dk_at dksX3_hours_1 22 rfl rfl)
theorem dX3_hours_45 : decode cX3_hours 45 = .ok (.iload 4, 2) := dk_21 4 (dk_at dksX3_hours_2 0 rfl rfl)
theorem dX3_hours_47 : decode cX3_hours 47 = .ok (.aload_n 3, 1) := dk_45 (dk_at dksX3_hours_2 2 rfl rfl)
theorem dX3_hours_48 : decode cX3_hours 48 = .ok (.getfield 66, 3) := dk_180 0 66 (dk_at dksX3_hours_2 3 rfl rfl)
theorem dX3_hours_51 : decode cX3_hours 51 = .ok (.if_icmp .ge 15, 3) := dk_162 0 15 (dk_at dksX3_hours_2 6 rfl rfl)
theorem dX3_hours_54 : decode cX3_hours 54 = .ok (.aload_n 1, 1) := dk_43 (dk_at dksX3_hours_2 9 rfl rfl)
theorem dX3_hours_55 : decode cX3_hours 55 = .ok (.iload 4, 2) := dk_21 4 (dk_at dksX3_hours_2 10 rfl rfl)
theorem dX3_hours_57 : decode cX3_hours 57 = .ok (.invokevirtual 69, 3) := dk_182 0 69 (dk_at dksX3_hours_2 12 rfl rfl)
theorem dX3_hours_60 : decode cX3_hours 60 = .ok (.iinc 4 1, 3) := dk_132 4 1 (dk_at dksX3_hours_2 15 rfl rfl)
theorem dX3_hours_63 : decode cX3_hours 63 = .ok (.goto (-18), 3) := dk_167 255 238 (dk_at dksX3_hours_2 18 rfl rfl)
theorem dX3_hours_66 : decode cX3_hours 66 = .ok (.goto (-46), 3) := dk_167 255 210 (dk_at dksX3_hours_2 21 rfl rfl)
theorem dX3_hours_69 : decode cX3_hours 69 = .ok (.aload_n 1, 1) := dk_43 (dk_at dksX3_hours_3 0 rfl rfl)
theorem dX3_hours_70 : decode cX3_hours 70 = .ok (.areturn, 1) := dk_176 (dk_at dksX3_hours_3 1 rfl rfl)
abbrev cJ52_get : ByteArray := prog_63_method_26_code
def yJ52_get : MethodName := ⟨RJ52, "get", "(I)Z"⟩
def dkwJ52_get_2 : List UInt8 := [42, 180, 0, 11, 28, 47, 10, 27, 121, 127, 9, 148, 153, 0, 7, 4, 167, 0, 4, 3, 172]
abbrev dktJ52_get_2 : List UInt8 := dkwJ52_get_2 ++ []
def dkwJ52_get_1 : List UInt8 := [182, 0, 45, 183, 0, 146, 191, 42, 182, 0, 56, 27, 184, 0, 52, 61, 28, 42, 180, 0, 7, 162, 0, 22]
abbrev dktJ52_get_1 : List UInt8 := dkwJ52_get_1 ++ dktJ52_get_2
def dkwJ52_get_0 : List UInt8 := [27, 156, 0, 30, 187, 0, 142, 89, 187, 0, 33, 89, 183, 0, 35, 18, 153, 182, 0, 38, 27, 182, 0, 42]
abbrev dktJ52_get_0 : List UInt8 := dkwJ52_get_0 ++ dktJ52_get_1
theorem dksJ52_get_0 : cJ52_get.data.toList.drop 0 = dktJ52_get_0 := by decide +kernel
theorem dksJ52_get_1 : cJ52_get.data.toList.drop 24 = dktJ52_get_1 := dk_seg dksJ52_get_0 24 rfl rfl
theorem dksJ52_get_2 : cJ52_get.data.toList.drop 48 = dktJ52_get_2 := dk_seg dksJ52_get_1 24 rfl rfl
theorem dJ52_get_0 : decode cJ52_get 0 = .ok (.iload_n 1, 1) := dk_27 (dk_at dksJ52_get_0 0 rfl rfl)
theorem dJ52_get_1 : decode cJ52_get 1 = .ok (.ifCond .ge 30, 3) := dk_156 0 30 (dk_at dksJ52_get_0 1 rfl rfl)
theorem dJ52_get_4 : decode cJ52_get 4 = .ok (.new 142, 3) := dk_187 0 142 (dk_at dksJ52_get_0 4 rfl rfl)
theorem dJ52_get_31 : decode cJ52_get 31 = .ok (.aload_n 0, 1) := dk_42 (dk_at dksJ52_get_1 7 rfl rfl)
theorem dJ52_get_32 : decode cJ52_get 32 = .ok (.invokevirtual 56, 3) := dk_182 0 56 (dk_at dksJ52_get_1 8 rfl rfl)
theorem dJ52_get_35 : decode cJ52_get 35 = .ok (.iload_n 1, 1) := dk_27 (dk_at dksJ52_get_1 11 rfl rfl)
theorem dJ52_get_36 : decode cJ52_get 36 = .ok (.invokestatic 52, 3) := dk_184 0 52 (dk_at dksJ52_get_1 12 rfl rfl)
theorem dJ52_get_39 : decode cJ52_get 39 = .ok (.istore_n 2, 1) := dk_61 (dk_at dksJ52_get_1 15 rfl rfl)
theorem dJ52_get_40 : decode cJ52_get 40 = .ok (.iload_n 2, 1) := dk_28 (dk_at dksJ52_get_1 16 rfl rfl)
theorem dJ52_get_41 : decode cJ52_get 41 = .ok (.aload_n 0, 1) := dk_42 (dk_at dksJ52_get_1 17 rfl rfl)
theorem dJ52_get_42 : decode cJ52_get 42 = .ok (.getfield 7, 3) := dk_180 0 7 (dk_at dksJ52_get_1 18 rfl rfl)
theorem dJ52_get_45 : decode cJ52_get 45 = .ok (.if_icmp .ge 22, 3) := dk_162 0 22 (dk_at dksJ52_get_1 21 rfl rfl)
theorem dJ52_get_48 : decode cJ52_get 48 = .ok (.aload_n 0, 1) := dk_42 (dk_at dksJ52_get_2 0 rfl rfl)
theorem dJ52_get_49 : decode cJ52_get 49 = .ok (.getfield 11, 3) := dk_180 0 11 (dk_at dksJ52_get_2 1 rfl rfl)
theorem dJ52_get_52 : decode cJ52_get 52 = .ok (.iload_n 2, 1) := dk_28 (dk_at dksJ52_get_2 4 rfl rfl)
theorem dJ52_get_53 : decode cJ52_get 53 = .ok (.laload, 1) := dk_47 (dk_at dksJ52_get_2 5 rfl rfl)
theorem dJ52_get_54 : decode cJ52_get 54 = .ok (.lconst 1, 1) := dk_10 (dk_at dksJ52_get_2 6 rfl rfl)
theorem dJ52_get_55 : decode cJ52_get 55 = .ok (.iload_n 1, 1) := dk_27 (dk_at dksJ52_get_2 7 rfl rfl)
theorem dJ52_get_56 : decode cJ52_get 56 = .ok (.lshl, 1) := dk_121 (dk_at dksJ52_get_2 8 rfl rfl)
theorem dJ52_get_57 : decode cJ52_get 57 = .ok (.land, 1) := dk_127 (dk_at dksJ52_get_2 9 rfl rfl)
theorem dJ52_get_58 : decode cJ52_get 58 = .ok (.lconst 0, 1) := dk_9 (dk_at dksJ52_get_2 10 rfl rfl)
theorem dJ52_get_59 : decode cJ52_get 59 = .ok (.lcmp, 1) := dk_148 (dk_at dksJ52_get_2 11 rfl rfl)
theorem dJ52_get_60 : decode cJ52_get 60 = .ok (.ifCond .eq 7, 3) := dk_153 0 7 (dk_at dksJ52_get_2 12 rfl rfl)
theorem dJ52_get_63 : decode cJ52_get 63 = .ok (.iconst 1, 1) := dk_4 (dk_at dksJ52_get_2 15 rfl rfl)
theorem dJ52_get_64 : decode cJ52_get 64 = .ok (.goto 4, 3) := dk_167 0 4 (dk_at dksJ52_get_2 16 rfl rfl)
theorem dJ52_get_67 : decode cJ52_get 67 = .ok (.iconst 0, 1) := dk_3 (dk_at dksJ52_get_2 19 rfl rfl)
theorem dJ52_get_68 : decode cJ52_get 68 = .ok (.ireturn, 1) := dk_172 (dk_at dksJ52_get_2 20 rfl rfl)
abbrev cX3_areWaysAlike : ByteArray := prog_10_method_13_code
def yX3_areWaysAlike : MethodName := ⟨RX3, "areWaysAlike", "()Z"⟩
def dkwX3_areWaysAlike_3 : List UInt8 := [167, 255, 208, 132, 3, 1, 167, 255, 191, 27, 172]
abbrev dktX3_areWaysAlike_3 : List UInt8 := dkwX3_areWaysAlike_3 ++ []
def dkwX3_areWaysAlike_2 : List UInt8 := [182, 0, 97, 42, 29, 21, 4, 182, 0, 100, 160, 0, 7, 4, 167, 0, 4, 3, 60, 132, 4, 1]
abbrev dktX3_areWaysAlike_2 : List UInt8 := dkwX3_areWaysAlike_2 ++ dktX3_areWaysAlike_3
def dkwX3_areWaysAlike_1 : List UInt8 := [163, 0, 47, 44, 21, 4, 4, 100, 182, 0, 76, 153, 0, 36, 27, 153, 0, 24, 42, 29, 21, 4]
abbrev dktX3_areWaysAlike_1 : List UInt8 := dkwX3_areWaysAlike_1 ++ dktX3_areWaysAlike_2
def dkwX3_areWaysAlike_0 : List UInt8 := [4, 60, 42, 182, 0, 72, 77, 3, 62, 29, 16, 24, 162, 0, 65, 29, 4, 96, 54, 4, 21, 4, 16, 24]
abbrev dktX3_areWaysAlike_0 : List UInt8 := dkwX3_areWaysAlike_0 ++ dktX3_areWaysAlike_1
theorem dksX3_areWaysAlike_0 : cX3_areWaysAlike.data.toList.drop 0 = dktX3_areWaysAlike_0 := by decide +kernel
theorem dksX3_areWaysAlike_1 : cX3_areWaysAlike.data.toList.drop 24 = dktX3_areWaysAlike_1 := dk_seg dksX3_areWaysAlike_0 24 rfl rfl
theorem dksX3_areWaysAlike_2 : cX3_areWaysAlike.data.toList.drop 46 = dktX3_areWaysAlike_2 := dk_seg dksX3_areWaysAlike_1 22 rfl rfl
theorem dksX3_areWaysAlike_3 : cX3_areWaysAlike.data.toList.drop 68 = dktX3_areWaysAlike_3 := dk_seg dksX3_areWaysAlike_2 22 rfl rfl
theorem dX3_areWaysAlike_0 : decode cX3_areWaysAlike 0 = .ok (.iconst 1, 1) := dk_4 (dk_at dksX3_areWaysAlike_0 0 rfl rfl)
theorem dX3_areWaysAlike_1 : decode cX3_areWaysAlike 1 = .ok (.istore_n 1, 1) := dk_60 (dk_at dksX3_areWaysAlike_0 1 rfl rfl)
theorem dX3_areWaysAlike_2 : decode cX3_areWaysAlike 2 = .ok (.aload_n 0, 1) := dk_42 (dk_at dksX3_areWaysAlike_0 2 rfl rfl)
theorem dX3_areWaysAlike_3 : decode cX3_areWaysAlike 3 = .ok (.invokevirtual 72, 3) := dk_182 0 72 (dk_at dksX3_areWaysAlike_0 3 rfl rfl)
theorem dX3_areWaysAlike_6 : decode cX3_areWaysAlike 6 = .ok (.astore_n 2, 1) := dk_77 (dk_at dksX3_areWaysAlike_0 6 rfl rfl)
theorem dX3_areWaysAlike_7 : decode cX3_areWaysAlike 7 = .ok (.iconst 0, 1) := dk_3 (dk_at dksX3_areWaysAlike_0 7 rfl rfl)
theorem dX3_areWaysAlike_8 : decode cX3_areWaysAlike 8 = .ok (.istore_n 3, 1) := dk_62 (dk_at dksX3_areWaysAlike_0 8 rfl rfl)
theorem dX3_areWaysAlike_9 : decode cX3_areWaysAlike 9 = .ok (.iload_n 3, 1) := dk_29 (dk_at dksX3_areWaysAlike_0 9 rfl rfl)
theorem dX3_areWaysAlike_10 : decode cX3_areWaysAlike 10 = .ok (.bipush 24, 2) := dk_16 24 (dk_at dksX3_areWaysAlike_0 10 rfl rfl)
theorem dX3_areWaysAlike_12 : decode cX3_areWaysAlike 12 = .ok (.if_icmp .ge 65, 3) := dk_162 0 65 (dk_at dksX3_areWaysAlike_0 12 rfl rfl)
theorem dX3_areWaysAlike_15 : decode cX3_areWaysAlike 15 = .ok (.iload_n 3, 1) := dk_29 (dk_at dksX3_areWaysAlike_0 15 rfl rfl)
theorem dX3_areWaysAlike_16 : decode cX3_areWaysAlike 16 = .ok (.iconst 1, 1) := dk_4 (dk_at dksX3_areWaysAlike_0 16 rfl rfl)
theorem dX3_areWaysAlike_17 : decode cX3_areWaysAlike 17 = .ok (.iadd, 1) := dk_96 (dk_at dksX3_areWaysAlike_0 17 rfl rfl)
theorem dX3_areWaysAlike_18 : decode cX3_areWaysAlike 18 = .ok (.istore 4, 2) := dk_54 4 (dk_at dksX3_areWaysAlike_0 18 rfl rfl)
theorem dX3_areWaysAlike_20 : decode cX3_areWaysAlike 20 = .ok (.iload 4, 2) := dk_21 4 (dk_at dksX3_areWaysAlike_0 20 rfl rfl)
theorem dX3_areWaysAlike_22 : decode cX3_areWaysAlike 22 = .ok (.bipush 24, 2) := dk_16 24 (dk_at dksX3_areWaysAlike_0 22 rfl rfl)
theorem dX3_areWaysAlike_24 : decode cX3_areWaysAlike 24 = .ok (.if_icmp .gt 47, 3) := dk_163 0 47 (dk_at dksX3_areWaysAlike_1 0 rfl rfl)
theorem dX3_areWaysAlike_27 : decode cX3_areWaysAlike 27 = .ok (.aload_n 2, 1) := dk_44 (dk_at dksX3_areWaysAlike_1 3 rfl rfl)
theorem dX3_areWaysAlike_28 : decode cX3_areWaysAlike 28 = .ok (.iload 4, 2) := dk_21 4 (dk_at dksX3_areWaysAlike_1 4 rfl rfl)
theorem dX3_areWaysAlike_30 : decode cX3_areWaysAlike 30 = .ok (.iconst 1, 1) := dk_4 (dk_at dksX3_areWaysAlike_1 6 rfl rfl)
theorem dX3_areWaysAlike_31 : decode cX3_areWaysAlike 31 = .ok (.isub, 1) := dk_100 (dk_at dksX3_areWaysAlike_1 7 rfl rfl)
theorem dX3_areWaysAlike_32 : decode cX3_areWaysAlike 32 = .ok (.invokevirtual 76, 3) := dk_182 0 76 (dk_at dksX3_areWaysAlike_1 8 rfl rfl)
theorem dX3_areWaysAlike_35 : decode cX3_areWaysAlike 35 = .ok (.ifCond .eq 36, 3) := dk_153 0 36 (dk_at dksX3_areWaysAlike_1 11 rfl rfl)
theorem dX3_areWaysAlike_38 : decode cX3_areWaysAlike 38 = .ok (.iload_n 1, 1) := dk_27 (dk_at dksX3_areWaysAlike_1 14 rfl rfl)
theorem dX3_areWaysAlike_39 : decode cX3_areWaysAlike 39 = .ok (.ifCond .eq 24, 3) := dk_153 0 24 (dk_at dksX3_areWaysAlike_1 15 rfl rfl)
theorem dX3_areWaysAlike_42 : decode cX3_areWaysAlike 42 = .ok (.aload_n 0, 1) := dk_42 (dk_at dksX3_areWaysAlike_1 18 rfl rfl)
theorem dX3_areWaysAlike_43 : decode cX3_areWaysAlike 43 = .ok (.iload_n 3, 1) := dk_29 (dk_at dksX3_areWaysAlike_1 19 rfl rfl)
theorem dX3_areWaysAlike_44 : decode cX3_areWaysAlike 44 = .ok (.iload 4, 2) := dk_21 4 (dk_at dksX3_areWaysAlike_1 20 rfl rfl)
theorem dX3_areWaysAlike_46 : decode cX3_areWaysAlike 46 = .ok (.invokevirtual 97, 3) := dk_182 0 97 (dk_at dksX3_areWaysAlike_2 0 rfl rfl)
theorem dX3_areWaysAlike_49 : decode cX3_areWaysAlike 49 = .ok (.aload_n 0, 1) := dk_42 (dk_at dksX3_areWaysAlike_2 3 rfl rfl)
theorem dX3_areWaysAlike_50 : decode cX3_areWaysAlike 50 = .ok (.iload_n 3, 1) := dk_29 (dk_at dksX3_areWaysAlike_2 4 rfl rfl)
theorem dX3_areWaysAlike_51 : decode cX3_areWaysAlike 51 = .ok (.iload 4, 2) := dk_21 4 (dk_at dksX3_areWaysAlike_2 5 rfl rfl)
theorem dX3_areWaysAlike_53 : decode cX3_areWaysAlike 53 = .ok (.invokevirtual 100, 3) := dk_182 0 100 (dk_at dksX3_areWaysAlike_2 7 rfl rfl)
theorem dX3_areWaysAlike_56 : decode cX3_areWaysAlike 56 = .ok (.if_icmp .ne 7, 3) := dk_160 0 7 (dk_at dksX3_areWaysAlike_2 10 rfl rfl)
theorem dX3_areWaysAlike_59 : decode cX3_areWaysAlike 59 = .ok (.iconst 1, 1) := dk_4 (dk_at dksX3_areWaysAlike_2 13 rfl rfl)
theorem dX3_areWaysAlike_60 : decode cX3_areWaysAlike 60 = .ok (.goto 4, 3) := dk_167 0 4 (dk_at dksX3_areWaysAlike_2 14 rfl rfl)
theorem dX3_areWaysAlike_63 : decode cX3_areWaysAlike 63 = .ok (.iconst 0, 1) := dk_3 (dk_at dksX3_areWaysAlike_2 17 rfl rfl)
theorem dX3_areWaysAlike_64 : decode cX3_areWaysAlike 64 = .ok (.istore_n 1, 1) := dk_60 (dk_at dksX3_areWaysAlike_2 18 rfl rfl)
theorem dX3_areWaysAlike_65 : decode cX3_areWaysAlike 65 = .ok (.iinc 4 1, 3) := dk_132 4 1 (dk_at dksX3_areWaysAlike_2 19 rfl rfl)
theorem dX3_areWaysAlike_68 : decode cX3_areWaysAlike 68 = .ok (.goto (-48), 3) := dk_167 255 208 (dk_at dksX3_areWaysAlike_3 0 rfl rfl)
theorem dX3_areWaysAlike_71 : decode cX3_areWaysAlike 71 = .ok (.iinc 3 1, 3) := dk_132 3 1 (dk_at dksX3_areWaysAlike_3 3 rfl rfl)
theorem dX3_areWaysAlike_74 : decode cX3_areWaysAlike 74 = .ok (.goto (-65), 3) := dk_167 255 191 (dk_at dksX3_areWaysAlike_3 6 rfl rfl)
theorem dX3_areWaysAlike_77 : decode cX3_areWaysAlike 77 = .ok (.iload_n 1, 1) := dk_27 (dk_at dksX3_areWaysAlike_3 9 rfl rfl)
theorem dX3_areWaysAlike_78 : decode cX3_areWaysAlike 78 = .ok (.ireturn, 1) := dk_172 (dk_at dksX3_areWaysAlike_3 10 rfl rfl)
abbrev cX10_way : ByteArray := prog_12_method_3_code
def yX10_way : MethodName := ⟨RX10, "way", "(LLionGate$Node;)I"⟩
def dkwX10_way_0 : List UInt8 := [42, 199, 0, 7, 3, 167, 0, 7, 42, 180, 0, 27, 172]
abbrev dktX10_way_0 : List UInt8 := dkwX10_way_0 ++ []
theorem dksX10_way_0 : cX10_way.data.toList.drop 0 = dktX10_way_0 := by decide +kernel
theorem dX10_way_0 : decode cX10_way 0 = .ok (.aload_n 0, 1) := dk_42 (dk_at dksX10_way_0 0 rfl rfl)
theorem dX10_way_1 : decode cX10_way 1 = .ok (.ifnonnull 7, 3) := dk_199 0 7 (dk_at dksX10_way_0 1 rfl rfl)
theorem dX10_way_4 : decode cX10_way 4 = .ok (.iconst 0, 1) := dk_3 (dk_at dksX10_way_0 4 rfl rfl)
theorem dX10_way_5 : decode cX10_way 5 = .ok (.goto 7, 3) := dk_167 0 7 (dk_at dksX10_way_0 5 rfl rfl)
theorem dX10_way_8 : decode cX10_way 8 = .ok (.aload_n 0, 1) := dk_42 (dk_at dksX10_way_0 8 rfl rfl)
theorem dX10_way_9 : decode cX10_way 9 = .ok (.getfield 27, 3) := dk_180 0 27 (dk_at dksX10_way_0 9 rfl rfl)
theorem dX10_way_12 : decode cX10_way 12 = .ok (.ireturn, 1) := dk_172 (dk_at dksX10_way_0 12 rfl rfl)
abbrev cX10_init_2 : ByteArray := prog_12_method_2_code
def yX10_init_2 : MethodName := ⟨RX10, "<init>", "(LLionGate$Ticket;LLionGate$Node;LLionGate$Node;)V"⟩
def dkwX10_init_2_2 : List UInt8 := [167, 0, 4, 45, 181, 0, 24, 42, 42, 180, 0, 24, 184, 0, 12, 4, 96, 181, 0, 27, 177]
abbrev dktX10_init_2_2 : List UInt8 := dkwX10_init_2_2 ++ []
def dkwX10_init_2_1 : List UInt8 := [181, 0, 16, 42, 21, 4, 153, 0, 7, 45, 167, 0, 4, 44, 181, 0, 20, 42, 21, 4, 153, 0, 7, 44]
abbrev dktX10_init_2_1 : List UInt8 := dkwX10_init_2_1 ++ dktX10_init_2_2
def dkwX10_init_2_0 : List UInt8 := [42, 183, 0, 7, 44, 184, 0, 12, 45, 184, 0, 12, 162, 0, 7, 4, 167, 0, 4, 3, 54, 4, 42, 43]
abbrev dktX10_init_2_0 : List UInt8 := dkwX10_init_2_0 ++ dktX10_init_2_1
theorem dksX10_init_2_0 : cX10_init_2.data.toList.drop 0 = dktX10_init_2_0 := by decide +kernel
theorem dksX10_init_2_1 : cX10_init_2.data.toList.drop 24 = dktX10_init_2_1 := dk_seg dksX10_init_2_0 24 rfl rfl
theorem dksX10_init_2_2 : cX10_init_2.data.toList.drop 48 = dktX10_init_2_2 := dk_seg dksX10_init_2_1 24 rfl rfl
theorem dX10_init_2_0 : decode cX10_init_2 0 = .ok (.aload_n 0, 1) := dk_42 (dk_at dksX10_init_2_0 0 rfl rfl)
theorem dX10_init_2_1 : decode cX10_init_2 1 = .ok (.invokespecial 7, 3) := dk_183 0 7 (dk_at dksX10_init_2_0 1 rfl rfl)
theorem dX10_init_2_4 : decode cX10_init_2 4 = .ok (.aload_n 2, 1) := dk_44 (dk_at dksX10_init_2_0 4 rfl rfl)
theorem dX10_init_2_5 : decode cX10_init_2 5 = .ok (.invokestatic 12, 3) := dk_184 0 12 (dk_at dksX10_init_2_0 5 rfl rfl)
theorem dX10_init_2_8 : decode cX10_init_2 8 = .ok (.aload_n 3, 1) := dk_45 (dk_at dksX10_init_2_0 8 rfl rfl)
theorem dX10_init_2_9 : decode cX10_init_2 9 = .ok (.invokestatic 12, 3) := dk_184 0 12 (dk_at dksX10_init_2_0 9 rfl rfl)
theorem dX10_init_2_12 : decode cX10_init_2 12 = .ok (.if_icmp .ge 7, 3) := dk_162 0 7 (dk_at dksX10_init_2_0 12 rfl rfl)
theorem dX10_init_2_15 : decode cX10_init_2 15 = .ok (.iconst 1, 1) := dk_4 (dk_at dksX10_init_2_0 15 rfl rfl)
theorem dX10_init_2_16 : decode cX10_init_2 16 = .ok (.goto 4, 3) := dk_167 0 4 (dk_at dksX10_init_2_0 16 rfl rfl)
theorem dX10_init_2_19 : decode cX10_init_2 19 = .ok (.iconst 0, 1) := dk_3 (dk_at dksX10_init_2_0 19 rfl rfl)
theorem dX10_init_2_20 : decode cX10_init_2 20 = .ok (.istore 4, 2) := dk_54 4 (dk_at dksX10_init_2_0 20 rfl rfl)
theorem dX10_init_2_22 : decode cX10_init_2 22 = .ok (.aload_n 0, 1) := dk_42 (dk_at dksX10_init_2_0 22 rfl rfl)
theorem dX10_init_2_23 : decode cX10_init_2 23 = .ok (.aload_n 1, 1) := dk_43 (dk_at dksX10_init_2_0 23 rfl rfl)
theorem dX10_init_2_24 : decode cX10_init_2 24 = .ok (.putfield 16, 3) := dk_181 0 16 (dk_at dksX10_init_2_1 0 rfl rfl)
theorem dX10_init_2_27 : decode cX10_init_2 27 = .ok (.aload_n 0, 1) := dk_42 (dk_at dksX10_init_2_1 3 rfl rfl)
theorem dX10_init_2_28 : decode cX10_init_2 28 = .ok (.iload 4, 2) := dk_21 4 (dk_at dksX10_init_2_1 4 rfl rfl)
theorem dX10_init_2_30 : decode cX10_init_2 30 = .ok (.ifCond .eq 7, 3) := dk_153 0 7 (dk_at dksX10_init_2_1 6 rfl rfl)
theorem dX10_init_2_33 : decode cX10_init_2 33 = .ok (.aload_n 3, 1) := dk_45 (dk_at dksX10_init_2_1 9 rfl rfl)
theorem dX10_init_2_34 : decode cX10_init_2 34 = .ok (.goto 4, 3) := dk_167 0 4 (dk_at dksX10_init_2_1 10 rfl rfl)
theorem dX10_init_2_37 : decode cX10_init_2 37 = .ok (.aload_n 2, 1) := dk_44 (dk_at dksX10_init_2_1 13 rfl rfl)
theorem dX10_init_2_38 : decode cX10_init_2 38 = .ok (.putfield 20, 3) := dk_181 0 20 (dk_at dksX10_init_2_1 14 rfl rfl)
theorem dX10_init_2_41 : decode cX10_init_2 41 = .ok (.aload_n 0, 1) := dk_42 (dk_at dksX10_init_2_1 17 rfl rfl)
theorem dX10_init_2_42 : decode cX10_init_2 42 = .ok (.iload 4, 2) := dk_21 4 (dk_at dksX10_init_2_1 18 rfl rfl)
theorem dX10_init_2_44 : decode cX10_init_2 44 = .ok (.ifCond .eq 7, 3) := dk_153 0 7 (dk_at dksX10_init_2_1 20 rfl rfl)
theorem dX10_init_2_47 : decode cX10_init_2 47 = .ok (.aload_n 2, 1) := dk_44 (dk_at dksX10_init_2_1 23 rfl rfl)
theorem dX10_init_2_48 : decode cX10_init_2 48 = .ok (.goto 4, 3) := dk_167 0 4 (dk_at dksX10_init_2_2 0 rfl rfl)
theorem dX10_init_2_51 : decode cX10_init_2 51 = .ok (.aload_n 3, 1) := dk_45 (dk_at dksX10_init_2_2 3 rfl rfl)
theorem dX10_init_2_52 : decode cX10_init_2 52 = .ok (.putfield 24, 3) := dk_181 0 24 (dk_at dksX10_init_2_2 4 rfl rfl)
theorem dX10_init_2_55 : decode cX10_init_2 55 = .ok (.aload_n 0, 1) := dk_42 (dk_at dksX10_init_2_2 7 rfl rfl)
theorem dX10_init_2_56 : decode cX10_init_2 56 = .ok (.aload_n 0, 1) := dk_42 (dk_at dksX10_init_2_2 8 rfl rfl)
theorem dX10_init_2_57 : decode cX10_init_2 57 = .ok (.getfield 24, 3) := dk_180 0 24 (dk_at dksX10_init_2_2 9 rfl rfl)
theorem dX10_init_2_60 : decode cX10_init_2 60 = .ok (.invokestatic 12, 3) := dk_184 0 12 (dk_at dksX10_init_2_2 12 rfl rfl)
theorem dX10_init_2_63 : decode cX10_init_2 63 = .ok (.iconst 1, 1) := dk_4 (dk_at dksX10_init_2_2 15 rfl rfl)
theorem dX10_init_2_64 : decode cX10_init_2 64 = .ok (.iadd, 1) := dk_96 (dk_at dksX10_init_2_2 16 rfl rfl)
theorem dX10_init_2_65 : decode cX10_init_2 65 = .ok (.putfield 27, 3) := dk_181 0 27 (dk_at dksX10_init_2_2 17 rfl rfl)
theorem dX10_init_2_68 : decode cX10_init_2 68 = .ok (.return_, 1) := dk_177 (dk_at dksX10_init_2_2 20 rfl rfl)
abbrev cX9_isBefore : ByteArray := prog_16_method_2_code
def yX9_isBefore : MethodName := ⟨RX9, "isBefore", "(LLionGate$Ticket;)Z"⟩
def dkwX9_isBefore_1 : List UInt8 := [180, 0, 7, 43, 180, 0, 7, 162, 0, 7, 4, 167, 0, 4, 3, 172]
abbrev dktX9_isBefore_1 : List UInt8 := dkwX9_isBefore_1 ++ []
def dkwX9_isBefore_0 : List UInt8 := [42, 180, 0, 16, 43, 180, 0, 16, 163, 0, 25, 42, 180, 0, 16, 43, 180, 0, 16, 160, 0, 18, 42]
abbrev dktX9_isBefore_0 : List UInt8 := dkwX9_isBefore_0 ++ dktX9_isBefore_1
theorem dksX9_isBefore_0 : cX9_isBefore.data.toList.drop 0 = dktX9_isBefore_0 := by decide +kernel
theorem dksX9_isBefore_1 : cX9_isBefore.data.toList.drop 23 = dktX9_isBefore_1 := dk_seg dksX9_isBefore_0 23 rfl rfl
theorem dX9_isBefore_0 : decode cX9_isBefore 0 = .ok (.aload_n 0, 1) := dk_42 (dk_at dksX9_isBefore_0 0 rfl rfl)
theorem dX9_isBefore_1 : decode cX9_isBefore 1 = .ok (.getfield 16, 3) := dk_180 0 16 (dk_at dksX9_isBefore_0 1 rfl rfl)
theorem dX9_isBefore_4 : decode cX9_isBefore 4 = .ok (.aload_n 1, 1) := dk_43 (dk_at dksX9_isBefore_0 4 rfl rfl)
theorem dX9_isBefore_5 : decode cX9_isBefore 5 = .ok (.getfield 16, 3) := dk_180 0 16 (dk_at dksX9_isBefore_0 5 rfl rfl)
theorem dX9_isBefore_8 : decode cX9_isBefore 8 = .ok (.if_icmp .gt 25, 3) := dk_163 0 25 (dk_at dksX9_isBefore_0 8 rfl rfl)
theorem dX9_isBefore_11 : decode cX9_isBefore 11 = .ok (.aload_n 0, 1) := dk_42 (dk_at dksX9_isBefore_0 11 rfl rfl)
theorem dX9_isBefore_12 : decode cX9_isBefore 12 = .ok (.getfield 16, 3) := dk_180 0 16 (dk_at dksX9_isBefore_0 12 rfl rfl)
theorem dX9_isBefore_15 : decode cX9_isBefore 15 = .ok (.aload_n 1, 1) := dk_43 (dk_at dksX9_isBefore_0 15 rfl rfl)
theorem dX9_isBefore_16 : decode cX9_isBefore 16 = .ok (.getfield 16, 3) := dk_180 0 16 (dk_at dksX9_isBefore_0 16 rfl rfl)
theorem dX9_isBefore_19 : decode cX9_isBefore 19 = .ok (.if_icmp .ne 18, 3) := dk_160 0 18 (dk_at dksX9_isBefore_0 19 rfl rfl)
theorem dX9_isBefore_22 : decode cX9_isBefore 22 = .ok (.aload_n 0, 1) := dk_42 (dk_at dksX9_isBefore_0 22 rfl rfl)
theorem dX9_isBefore_23 : decode cX9_isBefore 23 = .ok (.getfield 7, 3) := dk_180 0 7 (dk_at dksX9_isBefore_1 0 rfl rfl)
theorem dX9_isBefore_26 : decode cX9_isBefore 26 = .ok (.aload_n 1, 1) := dk_43 (dk_at dksX9_isBefore_1 3 rfl rfl)
theorem dX9_isBefore_27 : decode cX9_isBefore 27 = .ok (.getfield 7, 3) := dk_180 0 7 (dk_at dksX9_isBefore_1 4 rfl rfl)
theorem dX9_isBefore_30 : decode cX9_isBefore 30 = .ok (.if_icmp .ge 7, 3) := dk_162 0 7 (dk_at dksX9_isBefore_1 7 rfl rfl)
theorem dX9_isBefore_33 : decode cX9_isBefore 33 = .ok (.iconst 1, 1) := dk_4 (dk_at dksX9_isBefore_1 10 rfl rfl)
theorem dX9_isBefore_34 : decode cX9_isBefore 34 = .ok (.goto 4, 3) := dk_167 0 4 (dk_at dksX9_isBefore_1 11 rfl rfl)
theorem dX9_isBefore_37 : decode cX9_isBefore 37 = .ok (.iconst 0, 1) := dk_3 (dk_at dksX9_isBefore_1 14 rfl rfl)
theorem dX9_isBefore_38 : decode cX9_isBefore 38 = .ok (.ireturn, 1) := dk_172 (dk_at dksX9_isBefore_1 15 rfl rfl)
abbrev cX10_merged : ByteArray := prog_12_method_4_code
def yX10_merged : MethodName := ⟨RX10, "merged", "(LLionGate$Node;LLionGate$Node;)LLionGate$Node;"⟩
def dkwX10_merged_2 : List UInt8 := [180, 0, 20, 42, 180, 0, 24, 43, 184, 0, 36, 183, 0, 1, 176]
abbrev dktX10_merged_2 : List UInt8 := dkwX10_merged_2 ++ []
def dkwX10_merged_1 : List UInt8 := [180, 0, 16, 182, 0, 30, 153, 0, 9, 43, 42, 184, 0, 36, 176, 187, 0, 2, 89, 42, 180, 0, 16, 42]
abbrev dktX10_merged_1 : List UInt8 := dkwX10_merged_1 ++ dktX10_merged_2
def dkwX10_merged_0 : List UInt8 := [42, 198, 0, 7, 43, 199, 0, 13, 42, 199, 0, 7, 43, 167, 0, 4, 42, 176, 43, 180, 0, 16, 42]
abbrev dktX10_merged_0 : List UInt8 := dkwX10_merged_0 ++ dktX10_merged_1
theorem dksX10_merged_0 : cX10_merged.data.toList.drop 0 = dktX10_merged_0 := by decide +kernel
theorem dksX10_merged_1 : cX10_merged.data.toList.drop 23 = dktX10_merged_1 := dk_seg dksX10_merged_0 23 rfl rfl
theorem dksX10_merged_2 : cX10_merged.data.toList.drop 47 = dktX10_merged_2 := dk_seg dksX10_merged_1 24 rfl rfl
theorem dX10_merged_0 : decode cX10_merged 0 = .ok (.aload_n 0, 1) := dk_42 (dk_at dksX10_merged_0 0 rfl rfl)
theorem dX10_merged_1 : decode cX10_merged 1 = .ok (.ifnull 7, 3) := dk_198 0 7 (dk_at dksX10_merged_0 1 rfl rfl)
theorem dX10_merged_4 : decode cX10_merged 4 = .ok (.aload_n 1, 1) := dk_43 (dk_at dksX10_merged_0 4 rfl rfl)
theorem dX10_merged_5 : decode cX10_merged 5 = .ok (.ifnonnull 13, 3) := dk_199 0 13 (dk_at dksX10_merged_0 5 rfl rfl)
theorem dX10_merged_8 : decode cX10_merged 8 = .ok (.aload_n 0, 1) := dk_42 (dk_at dksX10_merged_0 8 rfl rfl)
theorem dX10_merged_9 : decode cX10_merged 9 = .ok (.ifnonnull 7, 3) := dk_199 0 7 (dk_at dksX10_merged_0 9 rfl rfl)
theorem dX10_merged_12 : decode cX10_merged 12 = .ok (.aload_n 1, 1) := dk_43 (dk_at dksX10_merged_0 12 rfl rfl)
theorem dX10_merged_13 : decode cX10_merged 13 = .ok (.goto 4, 3) := dk_167 0 4 (dk_at dksX10_merged_0 13 rfl rfl)
theorem dX10_merged_16 : decode cX10_merged 16 = .ok (.aload_n 0, 1) := dk_42 (dk_at dksX10_merged_0 16 rfl rfl)
theorem dX10_merged_17 : decode cX10_merged 17 = .ok (.areturn, 1) := dk_176 (dk_at dksX10_merged_0 17 rfl rfl)
theorem dX10_merged_18 : decode cX10_merged 18 = .ok (.aload_n 1, 1) := dk_43 (dk_at dksX10_merged_0 18 rfl rfl)
theorem dX10_merged_19 : decode cX10_merged 19 = .ok (.getfield 16, 3) := dk_180 0 16 (dk_at dksX10_merged_0 19 rfl rfl)
theorem dX10_merged_22 : decode cX10_merged 22 = .ok (.aload_n 0, 1) := dk_42 (dk_at dksX10_merged_0 22 rfl rfl)
theorem dX10_merged_23 : decode cX10_merged 23 = .ok (.getfield 16, 3) := dk_180 0 16 (dk_at dksX10_merged_1 0 rfl rfl)
theorem dX10_merged_26 : decode cX10_merged 26 = .ok (.invokevirtual 30, 3) := dk_182 0 30 (dk_at dksX10_merged_1 3 rfl rfl)
theorem dX10_merged_29 : decode cX10_merged 29 = .ok (.ifCond .eq 9, 3) := dk_153 0 9 (dk_at dksX10_merged_1 6 rfl rfl)
theorem dX10_merged_32 : decode cX10_merged 32 = .ok (.aload_n 1, 1) := dk_43 (dk_at dksX10_merged_1 9 rfl rfl)
theorem dX10_merged_33 : decode cX10_merged 33 = .ok (.aload_n 0, 1) := dk_42 (dk_at dksX10_merged_1 10 rfl rfl)
theorem dX10_merged_34 : decode cX10_merged 34 = .ok (.invokestatic 36, 3) := dk_184 0 36 (dk_at dksX10_merged_1 11 rfl rfl)
theorem dX10_merged_37 : decode cX10_merged 37 = .ok (.areturn, 1) := dk_176 (dk_at dksX10_merged_1 14 rfl rfl)
theorem dX10_merged_38 : decode cX10_merged 38 = .ok (.new 2, 3) := dk_187 0 2 (dk_at dksX10_merged_1 15 rfl rfl)
theorem dX10_merged_41 : decode cX10_merged 41 = .ok (.dup, 1) := dk_89 (dk_at dksX10_merged_1 18 rfl rfl)
theorem dX10_merged_42 : decode cX10_merged 42 = .ok (.aload_n 0, 1) := dk_42 (dk_at dksX10_merged_1 19 rfl rfl)
theorem dX10_merged_43 : decode cX10_merged 43 = .ok (.getfield 16, 3) := dk_180 0 16 (dk_at dksX10_merged_1 20 rfl rfl)
theorem dX10_merged_46 : decode cX10_merged 46 = .ok (.aload_n 0, 1) := dk_42 (dk_at dksX10_merged_1 23 rfl rfl)
theorem dX10_merged_47 : decode cX10_merged 47 = .ok (.getfield 20, 3) := dk_180 0 20 (dk_at dksX10_merged_2 0 rfl rfl)
theorem dX10_merged_50 : decode cX10_merged 50 = .ok (.aload_n 0, 1) := dk_42 (dk_at dksX10_merged_2 3 rfl rfl)
theorem dX10_merged_51 : decode cX10_merged 51 = .ok (.getfield 24, 3) := dk_180 0 24 (dk_at dksX10_merged_2 4 rfl rfl)
theorem dX10_merged_54 : decode cX10_merged 54 = .ok (.aload_n 1, 1) := dk_43 (dk_at dksX10_merged_2 7 rfl rfl)
theorem dX10_merged_55 : decode cX10_merged 55 = .ok (.invokestatic 36, 3) := dk_184 0 36 (dk_at dksX10_merged_2 8 rfl rfl)
theorem dX10_merged_58 : decode cX10_merged 58 = .ok (.invokespecial 1, 3) := dk_183 0 1 (dk_at dksX10_merged_2 11 rfl rfl)
theorem dX10_merged_61 : decode cX10_merged 61 = .ok (.areturn, 1) := dk_176 (dk_at dksX10_merged_2 14 rfl rfl)
abbrev cX10_withoutTop : ByteArray := prog_12_method_5_code
def yX10_withoutTop : MethodName := ⟨RX10, "withoutTop", "()LLionGate$Node;"⟩
def dkwX10_withoutTop_0 : List UInt8 := [42, 180, 0, 20, 42, 180, 0, 24, 184, 0, 36, 176]
abbrev dktX10_withoutTop_0 : List UInt8 := dkwX10_withoutTop_0 ++ []
theorem dksX10_withoutTop_0 : cX10_withoutTop.data.toList.drop 0 = dktX10_withoutTop_0 := by decide +kernel
theorem dX10_withoutTop_0 : decode cX10_withoutTop 0 = .ok (.aload_n 0, 1) := dk_42 (dk_at dksX10_withoutTop_0 0 rfl rfl)
theorem dX10_withoutTop_1 : decode cX10_withoutTop 1 = .ok (.getfield 20, 3) := dk_180 0 20 (dk_at dksX10_withoutTop_0 1 rfl rfl)
theorem dX10_withoutTop_4 : decode cX10_withoutTop 4 = .ok (.aload_n 0, 1) := dk_42 (dk_at dksX10_withoutTop_0 4 rfl rfl)
theorem dX10_withoutTop_5 : decode cX10_withoutTop 5 = .ok (.getfield 24, 3) := dk_180 0 24 (dk_at dksX10_withoutTop_0 5 rfl rfl)
theorem dX10_withoutTop_8 : decode cX10_withoutTop 8 = .ok (.invokestatic 36, 3) := dk_184 0 36 (dk_at dksX10_withoutTop_0 8 rfl rfl)
theorem dX10_withoutTop_11 : decode cX10_withoutTop 11 = .ok (.areturn, 1) := dk_176 (dk_at dksX10_withoutTop_0 11 rfl rfl)
abbrev cJ26_init : ByteArray := prog_36_method_1_code
def yJ26_init : MethodName := ⟨RJ26, "<init>", "()V"⟩
theorem dJ26_init_0 : decode cJ26_init 0 = .ok (.aload_n 0, 1) := by decide +kernel
theorem dJ26_init_1 : decode cJ26_init 1 = .ok (.invokespecial 1, 3) := by decide +kernel
theorem dJ26_init_4 : decode cJ26_init 4 = .ok (.return_, 1) := by decide +kernel
