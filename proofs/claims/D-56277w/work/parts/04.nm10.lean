set_option maxRecDepth 100000
abbrev cX4_lays : ByteArray := prog_18_method_5_code
def yX4_lays : MethodName := ⟨RX4, "lays", "([I[I)V"⟩
def dkwX4_lays_0 : List UInt8 := [3, 61, 28, 16, 112, 162, 0, 15, 42, 28, 43, 28, 46, 79, 132, 2, 1, 167, 255, 241, 177]
abbrev dktX4_lays_0 : List UInt8 := dkwX4_lays_0 ++ []
theorem dksX4_lays_0 : cX4_lays.data.toList.drop 0 = dktX4_lays_0 := by decide +kernel
theorem dX4_lays_0 : decode cX4_lays 0 = .ok (.iconst 0, 1) := dk_3 (dk_at dksX4_lays_0 0 rfl rfl)
theorem dX4_lays_1 : decode cX4_lays 1 = .ok (.istore_n 2, 1) := dk_61 (dk_at dksX4_lays_0 1 rfl rfl)
theorem dX4_lays_2 : decode cX4_lays 2 = .ok (.iload_n 2, 1) := dk_28 (dk_at dksX4_lays_0 2 rfl rfl)
theorem dX4_lays_3 : decode cX4_lays 3 = .ok (.bipush 112, 2) := dk_16 112 (dk_at dksX4_lays_0 3 rfl rfl)
theorem dX4_lays_5 : decode cX4_lays 5 = .ok (.if_icmp .ge 15, 3) := dk_162 0 15 (dk_at dksX4_lays_0 5 rfl rfl)
theorem dX4_lays_8 : decode cX4_lays 8 = .ok (.aload_n 0, 1) := dk_42 (dk_at dksX4_lays_0 8 rfl rfl)
theorem dX4_lays_9 : decode cX4_lays 9 = .ok (.iload_n 2, 1) := dk_28 (dk_at dksX4_lays_0 9 rfl rfl)
theorem dX4_lays_10 : decode cX4_lays 10 = .ok (.aload_n 1, 1) := dk_43 (dk_at dksX4_lays_0 10 rfl rfl)
theorem dX4_lays_11 : decode cX4_lays 11 = .ok (.iload_n 2, 1) := dk_28 (dk_at dksX4_lays_0 11 rfl rfl)
theorem dX4_lays_12 : decode cX4_lays 12 = .ok (.iaload, 1) := dk_46 (dk_at dksX4_lays_0 12 rfl rfl)
theorem dX4_lays_13 : decode cX4_lays 13 = .ok (.iastore, 1) := dk_79 (dk_at dksX4_lays_0 13 rfl rfl)
theorem dX4_lays_14 : decode cX4_lays 14 = .ok (.iinc 2 1, 3) := dk_132 2 1 (dk_at dksX4_lays_0 14 rfl rfl)
theorem dX4_lays_17 : decode cX4_lays 17 = .ok (.goto (-15), 3) := dk_167 255 241 (dk_at dksX4_lays_0 17 rfl rfl)
theorem dX4_lays_20 : decode cX4_lays 20 = .ok (.return_, 1) := dk_177 (dk_at dksX4_lays_0 20 rfl rfl)
abbrev cX4_begins : ByteArray := prog_18_method_6_code
def yX4_begins : MethodName := ⟨RX4, "begins", "()V"⟩
def dkwX4_begins_0 : List UInt8 := [42, 3, 181, 0, 50, 42, 180, 0, 20, 42, 180, 0, 16, 184, 0, 53, 177]
abbrev dktX4_begins_0 : List UInt8 := dkwX4_begins_0 ++ []
theorem dksX4_begins_0 : cX4_begins.data.toList.drop 0 = dktX4_begins_0 := by decide +kernel
theorem dX4_begins_0 : decode cX4_begins 0 = .ok (.aload_n 0, 1) := dk_42 (dk_at dksX4_begins_0 0 rfl rfl)
theorem dX4_begins_1 : decode cX4_begins 1 = .ok (.iconst 0, 1) := dk_3 (dk_at dksX4_begins_0 1 rfl rfl)
theorem dX4_begins_2 : decode cX4_begins 2 = .ok (.putfield 50, 3) := dk_181 0 50 (dk_at dksX4_begins_0 2 rfl rfl)
theorem dX4_begins_5 : decode cX4_begins 5 = .ok (.aload_n 0, 1) := dk_42 (dk_at dksX4_begins_0 5 rfl rfl)
theorem dX4_begins_6 : decode cX4_begins 6 = .ok (.getfield 20, 3) := dk_180 0 20 (dk_at dksX4_begins_0 6 rfl rfl)
theorem dX4_begins_9 : decode cX4_begins 9 = .ok (.aload_n 0, 1) := dk_42 (dk_at dksX4_begins_0 9 rfl rfl)
theorem dX4_begins_10 : decode cX4_begins 10 = .ok (.getfield 16, 3) := dk_180 0 16 (dk_at dksX4_begins_0 10 rfl rfl)
theorem dX4_begins_13 : decode cX4_begins 13 = .ok (.invokestatic 53, 3) := dk_184 0 53 (dk_at dksX4_begins_0 13 rfl rfl)
theorem dX4_begins_16 : decode cX4_begins 16 = .ok (.return_, 1) := dk_177 (dk_at dksX4_begins_0 16 rfl rfl)
abbrev cX4_ends : ByteArray := prog_18_method_7_code
def yX4_ends : MethodName := ⟨RX4, "ends", "(I)I"⟩
def dkwX4_ends_4 : List UInt8 := [79, 132, 2, 1, 167, 255, 227, 42, 89, 180, 0, 57, 4, 96, 181, 0, 57, 27, 172]
abbrev dktX4_ends_4 : List UInt8 := dkwX4_ends_4 ++ []
def dkwX4_ends_3 : List UInt8 := [16, 112, 162, 0, 29, 42, 180, 0, 26, 42, 180, 0, 57, 16, 112, 104, 28, 96, 42, 180, 0, 20, 28, 46]
abbrev dktX4_ends_3 : List UInt8 := dkwX4_ends_3 ++ dktX4_ends_4
def dkwX4_ends_2 : List UInt8 := [16, 112, 96, 46, 79, 132, 2, 1, 167, 255, 231, 42, 89, 180, 0, 57, 4, 100, 181, 0, 57, 3, 61, 28]
abbrev dktX4_ends_2 : List UInt8 := dkwX4_ends_2 ++ dktX4_ends_3
def dkwX4_ends_1 : List UInt8 := [16, 8, 160, 0, 43, 3, 61, 28, 17, 3, 16, 162, 0, 24, 42, 180, 0, 26, 28, 42, 180, 0, 26, 28]
abbrev dktX4_ends_1 : List UInt8 := dkwX4_ends_1 ++ dktX4_ends_2
def dkwX4_ends_0 : List UInt8 := [42, 180, 0, 50, 153, 0, 16, 42, 180, 0, 16, 42, 180, 0, 20, 184, 0, 53, 3, 172, 42, 180, 0, 57]
abbrev dktX4_ends_0 : List UInt8 := dkwX4_ends_0 ++ dktX4_ends_1
theorem dksX4_ends_0 : cX4_ends.data.toList.drop 0 = dktX4_ends_0 := by decide +kernel
theorem dksX4_ends_1 : cX4_ends.data.toList.drop 24 = dktX4_ends_1 := dk_seg dksX4_ends_0 24 rfl rfl
theorem dksX4_ends_2 : cX4_ends.data.toList.drop 48 = dktX4_ends_2 := dk_seg dksX4_ends_1 24 rfl rfl
theorem dksX4_ends_3 : cX4_ends.data.toList.drop 72 = dktX4_ends_3 := dk_seg dksX4_ends_2 24 rfl rfl
theorem dksX4_ends_4 : cX4_ends.data.toList.drop 96 = dktX4_ends_4 := dk_seg dksX4_ends_3 24 rfl rfl
theorem dX4_ends_0 : decode cX4_ends 0 = .ok (.aload_n 0, 1) := dk_42 (dk_at dksX4_ends_0 0 rfl rfl)
theorem dX4_ends_1 : decode cX4_ends 1 = .ok (.getfield 50, 3) := dk_180 0 50 (dk_at dksX4_ends_0 1 rfl rfl)
theorem dX4_ends_4 : decode cX4_ends 4 = .ok (.ifCond .eq 16, 3) := dk_153 0 16 (dk_at dksX4_ends_0 4 rfl rfl)
theorem dX4_ends_7 : decode cX4_ends 7 = .ok (.aload_n 0, 1) := dk_42 (dk_at dksX4_ends_0 7 rfl rfl)
theorem dX4_ends_8 : decode cX4_ends 8 = .ok (.getfield 16, 3) := dk_180 0 16 (dk_at dksX4_ends_0 8 rfl rfl)
theorem dX4_ends_11 : decode cX4_ends 11 = .ok (.aload_n 0, 1) := dk_42 (dk_at dksX4_ends_0 11 rfl rfl)
theorem dX4_ends_12 : decode cX4_ends 12 = .ok (.getfield 20, 3) := dk_180 0 20 (dk_at dksX4_ends_0 12 rfl rfl)
theorem dX4_ends_15 : decode cX4_ends 15 = .ok (.invokestatic 53, 3) := dk_184 0 53 (dk_at dksX4_ends_0 15 rfl rfl)
theorem dX4_ends_18 : decode cX4_ends 18 = .ok (.iconst 0, 1) := dk_3 (dk_at dksX4_ends_0 18 rfl rfl)
theorem dX4_ends_19 : decode cX4_ends 19 = .ok (.ireturn, 1) := dk_172 (dk_at dksX4_ends_0 19 rfl rfl)
theorem dX4_ends_20 : decode cX4_ends 20 = .ok (.aload_n 0, 1) := dk_42 (dk_at dksX4_ends_0 20 rfl rfl)
theorem dX4_ends_21 : decode cX4_ends 21 = .ok (.getfield 57, 3) := dk_180 0 57 (dk_at dksX4_ends_0 21 rfl rfl)
theorem dX4_ends_24 : decode cX4_ends 24 = .ok (.bipush 8, 2) := dk_16 8 (dk_at dksX4_ends_1 0 rfl rfl)
theorem dX4_ends_26 : decode cX4_ends 26 = .ok (.if_icmp .ne 43, 3) := dk_160 0 43 (dk_at dksX4_ends_1 2 rfl rfl)
theorem dX4_ends_29 : decode cX4_ends 29 = .ok (.iconst 0, 1) := dk_3 (dk_at dksX4_ends_1 5 rfl rfl)
theorem dX4_ends_30 : decode cX4_ends 30 = .ok (.istore_n 2, 1) := dk_61 (dk_at dksX4_ends_1 6 rfl rfl)
theorem dX4_ends_31 : decode cX4_ends 31 = .ok (.iload_n 2, 1) := dk_28 (dk_at dksX4_ends_1 7 rfl rfl)
theorem dX4_ends_32 : decode cX4_ends 32 = .ok (.sipush 784, 3) := dk_17 3 16 (dk_at dksX4_ends_1 8 rfl rfl)
theorem dX4_ends_35 : decode cX4_ends 35 = .ok (.if_icmp .ge 24, 3) := dk_162 0 24 (dk_at dksX4_ends_1 11 rfl rfl)
theorem dX4_ends_38 : decode cX4_ends 38 = .ok (.aload_n 0, 1) := dk_42 (dk_at dksX4_ends_1 14 rfl rfl)
theorem dX4_ends_39 : decode cX4_ends 39 = .ok (.getfield 26, 3) := dk_180 0 26 (dk_at dksX4_ends_1 15 rfl rfl)
theorem dX4_ends_42 : decode cX4_ends 42 = .ok (.iload_n 2, 1) := dk_28 (dk_at dksX4_ends_1 18 rfl rfl)
theorem dX4_ends_43 : decode cX4_ends 43 = .ok (.aload_n 0, 1) := dk_42 (dk_at dksX4_ends_1 19 rfl rfl)
theorem dX4_ends_44 : decode cX4_ends 44 = .ok (.getfield 26, 3) := dk_180 0 26 (dk_at dksX4_ends_1 20 rfl rfl)
theorem dX4_ends_47 : decode cX4_ends 47 = .ok (.iload_n 2, 1) := dk_28 (dk_at dksX4_ends_1 23 rfl rfl)
theorem dX4_ends_48 : decode cX4_ends 48 = .ok (.bipush 112, 2) := dk_16 112 (dk_at dksX4_ends_2 0 rfl rfl)
theorem dX4_ends_50 : decode cX4_ends 50 = .ok (.iadd, 1) := dk_96 (dk_at dksX4_ends_2 2 rfl rfl)
theorem dX4_ends_51 : decode cX4_ends 51 = .ok (.iaload, 1) := dk_46 (dk_at dksX4_ends_2 3 rfl rfl)
theorem dX4_ends_52 : decode cX4_ends 52 = .ok (.iastore, 1) := dk_79 (dk_at dksX4_ends_2 4 rfl rfl)
theorem dX4_ends_53 : decode cX4_ends 53 = .ok (.iinc 2 1, 3) := dk_132 2 1 (dk_at dksX4_ends_2 5 rfl rfl)
theorem dX4_ends_56 : decode cX4_ends 56 = .ok (.goto (-25), 3) := dk_167 255 231 (dk_at dksX4_ends_2 8 rfl rfl)
theorem dX4_ends_59 : decode cX4_ends 59 = .ok (.aload_n 0, 1) := dk_42 (dk_at dksX4_ends_2 11 rfl rfl)
theorem dX4_ends_60 : decode cX4_ends 60 = .ok (.dup, 1) := dk_89 (dk_at dksX4_ends_2 12 rfl rfl)
theorem dX4_ends_61 : decode cX4_ends 61 = .ok (.getfield 57, 3) := dk_180 0 57 (dk_at dksX4_ends_2 13 rfl rfl)
theorem dX4_ends_64 : decode cX4_ends 64 = .ok (.iconst 1, 1) := dk_4 (dk_at dksX4_ends_2 16 rfl rfl)
theorem dX4_ends_65 : decode cX4_ends 65 = .ok (.isub, 1) := dk_100 (dk_at dksX4_ends_2 17 rfl rfl)
theorem dX4_ends_66 : decode cX4_ends 66 = .ok (.putfield 57, 3) := dk_181 0 57 (dk_at dksX4_ends_2 18 rfl rfl)
theorem dX4_ends_69 : decode cX4_ends 69 = .ok (.iconst 0, 1) := dk_3 (dk_at dksX4_ends_2 21 rfl rfl)
theorem dX4_ends_70 : decode cX4_ends 70 = .ok (.istore_n 2, 1) := dk_61 (dk_at dksX4_ends_2 22 rfl rfl)
theorem dX4_ends_71 : decode cX4_ends 71 = .ok (.iload_n 2, 1) := dk_28 (dk_at dksX4_ends_2 23 rfl rfl)
theorem dX4_ends_72 : decode cX4_ends 72 = .ok (.bipush 112, 2) := dk_16 112 (dk_at dksX4_ends_3 0 rfl rfl)
theorem dX4_ends_74 : decode cX4_ends 74 = .ok (.if_icmp .ge 29, 3) := dk_162 0 29 (dk_at dksX4_ends_3 2 rfl rfl)
theorem dX4_ends_77 : decode cX4_ends 77 = .ok (.aload_n 0, 1) := dk_42 (dk_at dksX4_ends_3 5 rfl rfl)
theorem dX4_ends_78 : decode cX4_ends 78 = .ok (.getfield 26, 3) := dk_180 0 26 (dk_at dksX4_ends_3 6 rfl rfl)
theorem dX4_ends_81 : decode cX4_ends 81 = .ok (.aload_n 0, 1) := dk_42 (dk_at dksX4_ends_3 9 rfl rfl)
theorem dX4_ends_82 : decode cX4_ends 82 = .ok (.getfield 57, 3) := dk_180 0 57 (dk_at dksX4_ends_3 10 rfl rfl)
theorem dX4_ends_85 : decode cX4_ends 85 = .ok (.bipush 112, 2) := dk_16 112 (dk_at dksX4_ends_3 13 rfl rfl)
theorem dX4_ends_87 : decode cX4_ends 87 = .ok (.imul, 1) := dk_104 (dk_at dksX4_ends_3 15 rfl rfl)
theorem dX4_ends_88 : decode cX4_ends 88 = .ok (.iload_n 2, 1) := dk_28 (dk_at dksX4_ends_3 16 rfl rfl)
theorem dX4_ends_89 : decode cX4_ends 89 = .ok (.iadd, 1) := dk_96 (dk_at dksX4_ends_3 17 rfl rfl)
theorem dX4_ends_90 : decode cX4_ends 90 = .ok (.aload_n 0, 1) := dk_42 (dk_at dksX4_ends_3 18 rfl rfl)
theorem dX4_ends_91 : decode cX4_ends 91 = .ok (.getfield 20, 3) := dk_180 0 20 (dk_at dksX4_ends_3 19 rfl rfl)
theorem dX4_ends_94 : decode cX4_ends 94 = .ok (.iload_n 2, 1) := dk_28 (dk_at dksX4_ends_3 22 rfl rfl)
theorem dX4_ends_95 : decode cX4_ends 95 = .ok (.iaload, 1) := dk_46 (dk_at dksX4_ends_3 23 rfl rfl)
theorem dX4_ends_96 : decode cX4_ends 96 = .ok (.iastore, 1) := dk_79 (dk_at dksX4_ends_4 0 rfl rfl)
theorem dX4_ends_97 : decode cX4_ends 97 = .ok (.iinc 2 1, 3) := dk_132 2 1 (dk_at dksX4_ends_4 1 rfl rfl)
theorem dX4_ends_100 : decode cX4_ends 100 = .ok (.goto (-29), 3) := dk_167 255 227 (dk_at dksX4_ends_4 4 rfl rfl)
theorem dX4_ends_103 : decode cX4_ends 103 = .ok (.aload_n 0, 1) := dk_42 (dk_at dksX4_ends_4 7 rfl rfl)
theorem dX4_ends_104 : decode cX4_ends 104 = .ok (.dup, 1) := dk_89 (dk_at dksX4_ends_4 8 rfl rfl)
theorem dX4_ends_105 : decode cX4_ends 105 = .ok (.getfield 57, 3) := dk_180 0 57 (dk_at dksX4_ends_4 9 rfl rfl)
theorem dX4_ends_108 : decode cX4_ends 108 = .ok (.iconst 1, 1) := dk_4 (dk_at dksX4_ends_4 12 rfl rfl)
theorem dX4_ends_109 : decode cX4_ends 109 = .ok (.iadd, 1) := dk_96 (dk_at dksX4_ends_4 13 rfl rfl)
theorem dX4_ends_110 : decode cX4_ends 110 = .ok (.putfield 57, 3) := dk_181 0 57 (dk_at dksX4_ends_4 14 rfl rfl)
theorem dX4_ends_113 : decode cX4_ends 113 = .ok (.iload_n 1, 1) := dk_27 (dk_at dksX4_ends_4 17 rfl rfl)
theorem dX4_ends_114 : decode cX4_ends 114 = .ok (.ireturn, 1) := dk_172 (dk_at dksX4_ends_4 18 rfl rfl)
abbrev cX4_addLion : ByteArray := prog_18_method_17_code
def yX4_addLion : MethodName := ⟨RX4, "addLion", "(III)I"⟩
def dkwX4_addLion_0 : List UInt8 := [42, 182, 0, 89, 42, 42, 27, 28, 29, 182, 0, 92, 182, 0, 96, 172]
abbrev dktX4_addLion_0 : List UInt8 := dkwX4_addLion_0 ++ []
theorem dksX4_addLion_0 : cX4_addLion.data.toList.drop 0 = dktX4_addLion_0 := by decide +kernel
theorem dX4_addLion_0 : decode cX4_addLion 0 = .ok (.aload_n 0, 1) := dk_42 (dk_at dksX4_addLion_0 0 rfl rfl)
theorem dX4_addLion_1 : decode cX4_addLion 1 = .ok (.invokevirtual 89, 3) := dk_182 0 89 (dk_at dksX4_addLion_0 1 rfl rfl)
theorem dX4_addLion_4 : decode cX4_addLion 4 = .ok (.aload_n 0, 1) := dk_42 (dk_at dksX4_addLion_0 4 rfl rfl)
theorem dX4_addLion_5 : decode cX4_addLion 5 = .ok (.aload_n 0, 1) := dk_42 (dk_at dksX4_addLion_0 5 rfl rfl)
theorem dX4_addLion_6 : decode cX4_addLion 6 = .ok (.iload_n 1, 1) := dk_27 (dk_at dksX4_addLion_0 6 rfl rfl)
theorem dX4_addLion_7 : decode cX4_addLion 7 = .ok (.iload_n 2, 1) := dk_28 (dk_at dksX4_addLion_0 7 rfl rfl)
theorem dX4_addLion_8 : decode cX4_addLion 8 = .ok (.iload_n 3, 1) := dk_29 (dk_at dksX4_addLion_0 8 rfl rfl)
theorem dX4_addLion_9 : decode cX4_addLion 9 = .ok (.invokevirtual 92, 3) := dk_182 0 92 (dk_at dksX4_addLion_0 9 rfl rfl)
theorem dX4_addLion_12 : decode cX4_addLion 12 = .ok (.invokevirtual 96, 3) := dk_182 0 96 (dk_at dksX4_addLion_0 12 rfl rfl)
theorem dX4_addLion_15 : decode cX4_addLion 15 = .ok (.ireturn, 1) := dk_172 (dk_at dksX4_addLion_0 15 rfl rfl)
abbrev cX4_isInTime : ByteArray := prog_18_method_49_code
def yX4_isInTime : MethodName := ⟨RX4, "isInTime", "(I)Z"⟩
def dkwX4_isInTime_3 : List UInt8 := [164, 0, 5, 3, 172, 132, 3, 1, 167, 255, 188, 4, 172]
abbrev dktX4_isInTime_3 : List UInt8 := dkwX4_isInTime_3 ++ []
def dkwX4_isInTime_2 : List UInt8 := [184, 0, 60, 46, 96, 61, 28, 42, 180, 0, 16, 42, 180, 0, 29, 29, 46, 6, 184, 0, 60, 46]
abbrev dktX4_isInTime_2 : List UInt8 := dkwX4_isInTime_2 ++ dktX4_isInTime_3
def dkwX4_isInTime_1 : List UInt8 := [29, 46, 122, 4, 126, 154, 0, 6, 167, 0, 42, 28, 42, 180, 0, 16, 42, 180, 0, 29, 29, 46, 5]
abbrev dktX4_isInTime_1 : List UInt8 := dkwX4_isInTime_1 ++ dktX4_isInTime_2
def dkwX4_isInTime_0 : List UInt8 := [42, 180, 0, 16, 3, 46, 61, 3, 62, 29, 42, 180, 0, 16, 6, 46, 162, 0, 64, 27, 42, 180, 0, 29]
abbrev dktX4_isInTime_0 : List UInt8 := dkwX4_isInTime_0 ++ dktX4_isInTime_1
theorem dksX4_isInTime_0 : cX4_isInTime.data.toList.drop 0 = dktX4_isInTime_0 := by decide +kernel
theorem dksX4_isInTime_1 : cX4_isInTime.data.toList.drop 24 = dktX4_isInTime_1 := dk_seg dksX4_isInTime_0 24 rfl rfl
theorem dksX4_isInTime_2 : cX4_isInTime.data.toList.drop 47 = dktX4_isInTime_2 := dk_seg dksX4_isInTime_1 23 rfl rfl
theorem dksX4_isInTime_3 : cX4_isInTime.data.toList.drop 69 = dktX4_isInTime_3 := dk_seg dksX4_isInTime_2 22 rfl rfl
theorem dX4_isInTime_0 : decode cX4_isInTime 0 = .ok (.aload_n 0, 1) := dk_42 (dk_at dksX4_isInTime_0 0 rfl rfl)
theorem dX4_isInTime_1 : decode cX4_isInTime 1 = .ok (.getfield 16, 3) := dk_180 0 16 (dk_at dksX4_isInTime_0 1 rfl rfl)
theorem dX4_isInTime_4 : decode cX4_isInTime 4 = .ok (.iconst 0, 1) := dk_3 (dk_at dksX4_isInTime_0 4 rfl rfl)
theorem dX4_isInTime_5 : decode cX4_isInTime 5 = .ok (.iaload, 1) := dk_46 (dk_at dksX4_isInTime_0 5 rfl rfl)
theorem dX4_isInTime_6 : decode cX4_isInTime 6 = .ok (.istore_n 2, 1) := dk_61 (dk_at dksX4_isInTime_0 6 rfl rfl)
theorem dX4_isInTime_7 : decode cX4_isInTime 7 = .ok (.iconst 0, 1) := dk_3 (dk_at dksX4_isInTime_0 7 rfl rfl)
theorem dX4_isInTime_8 : decode cX4_isInTime 8 = .ok (.istore_n 3, 1) := dk_62 (dk_at dksX4_isInTime_0 8 rfl rfl)
theorem dX4_isInTime_9 : decode cX4_isInTime 9 = .ok (.iload_n 3, 1) := dk_29 (dk_at dksX4_isInTime_0 9 rfl rfl)
theorem dX4_isInTime_10 : decode cX4_isInTime 10 = .ok (.aload_n 0, 1) := dk_42 (dk_at dksX4_isInTime_0 10 rfl rfl)
theorem dX4_isInTime_11 : decode cX4_isInTime 11 = .ok (.getfield 16, 3) := dk_180 0 16 (dk_at dksX4_isInTime_0 11 rfl rfl)
theorem dX4_isInTime_14 : decode cX4_isInTime 14 = .ok (.iconst 3, 1) := dk_6 (dk_at dksX4_isInTime_0 14 rfl rfl)
theorem dX4_isInTime_15 : decode cX4_isInTime 15 = .ok (.iaload, 1) := dk_46 (dk_at dksX4_isInTime_0 15 rfl rfl)
theorem dX4_isInTime_16 : decode cX4_isInTime 16 = .ok (.if_icmp .ge 64, 3) := dk_162 0 64 (dk_at dksX4_isInTime_0 16 rfl rfl)
theorem dX4_isInTime_19 : decode cX4_isInTime 19 = .ok (.iload_n 1, 1) := dk_27 (dk_at dksX4_isInTime_0 19 rfl rfl)
theorem dX4_isInTime_20 : decode cX4_isInTime 20 = .ok (.aload_n 0, 1) := dk_42 (dk_at dksX4_isInTime_0 20 rfl rfl)
theorem dX4_isInTime_21 : decode cX4_isInTime 21 = .ok (.getfield 29, 3) := dk_180 0 29 (dk_at dksX4_isInTime_0 21 rfl rfl)
theorem dX4_isInTime_24 : decode cX4_isInTime 24 = .ok (.iload_n 3, 1) := dk_29 (dk_at dksX4_isInTime_1 0 rfl rfl)
theorem dX4_isInTime_25 : decode cX4_isInTime 25 = .ok (.iaload, 1) := dk_46 (dk_at dksX4_isInTime_1 1 rfl rfl)
theorem dX4_isInTime_26 : decode cX4_isInTime 26 = .ok (.ishr, 1) := dk_122 (dk_at dksX4_isInTime_1 2 rfl rfl)
theorem dX4_isInTime_27 : decode cX4_isInTime 27 = .ok (.iconst 1, 1) := dk_4 (dk_at dksX4_isInTime_1 3 rfl rfl)
theorem dX4_isInTime_28 : decode cX4_isInTime 28 = .ok (.iand, 1) := dk_126 (dk_at dksX4_isInTime_1 4 rfl rfl)
theorem dX4_isInTime_29 : decode cX4_isInTime 29 = .ok (.ifCond .ne 6, 3) := dk_154 0 6 (dk_at dksX4_isInTime_1 5 rfl rfl)
theorem dX4_isInTime_32 : decode cX4_isInTime 32 = .ok (.goto 42, 3) := dk_167 0 42 (dk_at dksX4_isInTime_1 8 rfl rfl)
theorem dX4_isInTime_35 : decode cX4_isInTime 35 = .ok (.iload_n 2, 1) := dk_28 (dk_at dksX4_isInTime_1 11 rfl rfl)
theorem dX4_isInTime_36 : decode cX4_isInTime 36 = .ok (.aload_n 0, 1) := dk_42 (dk_at dksX4_isInTime_1 12 rfl rfl)
theorem dX4_isInTime_37 : decode cX4_isInTime 37 = .ok (.getfield 16, 3) := dk_180 0 16 (dk_at dksX4_isInTime_1 13 rfl rfl)
theorem dX4_isInTime_40 : decode cX4_isInTime 40 = .ok (.aload_n 0, 1) := dk_42 (dk_at dksX4_isInTime_1 16 rfl rfl)
theorem dX4_isInTime_41 : decode cX4_isInTime 41 = .ok (.getfield 29, 3) := dk_180 0 29 (dk_at dksX4_isInTime_1 17 rfl rfl)
theorem dX4_isInTime_44 : decode cX4_isInTime 44 = .ok (.iload_n 3, 1) := dk_29 (dk_at dksX4_isInTime_1 20 rfl rfl)
theorem dX4_isInTime_45 : decode cX4_isInTime 45 = .ok (.iaload, 1) := dk_46 (dk_at dksX4_isInTime_1 21 rfl rfl)
theorem dX4_isInTime_46 : decode cX4_isInTime 46 = .ok (.iconst 2, 1) := dk_5 (dk_at dksX4_isInTime_1 22 rfl rfl)
theorem dX4_isInTime_47 : decode cX4_isInTime 47 = .ok (.invokestatic 60, 3) := dk_184 0 60 (dk_at dksX4_isInTime_2 0 rfl rfl)
theorem dX4_isInTime_50 : decode cX4_isInTime 50 = .ok (.iaload, 1) := dk_46 (dk_at dksX4_isInTime_2 3 rfl rfl)
theorem dX4_isInTime_51 : decode cX4_isInTime 51 = .ok (.iadd, 1) := dk_96 (dk_at dksX4_isInTime_2 4 rfl rfl)
theorem dX4_isInTime_52 : decode cX4_isInTime 52 = .ok (.istore_n 2, 1) := dk_61 (dk_at dksX4_isInTime_2 5 rfl rfl)
theorem dX4_isInTime_53 : decode cX4_isInTime 53 = .ok (.iload_n 2, 1) := dk_28 (dk_at dksX4_isInTime_2 6 rfl rfl)
theorem dX4_isInTime_54 : decode cX4_isInTime 54 = .ok (.aload_n 0, 1) := dk_42 (dk_at dksX4_isInTime_2 7 rfl rfl)
theorem dX4_isInTime_55 : decode cX4_isInTime 55 = .ok (.getfield 16, 3) := dk_180 0 16 (dk_at dksX4_isInTime_2 8 rfl rfl)
theorem dX4_isInTime_58 : decode cX4_isInTime 58 = .ok (.aload_n 0, 1) := dk_42 (dk_at dksX4_isInTime_2 11 rfl rfl)
theorem dX4_isInTime_59 : decode cX4_isInTime 59 = .ok (.getfield 29, 3) := dk_180 0 29 (dk_at dksX4_isInTime_2 12 rfl rfl)
theorem dX4_isInTime_62 : decode cX4_isInTime 62 = .ok (.iload_n 3, 1) := dk_29 (dk_at dksX4_isInTime_2 15 rfl rfl)
theorem dX4_isInTime_63 : decode cX4_isInTime 63 = .ok (.iaload, 1) := dk_46 (dk_at dksX4_isInTime_2 16 rfl rfl)
theorem dX4_isInTime_64 : decode cX4_isInTime 64 = .ok (.iconst 3, 1) := dk_6 (dk_at dksX4_isInTime_2 17 rfl rfl)
theorem dX4_isInTime_65 : decode cX4_isInTime 65 = .ok (.invokestatic 60, 3) := dk_184 0 60 (dk_at dksX4_isInTime_2 18 rfl rfl)
theorem dX4_isInTime_68 : decode cX4_isInTime 68 = .ok (.iaload, 1) := dk_46 (dk_at dksX4_isInTime_2 21 rfl rfl)
theorem dX4_isInTime_69 : decode cX4_isInTime 69 = .ok (.if_icmp .le 5, 3) := dk_164 0 5 (dk_at dksX4_isInTime_3 0 rfl rfl)
theorem dX4_isInTime_72 : decode cX4_isInTime 72 = .ok (.iconst 0, 1) := dk_3 (dk_at dksX4_isInTime_3 3 rfl rfl)
theorem dX4_isInTime_73 : decode cX4_isInTime 73 = .ok (.ireturn, 1) := dk_172 (dk_at dksX4_isInTime_3 4 rfl rfl)
theorem dX4_isInTime_74 : decode cX4_isInTime 74 = .ok (.iinc 3 1, 3) := dk_132 3 1 (dk_at dksX4_isInTime_3 5 rfl rfl)
theorem dX4_isInTime_77 : decode cX4_isInTime 77 = .ok (.goto (-68), 3) := dk_167 255 188 (dk_at dksX4_isInTime_3 8 rfl rfl)
theorem dX4_isInTime_80 : decode cX4_isInTime 80 = .ok (.iconst 1, 1) := dk_4 (dk_at dksX4_isInTime_3 11 rfl rfl)
theorem dX4_isInTime_81 : decode cX4_isInTime 81 = .ok (.ireturn, 1) := dk_172 (dk_at dksX4_isInTime_3 12 rfl rfl)
abbrev cX4_sorts : ByteArray := prog_18_method_50_code
def yX4_sorts : MethodName := ⟨RX4, "sorts", "()V"⟩
def dkwX4_sorts_3 : List UInt8 := [180, 0, 29, 28, 27, 79, 132, 1, 1, 167, 255, 180, 177]
abbrev dktX4_sorts_3 : List UInt8 := dkwX4_sorts_3 ++ []
def dkwX4_sorts_2 : List UInt8 := [164, 0, 23, 42, 180, 0, 29, 28, 42, 180, 0, 29, 28, 4, 100, 46, 79, 132, 2, 255, 167, 255, 205, 42]
abbrev dktX4_sorts_2 : List UInt8 := dkwX4_sorts_2 ++ dktX4_sorts_3
def dkwX4_sorts_1 : List UInt8 := [180, 0, 29, 28, 4, 100, 46, 6, 184, 0, 60, 46, 42, 180, 0, 16, 27, 6, 184, 0, 60, 46]
abbrev dktX4_sorts_1 : List UInt8 := dkwX4_sorts_1 ++ dktX4_sorts_2
def dkwX4_sorts_0 : List UInt8 := [3, 60, 27, 42, 180, 0, 16, 6, 46, 162, 0, 72, 27, 61, 28, 158, 0, 53, 42, 180, 0, 16, 42]
abbrev dktX4_sorts_0 : List UInt8 := dkwX4_sorts_0 ++ dktX4_sorts_1
theorem dksX4_sorts_0 : cX4_sorts.data.toList.drop 0 = dktX4_sorts_0 := by decide +kernel
theorem dksX4_sorts_1 : cX4_sorts.data.toList.drop 23 = dktX4_sorts_1 := dk_seg dksX4_sorts_0 23 rfl rfl
theorem dksX4_sorts_2 : cX4_sorts.data.toList.drop 45 = dktX4_sorts_2 := dk_seg dksX4_sorts_1 22 rfl rfl
theorem dksX4_sorts_3 : cX4_sorts.data.toList.drop 69 = dktX4_sorts_3 := dk_seg dksX4_sorts_2 24 rfl rfl
theorem dX4_sorts_0 : decode cX4_sorts 0 = .ok (.iconst 0, 1) := dk_3 (dk_at dksX4_sorts_0 0 rfl rfl)
theorem dX4_sorts_1 : decode cX4_sorts 1 = .ok (.istore_n 1, 1) := dk_60 (dk_at dksX4_sorts_0 1 rfl rfl)
theorem dX4_sorts_2 : decode cX4_sorts 2 = .ok (.iload_n 1, 1) := dk_27 (dk_at dksX4_sorts_0 2 rfl rfl)
theorem dX4_sorts_3 : decode cX4_sorts 3 = .ok (.aload_n 0, 1) := dk_42 (dk_at dksX4_sorts_0 3 rfl rfl)
theorem dX4_sorts_4 : decode cX4_sorts 4 = .ok (.getfield 16, 3) := dk_180 0 16 (dk_at dksX4_sorts_0 4 rfl rfl)
theorem dX4_sorts_7 : decode cX4_sorts 7 = .ok (.iconst 3, 1) := dk_6 (dk_at dksX4_sorts_0 7 rfl rfl)
theorem dX4_sorts_8 : decode cX4_sorts 8 = .ok (.iaload, 1) := dk_46 (dk_at dksX4_sorts_0 8 rfl rfl)
theorem dX4_sorts_9 : decode cX4_sorts 9 = .ok (.if_icmp .ge 72, 3) := dk_162 0 72 (dk_at dksX4_sorts_0 9 rfl rfl)
theorem dX4_sorts_12 : decode cX4_sorts 12 = .ok (.iload_n 1, 1) := dk_27 (dk_at dksX4_sorts_0 12 rfl rfl)
theorem dX4_sorts_13 : decode cX4_sorts 13 = .ok (.istore_n 2, 1) := dk_61 (dk_at dksX4_sorts_0 13 rfl rfl)
theorem dX4_sorts_14 : decode cX4_sorts 14 = .ok (.iload_n 2, 1) := dk_28 (dk_at dksX4_sorts_0 14 rfl rfl)
theorem dX4_sorts_15 : decode cX4_sorts 15 = .ok (.ifCond .le 53, 3) := dk_158 0 53 (dk_at dksX4_sorts_0 15 rfl rfl)
theorem dX4_sorts_18 : decode cX4_sorts 18 = .ok (.aload_n 0, 1) := dk_42 (dk_at dksX4_sorts_0 18 rfl rfl)
theorem dX4_sorts_19 : decode cX4_sorts 19 = .ok (.getfield 16, 3) := dk_180 0 16 (dk_at dksX4_sorts_0 19 rfl rfl)
theorem dX4_sorts_22 : decode cX4_sorts 22 = .ok (.aload_n 0, 1) := dk_42 (dk_at dksX4_sorts_0 22 rfl rfl)
theorem dX4_sorts_23 : decode cX4_sorts 23 = .ok (.getfield 29, 3) := dk_180 0 29 (dk_at dksX4_sorts_1 0 rfl rfl)
theorem dX4_sorts_26 : decode cX4_sorts 26 = .ok (.iload_n 2, 1) := dk_28 (dk_at dksX4_sorts_1 3 rfl rfl)
theorem dX4_sorts_27 : decode cX4_sorts 27 = .ok (.iconst 1, 1) := dk_4 (dk_at dksX4_sorts_1 4 rfl rfl)
theorem dX4_sorts_28 : decode cX4_sorts 28 = .ok (.isub, 1) := dk_100 (dk_at dksX4_sorts_1 5 rfl rfl)
theorem dX4_sorts_29 : decode cX4_sorts 29 = .ok (.iaload, 1) := dk_46 (dk_at dksX4_sorts_1 6 rfl rfl)
theorem dX4_sorts_30 : decode cX4_sorts 30 = .ok (.iconst 3, 1) := dk_6 (dk_at dksX4_sorts_1 7 rfl rfl)
theorem dX4_sorts_31 : decode cX4_sorts 31 = .ok (.invokestatic 60, 3) := dk_184 0 60 (dk_at dksX4_sorts_1 8 rfl rfl)
theorem dX4_sorts_34 : decode cX4_sorts 34 = .ok (.iaload, 1) := dk_46 (dk_at dksX4_sorts_1 11 rfl rfl)
theorem dX4_sorts_35 : decode cX4_sorts 35 = .ok (.aload_n 0, 1) := dk_42 (dk_at dksX4_sorts_1 12 rfl rfl)
theorem dX4_sorts_36 : decode cX4_sorts 36 = .ok (.getfield 16, 3) := dk_180 0 16 (dk_at dksX4_sorts_1 13 rfl rfl)
theorem dX4_sorts_39 : decode cX4_sorts 39 = .ok (.iload_n 1, 1) := dk_27 (dk_at dksX4_sorts_1 16 rfl rfl)
theorem dX4_sorts_40 : decode cX4_sorts 40 = .ok (.iconst 3, 1) := dk_6 (dk_at dksX4_sorts_1 17 rfl rfl)
theorem dX4_sorts_41 : decode cX4_sorts 41 = .ok (.invokestatic 60, 3) := dk_184 0 60 (dk_at dksX4_sorts_1 18 rfl rfl)
theorem dX4_sorts_44 : decode cX4_sorts 44 = .ok (.iaload, 1) := dk_46 (dk_at dksX4_sorts_1 21 rfl rfl)
theorem dX4_sorts_45 : decode cX4_sorts 45 = .ok (.if_icmp .le 23, 3) := dk_164 0 23 (dk_at dksX4_sorts_2 0 rfl rfl)
theorem dX4_sorts_48 : decode cX4_sorts 48 = .ok (.aload_n 0, 1) := dk_42 (dk_at dksX4_sorts_2 3 rfl rfl)
theorem dX4_sorts_49 : decode cX4_sorts 49 = .ok (.getfield 29, 3) := dk_180 0 29 (dk_at dksX4_sorts_2 4 rfl rfl)
theorem dX4_sorts_52 : decode cX4_sorts 52 = .ok (.iload_n 2, 1) := dk_28 (dk_at dksX4_sorts_2 7 rfl rfl)
theorem dX4_sorts_53 : decode cX4_sorts 53 = .ok (.aload_n 0, 1) := dk_42 (dk_at dksX4_sorts_2 8 rfl rfl)
theorem dX4_sorts_54 : decode cX4_sorts 54 = .ok (.getfield 29, 3) := dk_180 0 29 (dk_at dksX4_sorts_2 9 rfl rfl)
theorem dX4_sorts_57 : decode cX4_sorts 57 = .ok (.iload_n 2, 1) := dk_28 (dk_at dksX4_sorts_2 12 rfl rfl)
theorem dX4_sorts_58 : decode cX4_sorts 58 = .ok (.iconst 1, 1) := dk_4 (dk_at dksX4_sorts_2 13 rfl rfl)
theorem dX4_sorts_59 : decode cX4_sorts 59 = .ok (.isub, 1) := dk_100 (dk_at dksX4_sorts_2 14 rfl rfl)
theorem dX4_sorts_60 : decode cX4_sorts 60 = .ok (.iaload, 1) := dk_46 (dk_at dksX4_sorts_2 15 rfl rfl)
theorem dX4_sorts_61 : decode cX4_sorts 61 = .ok (.iastore, 1) := dk_79 (dk_at dksX4_sorts_2 16 rfl rfl)
theorem dX4_sorts_62 : decode cX4_sorts 62 = .ok (.iinc 2 (-1), 3) := dk_132 2 255 (dk_at dksX4_sorts_2 17 rfl rfl)
theorem dX4_sorts_65 : decode cX4_sorts 65 = .ok (.goto (-51), 3) := dk_167 255 205 (dk_at dksX4_sorts_2 20 rfl rfl)
theorem dX4_sorts_68 : decode cX4_sorts 68 = .ok (.aload_n 0, 1) := dk_42 (dk_at dksX4_sorts_2 23 rfl rfl)
theorem dX4_sorts_69 : decode cX4_sorts 69 = .ok (.getfield 29, 3) := dk_180 0 29 (dk_at dksX4_sorts_3 0 rfl rfl)
theorem dX4_sorts_72 : decode cX4_sorts 72 = .ok (.iload_n 2, 1) := dk_28 (dk_at dksX4_sorts_3 3 rfl rfl)
theorem dX4_sorts_73 : decode cX4_sorts 73 = .ok (.iload_n 1, 1) := dk_27 (dk_at dksX4_sorts_3 4 rfl rfl)
theorem dX4_sorts_74 : decode cX4_sorts 74 = .ok (.iastore, 1) := dk_79 (dk_at dksX4_sorts_3 5 rfl rfl)
theorem dX4_sorts_75 : decode cX4_sorts 75 = .ok (.iinc 1 1, 3) := dk_132 1 1 (dk_at dksX4_sorts_3 6 rfl rfl)
theorem dX4_sorts_78 : decode cX4_sorts 78 = .ok (.goto (-76), 3) := dk_167 255 180 (dk_at dksX4_sorts_3 9 rfl rfl)
theorem dX4_sorts_81 : decode cX4_sorts 81 = .ok (.return_, 1) := dk_177 (dk_at dksX4_sorts_3 12 rfl rfl)
abbrev cX4_areAllInTime : ByteArray := prog_18_method_51_code
def yX4_areAllInTime : MethodName := ⟨RX4, "areAllInTime", "()Z"⟩
def dkwX4_areAllInTime_0 : List UInt8 := [42, 3, 181, 0, 50, 42, 182, 0, 138, 42, 4, 42, 180, 0, 16, 6, 46, 120, 4, 100, 182, 0, 141, 172]
abbrev dktX4_areAllInTime_0 : List UInt8 := dkwX4_areAllInTime_0 ++ []
theorem dksX4_areAllInTime_0 : cX4_areAllInTime.data.toList.drop 0 = dktX4_areAllInTime_0 := by decide +kernel
theorem dX4_areAllInTime_0 : decode cX4_areAllInTime 0 = .ok (.aload_n 0, 1) := dk_42 (dk_at dksX4_areAllInTime_0 0 rfl rfl)
theorem dX4_areAllInTime_1 : decode cX4_areAllInTime 1 = .ok (.iconst 0, 1) := dk_3 (dk_at dksX4_areAllInTime_0 1 rfl rfl)
theorem dX4_areAllInTime_2 : decode cX4_areAllInTime 2 = .ok (.putfield 50, 3) := dk_181 0 50 (dk_at dksX4_areAllInTime_0 2 rfl rfl)
theorem dX4_areAllInTime_5 : decode cX4_areAllInTime 5 = .ok (.aload_n 0, 1) := dk_42 (dk_at dksX4_areAllInTime_0 5 rfl rfl)
theorem dX4_areAllInTime_6 : decode cX4_areAllInTime 6 = .ok (.invokevirtual 138, 3) := dk_182 0 138 (dk_at dksX4_areAllInTime_0 6 rfl rfl)
theorem dX4_areAllInTime_9 : decode cX4_areAllInTime 9 = .ok (.aload_n 0, 1) := dk_42 (dk_at dksX4_areAllInTime_0 9 rfl rfl)
theorem dX4_areAllInTime_10 : decode cX4_areAllInTime 10 = .ok (.iconst 1, 1) := dk_4 (dk_at dksX4_areAllInTime_0 10 rfl rfl)
theorem dX4_areAllInTime_11 : decode cX4_areAllInTime 11 = .ok (.aload_n 0, 1) := dk_42 (dk_at dksX4_areAllInTime_0 11 rfl rfl)
theorem dX4_areAllInTime_12 : decode cX4_areAllInTime 12 = .ok (.getfield 16, 3) := dk_180 0 16 (dk_at dksX4_areAllInTime_0 12 rfl rfl)
theorem dX4_areAllInTime_15 : decode cX4_areAllInTime 15 = .ok (.iconst 3, 1) := dk_6 (dk_at dksX4_areAllInTime_0 15 rfl rfl)
theorem dX4_areAllInTime_16 : decode cX4_areAllInTime 16 = .ok (.iaload, 1) := dk_46 (dk_at dksX4_areAllInTime_0 16 rfl rfl)
theorem dX4_areAllInTime_17 : decode cX4_areAllInTime 17 = .ok (.ishl, 1) := dk_120 (dk_at dksX4_areAllInTime_0 17 rfl rfl)
theorem dX4_areAllInTime_18 : decode cX4_areAllInTime 18 = .ok (.iconst 1, 1) := dk_4 (dk_at dksX4_areAllInTime_0 18 rfl rfl)
theorem dX4_areAllInTime_19 : decode cX4_areAllInTime 19 = .ok (.isub, 1) := dk_100 (dk_at dksX4_areAllInTime_0 19 rfl rfl)
theorem dX4_areAllInTime_20 : decode cX4_areAllInTime 20 = .ok (.invokevirtual 141, 3) := dk_182 0 141 (dk_at dksX4_areAllInTime_0 20 rfl rfl)
theorem dX4_areAllInTime_23 : decode cX4_areAllInTime 23 = .ok (.ireturn, 1) := dk_172 (dk_at dksX4_areAllInTime_0 23 rfl rfl)
abbrev cX4_lion : ByteArray := prog_18_method_9_code
def yX4_lion : MethodName := ⟨RX4, "lion", "(I)I"⟩
def dkwX4_lion_1 : List UInt8 := [160, 0, 5, 28, 172, 132, 2, 1, 167, 255, 227, 2, 172]
abbrev dktX4_lion_1 : List UInt8 := dkwX4_lion_1 ++ []
def dkwX4_lion_0 : List UInt8 := [3, 61, 28, 42, 180, 0, 16, 6, 46, 162, 0, 25, 42, 180, 0, 16, 28, 3, 184, 0, 60, 46, 27]
abbrev dktX4_lion_0 : List UInt8 := dkwX4_lion_0 ++ dktX4_lion_1
theorem dksX4_lion_0 : cX4_lion.data.toList.drop 0 = dktX4_lion_0 := by decide +kernel
theorem dksX4_lion_1 : cX4_lion.data.toList.drop 23 = dktX4_lion_1 := dk_seg dksX4_lion_0 23 rfl rfl
theorem dX4_lion_0 : decode cX4_lion 0 = .ok (.iconst 0, 1) := dk_3 (dk_at dksX4_lion_0 0 rfl rfl)
theorem dX4_lion_1 : decode cX4_lion 1 = .ok (.istore_n 2, 1) := dk_61 (dk_at dksX4_lion_0 1 rfl rfl)
theorem dX4_lion_2 : decode cX4_lion 2 = .ok (.iload_n 2, 1) := dk_28 (dk_at dksX4_lion_0 2 rfl rfl)
theorem dX4_lion_3 : decode cX4_lion 3 = .ok (.aload_n 0, 1) := dk_42 (dk_at dksX4_lion_0 3 rfl rfl)
theorem dX4_lion_4 : decode cX4_lion 4 = .ok (.getfield 16, 3) := dk_180 0 16 (dk_at dksX4_lion_0 4 rfl rfl)
theorem dX4_lion_7 : decode cX4_lion 7 = .ok (.iconst 3, 1) := dk_6 (dk_at dksX4_lion_0 7 rfl rfl)
theorem dX4_lion_8 : decode cX4_lion 8 = .ok (.iaload, 1) := dk_46 (dk_at dksX4_lion_0 8 rfl rfl)
theorem dX4_lion_9 : decode cX4_lion 9 = .ok (.if_icmp .ge 25, 3) := dk_162 0 25 (dk_at dksX4_lion_0 9 rfl rfl)
theorem dX4_lion_12 : decode cX4_lion 12 = .ok (.aload_n 0, 1) := dk_42 (dk_at dksX4_lion_0 12 rfl rfl)
theorem dX4_lion_13 : decode cX4_lion 13 = .ok (.getfield 16, 3) := dk_180 0 16 (dk_at dksX4_lion_0 13 rfl rfl)
theorem dX4_lion_16 : decode cX4_lion 16 = .ok (.iload_n 2, 1) := dk_28 (dk_at dksX4_lion_0 16 rfl rfl)
theorem dX4_lion_17 : decode cX4_lion 17 = .ok (.iconst 0, 1) := dk_3 (dk_at dksX4_lion_0 17 rfl rfl)
theorem dX4_lion_18 : decode cX4_lion 18 = .ok (.invokestatic 60, 3) := dk_184 0 60 (dk_at dksX4_lion_0 18 rfl rfl)
theorem dX4_lion_21 : decode cX4_lion 21 = .ok (.iaload, 1) := dk_46 (dk_at dksX4_lion_0 21 rfl rfl)
theorem dX4_lion_22 : decode cX4_lion 22 = .ok (.iload_n 1, 1) := dk_27 (dk_at dksX4_lion_0 22 rfl rfl)
theorem dX4_lion_23 : decode cX4_lion 23 = .ok (.if_icmp .ne 5, 3) := dk_160 0 5 (dk_at dksX4_lion_1 0 rfl rfl)
theorem dX4_lion_26 : decode cX4_lion 26 = .ok (.iload_n 2, 1) := dk_28 (dk_at dksX4_lion_1 3 rfl rfl)
theorem dX4_lion_27 : decode cX4_lion 27 = .ok (.ireturn, 1) := dk_172 (dk_at dksX4_lion_1 4 rfl rfl)
theorem dX4_lion_28 : decode cX4_lion 28 = .ok (.iinc 2 1, 3) := dk_132 2 1 (dk_at dksX4_lion_1 5 rfl rfl)
theorem dX4_lion_31 : decode cX4_lion 31 = .ok (.goto (-29), 3) := dk_167 255 227 (dk_at dksX4_lion_1 8 rfl rfl)
theorem dX4_lion_34 : decode cX4_lion 34 = .ok (.iconst (-1), 1) := dk_2 (dk_at dksX4_lion_1 11 rfl rfl)
theorem dX4_lion_35 : decode cX4_lion 35 = .ok (.ireturn, 1) := dk_172 (dk_at dksX4_lion_1 12 rfl rfl)
abbrev cX4_about : ByteArray := prog_18_method_37_code
def yX4_about : MethodName := ⟨RX4, "about", "(II)I"⟩
def dkwX4_about_1 : List UInt8 := [154, 0, 16, 42, 180, 0, 16, 29, 28, 184, 0, 60, 46, 167, 0, 4, 3, 172]
abbrev dktX4_about_1 : List UInt8 := dkwX4_about_1 ++ []
def dkwX4_about_0 : List UInt8 := [42, 27, 182, 0, 99, 62, 42, 29, 156, 0, 7, 4, 167, 0, 4, 3, 181, 0, 50, 42, 180, 0, 50]
abbrev dktX4_about_0 : List UInt8 := dkwX4_about_0 ++ dktX4_about_1
theorem dksX4_about_0 : cX4_about.data.toList.drop 0 = dktX4_about_0 := by decide +kernel
theorem dksX4_about_1 : cX4_about.data.toList.drop 23 = dktX4_about_1 := dk_seg dksX4_about_0 23 rfl rfl
theorem dX4_about_0 : decode cX4_about 0 = .ok (.aload_n 0, 1) := dk_42 (dk_at dksX4_about_0 0 rfl rfl)
theorem dX4_about_1 : decode cX4_about 1 = .ok (.iload_n 1, 1) := dk_27 (dk_at dksX4_about_0 1 rfl rfl)
theorem dX4_about_2 : decode cX4_about 2 = .ok (.invokevirtual 99, 3) := dk_182 0 99 (dk_at dksX4_about_0 2 rfl rfl)
theorem dX4_about_5 : decode cX4_about 5 = .ok (.istore_n 3, 1) := dk_62 (dk_at dksX4_about_0 5 rfl rfl)
theorem dX4_about_6 : decode cX4_about 6 = .ok (.aload_n 0, 1) := dk_42 (dk_at dksX4_about_0 6 rfl rfl)
theorem dX4_about_7 : decode cX4_about 7 = .ok (.iload_n 3, 1) := dk_29 (dk_at dksX4_about_0 7 rfl rfl)
theorem dX4_about_8 : decode cX4_about 8 = .ok (.ifCond .ge 7, 3) := dk_156 0 7 (dk_at dksX4_about_0 8 rfl rfl)
theorem dX4_about_11 : decode cX4_about 11 = .ok (.iconst 1, 1) := dk_4 (dk_at dksX4_about_0 11 rfl rfl)
theorem dX4_about_12 : decode cX4_about 12 = .ok (.goto 4, 3) := dk_167 0 4 (dk_at dksX4_about_0 12 rfl rfl)
theorem dX4_about_15 : decode cX4_about 15 = .ok (.iconst 0, 1) := dk_3 (dk_at dksX4_about_0 15 rfl rfl)
theorem dX4_about_16 : decode cX4_about 16 = .ok (.putfield 50, 3) := dk_181 0 50 (dk_at dksX4_about_0 16 rfl rfl)
theorem dX4_about_19 : decode cX4_about 19 = .ok (.aload_n 0, 1) := dk_42 (dk_at dksX4_about_0 19 rfl rfl)
theorem dX4_about_20 : decode cX4_about 20 = .ok (.getfield 50, 3) := dk_180 0 50 (dk_at dksX4_about_0 20 rfl rfl)
theorem dX4_about_23 : decode cX4_about 23 = .ok (.ifCond .ne 16, 3) := dk_154 0 16 (dk_at dksX4_about_1 0 rfl rfl)
theorem dX4_about_26 : decode cX4_about 26 = .ok (.aload_n 0, 1) := dk_42 (dk_at dksX4_about_1 3 rfl rfl)
theorem dX4_about_27 : decode cX4_about 27 = .ok (.getfield 16, 3) := dk_180 0 16 (dk_at dksX4_about_1 4 rfl rfl)
theorem dX4_about_30 : decode cX4_about 30 = .ok (.iload_n 3, 1) := dk_29 (dk_at dksX4_about_1 7 rfl rfl)
theorem dX4_about_31 : decode cX4_about 31 = .ok (.iload_n 2, 1) := dk_28 (dk_at dksX4_about_1 8 rfl rfl)
theorem dX4_about_32 : decode cX4_about 32 = .ok (.invokestatic 60, 3) := dk_184 0 60 (dk_at dksX4_about_1 9 rfl rfl)
theorem dX4_about_35 : decode cX4_about 35 = .ok (.iaload, 1) := dk_46 (dk_at dksX4_about_1 12 rfl rfl)
theorem dX4_about_36 : decode cX4_about 36 = .ok (.goto 4, 3) := dk_167 0 4 (dk_at dksX4_about_1 13 rfl rfl)
theorem dX4_about_39 : decode cX4_about 39 = .ok (.iconst 0, 1) := dk_3 (dk_at dksX4_about_1 16 rfl rfl)
theorem dX4_about_40 : decode cX4_about 40 = .ok (.ireturn, 1) := dk_172 (dk_at dksX4_about_1 17 rfl rfl)
abbrev cX4_deadlineOf : ByteArray := prog_18_method_40_code
def yX4_deadlineOf : MethodName := ⟨RX4, "deadlineOf", "(I)I"⟩
def dkwX4_deadlineOf_0 : List UInt8 := [42, 27, 6, 182, 0, 132, 172]
abbrev dktX4_deadlineOf_0 : List UInt8 := dkwX4_deadlineOf_0 ++ []
theorem dksX4_deadlineOf_0 : cX4_deadlineOf.data.toList.drop 0 = dktX4_deadlineOf_0 := by decide +kernel
theorem dX4_deadlineOf_0 : decode cX4_deadlineOf 0 = .ok (.aload_n 0, 1) := dk_42 (dk_at dksX4_deadlineOf_0 0 rfl rfl)
theorem dX4_deadlineOf_1 : decode cX4_deadlineOf 1 = .ok (.iload_n 1, 1) := dk_27 (dk_at dksX4_deadlineOf_0 1 rfl rfl)
theorem dX4_deadlineOf_2 : decode cX4_deadlineOf 2 = .ok (.iconst 3, 1) := dk_6 (dk_at dksX4_deadlineOf_0 2 rfl rfl)
theorem dX4_deadlineOf_3 : decode cX4_deadlineOf 3 = .ok (.invokevirtual 132, 3) := dk_182 0 132 (dk_at dksX4_deadlineOf_0 3 rfl rfl)
theorem dX4_deadlineOf_6 : decode cX4_deadlineOf 6 = .ok (.ireturn, 1) := dk_172 (dk_at dksX4_deadlineOf_0 6 rfl rfl)
abbrev cX4_dismisses : ByteArray := prog_18_method_30_code
def yX4_dismisses : MethodName := ⟨RX4, "dismisses", "(I)I"⟩
def dkwX4_dismisses_3 : List UInt8 := [92, 46, 4, 100, 79, 42, 180, 0, 16, 7, 46, 172]
abbrev dktX4_dismisses_3 : List UInt8 := dkwX4_dismisses_3 ++ []
def dkwX4_dismisses_2 : List UInt8 := [42, 180, 0, 16, 28, 5, 96, 46, 167, 0, 4, 3, 79, 132, 2, 1, 167, 255, 221, 42, 180, 0, 16, 7]
abbrev dktX4_dismisses_2 : List UInt8 := dkwX4_dismisses_2 ++ dktX4_dismisses_3
def dkwX4_dismisses_1 : List UInt8 := [5, 27, 104, 96, 61, 28, 16, 72, 162, 0, 35, 42, 180, 0, 16, 28, 28, 5, 96, 16, 72, 162, 0, 14]
abbrev dktX4_dismisses_1 : List UInt8 := dkwX4_dismisses_1 ++ dktX4_dismisses_2
def dkwX4_dismisses_0 : List UInt8 := [27, 3, 42, 180, 0, 16, 7, 46, 4, 100, 184, 0, 82, 154, 0, 9, 42, 4, 182, 0, 86, 172, 16, 60]
abbrev dktX4_dismisses_0 : List UInt8 := dkwX4_dismisses_0 ++ dktX4_dismisses_1
theorem dksX4_dismisses_0 : cX4_dismisses.data.toList.drop 0 = dktX4_dismisses_0 := by decide +kernel
theorem dksX4_dismisses_1 : cX4_dismisses.data.toList.drop 24 = dktX4_dismisses_1 := dk_seg dksX4_dismisses_0 24 rfl rfl
theorem dksX4_dismisses_2 : cX4_dismisses.data.toList.drop 48 = dktX4_dismisses_2 := dk_seg dksX4_dismisses_1 24 rfl rfl
theorem dksX4_dismisses_3 : cX4_dismisses.data.toList.drop 72 = dktX4_dismisses_3 := dk_seg dksX4_dismisses_2 24 rfl rfl
theorem dX4_dismisses_0 : decode cX4_dismisses 0 = .ok (.iload_n 1, 1) := dk_27 (dk_at dksX4_dismisses_0 0 rfl rfl)
theorem dX4_dismisses_1 : decode cX4_dismisses 1 = .ok (.iconst 0, 1) := dk_3 (dk_at dksX4_dismisses_0 1 rfl rfl)
theorem dX4_dismisses_2 : decode cX4_dismisses 2 = .ok (.aload_n 0, 1) := dk_42 (dk_at dksX4_dismisses_0 2 rfl rfl)
theorem dX4_dismisses_3 : decode cX4_dismisses 3 = .ok (.getfield 16, 3) := dk_180 0 16 (dk_at dksX4_dismisses_0 3 rfl rfl)
theorem dX4_dismisses_6 : decode cX4_dismisses 6 = .ok (.iconst 4, 1) := dk_7 (dk_at dksX4_dismisses_0 6 rfl rfl)
theorem dX4_dismisses_7 : decode cX4_dismisses 7 = .ok (.iaload, 1) := dk_46 (dk_at dksX4_dismisses_0 7 rfl rfl)
theorem dX4_dismisses_8 : decode cX4_dismisses 8 = .ok (.iconst 1, 1) := dk_4 (dk_at dksX4_dismisses_0 8 rfl rfl)
theorem dX4_dismisses_9 : decode cX4_dismisses 9 = .ok (.isub, 1) := dk_100 (dk_at dksX4_dismisses_0 9 rfl rfl)
theorem dX4_dismisses_10 : decode cX4_dismisses 10 = .ok (.invokestatic 82, 3) := dk_184 0 82 (dk_at dksX4_dismisses_0 10 rfl rfl)
theorem dX4_dismisses_13 : decode cX4_dismisses 13 = .ok (.ifCond .ne 9, 3) := dk_154 0 9 (dk_at dksX4_dismisses_0 13 rfl rfl)
theorem dX4_dismisses_16 : decode cX4_dismisses 16 = .ok (.aload_n 0, 1) := dk_42 (dk_at dksX4_dismisses_0 16 rfl rfl)
theorem dX4_dismisses_17 : decode cX4_dismisses 17 = .ok (.iconst 1, 1) := dk_4 (dk_at dksX4_dismisses_0 17 rfl rfl)
theorem dX4_dismisses_18 : decode cX4_dismisses 18 = .ok (.invokevirtual 86, 3) := dk_182 0 86 (dk_at dksX4_dismisses_0 18 rfl rfl)
theorem dX4_dismisses_21 : decode cX4_dismisses 21 = .ok (.ireturn, 1) := dk_172 (dk_at dksX4_dismisses_0 21 rfl rfl)
theorem dX4_dismisses_22 : decode cX4_dismisses 22 = .ok (.bipush 60, 2) := dk_16 60 (dk_at dksX4_dismisses_0 22 rfl rfl)
theorem dX4_dismisses_24 : decode cX4_dismisses 24 = .ok (.iconst 2, 1) := dk_5 (dk_at dksX4_dismisses_1 0 rfl rfl)
theorem dX4_dismisses_25 : decode cX4_dismisses 25 = .ok (.iload_n 1, 1) := dk_27 (dk_at dksX4_dismisses_1 1 rfl rfl)
theorem dX4_dismisses_26 : decode cX4_dismisses 26 = .ok (.imul, 1) := dk_104 (dk_at dksX4_dismisses_1 2 rfl rfl)
theorem dX4_dismisses_27 : decode cX4_dismisses 27 = .ok (.iadd, 1) := dk_96 (dk_at dksX4_dismisses_1 3 rfl rfl)
theorem dX4_dismisses_28 : decode cX4_dismisses 28 = .ok (.istore_n 2, 1) := dk_61 (dk_at dksX4_dismisses_1 4 rfl rfl)
theorem dX4_dismisses_29 : decode cX4_dismisses 29 = .ok (.iload_n 2, 1) := dk_28 (dk_at dksX4_dismisses_1 5 rfl rfl)
theorem dX4_dismisses_30 : decode cX4_dismisses 30 = .ok (.bipush 72, 2) := dk_16 72 (dk_at dksX4_dismisses_1 6 rfl rfl)
theorem dX4_dismisses_32 : decode cX4_dismisses 32 = .ok (.if_icmp .ge 35, 3) := dk_162 0 35 (dk_at dksX4_dismisses_1 8 rfl rfl)
theorem dX4_dismisses_35 : decode cX4_dismisses 35 = .ok (.aload_n 0, 1) := dk_42 (dk_at dksX4_dismisses_1 11 rfl rfl)
theorem dX4_dismisses_36 : decode cX4_dismisses 36 = .ok (.getfield 16, 3) := dk_180 0 16 (dk_at dksX4_dismisses_1 12 rfl rfl)
theorem dX4_dismisses_39 : decode cX4_dismisses 39 = .ok (.iload_n 2, 1) := dk_28 (dk_at dksX4_dismisses_1 15 rfl rfl)
theorem dX4_dismisses_40 : decode cX4_dismisses 40 = .ok (.iload_n 2, 1) := dk_28 (dk_at dksX4_dismisses_1 16 rfl rfl)
theorem dX4_dismisses_41 : decode cX4_dismisses 41 = .ok (.iconst 2, 1) := dk_5 (dk_at dksX4_dismisses_1 17 rfl rfl)
theorem dX4_dismisses_42 : decode cX4_dismisses 42 = .ok (.iadd, 1) := dk_96 (dk_at dksX4_dismisses_1 18 rfl rfl)
theorem dX4_dismisses_43 : decode cX4_dismisses 43 = .ok (.bipush 72, 2) := dk_16 72 (dk_at dksX4_dismisses_1 19 rfl rfl)
theorem dX4_dismisses_45 : decode cX4_dismisses 45 = .ok (.if_icmp .ge 14, 3) := dk_162 0 14 (dk_at dksX4_dismisses_1 21 rfl rfl)
theorem dX4_dismisses_48 : decode cX4_dismisses 48 = .ok (.aload_n 0, 1) := dk_42 (dk_at dksX4_dismisses_2 0 rfl rfl)
theorem dX4_dismisses_49 : decode cX4_dismisses 49 = .ok (.getfield 16, 3) := dk_180 0 16 (dk_at dksX4_dismisses_2 1 rfl rfl)
theorem dX4_dismisses_52 : decode cX4_dismisses 52 = .ok (.iload_n 2, 1) := dk_28 (dk_at dksX4_dismisses_2 4 rfl rfl)
theorem dX4_dismisses_53 : decode cX4_dismisses 53 = .ok (.iconst 2, 1) := dk_5 (dk_at dksX4_dismisses_2 5 rfl rfl)
theorem dX4_dismisses_54 : decode cX4_dismisses 54 = .ok (.iadd, 1) := dk_96 (dk_at dksX4_dismisses_2 6 rfl rfl)
theorem dX4_dismisses_55 : decode cX4_dismisses 55 = .ok (.iaload, 1) := dk_46 (dk_at dksX4_dismisses_2 7 rfl rfl)
theorem dX4_dismisses_56 : decode cX4_dismisses 56 = .ok (.goto 4, 3) := dk_167 0 4 (dk_at dksX4_dismisses_2 8 rfl rfl)
theorem dX4_dismisses_59 : decode cX4_dismisses 59 = .ok (.iconst 0, 1) := dk_3 (dk_at dksX4_dismisses_2 11 rfl rfl)
theorem dX4_dismisses_60 : decode cX4_dismisses 60 = .ok (.iastore, 1) := dk_79 (dk_at dksX4_dismisses_2 12 rfl rfl)
theorem dX4_dismisses_61 : decode cX4_dismisses 61 = .ok (.iinc 2 1, 3) := dk_132 2 1 (dk_at dksX4_dismisses_2 13 rfl rfl)
theorem dX4_dismisses_64 : decode cX4_dismisses 64 = .ok (.goto (-35), 3) := dk_167 255 221 (dk_at dksX4_dismisses_2 16 rfl rfl)
theorem dX4_dismisses_67 : decode cX4_dismisses 67 = .ok (.aload_n 0, 1) := dk_42 (dk_at dksX4_dismisses_2 19 rfl rfl)
theorem dX4_dismisses_68 : decode cX4_dismisses 68 = .ok (.getfield 16, 3) := dk_180 0 16 (dk_at dksX4_dismisses_2 20 rfl rfl)
theorem dX4_dismisses_71 : decode cX4_dismisses 71 = .ok (.iconst 4, 1) := dk_7 (dk_at dksX4_dismisses_2 23 rfl rfl)
theorem dX4_dismisses_72 : decode cX4_dismisses 72 = .ok (.dup2, 1) := dk_92 (dk_at dksX4_dismisses_3 0 rfl rfl)
theorem dX4_dismisses_73 : decode cX4_dismisses 73 = .ok (.iaload, 1) := dk_46 (dk_at dksX4_dismisses_3 1 rfl rfl)
theorem dX4_dismisses_74 : decode cX4_dismisses 74 = .ok (.iconst 1, 1) := dk_4 (dk_at dksX4_dismisses_3 2 rfl rfl)
theorem dX4_dismisses_75 : decode cX4_dismisses 75 = .ok (.isub, 1) := dk_100 (dk_at dksX4_dismisses_3 3 rfl rfl)
theorem dX4_dismisses_76 : decode cX4_dismisses 76 = .ok (.iastore, 1) := dk_79 (dk_at dksX4_dismisses_3 4 rfl rfl)
theorem dX4_dismisses_77 : decode cX4_dismisses 77 = .ok (.aload_n 0, 1) := dk_42 (dk_at dksX4_dismisses_3 5 rfl rfl)
theorem dX4_dismisses_78 : decode cX4_dismisses 78 = .ok (.getfield 16, 3) := dk_180 0 16 (dk_at dksX4_dismisses_3 6 rfl rfl)
theorem dX4_dismisses_81 : decode cX4_dismisses 81 = .ok (.iconst 4, 1) := dk_7 (dk_at dksX4_dismisses_3 9 rfl rfl)
theorem dX4_dismisses_82 : decode cX4_dismisses 82 = .ok (.iaload, 1) := dk_46 (dk_at dksX4_dismisses_3 10 rfl rfl)
theorem dX4_dismisses_83 : decode cX4_dismisses 83 = .ok (.ireturn, 1) := dk_172 (dk_at dksX4_dismisses_3 11 rfl rfl)
abbrev cX4_dismissKeeper : ByteArray := prog_18_method_31_code
def yX4_dismissKeeper : MethodName := ⟨RX4, "dismissKeeper", "(I)I"⟩
def dkwX4_dismissKeeper_0 : List UInt8 := [42, 182, 0, 89, 42, 42, 27, 182, 0, 123, 182, 0, 96, 172]
abbrev dktX4_dismissKeeper_0 : List UInt8 := dkwX4_dismissKeeper_0 ++ []
theorem dksX4_dismissKeeper_0 : cX4_dismissKeeper.data.toList.drop 0 = dktX4_dismissKeeper_0 := by decide +kernel
theorem dX4_dismissKeeper_0 : decode cX4_dismissKeeper 0 = .ok (.aload_n 0, 1) := dk_42 (dk_at dksX4_dismissKeeper_0 0 rfl rfl)
theorem dX4_dismissKeeper_1 : decode cX4_dismissKeeper 1 = .ok (.invokevirtual 89, 3) := dk_182 0 89 (dk_at dksX4_dismissKeeper_0 1 rfl rfl)
theorem dX4_dismissKeeper_4 : decode cX4_dismissKeeper 4 = .ok (.aload_n 0, 1) := dk_42 (dk_at dksX4_dismissKeeper_0 4 rfl rfl)
theorem dX4_dismissKeeper_5 : decode cX4_dismissKeeper 5 = .ok (.aload_n 0, 1) := dk_42 (dk_at dksX4_dismissKeeper_0 5 rfl rfl)
theorem dX4_dismissKeeper_6 : decode cX4_dismissKeeper 6 = .ok (.iload_n 1, 1) := dk_27 (dk_at dksX4_dismissKeeper_0 6 rfl rfl)
theorem dX4_dismissKeeper_7 : decode cX4_dismissKeeper 7 = .ok (.invokevirtual 123, 3) := dk_182 0 123 (dk_at dksX4_dismissKeeper_0 7 rfl rfl)
theorem dX4_dismissKeeper_10 : decode cX4_dismissKeeper 10 = .ok (.invokevirtual 96, 3) := dk_182 0 96 (dk_at dksX4_dismissKeeper_0 10 rfl rfl)
theorem dX4_dismissKeeper_13 : decode cX4_dismissKeeper 13 = .ok (.ireturn, 1) := dk_172 (dk_at dksX4_dismissKeeper_0 13 rfl rfl)
abbrev cX4_tells : ByteArray := prog_18_method_34_code
def yX4_tells : MethodName := ⟨RX4, "tells", "(I)I"⟩
def dkwX4_tells_0 : List UInt8 := [42, 3, 181, 0, 50, 42, 180, 0, 16, 27, 46, 172]
abbrev dktX4_tells_0 : List UInt8 := dkwX4_tells_0 ++ []
theorem dksX4_tells_0 : cX4_tells.data.toList.drop 0 = dktX4_tells_0 := by decide +kernel
theorem dX4_tells_0 : decode cX4_tells 0 = .ok (.aload_n 0, 1) := dk_42 (dk_at dksX4_tells_0 0 rfl rfl)
theorem dX4_tells_1 : decode cX4_tells 1 = .ok (.iconst 0, 1) := dk_3 (dk_at dksX4_tells_0 1 rfl rfl)
theorem dX4_tells_2 : decode cX4_tells 2 = .ok (.putfield 50, 3) := dk_181 0 50 (dk_at dksX4_tells_0 2 rfl rfl)
theorem dX4_tells_5 : decode cX4_tells 5 = .ok (.aload_n 0, 1) := dk_42 (dk_at dksX4_tells_0 5 rfl rfl)
theorem dX4_tells_6 : decode cX4_tells 6 = .ok (.getfield 16, 3) := dk_180 0 16 (dk_at dksX4_tells_0 6 rfl rfl)
theorem dX4_tells_9 : decode cX4_tells 9 = .ok (.iload_n 1, 1) := dk_27 (dk_at dksX4_tells_0 9 rfl rfl)
theorem dX4_tells_10 : decode cX4_tells 10 = .ok (.iaload, 1) := dk_46 (dk_at dksX4_tells_0 10 rfl rfl)
theorem dX4_tells_11 : decode cX4_tells 11 = .ok (.ireturn, 1) := dk_172 (dk_at dksX4_tells_0 11 rfl rfl)
abbrev cX4_drawnTotal : ByteArray := prog_18_method_68_code
def yX4_drawnTotal : MethodName := ⟨RX4, "drawnTotal", "()I"⟩
def dkwX4_drawnTotal_0 : List UInt8 := [42, 5, 182, 0, 129, 172]
abbrev dktX4_drawnTotal_0 : List UInt8 := dkwX4_drawnTotal_0 ++ []
theorem dksX4_drawnTotal_0 : cX4_drawnTotal.data.toList.drop 0 = dktX4_drawnTotal_0 := by decide +kernel
theorem dX4_drawnTotal_0 : decode cX4_drawnTotal 0 = .ok (.aload_n 0, 1) := dk_42 (dk_at dksX4_drawnTotal_0 0 rfl rfl)
theorem dX4_drawnTotal_1 : decode cX4_drawnTotal 1 = .ok (.iconst 2, 1) := dk_5 (dk_at dksX4_drawnTotal_0 1 rfl rfl)
theorem dX4_drawnTotal_2 : decode cX4_drawnTotal 2 = .ok (.invokevirtual 129, 3) := dk_182 0 129 (dk_at dksX4_drawnTotal_0 2 rfl rfl)
theorem dX4_drawnTotal_5 : decode cX4_drawnTotal 5 = .ok (.ireturn, 1) := dk_172 (dk_at dksX4_drawnTotal_0 5 rfl rfl)
abbrev cX4_shift : ByteArray := prog_18_method_56_code
def yX4_shift : MethodName := ⟨RX4, "shift", "(II)I"⟩
def dkwX4_shift_2 : List UInt8 := [167, 0, 4, 3, 172]
abbrev dktX4_shift_2 : List UInt8 := dkwX4_shift_2 ++ []
def dkwX4_shift_1 : List UInt8 := [181, 0, 50, 42, 180, 0, 50, 154, 0, 19, 42, 180, 0, 16, 16, 60, 5, 27, 104, 96, 28, 96, 46]
abbrev dktX4_shift_1 : List UInt8 := dkwX4_shift_1 ++ dktX4_shift_2
def dkwX4_shift_0 : List UInt8 := [42, 27, 3, 42, 180, 0, 16, 7, 46, 4, 100, 184, 0, 82, 153, 0, 7, 3, 167, 0, 4, 4]
abbrev dktX4_shift_0 : List UInt8 := dkwX4_shift_0 ++ dktX4_shift_1
theorem dksX4_shift_0 : cX4_shift.data.toList.drop 0 = dktX4_shift_0 := by decide +kernel
theorem dksX4_shift_1 : cX4_shift.data.toList.drop 22 = dktX4_shift_1 := dk_seg dksX4_shift_0 22 rfl rfl
theorem dksX4_shift_2 : cX4_shift.data.toList.drop 45 = dktX4_shift_2 := dk_seg dksX4_shift_1 23 rfl rfl
theorem dX4_shift_0 : decode cX4_shift 0 = .ok (.aload_n 0, 1) := dk_42 (dk_at dksX4_shift_0 0 rfl rfl)
theorem dX4_shift_1 : decode cX4_shift 1 = .ok (.iload_n 1, 1) := dk_27 (dk_at dksX4_shift_0 1 rfl rfl)
theorem dX4_shift_2 : decode cX4_shift 2 = .ok (.iconst 0, 1) := dk_3 (dk_at dksX4_shift_0 2 rfl rfl)
theorem dX4_shift_3 : decode cX4_shift 3 = .ok (.aload_n 0, 1) := dk_42 (dk_at dksX4_shift_0 3 rfl rfl)
theorem dX4_shift_4 : decode cX4_shift 4 = .ok (.getfield 16, 3) := dk_180 0 16 (dk_at dksX4_shift_0 4 rfl rfl)
theorem dX4_shift_7 : decode cX4_shift 7 = .ok (.iconst 4, 1) := dk_7 (dk_at dksX4_shift_0 7 rfl rfl)
theorem dX4_shift_8 : decode cX4_shift 8 = .ok (.iaload, 1) := dk_46 (dk_at dksX4_shift_0 8 rfl rfl)
theorem dX4_shift_9 : decode cX4_shift 9 = .ok (.iconst 1, 1) := dk_4 (dk_at dksX4_shift_0 9 rfl rfl)
theorem dX4_shift_10 : decode cX4_shift 10 = .ok (.isub, 1) := dk_100 (dk_at dksX4_shift_0 10 rfl rfl)
theorem dX4_shift_11 : decode cX4_shift 11 = .ok (.invokestatic 82, 3) := dk_184 0 82 (dk_at dksX4_shift_0 11 rfl rfl)
theorem dX4_shift_14 : decode cX4_shift 14 = .ok (.ifCond .eq 7, 3) := dk_153 0 7 (dk_at dksX4_shift_0 14 rfl rfl)
theorem dX4_shift_17 : decode cX4_shift 17 = .ok (.iconst 0, 1) := dk_3 (dk_at dksX4_shift_0 17 rfl rfl)
theorem dX4_shift_18 : decode cX4_shift 18 = .ok (.goto 4, 3) := dk_167 0 4 (dk_at dksX4_shift_0 18 rfl rfl)
theorem dX4_shift_21 : decode cX4_shift 21 = .ok (.iconst 1, 1) := dk_4 (dk_at dksX4_shift_0 21 rfl rfl)
theorem dX4_shift_22 : decode cX4_shift 22 = .ok (.putfield 50, 3) := dk_181 0 50 (dk_at dksX4_shift_1 0 rfl rfl)
theorem dX4_shift_25 : decode cX4_shift 25 = .ok (.aload_n 0, 1) := dk_42 (dk_at dksX4_shift_1 3 rfl rfl)
theorem dX4_shift_26 : decode cX4_shift 26 = .ok (.getfield 50, 3) := dk_180 0 50 (dk_at dksX4_shift_1 4 rfl rfl)
theorem dX4_shift_29 : decode cX4_shift 29 = .ok (.ifCond .ne 19, 3) := dk_154 0 19 (dk_at dksX4_shift_1 7 rfl rfl)
theorem dX4_shift_32 : decode cX4_shift 32 = .ok (.aload_n 0, 1) := dk_42 (dk_at dksX4_shift_1 10 rfl rfl)
theorem dX4_shift_33 : decode cX4_shift 33 = .ok (.getfield 16, 3) := dk_180 0 16 (dk_at dksX4_shift_1 11 rfl rfl)
theorem dX4_shift_36 : decode cX4_shift 36 = .ok (.bipush 60, 2) := dk_16 60 (dk_at dksX4_shift_1 14 rfl rfl)
theorem dX4_shift_38 : decode cX4_shift 38 = .ok (.iconst 2, 1) := dk_5 (dk_at dksX4_shift_1 16 rfl rfl)
theorem dX4_shift_39 : decode cX4_shift 39 = .ok (.iload_n 1, 1) := dk_27 (dk_at dksX4_shift_1 17 rfl rfl)
theorem dX4_shift_40 : decode cX4_shift 40 = .ok (.imul, 1) := dk_104 (dk_at dksX4_shift_1 18 rfl rfl)
theorem dX4_shift_41 : decode cX4_shift 41 = .ok (.iadd, 1) := dk_96 (dk_at dksX4_shift_1 19 rfl rfl)
theorem dX4_shift_42 : decode cX4_shift 42 = .ok (.iload_n 2, 1) := dk_28 (dk_at dksX4_shift_1 20 rfl rfl)
theorem dX4_shift_43 : decode cX4_shift 43 = .ok (.iadd, 1) := dk_96 (dk_at dksX4_shift_1 21 rfl rfl)
theorem dX4_shift_44 : decode cX4_shift 44 = .ok (.iaload, 1) := dk_46 (dk_at dksX4_shift_1 22 rfl rfl)
theorem dX4_shift_45 : decode cX4_shift 45 = .ok (.goto 4, 3) := dk_167 0 4 (dk_at dksX4_shift_2 0 rfl rfl)
theorem dX4_shift_48 : decode cX4_shift 48 = .ok (.iconst 0, 1) := dk_3 (dk_at dksX4_shift_2 3 rfl rfl)
theorem dX4_shift_49 : decode cX4_shift 49 = .ok (.ireturn, 1) := dk_172 (dk_at dksX4_shift_2 4 rfl rfl)
abbrev cX4_endOf : ByteArray := prog_18_method_58_code
def yX4_endOf : MethodName := ⟨RX4, "endOf", "(I)I"⟩
def dkwX4_endOf_0 : List UInt8 := [42, 27, 4, 182, 0, 151, 172]
abbrev dktX4_endOf_0 : List UInt8 := dkwX4_endOf_0 ++ []
theorem dksX4_endOf_0 : cX4_endOf.data.toList.drop 0 = dktX4_endOf_0 := by decide +kernel
theorem dX4_endOf_0 : decode cX4_endOf 0 = .ok (.aload_n 0, 1) := dk_42 (dk_at dksX4_endOf_0 0 rfl rfl)
theorem dX4_endOf_1 : decode cX4_endOf 1 = .ok (.iload_n 1, 1) := dk_27 (dk_at dksX4_endOf_0 1 rfl rfl)
theorem dX4_endOf_2 : decode cX4_endOf 2 = .ok (.iconst 1, 1) := dk_4 (dk_at dksX4_endOf_0 2 rfl rfl)
theorem dX4_endOf_3 : decode cX4_endOf 3 = .ok (.invokevirtual 151, 3) := dk_182 0 151 (dk_at dksX4_endOf_0 3 rfl rfl)
theorem dX4_endOf_6 : decode cX4_endOf 6 = .ok (.ireturn, 1) := dk_172 (dk_at dksX4_endOf_0 6 rfl rfl)
abbrev cX4_errorPosition : ByteArray := prog_18_method_90_code
def yX4_errorPosition : MethodName := ⟨RX4, "errorPosition", "()I"⟩
def dkwX4_errorPosition_1 : List UInt8 := [180, 0, 7, 167, 0, 4, 3, 172]
abbrev dktX4_errorPosition_1 : List UInt8 := dkwX4_errorPosition_1 ++ []
def dkwX4_errorPosition_0 : List UInt8 := [42, 42, 180, 0, 7, 156, 0, 7, 4, 167, 0, 4, 3, 181, 0, 50, 42, 180, 0, 50, 154, 0, 10, 42]
abbrev dktX4_errorPosition_0 : List UInt8 := dkwX4_errorPosition_0 ++ dktX4_errorPosition_1
theorem dksX4_errorPosition_0 : cX4_errorPosition.data.toList.drop 0 = dktX4_errorPosition_0 := by decide +kernel
theorem dksX4_errorPosition_1 : cX4_errorPosition.data.toList.drop 24 = dktX4_errorPosition_1 := dk_seg dksX4_errorPosition_0 24 rfl rfl
theorem dX4_errorPosition_0 : decode cX4_errorPosition 0 = .ok (.aload_n 0, 1) := dk_42 (dk_at dksX4_errorPosition_0 0 rfl rfl)
theorem dX4_errorPosition_1 : decode cX4_errorPosition 1 = .ok (.aload_n 0, 1) := dk_42 (dk_at dksX4_errorPosition_0 1 rfl rfl)
theorem dX4_errorPosition_2 : decode cX4_errorPosition 2 = .ok (.getfield 7, 3) := dk_180 0 7 (dk_at dksX4_errorPosition_0 2 rfl rfl)
theorem dX4_errorPosition_5 : decode cX4_errorPosition 5 = .ok (.ifCond .ge 7, 3) := dk_156 0 7 (dk_at dksX4_errorPosition_0 5 rfl rfl)
theorem dX4_errorPosition_8 : decode cX4_errorPosition 8 = .ok (.iconst 1, 1) := dk_4 (dk_at dksX4_errorPosition_0 8 rfl rfl)
theorem dX4_errorPosition_9 : decode cX4_errorPosition 9 = .ok (.goto 4, 3) := dk_167 0 4 (dk_at dksX4_errorPosition_0 9 rfl rfl)
theorem dX4_errorPosition_12 : decode cX4_errorPosition 12 = .ok (.iconst 0, 1) := dk_3 (dk_at dksX4_errorPosition_0 12 rfl rfl)
theorem dX4_errorPosition_13 : decode cX4_errorPosition 13 = .ok (.putfield 50, 3) := dk_181 0 50 (dk_at dksX4_errorPosition_0 13 rfl rfl)
theorem dX4_errorPosition_16 : decode cX4_errorPosition 16 = .ok (.aload_n 0, 1) := dk_42 (dk_at dksX4_errorPosition_0 16 rfl rfl)
theorem dX4_errorPosition_17 : decode cX4_errorPosition 17 = .ok (.getfield 50, 3) := dk_180 0 50 (dk_at dksX4_errorPosition_0 17 rfl rfl)
theorem dX4_errorPosition_20 : decode cX4_errorPosition 20 = .ok (.ifCond .ne 10, 3) := dk_154 0 10 (dk_at dksX4_errorPosition_0 20 rfl rfl)
theorem dX4_errorPosition_23 : decode cX4_errorPosition 23 = .ok (.aload_n 0, 1) := dk_42 (dk_at dksX4_errorPosition_0 23 rfl rfl)
theorem dX4_errorPosition_24 : decode cX4_errorPosition 24 = .ok (.getfield 7, 3) := dk_180 0 7 (dk_at dksX4_errorPosition_1 0 rfl rfl)
theorem dX4_errorPosition_27 : decode cX4_errorPosition 27 = .ok (.goto 4, 3) := dk_167 0 4 (dk_at dksX4_errorPosition_1 3 rfl rfl)
theorem dX4_errorPosition_30 : decode cX4_errorPosition 30 = .ok (.iconst 0, 1) := dk_3 (dk_at dksX4_errorPosition_1 6 rfl rfl)
theorem dX4_errorPosition_31 : decode cX4_errorPosition 31 = .ok (.ireturn, 1) := dk_172 (dk_at dksX4_errorPosition_1 7 rfl rfl)
abbrev cX4_failedCommand : ByteArray := prog_18_method_91_code
def yX4_failedCommand : MethodName := ⟨RX4, "failedCommand", "()I"⟩
def dkwX4_failedCommand_1 : List UInt8 := [180, 0, 13, 167, 0, 4, 3, 172]
abbrev dktX4_failedCommand_1 : List UInt8 := dkwX4_failedCommand_1 ++ []
def dkwX4_failedCommand_0 : List UInt8 := [42, 42, 180, 0, 13, 156, 0, 7, 4, 167, 0, 4, 3, 181, 0, 50, 42, 180, 0, 50, 154, 0, 10, 42]
abbrev dktX4_failedCommand_0 : List UInt8 := dkwX4_failedCommand_0 ++ dktX4_failedCommand_1
theorem dksX4_failedCommand_0 : cX4_failedCommand.data.toList.drop 0 = dktX4_failedCommand_0 := by decide +kernel
theorem dksX4_failedCommand_1 : cX4_failedCommand.data.toList.drop 24 = dktX4_failedCommand_1 := dk_seg dksX4_failedCommand_0 24 rfl rfl
theorem dX4_failedCommand_0 : decode cX4_failedCommand 0 = .ok (.aload_n 0, 1) := dk_42 (dk_at dksX4_failedCommand_0 0 rfl rfl)
theorem dX4_failedCommand_1 : decode cX4_failedCommand 1 = .ok (.aload_n 0, 1) := dk_42 (dk_at dksX4_failedCommand_0 1 rfl rfl)
theorem dX4_failedCommand_2 : decode cX4_failedCommand 2 = .ok (.getfield 13, 3) := dk_180 0 13 (dk_at dksX4_failedCommand_0 2 rfl rfl)
theorem dX4_failedCommand_5 : decode cX4_failedCommand 5 = .ok (.ifCond .ge 7, 3) := dk_156 0 7 (dk_at dksX4_failedCommand_0 5 rfl rfl)
theorem dX4_failedCommand_8 : decode cX4_failedCommand 8 = .ok (.iconst 1, 1) := dk_4 (dk_at dksX4_failedCommand_0 8 rfl rfl)
theorem dX4_failedCommand_9 : decode cX4_failedCommand 9 = .ok (.goto 4, 3) := dk_167 0 4 (dk_at dksX4_failedCommand_0 9 rfl rfl)
theorem dX4_failedCommand_12 : decode cX4_failedCommand 12 = .ok (.iconst 0, 1) := dk_3 (dk_at dksX4_failedCommand_0 12 rfl rfl)
theorem dX4_failedCommand_13 : decode cX4_failedCommand 13 = .ok (.putfield 50, 3) := dk_181 0 50 (dk_at dksX4_failedCommand_0 13 rfl rfl)
theorem dX4_failedCommand_16 : decode cX4_failedCommand 16 = .ok (.aload_n 0, 1) := dk_42 (dk_at dksX4_failedCommand_0 16 rfl rfl)
theorem dX4_failedCommand_17 : decode cX4_failedCommand 17 = .ok (.getfield 50, 3) := dk_180 0 50 (dk_at dksX4_failedCommand_0 17 rfl rfl)
theorem dX4_failedCommand_20 : decode cX4_failedCommand 20 = .ok (.ifCond .ne 10, 3) := dk_154 0 10 (dk_at dksX4_failedCommand_0 20 rfl rfl)
theorem dX4_failedCommand_23 : decode cX4_failedCommand 23 = .ok (.aload_n 0, 1) := dk_42 (dk_at dksX4_failedCommand_0 23 rfl rfl)
theorem dX4_failedCommand_24 : decode cX4_failedCommand 24 = .ok (.getfield 13, 3) := dk_180 0 13 (dk_at dksX4_failedCommand_1 0 rfl rfl)
theorem dX4_failedCommand_27 : decode cX4_failedCommand 27 = .ok (.goto 4, 3) := dk_167 0 4 (dk_at dksX4_failedCommand_1 3 rfl rfl)
theorem dX4_failedCommand_30 : decode cX4_failedCommand 30 = .ok (.iconst 0, 1) := dk_3 (dk_at dksX4_failedCommand_1 6 rfl rfl)
theorem dX4_failedCommand_31 : decode cX4_failedCommand 31 = .ok (.ireturn, 1) := dk_172 (dk_at dksX4_failedCommand_1 7 rfl rfl)
abbrev cX4_failureKind : ByteArray := prog_18_method_92_code
def yX4_failureKind : MethodName := ⟨RX4, "failureKind", "()C"⟩
def dkwX4_failureKind_1 : List UInt8 := [180, 0, 221, 146, 167, 0, 5, 16, 97, 172]
abbrev dktX4_failureKind_1 : List UInt8 := dkwX4_failureKind_1 ++ []
def dkwX4_failureKind_0 : List UInt8 := [42, 42, 180, 0, 13, 156, 0, 7, 4, 167, 0, 4, 3, 181, 0, 50, 42, 180, 0, 50, 154, 0, 11, 42]
abbrev dktX4_failureKind_0 : List UInt8 := dkwX4_failureKind_0 ++ dktX4_failureKind_1
theorem dksX4_failureKind_0 : cX4_failureKind.data.toList.drop 0 = dktX4_failureKind_0 := by decide +kernel
theorem dksX4_failureKind_1 : cX4_failureKind.data.toList.drop 24 = dktX4_failureKind_1 := dk_seg dksX4_failureKind_0 24 rfl rfl
theorem dX4_failureKind_0 : decode cX4_failureKind 0 = .ok (.aload_n 0, 1) := dk_42 (dk_at dksX4_failureKind_0 0 rfl rfl)
theorem dX4_failureKind_1 : decode cX4_failureKind 1 = .ok (.aload_n 0, 1) := dk_42 (dk_at dksX4_failureKind_0 1 rfl rfl)
theorem dX4_failureKind_2 : decode cX4_failureKind 2 = .ok (.getfield 13, 3) := dk_180 0 13 (dk_at dksX4_failureKind_0 2 rfl rfl)
theorem dX4_failureKind_5 : decode cX4_failureKind 5 = .ok (.ifCond .ge 7, 3) := dk_156 0 7 (dk_at dksX4_failureKind_0 5 rfl rfl)
theorem dX4_failureKind_8 : decode cX4_failureKind 8 = .ok (.iconst 1, 1) := dk_4 (dk_at dksX4_failureKind_0 8 rfl rfl)
theorem dX4_failureKind_9 : decode cX4_failureKind 9 = .ok (.goto 4, 3) := dk_167 0 4 (dk_at dksX4_failureKind_0 9 rfl rfl)
theorem dX4_failureKind_12 : decode cX4_failureKind 12 = .ok (.iconst 0, 1) := dk_3 (dk_at dksX4_failureKind_0 12 rfl rfl)
theorem dX4_failureKind_13 : decode cX4_failureKind 13 = .ok (.putfield 50, 3) := dk_181 0 50 (dk_at dksX4_failureKind_0 13 rfl rfl)
theorem dX4_failureKind_16 : decode cX4_failureKind 16 = .ok (.aload_n 0, 1) := dk_42 (dk_at dksX4_failureKind_0 16 rfl rfl)
theorem dX4_failureKind_17 : decode cX4_failureKind 17 = .ok (.getfield 50, 3) := dk_180 0 50 (dk_at dksX4_failureKind_0 17 rfl rfl)
theorem dX4_failureKind_20 : decode cX4_failureKind 20 = .ok (.ifCond .ne 11, 3) := dk_154 0 11 (dk_at dksX4_failureKind_0 20 rfl rfl)
theorem dX4_failureKind_23 : decode cX4_failureKind 23 = .ok (.aload_n 0, 1) := dk_42 (dk_at dksX4_failureKind_0 23 rfl rfl)
theorem dX4_failureKind_24 : decode cX4_failureKind 24 = .ok (.getfield 221, 3) := dk_180 0 221 (dk_at dksX4_failureKind_1 0 rfl rfl)
theorem dX4_failureKind_27 : decode cX4_failureKind 27 = .ok (.i2c, 1) := dk_146 (dk_at dksX4_failureKind_1 3 rfl rfl)
theorem dX4_failureKind_28 : decode cX4_failureKind 28 = .ok (.goto 5, 3) := dk_167 0 5 (dk_at dksX4_failureKind_1 4 rfl rfl)
theorem dX4_failureKind_31 : decode cX4_failureKind 31 = .ok (.bipush 97, 2) := dk_16 97 (dk_at dksX4_failureKind_1 7 rfl rfl)
theorem dX4_failureKind_33 : decode cX4_failureKind 33 = .ok (.ireturn, 1) := dk_172 (dk_at dksX4_failureKind_1 9 rfl rfl)
abbrev cX4_count : ByteArray := prog_18_method_52_code
def yX4_count : MethodName := ⟨RX4, "count", "(I)I"⟩
def dkwX4_count_0 : List UInt8 := [3, 60, 26, 61, 28, 153, 0, 15, 132, 1, 1, 28, 28, 4, 100, 126, 61, 167, 255, 243, 27, 172]
abbrev dktX4_count_0 : List UInt8 := dkwX4_count_0 ++ []
theorem dksX4_count_0 : cX4_count.data.toList.drop 0 = dktX4_count_0 := by decide +kernel
theorem dX4_count_0 : decode cX4_count 0 = .ok (.iconst 0, 1) := dk_3 (dk_at dksX4_count_0 0 rfl rfl)
theorem dX4_count_1 : decode cX4_count 1 = .ok (.istore_n 1, 1) := dk_60 (dk_at dksX4_count_0 1 rfl rfl)
theorem dX4_count_2 : decode cX4_count 2 = .ok (.iload_n 0, 1) := dk_26 (dk_at dksX4_count_0 2 rfl rfl)
theorem dX4_count_3 : decode cX4_count 3 = .ok (.istore_n 2, 1) := dk_61 (dk_at dksX4_count_0 3 rfl rfl)
theorem dX4_count_4 : decode cX4_count 4 = .ok (.iload_n 2, 1) := dk_28 (dk_at dksX4_count_0 4 rfl rfl)
theorem dX4_count_5 : decode cX4_count 5 = .ok (.ifCond .eq 15, 3) := dk_153 0 15 (dk_at dksX4_count_0 5 rfl rfl)
theorem dX4_count_8 : decode cX4_count 8 = .ok (.iinc 1 1, 3) := dk_132 1 1 (dk_at dksX4_count_0 8 rfl rfl)
theorem dX4_count_11 : decode cX4_count 11 = .ok (.iload_n 2, 1) := dk_28 (dk_at dksX4_count_0 11 rfl rfl)
theorem dX4_count_12 : decode cX4_count 12 = .ok (.iload_n 2, 1) := dk_28 (dk_at dksX4_count_0 12 rfl rfl)
theorem dX4_count_13 : decode cX4_count 13 = .ok (.iconst 1, 1) := dk_4 (dk_at dksX4_count_0 13 rfl rfl)
theorem dX4_count_14 : decode cX4_count 14 = .ok (.isub, 1) := dk_100 (dk_at dksX4_count_0 14 rfl rfl)
theorem dX4_count_15 : decode cX4_count 15 = .ok (.iand, 1) := dk_126 (dk_at dksX4_count_0 15 rfl rfl)
theorem dX4_count_16 : decode cX4_count 16 = .ok (.istore_n 2, 1) := dk_61 (dk_at dksX4_count_0 16 rfl rfl)
theorem dX4_count_17 : decode cX4_count 17 = .ok (.goto (-13), 3) := dk_167 255 243 (dk_at dksX4_count_0 17 rfl rfl)
theorem dX4_count_20 : decode cX4_count 20 = .ok (.iload_n 1, 1) := dk_27 (dk_at dksX4_count_0 20 rfl rfl)
theorem dX4_count_21 : decode cX4_count 21 = .ok (.ireturn, 1) := dk_172 (dk_at dksX4_count_0 21 rfl rfl)
abbrev cX4_covers : ByteArray := prog_18_method_60_code
def yX4_covers : MethodName := ⟨RX4, "covers", "(III)Z"⟩
def dkwX4_covers_4 : List UInt8 := [132, 4, 1, 167, 255, 161, 4, 172]
abbrev dktX4_covers_4 : List UInt8 := dkwX4_covers_4 ++ []
def dkwX4_covers_3 : List UInt8 := [162, 0, 7, 4, 167, 0, 4, 3, 128, 54, 5, 132, 6, 1, 167, 255, 186, 21, 5, 154, 0, 5, 3, 172]
abbrev dktX4_covers_3 : List UInt8 := dkwX4_covers_3 ++ dktX4_covers_4
def dkwX4_covers_2 : List UInt8 := [104, 96, 46, 21, 4, 163, 0, 26, 21, 4, 42, 180, 0, 16, 16, 60, 5, 21, 6, 104, 96, 4, 96, 46]
abbrev dktX4_covers_2 : List UInt8 := dkwX4_covers_2 ++ dktX4_covers_3
def dkwX4_covers_1 : List UInt8 := [162, 0, 65, 21, 5, 27, 21, 6, 122, 4, 126, 4, 160, 0, 43, 42, 180, 0, 16, 16, 60, 5, 21, 6]
abbrev dktX4_covers_1 : List UInt8 := dkwX4_covers_1 ++ dktX4_covers_2
def dkwX4_covers_0 : List UInt8 := [28, 54, 4, 21, 4, 29, 162, 0, 95, 3, 54, 5, 3, 54, 6, 21, 6, 42, 180, 0, 16, 7, 46]
abbrev dktX4_covers_0 : List UInt8 := dkwX4_covers_0 ++ dktX4_covers_1
theorem dksX4_covers_0 : cX4_covers.data.toList.drop 0 = dktX4_covers_0 := by decide +kernel
theorem dksX4_covers_1 : cX4_covers.data.toList.drop 23 = dktX4_covers_1 := dk_seg dksX4_covers_0 23 rfl rfl
theorem dksX4_covers_2 : cX4_covers.data.toList.drop 47 = dktX4_covers_2 := dk_seg dksX4_covers_1 24 rfl rfl
theorem dksX4_covers_3 : cX4_covers.data.toList.drop 71 = dktX4_covers_3 := dk_seg dksX4_covers_2 24 rfl rfl
theorem dksX4_covers_4 : cX4_covers.data.toList.drop 95 = dktX4_covers_4 := dk_seg dksX4_covers_3 24 rfl rfl
theorem dX4_covers_0 : decode cX4_covers 0 = .ok (.iload_n 2, 1) := dk_28 (dk_at dksX4_covers_0 0 rfl rfl)
theorem dX4_covers_1 : decode cX4_covers 1 = .ok (.istore 4, 2) := dk_54 4 (dk_at dksX4_covers_0 1 rfl rfl)
theorem dX4_covers_3 : decode cX4_covers 3 = .ok (.iload 4, 2) := dk_21 4 (dk_at dksX4_covers_0 3 rfl rfl)
theorem dX4_covers_5 : decode cX4_covers 5 = .ok (.iload_n 3, 1) := dk_29 (dk_at dksX4_covers_0 5 rfl rfl)
theorem dX4_covers_6 : decode cX4_covers 6 = .ok (.if_icmp .ge 95, 3) := dk_162 0 95 (dk_at dksX4_covers_0 6 rfl rfl)
theorem dX4_covers_9 : decode cX4_covers 9 = .ok (.iconst 0, 1) := dk_3 (dk_at dksX4_covers_0 9 rfl rfl)
theorem dX4_covers_10 : decode cX4_covers 10 = .ok (.istore 5, 2) := dk_54 5 (dk_at dksX4_covers_0 10 rfl rfl)
theorem dX4_covers_12 : decode cX4_covers 12 = .ok (.iconst 0, 1) := dk_3 (dk_at dksX4_covers_0 12 rfl rfl)
theorem dX4_covers_13 : decode cX4_covers 13 = .ok (.istore 6, 2) := dk_54 6 (dk_at dksX4_covers_0 13 rfl rfl)
theorem dX4_covers_15 : decode cX4_covers 15 = .ok (.iload 6, 2) := dk_21 6 (dk_at dksX4_covers_0 15 rfl rfl)
theorem dX4_covers_17 : decode cX4_covers 17 = .ok (.aload_n 0, 1) := dk_42 (dk_at dksX4_covers_0 17 rfl rfl)
theorem dX4_covers_18 : decode cX4_covers 18 = .ok (.getfield 16, 3) := dk_180 0 16 (dk_at dksX4_covers_0 18 rfl rfl)
theorem dX4_covers_21 : decode cX4_covers 21 = .ok (.iconst 4, 1) := dk_7 (dk_at dksX4_covers_0 21 rfl rfl)
theorem dX4_covers_22 : decode cX4_covers 22 = .ok (.iaload, 1) := dk_46 (dk_at dksX4_covers_0 22 rfl rfl)
theorem dX4_covers_23 : decode cX4_covers 23 = .ok (.if_icmp .ge 65, 3) := dk_162 0 65 (dk_at dksX4_covers_1 0 rfl rfl)
theorem dX4_covers_26 : decode cX4_covers 26 = .ok (.iload 5, 2) := dk_21 5 (dk_at dksX4_covers_1 3 rfl rfl)
theorem dX4_covers_28 : decode cX4_covers 28 = .ok (.iload_n 1, 1) := dk_27 (dk_at dksX4_covers_1 5 rfl rfl)
theorem dX4_covers_29 : decode cX4_covers 29 = .ok (.iload 6, 2) := dk_21 6 (dk_at dksX4_covers_1 6 rfl rfl)
theorem dX4_covers_31 : decode cX4_covers 31 = .ok (.ishr, 1) := dk_122 (dk_at dksX4_covers_1 8 rfl rfl)
theorem dX4_covers_32 : decode cX4_covers 32 = .ok (.iconst 1, 1) := dk_4 (dk_at dksX4_covers_1 9 rfl rfl)
theorem dX4_covers_33 : decode cX4_covers 33 = .ok (.iand, 1) := dk_126 (dk_at dksX4_covers_1 10 rfl rfl)
theorem dX4_covers_34 : decode cX4_covers 34 = .ok (.iconst 1, 1) := dk_4 (dk_at dksX4_covers_1 11 rfl rfl)
theorem dX4_covers_35 : decode cX4_covers 35 = .ok (.if_icmp .ne 43, 3) := dk_160 0 43 (dk_at dksX4_covers_1 12 rfl rfl)
theorem dX4_covers_38 : decode cX4_covers 38 = .ok (.aload_n 0, 1) := dk_42 (dk_at dksX4_covers_1 15 rfl rfl)
theorem dX4_covers_39 : decode cX4_covers 39 = .ok (.getfield 16, 3) := dk_180 0 16 (dk_at dksX4_covers_1 16 rfl rfl)
theorem dX4_covers_42 : decode cX4_covers 42 = .ok (.bipush 60, 2) := dk_16 60 (dk_at dksX4_covers_1 19 rfl rfl)
theorem dX4_covers_44 : decode cX4_covers 44 = .ok (.iconst 2, 1) := dk_5 (dk_at dksX4_covers_1 21 rfl rfl)
theorem dX4_covers_45 : decode cX4_covers 45 = .ok (.iload 6, 2) := dk_21 6 (dk_at dksX4_covers_1 22 rfl rfl)
theorem dX4_covers_47 : decode cX4_covers 47 = .ok (.imul, 1) := dk_104 (dk_at dksX4_covers_2 0 rfl rfl)
theorem dX4_covers_48 : decode cX4_covers 48 = .ok (.iadd, 1) := dk_96 (dk_at dksX4_covers_2 1 rfl rfl)
theorem dX4_covers_49 : decode cX4_covers 49 = .ok (.iaload, 1) := dk_46 (dk_at dksX4_covers_2 2 rfl rfl)
theorem dX4_covers_50 : decode cX4_covers 50 = .ok (.iload 4, 2) := dk_21 4 (dk_at dksX4_covers_2 3 rfl rfl)
theorem dX4_covers_52 : decode cX4_covers 52 = .ok (.if_icmp .gt 26, 3) := dk_163 0 26 (dk_at dksX4_covers_2 5 rfl rfl)
theorem dX4_covers_55 : decode cX4_covers 55 = .ok (.iload 4, 2) := dk_21 4 (dk_at dksX4_covers_2 8 rfl rfl)
theorem dX4_covers_57 : decode cX4_covers 57 = .ok (.aload_n 0, 1) := dk_42 (dk_at dksX4_covers_2 10 rfl rfl)
theorem dX4_covers_58 : decode cX4_covers 58 = .ok (.getfield 16, 3) := dk_180 0 16 (dk_at dksX4_covers_2 11 rfl rfl)
theorem dX4_covers_61 : decode cX4_covers 61 = .ok (.bipush 60, 2) := dk_16 60 (dk_at dksX4_covers_2 14 rfl rfl)
theorem dX4_covers_63 : decode cX4_covers 63 = .ok (.iconst 2, 1) := dk_5 (dk_at dksX4_covers_2 16 rfl rfl)
theorem dX4_covers_64 : decode cX4_covers 64 = .ok (.iload 6, 2) := dk_21 6 (dk_at dksX4_covers_2 17 rfl rfl)
theorem dX4_covers_66 : decode cX4_covers 66 = .ok (.imul, 1) := dk_104 (dk_at dksX4_covers_2 19 rfl rfl)
theorem dX4_covers_67 : decode cX4_covers 67 = .ok (.iadd, 1) := dk_96 (dk_at dksX4_covers_2 20 rfl rfl)
theorem dX4_covers_68 : decode cX4_covers 68 = .ok (.iconst 1, 1) := dk_4 (dk_at dksX4_covers_2 21 rfl rfl)
theorem dX4_covers_69 : decode cX4_covers 69 = .ok (.iadd, 1) := dk_96 (dk_at dksX4_covers_2 22 rfl rfl)
theorem dX4_covers_70 : decode cX4_covers 70 = .ok (.iaload, 1) := dk_46 (dk_at dksX4_covers_2 23 rfl rfl)
theorem dX4_covers_71 : decode cX4_covers 71 = .ok (.if_icmp .ge 7, 3) := dk_162 0 7 (dk_at dksX4_covers_3 0 rfl rfl)
theorem dX4_covers_74 : decode cX4_covers 74 = .ok (.iconst 1, 1) := dk_4 (dk_at dksX4_covers_3 3 rfl rfl)
theorem dX4_covers_75 : decode cX4_covers 75 = .ok (.goto 4, 3) := dk_167 0 4 (dk_at dksX4_covers_3 4 rfl rfl)
theorem dX4_covers_78 : decode cX4_covers 78 = .ok (.iconst 0, 1) := dk_3 (dk_at dksX4_covers_3 7 rfl rfl)
theorem dX4_covers_79 : decode cX4_covers 79 = .ok (.ior, 1) := dk_128 (dk_at dksX4_covers_3 8 rfl rfl)
theorem dX4_covers_80 : decode cX4_covers 80 = .ok (.istore 5, 2) := dk_54 5 (dk_at dksX4_covers_3 9 rfl rfl)
theorem dX4_covers_82 : decode cX4_covers 82 = .ok (.iinc 6 1, 3) := dk_132 6 1 (dk_at dksX4_covers_3 11 rfl rfl)
theorem dX4_covers_85 : decode cX4_covers 85 = .ok (.goto (-70), 3) := dk_167 255 186 (dk_at dksX4_covers_3 14 rfl rfl)
theorem dX4_covers_88 : decode cX4_covers 88 = .ok (.iload 5, 2) := dk_21 5 (dk_at dksX4_covers_3 17 rfl rfl)
theorem dX4_covers_90 : decode cX4_covers 90 = .ok (.ifCond .ne 5, 3) := dk_154 0 5 (dk_at dksX4_covers_3 19 rfl rfl)
theorem dX4_covers_93 : decode cX4_covers 93 = .ok (.iconst 0, 1) := dk_3 (dk_at dksX4_covers_3 22 rfl rfl)
theorem dX4_covers_94 : decode cX4_covers 94 = .ok (.ireturn, 1) := dk_172 (dk_at dksX4_covers_3 23 rfl rfl)
theorem dX4_covers_95 : decode cX4_covers 95 = .ok (.iinc 4 1, 3) := dk_132 4 1 (dk_at dksX4_covers_4 0 rfl rfl)
theorem dX4_covers_98 : decode cX4_covers 98 = .ok (.goto (-95), 3) := dk_167 255 161 (dk_at dksX4_covers_4 3 rfl rfl)
theorem dX4_covers_101 : decode cX4_covers 101 = .ok (.iconst 1, 1) := dk_4 (dk_at dksX4_covers_4 6 rfl rfl)
theorem dX4_covers_102 : decode cX4_covers 102 = .ok (.ireturn, 1) := dk_172 (dk_at dksX4_covers_4 7 rfl rfl)
abbrev cX4_isCovered : ByteArray := prog_18_method_61_code
def yX4_isCovered : MethodName := ⟨RX4, "isCovered", "(II)Z"⟩
def dkwX4_isCovered_2 : List UInt8 := [100, 27, 28, 182, 0, 154, 153, 0, 7, 4, 167, 0, 4, 3, 172]
abbrev dktX4_isCovered_2 : List UInt8 := dkwX4_isCovered_2 ++ []
def dkwX4_isCovered_1 : List UInt8 := [167, 0, 4, 4, 181, 0, 50, 42, 180, 0, 50, 154, 0, 26, 42, 4, 42, 180, 0, 16, 7, 46, 120, 4]
abbrev dktX4_isCovered_1 : List UInt8 := dkwX4_isCovered_1 ++ dktX4_isCovered_2
def dkwX4_isCovered_0 : List UInt8 := [42, 27, 3, 16, 23, 184, 0, 82, 153, 0, 19, 28, 27, 4, 96, 16, 24, 184, 0, 82, 153, 0, 7, 3]
abbrev dktX4_isCovered_0 : List UInt8 := dkwX4_isCovered_0 ++ dktX4_isCovered_1
theorem dksX4_isCovered_0 : cX4_isCovered.data.toList.drop 0 = dktX4_isCovered_0 := by decide +kernel
theorem dksX4_isCovered_1 : cX4_isCovered.data.toList.drop 24 = dktX4_isCovered_1 := dk_seg dksX4_isCovered_0 24 rfl rfl
theorem dksX4_isCovered_2 : cX4_isCovered.data.toList.drop 48 = dktX4_isCovered_2 := dk_seg dksX4_isCovered_1 24 rfl rfl
theorem dX4_isCovered_0 : decode cX4_isCovered 0 = .ok (.aload_n 0, 1) := dk_42 (dk_at dksX4_isCovered_0 0 rfl rfl)
theorem dX4_isCovered_1 : decode cX4_isCovered 1 = .ok (.iload_n 1, 1) := dk_27 (dk_at dksX4_isCovered_0 1 rfl rfl)
theorem dX4_isCovered_2 : decode cX4_isCovered 2 = .ok (.iconst 0, 1) := dk_3 (dk_at dksX4_isCovered_0 2 rfl rfl)
theorem dX4_isCovered_3 : decode cX4_isCovered 3 = .ok (.bipush 23, 2) := dk_16 23 (dk_at dksX4_isCovered_0 3 rfl rfl)
theorem dX4_isCovered_5 : decode cX4_isCovered 5 = .ok (.invokestatic 82, 3) := dk_184 0 82 (dk_at dksX4_isCovered_0 5 rfl rfl)
theorem dX4_isCovered_8 : decode cX4_isCovered 8 = .ok (.ifCond .eq 19, 3) := dk_153 0 19 (dk_at dksX4_isCovered_0 8 rfl rfl)
theorem dX4_isCovered_11 : decode cX4_isCovered 11 = .ok (.iload_n 2, 1) := dk_28 (dk_at dksX4_isCovered_0 11 rfl rfl)
theorem dX4_isCovered_12 : decode cX4_isCovered 12 = .ok (.iload_n 1, 1) := dk_27 (dk_at dksX4_isCovered_0 12 rfl rfl)
theorem dX4_isCovered_13 : decode cX4_isCovered 13 = .ok (.iconst 1, 1) := dk_4 (dk_at dksX4_isCovered_0 13 rfl rfl)
theorem dX4_isCovered_14 : decode cX4_isCovered 14 = .ok (.iadd, 1) := dk_96 (dk_at dksX4_isCovered_0 14 rfl rfl)
theorem dX4_isCovered_15 : decode cX4_isCovered 15 = .ok (.bipush 24, 2) := dk_16 24 (dk_at dksX4_isCovered_0 15 rfl rfl)
theorem dX4_isCovered_17 : decode cX4_isCovered 17 = .ok (.invokestatic 82, 3) := dk_184 0 82 (dk_at dksX4_isCovered_0 17 rfl rfl)
theorem dX4_isCovered_20 : decode cX4_isCovered 20 = .ok (.ifCond .eq 7, 3) := dk_153 0 7 (dk_at dksX4_isCovered_0 20 rfl rfl)
theorem dX4_isCovered_23 : decode cX4_isCovered 23 = .ok (.iconst 0, 1) := dk_3 (dk_at dksX4_isCovered_0 23 rfl rfl)
theorem dX4_isCovered_24 : decode cX4_isCovered 24 = .ok (.goto 4, 3) := dk_167 0 4 (dk_at dksX4_isCovered_1 0 rfl rfl)
theorem dX4_isCovered_27 : decode cX4_isCovered 27 = .ok (.iconst 1, 1) := dk_4 (dk_at dksX4_isCovered_1 3 rfl rfl)
theorem dX4_isCovered_28 : decode cX4_isCovered 28 = .ok (.putfield 50, 3) := dk_181 0 50 (dk_at dksX4_isCovered_1 4 rfl rfl)
theorem dX4_isCovered_31 : decode cX4_isCovered 31 = .ok (.aload_n 0, 1) := dk_42 (dk_at dksX4_isCovered_1 7 rfl rfl)
theorem dX4_isCovered_32 : decode cX4_isCovered 32 = .ok (.getfield 50, 3) := dk_180 0 50 (dk_at dksX4_isCovered_1 8 rfl rfl)
theorem dX4_isCovered_35 : decode cX4_isCovered 35 = .ok (.ifCond .ne 26, 3) := dk_154 0 26 (dk_at dksX4_isCovered_1 11 rfl rfl)
theorem dX4_isCovered_38 : decode cX4_isCovered 38 = .ok (.aload_n 0, 1) := dk_42 (dk_at dksX4_isCovered_1 14 rfl rfl)
theorem dX4_isCovered_39 : decode cX4_isCovered 39 = .ok (.iconst 1, 1) := dk_4 (dk_at dksX4_isCovered_1 15 rfl rfl)
theorem dX4_isCovered_40 : decode cX4_isCovered 40 = .ok (.aload_n 0, 1) := dk_42 (dk_at dksX4_isCovered_1 16 rfl rfl)
theorem dX4_isCovered_41 : decode cX4_isCovered 41 = .ok (.getfield 16, 3) := dk_180 0 16 (dk_at dksX4_isCovered_1 17 rfl rfl)
theorem dX4_isCovered_44 : decode cX4_isCovered 44 = .ok (.iconst 4, 1) := dk_7 (dk_at dksX4_isCovered_1 20 rfl rfl)
theorem dX4_isCovered_45 : decode cX4_isCovered 45 = .ok (.iaload, 1) := dk_46 (dk_at dksX4_isCovered_1 21 rfl rfl)
theorem dX4_isCovered_46 : decode cX4_isCovered 46 = .ok (.ishl, 1) := dk_120 (dk_at dksX4_isCovered_1 22 rfl rfl)
theorem dX4_isCovered_47 : decode cX4_isCovered 47 = .ok (.iconst 1, 1) := dk_4 (dk_at dksX4_isCovered_1 23 rfl rfl)
theorem dX4_isCovered_48 : decode cX4_isCovered 48 = .ok (.isub, 1) := dk_100 (dk_at dksX4_isCovered_2 0 rfl rfl)
theorem dX4_isCovered_49 : decode cX4_isCovered 49 = .ok (.iload_n 1, 1) := dk_27 (dk_at dksX4_isCovered_2 1 rfl rfl)
theorem dX4_isCovered_50 : decode cX4_isCovered 50 = .ok (.iload_n 2, 1) := dk_28 (dk_at dksX4_isCovered_2 2 rfl rfl)
theorem dX4_isCovered_51 : decode cX4_isCovered 51 = .ok (.invokevirtual 154, 3) := dk_182 0 154 (dk_at dksX4_isCovered_2 3 rfl rfl)
theorem dX4_isCovered_54 : decode cX4_isCovered 54 = .ok (.ifCond .eq 7, 3) := dk_153 0 7 (dk_at dksX4_isCovered_2 6 rfl rfl)
theorem dX4_isCovered_57 : decode cX4_isCovered 57 = .ok (.iconst 1, 1) := dk_4 (dk_at dksX4_isCovered_2 9 rfl rfl)
theorem dX4_isCovered_58 : decode cX4_isCovered 58 = .ok (.goto 4, 3) := dk_167 0 4 (dk_at dksX4_isCovered_2 10 rfl rfl)
theorem dX4_isCovered_61 : decode cX4_isCovered 61 = .ok (.iconst 0, 1) := dk_3 (dk_at dksX4_isCovered_2 13 rfl rfl)
theorem dX4_isCovered_62 : decode cX4_isCovered 62 = .ok (.ireturn, 1) := dk_172 (dk_at dksX4_isCovered_2 14 rfl rfl)
abbrev cX4_fewestKeepers : ByteArray := prog_18_method_62_code
def yX4_fewestKeepers : MethodName := ⟨RX4, "fewestKeepers", "(II)I"⟩
def dkwX4_fewestKeepers_3 : List UInt8 := [184, 0, 145, 62, 132, 4, 1, 167, 255, 214, 29, 172]
abbrev dktX4_fewestKeepers_3 : List UInt8 := dkwX4_fewestKeepers_3 ++ []
def dkwX4_fewestKeepers_2 : List UInt8 := [21, 4, 184, 0, 145, 29, 162, 0, 20, 42, 21, 4, 27, 28, 182, 0, 154, 153, 0, 9, 21, 4]
abbrev dktX4_fewestKeepers_2 : List UInt8 := dkwX4_fewestKeepers_2 ++ dktX4_fewestKeepers_3
def dkwX4_fewestKeepers_1 : List UInt8 := [182, 0, 86, 172, 16, 6, 62, 4, 54, 4, 21, 4, 4, 42, 180, 0, 16, 7, 46, 120, 162, 0, 35]
abbrev dktX4_fewestKeepers_1 : List UInt8 := dkwX4_fewestKeepers_1 ++ dktX4_fewestKeepers_2
def dkwX4_fewestKeepers_0 : List UInt8 := [42, 27, 28, 182, 0, 157, 154, 0, 20, 42, 42, 180, 0, 50, 154, 0, 7, 5, 167, 0, 4, 4]
abbrev dktX4_fewestKeepers_0 : List UInt8 := dkwX4_fewestKeepers_0 ++ dktX4_fewestKeepers_1
theorem dksX4_fewestKeepers_0 : cX4_fewestKeepers.data.toList.drop 0 = dktX4_fewestKeepers_0 := by decide +kernel
theorem dksX4_fewestKeepers_1 : cX4_fewestKeepers.data.toList.drop 22 = dktX4_fewestKeepers_1 := dk_seg dksX4_fewestKeepers_0 22 rfl rfl
theorem dksX4_fewestKeepers_2 : cX4_fewestKeepers.data.toList.drop 45 = dktX4_fewestKeepers_2 := dk_seg dksX4_fewestKeepers_1 23 rfl rfl
theorem dksX4_fewestKeepers_3 : cX4_fewestKeepers.data.toList.drop 67 = dktX4_fewestKeepers_3 := dk_seg dksX4_fewestKeepers_2 22 rfl rfl
theorem dX4_fewestKeepers_0 : decode cX4_fewestKeepers 0 = .ok (.aload_n 0, 1) := dk_42 (dk_at dksX4_fewestKeepers_0 0 rfl rfl)
theorem dX4_fewestKeepers_1 : decode cX4_fewestKeepers 1 = .ok (.iload_n 1, 1) := dk_27 (dk_at dksX4_fewestKeepers_0 1 rfl rfl)
theorem dX4_fewestKeepers_2 : decode cX4_fewestKeepers 2 = .ok (.iload_n 2, 1) := dk_28 (dk_at dksX4_fewestKeepers_0 2 rfl rfl)
theorem dX4_fewestKeepers_3 : decode cX4_fewestKeepers 3 = .ok (.invokevirtual 157, 3) := dk_182 0 157 (dk_at dksX4_fewestKeepers_0 3 rfl rfl)
theorem dX4_fewestKeepers_6 : decode cX4_fewestKeepers 6 = .ok (.ifCond .ne 20, 3) := dk_154 0 20 (dk_at dksX4_fewestKeepers_0 6 rfl rfl)
theorem dX4_fewestKeepers_9 : decode cX4_fewestKeepers 9 = .ok (.aload_n 0, 1) := dk_42 (dk_at dksX4_fewestKeepers_0 9 rfl rfl)
theorem dX4_fewestKeepers_10 : decode cX4_fewestKeepers 10 = .ok (.aload_n 0, 1) := dk_42 (dk_at dksX4_fewestKeepers_0 10 rfl rfl)
theorem dX4_fewestKeepers_11 : decode cX4_fewestKeepers 11 = .ok (.getfield 50, 3) := dk_180 0 50 (dk_at dksX4_fewestKeepers_0 11 rfl rfl)
theorem dX4_fewestKeepers_14 : decode cX4_fewestKeepers 14 = .ok (.ifCond .ne 7, 3) := dk_154 0 7 (dk_at dksX4_fewestKeepers_0 14 rfl rfl)
theorem dX4_fewestKeepers_17 : decode cX4_fewestKeepers 17 = .ok (.iconst 2, 1) := dk_5 (dk_at dksX4_fewestKeepers_0 17 rfl rfl)
theorem dX4_fewestKeepers_18 : decode cX4_fewestKeepers 18 = .ok (.goto 4, 3) := dk_167 0 4 (dk_at dksX4_fewestKeepers_0 18 rfl rfl)
theorem dX4_fewestKeepers_21 : decode cX4_fewestKeepers 21 = .ok (.iconst 1, 1) := dk_4 (dk_at dksX4_fewestKeepers_0 21 rfl rfl)
theorem dX4_fewestKeepers_22 : decode cX4_fewestKeepers 22 = .ok (.invokevirtual 86, 3) := dk_182 0 86 (dk_at dksX4_fewestKeepers_1 0 rfl rfl)
theorem dX4_fewestKeepers_25 : decode cX4_fewestKeepers 25 = .ok (.ireturn, 1) := dk_172 (dk_at dksX4_fewestKeepers_1 3 rfl rfl)
theorem dX4_fewestKeepers_26 : decode cX4_fewestKeepers 26 = .ok (.bipush 6, 2) := dk_16 6 (dk_at dksX4_fewestKeepers_1 4 rfl rfl)
theorem dX4_fewestKeepers_28 : decode cX4_fewestKeepers 28 = .ok (.istore_n 3, 1) := dk_62 (dk_at dksX4_fewestKeepers_1 6 rfl rfl)
theorem dX4_fewestKeepers_29 : decode cX4_fewestKeepers 29 = .ok (.iconst 1, 1) := dk_4 (dk_at dksX4_fewestKeepers_1 7 rfl rfl)
theorem dX4_fewestKeepers_30 : decode cX4_fewestKeepers 30 = .ok (.istore 4, 2) := dk_54 4 (dk_at dksX4_fewestKeepers_1 8 rfl rfl)
theorem dX4_fewestKeepers_32 : decode cX4_fewestKeepers 32 = .ok (.iload 4, 2) := dk_21 4 (dk_at dksX4_fewestKeepers_1 10 rfl rfl)
theorem dX4_fewestKeepers_34 : decode cX4_fewestKeepers 34 = .ok (.iconst 1, 1) := dk_4 (dk_at dksX4_fewestKeepers_1 12 rfl rfl)
theorem dX4_fewestKeepers_35 : decode cX4_fewestKeepers 35 = .ok (.aload_n 0, 1) := dk_42 (dk_at dksX4_fewestKeepers_1 13 rfl rfl)
theorem dX4_fewestKeepers_36 : decode cX4_fewestKeepers 36 = .ok (.getfield 16, 3) := dk_180 0 16 (dk_at dksX4_fewestKeepers_1 14 rfl rfl)
theorem dX4_fewestKeepers_39 : decode cX4_fewestKeepers 39 = .ok (.iconst 4, 1) := dk_7 (dk_at dksX4_fewestKeepers_1 17 rfl rfl)
theorem dX4_fewestKeepers_40 : decode cX4_fewestKeepers 40 = .ok (.iaload, 1) := dk_46 (dk_at dksX4_fewestKeepers_1 18 rfl rfl)
theorem dX4_fewestKeepers_41 : decode cX4_fewestKeepers 41 = .ok (.ishl, 1) := dk_120 (dk_at dksX4_fewestKeepers_1 19 rfl rfl)
theorem dX4_fewestKeepers_42 : decode cX4_fewestKeepers 42 = .ok (.if_icmp .ge 35, 3) := dk_162 0 35 (dk_at dksX4_fewestKeepers_1 20 rfl rfl)
theorem dX4_fewestKeepers_45 : decode cX4_fewestKeepers 45 = .ok (.iload 4, 2) := dk_21 4 (dk_at dksX4_fewestKeepers_2 0 rfl rfl)
theorem dX4_fewestKeepers_47 : decode cX4_fewestKeepers 47 = .ok (.invokestatic 145, 3) := dk_184 0 145 (dk_at dksX4_fewestKeepers_2 2 rfl rfl)
theorem dX4_fewestKeepers_50 : decode cX4_fewestKeepers 50 = .ok (.iload_n 3, 1) := dk_29 (dk_at dksX4_fewestKeepers_2 5 rfl rfl)
theorem dX4_fewestKeepers_51 : decode cX4_fewestKeepers 51 = .ok (.if_icmp .ge 20, 3) := dk_162 0 20 (dk_at dksX4_fewestKeepers_2 6 rfl rfl)
theorem dX4_fewestKeepers_54 : decode cX4_fewestKeepers 54 = .ok (.aload_n 0, 1) := dk_42 (dk_at dksX4_fewestKeepers_2 9 rfl rfl)
theorem dX4_fewestKeepers_55 : decode cX4_fewestKeepers 55 = .ok (.iload 4, 2) := dk_21 4 (dk_at dksX4_fewestKeepers_2 10 rfl rfl)
theorem dX4_fewestKeepers_57 : decode cX4_fewestKeepers 57 = .ok (.iload_n 1, 1) := dk_27 (dk_at dksX4_fewestKeepers_2 12 rfl rfl)
theorem dX4_fewestKeepers_58 : decode cX4_fewestKeepers 58 = .ok (.iload_n 2, 1) := dk_28 (dk_at dksX4_fewestKeepers_2 13 rfl rfl)
theorem dX4_fewestKeepers_59 : decode cX4_fewestKeepers 59 = .ok (.invokevirtual 154, 3) := dk_182 0 154 (dk_at dksX4_fewestKeepers_2 14 rfl rfl)
theorem dX4_fewestKeepers_62 : decode cX4_fewestKeepers 62 = .ok (.ifCond .eq 9, 3) := dk_153 0 9 (dk_at dksX4_fewestKeepers_2 17 rfl rfl)
theorem dX4_fewestKeepers_65 : decode cX4_fewestKeepers 65 = .ok (.iload 4, 2) := dk_21 4 (dk_at dksX4_fewestKeepers_2 20 rfl rfl)
theorem dX4_fewestKeepers_67 : decode cX4_fewestKeepers 67 = .ok (.invokestatic 145, 3) := dk_184 0 145 (dk_at dksX4_fewestKeepers_3 0 rfl rfl)
theorem dX4_fewestKeepers_70 : decode cX4_fewestKeepers 70 = .ok (.istore_n 3, 1) := dk_62 (dk_at dksX4_fewestKeepers_3 3 rfl rfl)
theorem dX4_fewestKeepers_71 : decode cX4_fewestKeepers 71 = .ok (.iinc 4 1, 3) := dk_132 4 1 (dk_at dksX4_fewestKeepers_3 4 rfl rfl)
theorem dX4_fewestKeepers_74 : decode cX4_fewestKeepers 74 = .ok (.goto (-42), 3) := dk_167 255 214 (dk_at dksX4_fewestKeepers_3 7 rfl rfl)
theorem dX4_fewestKeepers_77 : decode cX4_fewestKeepers 77 = .ok (.iload_n 3, 1) := dk_29 (dk_at dksX4_fewestKeepers_3 10 rfl rfl)
theorem dX4_fewestKeepers_78 : decode cX4_fewestKeepers 78 = .ok (.ireturn, 1) := dk_172 (dk_at dksX4_fewestKeepers_3 11 rfl rfl)
abbrev cX4_fewestKeepersBySets : ByteArray := prog_18_method_63_code
def yX4_fewestKeepersBySets : MethodName := ⟨RX4, "fewestKeepersBySets", "(II)I"⟩
def dkwX4_fewestKeepersBySets_0 : List UInt8 := [42, 27, 28, 182, 0, 161, 172]
abbrev dktX4_fewestKeepersBySets_0 : List UInt8 := dkwX4_fewestKeepersBySets_0 ++ []
theorem dksX4_fewestKeepersBySets_0 : cX4_fewestKeepersBySets.data.toList.drop 0 = dktX4_fewestKeepersBySets_0 := by decide +kernel
theorem dX4_fewestKeepersBySets_0 : decode cX4_fewestKeepersBySets 0 = .ok (.aload_n 0, 1) := dk_42 (dk_at dksX4_fewestKeepersBySets_0 0 rfl rfl)
theorem dX4_fewestKeepersBySets_1 : decode cX4_fewestKeepersBySets 1 = .ok (.iload_n 1, 1) := dk_27 (dk_at dksX4_fewestKeepersBySets_0 1 rfl rfl)
theorem dX4_fewestKeepersBySets_2 : decode cX4_fewestKeepersBySets 2 = .ok (.iload_n 2, 1) := dk_28 (dk_at dksX4_fewestKeepersBySets_0 2 rfl rfl)
theorem dX4_fewestKeepersBySets_3 : decode cX4_fewestKeepersBySets 3 = .ok (.invokevirtual 161, 3) := dk_182 0 161 (dk_at dksX4_fewestKeepersBySets_0 3 rfl rfl)
theorem dX4_fewestKeepersBySets_6 : decode cX4_fewestKeepersBySets 6 = .ok (.ireturn, 1) := dk_172 (dk_at dksX4_fewestKeepersBySets_0 6 rfl rfl)
abbrev cX4_hires : ByteArray := prog_18_method_28_code
def yX4_hires : MethodName := ⟨RX4, "hires", "(II)I"⟩
def dkwX4_hires_3 : List UInt8 := [79, 42, 180, 0, 16, 7, 92, 46, 4, 96, 79, 29, 172]
abbrev dktX4_hires_3 : List UInt8 := dkwX4_hires_3 ++ []
def dkwX4_hires_2 : List UInt8 := [180, 0, 16, 16, 60, 5, 29, 104, 96, 27, 79, 42, 180, 0, 16, 16, 60, 5, 29, 104, 96, 4, 96, 28]
abbrev dktX4_hires_2 : List UInt8 := dkwX4_hires_2 ++ dktX4_hires_3
def dkwX4_hires_1 : List UInt8 := [182, 0, 86, 172, 42, 180, 0, 16, 7, 46, 62, 29, 16, 6, 160, 0, 9, 42, 5, 182, 0, 86, 172, 42]
abbrev dktX4_hires_1 : List UInt8 := dkwX4_hires_1 ++ dktX4_hires_2
def dkwX4_hires_0 : List UInt8 := [27, 3, 16, 23, 184, 0, 82, 153, 0, 15, 28, 27, 4, 96, 16, 24, 184, 0, 82, 154, 0, 9, 42, 4]
abbrev dktX4_hires_0 : List UInt8 := dkwX4_hires_0 ++ dktX4_hires_1
theorem dksX4_hires_0 : cX4_hires.data.toList.drop 0 = dktX4_hires_0 := by decide +kernel
theorem dksX4_hires_1 : cX4_hires.data.toList.drop 24 = dktX4_hires_1 := dk_seg dksX4_hires_0 24 rfl rfl
theorem dksX4_hires_2 : cX4_hires.data.toList.drop 48 = dktX4_hires_2 := dk_seg dksX4_hires_1 24 rfl rfl
theorem dksX4_hires_3 : cX4_hires.data.toList.drop 72 = dktX4_hires_3 := dk_seg dksX4_hires_2 24 rfl rfl
theorem dX4_hires_0 : decode cX4_hires 0 = .ok (.iload_n 1, 1) := dk_27 (dk_at dksX4_hires_0 0 rfl rfl)
theorem dX4_hires_1 : decode cX4_hires 1 = .ok (.iconst 0, 1) := dk_3 (dk_at dksX4_hires_0 1 rfl rfl)
theorem dX4_hires_2 : decode cX4_hires 2 = .ok (.bipush 23, 2) := dk_16 23 (dk_at dksX4_hires_0 2 rfl rfl)
theorem dX4_hires_4 : decode cX4_hires 4 = .ok (.invokestatic 82, 3) := dk_184 0 82 (dk_at dksX4_hires_0 4 rfl rfl)
theorem dX4_hires_7 : decode cX4_hires 7 = .ok (.ifCond .eq 15, 3) := dk_153 0 15 (dk_at dksX4_hires_0 7 rfl rfl)
theorem dX4_hires_10 : decode cX4_hires 10 = .ok (.iload_n 2, 1) := dk_28 (dk_at dksX4_hires_0 10 rfl rfl)
theorem dX4_hires_11 : decode cX4_hires 11 = .ok (.iload_n 1, 1) := dk_27 (dk_at dksX4_hires_0 11 rfl rfl)
theorem dX4_hires_12 : decode cX4_hires 12 = .ok (.iconst 1, 1) := dk_4 (dk_at dksX4_hires_0 12 rfl rfl)
theorem dX4_hires_13 : decode cX4_hires 13 = .ok (.iadd, 1) := dk_96 (dk_at dksX4_hires_0 13 rfl rfl)
theorem dX4_hires_14 : decode cX4_hires 14 = .ok (.bipush 24, 2) := dk_16 24 (dk_at dksX4_hires_0 14 rfl rfl)
theorem dX4_hires_16 : decode cX4_hires 16 = .ok (.invokestatic 82, 3) := dk_184 0 82 (dk_at dksX4_hires_0 16 rfl rfl)
theorem dX4_hires_19 : decode cX4_hires 19 = .ok (.ifCond .ne 9, 3) := dk_154 0 9 (dk_at dksX4_hires_0 19 rfl rfl)
theorem dX4_hires_22 : decode cX4_hires 22 = .ok (.aload_n 0, 1) := dk_42 (dk_at dksX4_hires_0 22 rfl rfl)
theorem dX4_hires_23 : decode cX4_hires 23 = .ok (.iconst 1, 1) := dk_4 (dk_at dksX4_hires_0 23 rfl rfl)
theorem dX4_hires_24 : decode cX4_hires 24 = .ok (.invokevirtual 86, 3) := dk_182 0 86 (dk_at dksX4_hires_1 0 rfl rfl)
theorem dX4_hires_27 : decode cX4_hires 27 = .ok (.ireturn, 1) := dk_172 (dk_at dksX4_hires_1 3 rfl rfl)
theorem dX4_hires_28 : decode cX4_hires 28 = .ok (.aload_n 0, 1) := dk_42 (dk_at dksX4_hires_1 4 rfl rfl)
theorem dX4_hires_29 : decode cX4_hires 29 = .ok (.getfield 16, 3) := dk_180 0 16 (dk_at dksX4_hires_1 5 rfl rfl)
theorem dX4_hires_32 : decode cX4_hires 32 = .ok (.iconst 4, 1) := dk_7 (dk_at dksX4_hires_1 8 rfl rfl)
theorem dX4_hires_33 : decode cX4_hires 33 = .ok (.iaload, 1) := dk_46 (dk_at dksX4_hires_1 9 rfl rfl)
theorem dX4_hires_34 : decode cX4_hires 34 = .ok (.istore_n 3, 1) := dk_62 (dk_at dksX4_hires_1 10 rfl rfl)
theorem dX4_hires_35 : decode cX4_hires 35 = .ok (.iload_n 3, 1) := dk_29 (dk_at dksX4_hires_1 11 rfl rfl)
theorem dX4_hires_36 : decode cX4_hires 36 = .ok (.bipush 6, 2) := dk_16 6 (dk_at dksX4_hires_1 12 rfl rfl)
theorem dX4_hires_38 : decode cX4_hires 38 = .ok (.if_icmp .ne 9, 3) := dk_160 0 9 (dk_at dksX4_hires_1 14 rfl rfl)
theorem dX4_hires_41 : decode cX4_hires 41 = .ok (.aload_n 0, 1) := dk_42 (dk_at dksX4_hires_1 17 rfl rfl)
theorem dX4_hires_42 : decode cX4_hires 42 = .ok (.iconst 2, 1) := dk_5 (dk_at dksX4_hires_1 18 rfl rfl)
theorem dX4_hires_43 : decode cX4_hires 43 = .ok (.invokevirtual 86, 3) := dk_182 0 86 (dk_at dksX4_hires_1 19 rfl rfl)
theorem dX4_hires_46 : decode cX4_hires 46 = .ok (.ireturn, 1) := dk_172 (dk_at dksX4_hires_1 22 rfl rfl)
theorem dX4_hires_47 : decode cX4_hires 47 = .ok (.aload_n 0, 1) := dk_42 (dk_at dksX4_hires_1 23 rfl rfl)
theorem dX4_hires_48 : decode cX4_hires 48 = .ok (.getfield 16, 3) := dk_180 0 16 (dk_at dksX4_hires_2 0 rfl rfl)
theorem dX4_hires_51 : decode cX4_hires 51 = .ok (.bipush 60, 2) := dk_16 60 (dk_at dksX4_hires_2 3 rfl rfl)
theorem dX4_hires_53 : decode cX4_hires 53 = .ok (.iconst 2, 1) := dk_5 (dk_at dksX4_hires_2 5 rfl rfl)
theorem dX4_hires_54 : decode cX4_hires 54 = .ok (.iload_n 3, 1) := dk_29 (dk_at dksX4_hires_2 6 rfl rfl)
theorem dX4_hires_55 : decode cX4_hires 55 = .ok (.imul, 1) := dk_104 (dk_at dksX4_hires_2 7 rfl rfl)
theorem dX4_hires_56 : decode cX4_hires 56 = .ok (.iadd, 1) := dk_96 (dk_at dksX4_hires_2 8 rfl rfl)
theorem dX4_hires_57 : decode cX4_hires 57 = .ok (.iload_n 1, 1) := dk_27 (dk_at dksX4_hires_2 9 rfl rfl)
theorem dX4_hires_58 : decode cX4_hires 58 = .ok (.iastore, 1) := dk_79 (dk_at dksX4_hires_2 10 rfl rfl)
theorem dX4_hires_59 : decode cX4_hires 59 = .ok (.aload_n 0, 1) := dk_42 (dk_at dksX4_hires_2 11 rfl rfl)
theorem dX4_hires_60 : decode cX4_hires 60 = .ok (.getfield 16, 3) := dk_180 0 16 (dk_at dksX4_hires_2 12 rfl rfl)
theorem dX4_hires_63 : decode cX4_hires 63 = .ok (.bipush 60, 2) := dk_16 60 (dk_at dksX4_hires_2 15 rfl rfl)
theorem dX4_hires_65 : decode cX4_hires 65 = .ok (.iconst 2, 1) := dk_5 (dk_at dksX4_hires_2 17 rfl rfl)
theorem dX4_hires_66 : decode cX4_hires 66 = .ok (.iload_n 3, 1) := dk_29 (dk_at dksX4_hires_2 18 rfl rfl)
theorem dX4_hires_67 : decode cX4_hires 67 = .ok (.imul, 1) := dk_104 (dk_at dksX4_hires_2 19 rfl rfl)
theorem dX4_hires_68 : decode cX4_hires 68 = .ok (.iadd, 1) := dk_96 (dk_at dksX4_hires_2 20 rfl rfl)
theorem dX4_hires_69 : decode cX4_hires 69 = .ok (.iconst 1, 1) := dk_4 (dk_at dksX4_hires_2 21 rfl rfl)
theorem dX4_hires_70 : decode cX4_hires 70 = .ok (.iadd, 1) := dk_96 (dk_at dksX4_hires_2 22 rfl rfl)
theorem dX4_hires_71 : decode cX4_hires 71 = .ok (.iload_n 2, 1) := dk_28 (dk_at dksX4_hires_2 23 rfl rfl)
theorem dX4_hires_72 : decode cX4_hires 72 = .ok (.iastore, 1) := dk_79 (dk_at dksX4_hires_3 0 rfl rfl)
theorem dX4_hires_73 : decode cX4_hires 73 = .ok (.aload_n 0, 1) := dk_42 (dk_at dksX4_hires_3 1 rfl rfl)
theorem dX4_hires_74 : decode cX4_hires 74 = .ok (.getfield 16, 3) := dk_180 0 16 (dk_at dksX4_hires_3 2 rfl rfl)
theorem dX4_hires_77 : decode cX4_hires 77 = .ok (.iconst 4, 1) := dk_7 (dk_at dksX4_hires_3 5 rfl rfl)
theorem dX4_hires_78 : decode cX4_hires 78 = .ok (.dup2, 1) := dk_92 (dk_at dksX4_hires_3 6 rfl rfl)
theorem dX4_hires_79 : decode cX4_hires 79 = .ok (.iaload, 1) := dk_46 (dk_at dksX4_hires_3 7 rfl rfl)
theorem dX4_hires_80 : decode cX4_hires 80 = .ok (.iconst 1, 1) := dk_4 (dk_at dksX4_hires_3 8 rfl rfl)
theorem dX4_hires_81 : decode cX4_hires 81 = .ok (.iadd, 1) := dk_96 (dk_at dksX4_hires_3 9 rfl rfl)
theorem dX4_hires_82 : decode cX4_hires 82 = .ok (.iastore, 1) := dk_79 (dk_at dksX4_hires_3 10 rfl rfl)
theorem dX4_hires_83 : decode cX4_hires 83 = .ok (.iload_n 3, 1) := dk_29 (dk_at dksX4_hires_3 11 rfl rfl)
theorem dX4_hires_84 : decode cX4_hires 84 = .ok (.ireturn, 1) := dk_172 (dk_at dksX4_hires_3 12 rfl rfl)
abbrev cX4_hireKeeper : ByteArray := prog_18_method_29_code
def yX4_hireKeeper : MethodName := ⟨RX4, "hireKeeper", "(II)I"⟩
def dkwX4_hireKeeper_0 : List UInt8 := [42, 182, 0, 89, 42, 42, 27, 28, 182, 0, 120, 182, 0, 96, 172]
abbrev dktX4_hireKeeper_0 : List UInt8 := dkwX4_hireKeeper_0 ++ []
theorem dksX4_hireKeeper_0 : cX4_hireKeeper.data.toList.drop 0 = dktX4_hireKeeper_0 := by decide +kernel
theorem dX4_hireKeeper_0 : decode cX4_hireKeeper 0 = .ok (.aload_n 0, 1) := dk_42 (dk_at dksX4_hireKeeper_0 0 rfl rfl)
theorem dX4_hireKeeper_1 : decode cX4_hireKeeper 1 = .ok (.invokevirtual 89, 3) := dk_182 0 89 (dk_at dksX4_hireKeeper_0 1 rfl rfl)
theorem dX4_hireKeeper_4 : decode cX4_hireKeeper 4 = .ok (.aload_n 0, 1) := dk_42 (dk_at dksX4_hireKeeper_0 4 rfl rfl)
theorem dX4_hireKeeper_5 : decode cX4_hireKeeper 5 = .ok (.aload_n 0, 1) := dk_42 (dk_at dksX4_hireKeeper_0 5 rfl rfl)
theorem dX4_hireKeeper_6 : decode cX4_hireKeeper 6 = .ok (.iload_n 1, 1) := dk_27 (dk_at dksX4_hireKeeper_0 6 rfl rfl)
theorem dX4_hireKeeper_7 : decode cX4_hireKeeper 7 = .ok (.iload_n 2, 1) := dk_28 (dk_at dksX4_hireKeeper_0 7 rfl rfl)
theorem dX4_hireKeeper_8 : decode cX4_hireKeeper 8 = .ok (.invokevirtual 120, 3) := dk_182 0 120 (dk_at dksX4_hireKeeper_0 8 rfl rfl)
theorem dX4_hireKeeper_11 : decode cX4_hireKeeper 11 = .ok (.invokevirtual 96, 3) := dk_182 0 96 (dk_at dksX4_hireKeeper_0 11 rfl rfl)
theorem dX4_hireKeeper_14 : decode cX4_hireKeeper 14 = .ok (.ireturn, 1) := dk_172 (dk_at dksX4_hireKeeper_0 14 rfl rfl)
abbrev cX4_hour : ByteArray := prog_18_method_64_code
def yX4_hour : MethodName := ⟨RX4, "hour", "()I"⟩
def dkwX4_hour_0 : List UInt8 := [42, 3, 182, 0, 129, 172]
abbrev dktX4_hour_0 : List UInt8 := dkwX4_hour_0 ++ []
theorem dksX4_hour_0 : cX4_hour.data.toList.drop 0 = dktX4_hour_0 := by decide +kernel
theorem dX4_hour_0 : decode cX4_hour 0 = .ok (.aload_n 0, 1) := dk_42 (dk_at dksX4_hour_0 0 rfl rfl)
theorem dX4_hour_1 : decode cX4_hour 1 = .ok (.iconst 0, 1) := dk_3 (dk_at dksX4_hour_0 1 rfl rfl)
theorem dX4_hour_2 : decode cX4_hour 2 = .ok (.invokevirtual 129, 3) := dk_182 0 129 (dk_at dksX4_hour_0 2 rfl rfl)
theorem dX4_hour_5 : decode cX4_hour 5 = .ok (.ireturn, 1) := dk_172 (dk_at dksX4_hour_0 5 rfl rfl)
abbrev cX4_hungerOf : ByteArray := prog_18_method_38_code
def yX4_hungerOf : MethodName := ⟨RX4, "hungerOf", "(I)I"⟩
def dkwX4_hungerOf_0 : List UInt8 := [42, 27, 4, 182, 0, 132, 172]
abbrev dktX4_hungerOf_0 : List UInt8 := dkwX4_hungerOf_0 ++ []
theorem dksX4_hungerOf_0 : cX4_hungerOf.data.toList.drop 0 = dktX4_hungerOf_0 := by decide +kernel
theorem dX4_hungerOf_0 : decode cX4_hungerOf 0 = .ok (.aload_n 0, 1) := dk_42 (dk_at dksX4_hungerOf_0 0 rfl rfl)
theorem dX4_hungerOf_1 : decode cX4_hungerOf 1 = .ok (.iload_n 1, 1) := dk_27 (dk_at dksX4_hungerOf_0 1 rfl rfl)
theorem dX4_hungerOf_2 : decode cX4_hungerOf 2 = .ok (.iconst 1, 1) := dk_4 (dk_at dksX4_hungerOf_0 2 rfl rfl)
theorem dX4_hungerOf_3 : decode cX4_hungerOf 3 = .ok (.invokevirtual 132, 3) := dk_182 0 132 (dk_at dksX4_hungerOf_0 3 rfl rfl)
theorem dX4_hungerOf_6 : decode cX4_hungerOf 6 = .ok (.ireturn, 1) := dk_172 (dk_at dksX4_hungerOf_0 6 rfl rfl)
abbrev cX4_lionAtRank : ByteArray := prog_18_method_42_code
def yX4_lionAtRank : MethodName := ⟨RX4, "lionAtRank", "(I)I"⟩
def dkwX4_lionAtRank_2 : List UInt8 := [46, 172, 132, 2, 1, 132, 3, 1, 167, 255, 209, 42, 4, 182, 0, 86, 172]
abbrev dktX4_lionAtRank_2 : List UInt8 := dkwX4_lionAtRank_2 ++ []
def dkwX4_lionAtRank_1 : List UInt8 := [156, 0, 6, 167, 0, 26, 28, 27, 160, 0, 18, 42, 180, 0, 16, 42, 29, 182, 0, 68, 3, 184, 0, 60]
abbrev dktX4_lionAtRank_1 : List UInt8 := dkwX4_lionAtRank_1 ++ dktX4_lionAtRank_2
def dkwX4_lionAtRank_0 : List UInt8 := [42, 3, 181, 0, 50, 3, 61, 3, 62, 29, 42, 180, 0, 16, 8, 46, 162, 0, 43, 42, 29, 182, 0, 68]
abbrev dktX4_lionAtRank_0 : List UInt8 := dkwX4_lionAtRank_0 ++ dktX4_lionAtRank_1
theorem dksX4_lionAtRank_0 : cX4_lionAtRank.data.toList.drop 0 = dktX4_lionAtRank_0 := by decide +kernel
theorem dksX4_lionAtRank_1 : cX4_lionAtRank.data.toList.drop 24 = dktX4_lionAtRank_1 := dk_seg dksX4_lionAtRank_0 24 rfl rfl
theorem dksX4_lionAtRank_2 : cX4_lionAtRank.data.toList.drop 48 = dktX4_lionAtRank_2 := dk_seg dksX4_lionAtRank_1 24 rfl rfl
theorem dX4_lionAtRank_0 : decode cX4_lionAtRank 0 = .ok (.aload_n 0, 1) := dk_42 (dk_at dksX4_lionAtRank_0 0 rfl rfl)
theorem dX4_lionAtRank_1 : decode cX4_lionAtRank 1 = .ok (.iconst 0, 1) := dk_3 (dk_at dksX4_lionAtRank_0 1 rfl rfl)
theorem dX4_lionAtRank_2 : decode cX4_lionAtRank 2 = .ok (.putfield 50, 3) := dk_181 0 50 (dk_at dksX4_lionAtRank_0 2 rfl rfl)
theorem dX4_lionAtRank_5 : decode cX4_lionAtRank 5 = .ok (.iconst 0, 1) := dk_3 (dk_at dksX4_lionAtRank_0 5 rfl rfl)
theorem dX4_lionAtRank_6 : decode cX4_lionAtRank 6 = .ok (.istore_n 2, 1) := dk_61 (dk_at dksX4_lionAtRank_0 6 rfl rfl)
theorem dX4_lionAtRank_7 : decode cX4_lionAtRank 7 = .ok (.iconst 0, 1) := dk_3 (dk_at dksX4_lionAtRank_0 7 rfl rfl)
theorem dX4_lionAtRank_8 : decode cX4_lionAtRank 8 = .ok (.istore_n 3, 1) := dk_62 (dk_at dksX4_lionAtRank_0 8 rfl rfl)
theorem dX4_lionAtRank_9 : decode cX4_lionAtRank 9 = .ok (.iload_n 3, 1) := dk_29 (dk_at dksX4_lionAtRank_0 9 rfl rfl)
theorem dX4_lionAtRank_10 : decode cX4_lionAtRank 10 = .ok (.aload_n 0, 1) := dk_42 (dk_at dksX4_lionAtRank_0 10 rfl rfl)
theorem dX4_lionAtRank_11 : decode cX4_lionAtRank 11 = .ok (.getfield 16, 3) := dk_180 0 16 (dk_at dksX4_lionAtRank_0 11 rfl rfl)
theorem dX4_lionAtRank_14 : decode cX4_lionAtRank 14 = .ok (.iconst 5, 1) := dk_8 (dk_at dksX4_lionAtRank_0 14 rfl rfl)
theorem dX4_lionAtRank_15 : decode cX4_lionAtRank 15 = .ok (.iaload, 1) := dk_46 (dk_at dksX4_lionAtRank_0 15 rfl rfl)
theorem dX4_lionAtRank_16 : decode cX4_lionAtRank 16 = .ok (.if_icmp .ge 43, 3) := dk_162 0 43 (dk_at dksX4_lionAtRank_0 16 rfl rfl)
theorem dX4_lionAtRank_19 : decode cX4_lionAtRank 19 = .ok (.aload_n 0, 1) := dk_42 (dk_at dksX4_lionAtRank_0 19 rfl rfl)
theorem dX4_lionAtRank_20 : decode cX4_lionAtRank 20 = .ok (.iload_n 3, 1) := dk_29 (dk_at dksX4_lionAtRank_0 20 rfl rfl)
theorem dX4_lionAtRank_21 : decode cX4_lionAtRank 21 = .ok (.invokevirtual 68, 3) := dk_182 0 68 (dk_at dksX4_lionAtRank_0 21 rfl rfl)
theorem dX4_lionAtRank_24 : decode cX4_lionAtRank 24 = .ok (.ifCond .ge 6, 3) := dk_156 0 6 (dk_at dksX4_lionAtRank_1 0 rfl rfl)
theorem dX4_lionAtRank_27 : decode cX4_lionAtRank 27 = .ok (.goto 26, 3) := dk_167 0 26 (dk_at dksX4_lionAtRank_1 3 rfl rfl)
theorem dX4_lionAtRank_30 : decode cX4_lionAtRank 30 = .ok (.iload_n 2, 1) := dk_28 (dk_at dksX4_lionAtRank_1 6 rfl rfl)
theorem dX4_lionAtRank_31 : decode cX4_lionAtRank 31 = .ok (.iload_n 1, 1) := dk_27 (dk_at dksX4_lionAtRank_1 7 rfl rfl)
theorem dX4_lionAtRank_32 : decode cX4_lionAtRank 32 = .ok (.if_icmp .ne 18, 3) := dk_160 0 18 (dk_at dksX4_lionAtRank_1 8 rfl rfl)
theorem dX4_lionAtRank_35 : decode cX4_lionAtRank 35 = .ok (.aload_n 0, 1) := dk_42 (dk_at dksX4_lionAtRank_1 11 rfl rfl)
theorem dX4_lionAtRank_36 : decode cX4_lionAtRank 36 = .ok (.getfield 16, 3) := dk_180 0 16 (dk_at dksX4_lionAtRank_1 12 rfl rfl)
theorem dX4_lionAtRank_39 : decode cX4_lionAtRank 39 = .ok (.aload_n 0, 1) := dk_42 (dk_at dksX4_lionAtRank_1 15 rfl rfl)
theorem dX4_lionAtRank_40 : decode cX4_lionAtRank 40 = .ok (.iload_n 3, 1) := dk_29 (dk_at dksX4_lionAtRank_1 16 rfl rfl)
theorem dX4_lionAtRank_41 : decode cX4_lionAtRank 41 = .ok (.invokevirtual 68, 3) := dk_182 0 68 (dk_at dksX4_lionAtRank_1 17 rfl rfl)
theorem dX4_lionAtRank_44 : decode cX4_lionAtRank 44 = .ok (.iconst 0, 1) := dk_3 (dk_at dksX4_lionAtRank_1 20 rfl rfl)
theorem dX4_lionAtRank_45 : decode cX4_lionAtRank 45 = .ok (.invokestatic 60, 3) := dk_184 0 60 (dk_at dksX4_lionAtRank_1 21 rfl rfl)
theorem dX4_lionAtRank_48 : decode cX4_lionAtRank 48 = .ok (.iaload, 1) := dk_46 (dk_at dksX4_lionAtRank_2 0 rfl rfl)
theorem dX4_lionAtRank_49 : decode cX4_lionAtRank 49 = .ok (.ireturn, 1) := dk_172 (dk_at dksX4_lionAtRank_2 1 rfl rfl)
theorem dX4_lionAtRank_50 : decode cX4_lionAtRank 50 = .ok (.iinc 2 1, 3) := dk_132 2 1 (dk_at dksX4_lionAtRank_2 2 rfl rfl)
theorem dX4_lionAtRank_53 : decode cX4_lionAtRank 53 = .ok (.iinc 3 1, 3) := dk_132 3 1 (dk_at dksX4_lionAtRank_2 5 rfl rfl)
theorem dX4_lionAtRank_56 : decode cX4_lionAtRank 56 = .ok (.goto (-47), 3) := dk_167 255 209 (dk_at dksX4_lionAtRank_2 8 rfl rfl)
theorem dX4_lionAtRank_59 : decode cX4_lionAtRank 59 = .ok (.aload_n 0, 1) := dk_42 (dk_at dksX4_lionAtRank_2 11 rfl rfl)
theorem dX4_lionAtRank_60 : decode cX4_lionAtRank 60 = .ok (.iconst 1, 1) := dk_4 (dk_at dksX4_lionAtRank_2 12 rfl rfl)
theorem dX4_lionAtRank_61 : decode cX4_lionAtRank 61 = .ok (.invokevirtual 86, 3) := dk_182 0 86 (dk_at dksX4_lionAtRank_2 13 rfl rfl)
theorem dX4_lionAtRank_64 : decode cX4_lionAtRank 64 = .ok (.ireturn, 1) := dk_172 (dk_at dksX4_lionAtRank_2 16 rfl rfl)
abbrev cX4_hungriest : ByteArray := prog_18_method_43_code
def yX4_hungriest : MethodName := ⟨RX4, "hungriest", "()I"⟩
def dkwX4_hungriest_0 : List UInt8 := [42, 3, 182, 0, 135, 172]
abbrev dktX4_hungriest_0 : List UInt8 := dkwX4_hungriest_0 ++ []
theorem dksX4_hungriest_0 : cX4_hungriest.data.toList.drop 0 = dktX4_hungriest_0 := by decide +kernel
theorem dX4_hungriest_0 : decode cX4_hungriest 0 = .ok (.aload_n 0, 1) := dk_42 (dk_at dksX4_hungriest_0 0 rfl rfl)
theorem dX4_hungriest_1 : decode cX4_hungriest 1 = .ok (.iconst 0, 1) := dk_3 (dk_at dksX4_hungriest_0 1 rfl rfl)
theorem dX4_hungriest_2 : decode cX4_hungriest 2 = .ok (.invokevirtual 135, 3) := dk_182 0 135 (dk_at dksX4_hungriest_0 2 rfl rfl)
theorem dX4_hungriest_5 : decode cX4_hungriest 5 = .ok (.ireturn, 1) := dk_172 (dk_at dksX4_hungriest_0 5 rfl rfl)
abbrev cX4_hungriestByLooking : ByteArray := prog_18_method_44_code
def yX4_hungriestByLooking : MethodName := ⟨RX4, "hungriestByLooking", "()I"⟩
def dkwX4_hungriestByLooking_0 : List UInt8 := [42, 3, 182, 0, 135, 172]
abbrev dktX4_hungriestByLooking_0 : List UInt8 := dkwX4_hungriestByLooking_0 ++ []
theorem dksX4_hungriestByLooking_0 : cX4_hungriestByLooking.data.toList.drop 0 = dktX4_hungriestByLooking_0 := by decide +kernel
theorem dX4_hungriestByLooking_0 : decode cX4_hungriestByLooking 0 = .ok (.aload_n 0, 1) := dk_42 (dk_at dksX4_hungriestByLooking_0 0 rfl rfl)
theorem dX4_hungriestByLooking_1 : decode cX4_hungriestByLooking 1 = .ok (.iconst 0, 1) := dk_3 (dk_at dksX4_hungriestByLooking_0 1 rfl rfl)
theorem dX4_hungriestByLooking_2 : decode cX4_hungriestByLooking 2 = .ok (.invokevirtual 135, 3) := dk_182 0 135 (dk_at dksX4_hungriestByLooking_0 2 rfl rfl)
theorem dX4_hungriestByLooking_5 : decode cX4_hungriestByLooking 5 = .ok (.ireturn, 1) := dk_172 (dk_at dksX4_hungriestByLooking_0 5 rfl rfl)
abbrev cX4_isConsistent : ByteArray := prog_18_method_73_code
def yX4_isConsistent : MethodName := ⟨RX4, "isConsistent", "()Z"⟩
def dkwX4_isConsistent_2 : List UInt8 := [161, 0, 7, 4, 167, 0, 4, 3, 172]
abbrev dktX4_isConsistent_2 : List UInt8 := dkwX4_isConsistent_2 ++ []
def dkwX4_isConsistent_1 : List UInt8 := [100, 42, 180, 0, 16, 16, 6, 46, 100, 160, 0, 22, 42, 180, 0, 16, 8, 46, 42, 180, 0, 16, 6, 46]
abbrev dktX4_isConsistent_1 : List UInt8 := dkwX4_isConsistent_1 ++ dktX4_isConsistent_2
def dkwX4_isConsistent_0 : List UInt8 := [42, 3, 181, 0, 50, 42, 180, 0, 16, 8, 46, 42, 180, 0, 16, 5, 46, 42, 180, 0, 16, 16, 9, 46]
abbrev dktX4_isConsistent_0 : List UInt8 := dkwX4_isConsistent_0 ++ dktX4_isConsistent_1
theorem dksX4_isConsistent_0 : cX4_isConsistent.data.toList.drop 0 = dktX4_isConsistent_0 := by decide +kernel
theorem dksX4_isConsistent_1 : cX4_isConsistent.data.toList.drop 24 = dktX4_isConsistent_1 := dk_seg dksX4_isConsistent_0 24 rfl rfl
theorem dksX4_isConsistent_2 : cX4_isConsistent.data.toList.drop 48 = dktX4_isConsistent_2 := dk_seg dksX4_isConsistent_1 24 rfl rfl
theorem dX4_isConsistent_0 : decode cX4_isConsistent 0 = .ok (.aload_n 0, 1) := dk_42 (dk_at dksX4_isConsistent_0 0 rfl rfl)
theorem dX4_isConsistent_1 : decode cX4_isConsistent 1 = .ok (.iconst 0, 1) := dk_3 (dk_at dksX4_isConsistent_0 1 rfl rfl)
theorem dX4_isConsistent_2 : decode cX4_isConsistent 2 = .ok (.putfield 50, 3) := dk_181 0 50 (dk_at dksX4_isConsistent_0 2 rfl rfl)
theorem dX4_isConsistent_5 : decode cX4_isConsistent 5 = .ok (.aload_n 0, 1) := dk_42 (dk_at dksX4_isConsistent_0 5 rfl rfl)
theorem dX4_isConsistent_6 : decode cX4_isConsistent 6 = .ok (.getfield 16, 3) := dk_180 0 16 (dk_at dksX4_isConsistent_0 6 rfl rfl)
theorem dX4_isConsistent_9 : decode cX4_isConsistent 9 = .ok (.iconst 5, 1) := dk_8 (dk_at dksX4_isConsistent_0 9 rfl rfl)
theorem dX4_isConsistent_10 : decode cX4_isConsistent 10 = .ok (.iaload, 1) := dk_46 (dk_at dksX4_isConsistent_0 10 rfl rfl)
theorem dX4_isConsistent_11 : decode cX4_isConsistent 11 = .ok (.aload_n 0, 1) := dk_42 (dk_at dksX4_isConsistent_0 11 rfl rfl)
theorem dX4_isConsistent_12 : decode cX4_isConsistent 12 = .ok (.getfield 16, 3) := dk_180 0 16 (dk_at dksX4_isConsistent_0 12 rfl rfl)
theorem dX4_isConsistent_15 : decode cX4_isConsistent 15 = .ok (.iconst 2, 1) := dk_5 (dk_at dksX4_isConsistent_0 15 rfl rfl)
theorem dX4_isConsistent_16 : decode cX4_isConsistent 16 = .ok (.iaload, 1) := dk_46 (dk_at dksX4_isConsistent_0 16 rfl rfl)
theorem dX4_isConsistent_17 : decode cX4_isConsistent 17 = .ok (.aload_n 0, 1) := dk_42 (dk_at dksX4_isConsistent_0 17 rfl rfl)
theorem dX4_isConsistent_18 : decode cX4_isConsistent 18 = .ok (.getfield 16, 3) := dk_180 0 16 (dk_at dksX4_isConsistent_0 18 rfl rfl)
theorem dX4_isConsistent_21 : decode cX4_isConsistent 21 = .ok (.bipush 9, 2) := dk_16 9 (dk_at dksX4_isConsistent_0 21 rfl rfl)
theorem dX4_isConsistent_23 : decode cX4_isConsistent 23 = .ok (.iaload, 1) := dk_46 (dk_at dksX4_isConsistent_0 23 rfl rfl)
theorem dX4_isConsistent_24 : decode cX4_isConsistent 24 = .ok (.isub, 1) := dk_100 (dk_at dksX4_isConsistent_1 0 rfl rfl)
theorem dX4_isConsistent_25 : decode cX4_isConsistent 25 = .ok (.aload_n 0, 1) := dk_42 (dk_at dksX4_isConsistent_1 1 rfl rfl)
theorem dX4_isConsistent_26 : decode cX4_isConsistent 26 = .ok (.getfield 16, 3) := dk_180 0 16 (dk_at dksX4_isConsistent_1 2 rfl rfl)
theorem dX4_isConsistent_29 : decode cX4_isConsistent 29 = .ok (.bipush 6, 2) := dk_16 6 (dk_at dksX4_isConsistent_1 5 rfl rfl)
theorem dX4_isConsistent_31 : decode cX4_isConsistent 31 = .ok (.iaload, 1) := dk_46 (dk_at dksX4_isConsistent_1 7 rfl rfl)
theorem dX4_isConsistent_32 : decode cX4_isConsistent 32 = .ok (.isub, 1) := dk_100 (dk_at dksX4_isConsistent_1 8 rfl rfl)
theorem dX4_isConsistent_33 : decode cX4_isConsistent 33 = .ok (.if_icmp .ne 22, 3) := dk_160 0 22 (dk_at dksX4_isConsistent_1 9 rfl rfl)
theorem dX4_isConsistent_36 : decode cX4_isConsistent 36 = .ok (.aload_n 0, 1) := dk_42 (dk_at dksX4_isConsistent_1 12 rfl rfl)
theorem dX4_isConsistent_37 : decode cX4_isConsistent 37 = .ok (.getfield 16, 3) := dk_180 0 16 (dk_at dksX4_isConsistent_1 13 rfl rfl)
theorem dX4_isConsistent_40 : decode cX4_isConsistent 40 = .ok (.iconst 5, 1) := dk_8 (dk_at dksX4_isConsistent_1 16 rfl rfl)
theorem dX4_isConsistent_41 : decode cX4_isConsistent 41 = .ok (.iaload, 1) := dk_46 (dk_at dksX4_isConsistent_1 17 rfl rfl)
theorem dX4_isConsistent_42 : decode cX4_isConsistent 42 = .ok (.aload_n 0, 1) := dk_42 (dk_at dksX4_isConsistent_1 18 rfl rfl)
theorem dX4_isConsistent_43 : decode cX4_isConsistent 43 = .ok (.getfield 16, 3) := dk_180 0 16 (dk_at dksX4_isConsistent_1 19 rfl rfl)
theorem dX4_isConsistent_46 : decode cX4_isConsistent 46 = .ok (.iconst 3, 1) := dk_6 (dk_at dksX4_isConsistent_1 22 rfl rfl)
theorem dX4_isConsistent_47 : decode cX4_isConsistent 47 = .ok (.iaload, 1) := dk_46 (dk_at dksX4_isConsistent_1 23 rfl rfl)
theorem dX4_isConsistent_48 : decode cX4_isConsistent 48 = .ok (.if_icmp .lt 7, 3) := dk_161 0 7 (dk_at dksX4_isConsistent_2 0 rfl rfl)
theorem dX4_isConsistent_51 : decode cX4_isConsistent 51 = .ok (.iconst 1, 1) := dk_4 (dk_at dksX4_isConsistent_2 3 rfl rfl)
theorem dX4_isConsistent_52 : decode cX4_isConsistent 52 = .ok (.goto 4, 3) := dk_167 0 4 (dk_at dksX4_isConsistent_2 4 rfl rfl)
theorem dX4_isConsistent_55 : decode cX4_isConsistent 55 = .ok (.iconst 0, 1) := dk_3 (dk_at dksX4_isConsistent_2 7 rfl rfl)
theorem dX4_isConsistent_56 : decode cX4_isConsistent 56 = .ok (.ireturn, 1) := dk_172 (dk_at dksX4_isConsistent_2 8 rfl rfl)
abbrev cX4_isStaleAtRank : ByteArray := prog_18_method_48_code
def yX4_isStaleAtRank : MethodName := ⟨RX4, "isStaleAtRank", "(I)Z"⟩
def dkwX4_isStaleAtRank_1 : List UInt8 := [181, 0, 50, 42, 180, 0, 50, 154, 0, 15, 42, 27, 182, 0, 68, 156, 0, 7, 4, 167, 0, 4, 3, 172]
abbrev dktX4_isStaleAtRank_1 : List UInt8 := dkwX4_isStaleAtRank_1 ++ []
def dkwX4_isStaleAtRank_0 : List UInt8 := [42, 27, 3, 42, 180, 0, 16, 8, 46, 4, 100, 184, 0, 82, 153, 0, 7, 3, 167, 0, 4, 4]
abbrev dktX4_isStaleAtRank_0 : List UInt8 := dkwX4_isStaleAtRank_0 ++ dktX4_isStaleAtRank_1
theorem dksX4_isStaleAtRank_0 : cX4_isStaleAtRank.data.toList.drop 0 = dktX4_isStaleAtRank_0 := by decide +kernel
theorem dksX4_isStaleAtRank_1 : cX4_isStaleAtRank.data.toList.drop 22 = dktX4_isStaleAtRank_1 := dk_seg dksX4_isStaleAtRank_0 22 rfl rfl
theorem dX4_isStaleAtRank_0 : decode cX4_isStaleAtRank 0 = .ok (.aload_n 0, 1) := dk_42 (dk_at dksX4_isStaleAtRank_0 0 rfl rfl)
theorem dX4_isStaleAtRank_1 : decode cX4_isStaleAtRank 1 = .ok (.iload_n 1, 1) := dk_27 (dk_at dksX4_isStaleAtRank_0 1 rfl rfl)
theorem dX4_isStaleAtRank_2 : decode cX4_isStaleAtRank 2 = .ok (.iconst 0, 1) := dk_3 (dk_at dksX4_isStaleAtRank_0 2 rfl rfl)
theorem dX4_isStaleAtRank_3 : decode cX4_isStaleAtRank 3 = .ok (.aload_n 0, 1) := dk_42 (dk_at dksX4_isStaleAtRank_0 3 rfl rfl)
theorem dX4_isStaleAtRank_4 : decode cX4_isStaleAtRank 4 = .ok (.getfield 16, 3) := dk_180 0 16 (dk_at dksX4_isStaleAtRank_0 4 rfl rfl)
theorem dX4_isStaleAtRank_7 : decode cX4_isStaleAtRank 7 = .ok (.iconst 5, 1) := dk_8 (dk_at dksX4_isStaleAtRank_0 7 rfl rfl)
theorem dX4_isStaleAtRank_8 : decode cX4_isStaleAtRank 8 = .ok (.iaload, 1) := dk_46 (dk_at dksX4_isStaleAtRank_0 8 rfl rfl)
theorem dX4_isStaleAtRank_9 : decode cX4_isStaleAtRank 9 = .ok (.iconst 1, 1) := dk_4 (dk_at dksX4_isStaleAtRank_0 9 rfl rfl)
theorem dX4_isStaleAtRank_10 : decode cX4_isStaleAtRank 10 = .ok (.isub, 1) := dk_100 (dk_at dksX4_isStaleAtRank_0 10 rfl rfl)
theorem dX4_isStaleAtRank_11 : decode cX4_isStaleAtRank 11 = .ok (.invokestatic 82, 3) := dk_184 0 82 (dk_at dksX4_isStaleAtRank_0 11 rfl rfl)
theorem dX4_isStaleAtRank_14 : decode cX4_isStaleAtRank 14 = .ok (.ifCond .eq 7, 3) := dk_153 0 7 (dk_at dksX4_isStaleAtRank_0 14 rfl rfl)
theorem dX4_isStaleAtRank_17 : decode cX4_isStaleAtRank 17 = .ok (.iconst 0, 1) := dk_3 (dk_at dksX4_isStaleAtRank_0 17 rfl rfl)
theorem dX4_isStaleAtRank_18 : decode cX4_isStaleAtRank 18 = .ok (.goto 4, 3) := dk_167 0 4 (dk_at dksX4_isStaleAtRank_0 18 rfl rfl)
theorem dX4_isStaleAtRank_21 : decode cX4_isStaleAtRank 21 = .ok (.iconst 1, 1) := dk_4 (dk_at dksX4_isStaleAtRank_0 21 rfl rfl)
theorem dX4_isStaleAtRank_22 : decode cX4_isStaleAtRank 22 = .ok (.putfield 50, 3) := dk_181 0 50 (dk_at dksX4_isStaleAtRank_1 0 rfl rfl)
theorem dX4_isStaleAtRank_25 : decode cX4_isStaleAtRank 25 = .ok (.aload_n 0, 1) := dk_42 (dk_at dksX4_isStaleAtRank_1 3 rfl rfl)
theorem dX4_isStaleAtRank_26 : decode cX4_isStaleAtRank 26 = .ok (.getfield 50, 3) := dk_180 0 50 (dk_at dksX4_isStaleAtRank_1 4 rfl rfl)
theorem dX4_isStaleAtRank_29 : decode cX4_isStaleAtRank 29 = .ok (.ifCond .ne 15, 3) := dk_154 0 15 (dk_at dksX4_isStaleAtRank_1 7 rfl rfl)
theorem dX4_isStaleAtRank_32 : decode cX4_isStaleAtRank 32 = .ok (.aload_n 0, 1) := dk_42 (dk_at dksX4_isStaleAtRank_1 10 rfl rfl)
theorem dX4_isStaleAtRank_33 : decode cX4_isStaleAtRank 33 = .ok (.iload_n 1, 1) := dk_27 (dk_at dksX4_isStaleAtRank_1 11 rfl rfl)
theorem dX4_isStaleAtRank_34 : decode cX4_isStaleAtRank 34 = .ok (.invokevirtual 68, 3) := dk_182 0 68 (dk_at dksX4_isStaleAtRank_1 12 rfl rfl)
theorem dX4_isStaleAtRank_37 : decode cX4_isStaleAtRank 37 = .ok (.ifCond .ge 7, 3) := dk_156 0 7 (dk_at dksX4_isStaleAtRank_1 15 rfl rfl)
theorem dX4_isStaleAtRank_40 : decode cX4_isStaleAtRank 40 = .ok (.iconst 1, 1) := dk_4 (dk_at dksX4_isStaleAtRank_1 18 rfl rfl)
theorem dX4_isStaleAtRank_41 : decode cX4_isStaleAtRank 41 = .ok (.goto 4, 3) := dk_167 0 4 (dk_at dksX4_isStaleAtRank_1 19 rfl rfl)
theorem dX4_isStaleAtRank_44 : decode cX4_isStaleAtRank 44 = .ok (.iconst 0, 1) := dk_3 (dk_at dksX4_isStaleAtRank_1 22 rfl rfl)
theorem dX4_isStaleAtRank_45 : decode cX4_isStaleAtRank 45 = .ok (.ireturn, 1) := dk_172 (dk_at dksX4_isStaleAtRank_1 23 rfl rfl)
abbrev cX4_keeperCount : ByteArray := prog_18_method_55_code
def yX4_keeperCount : MethodName := ⟨RX4, "keeperCount", "()I"⟩
def dkwX4_keeperCount_0 : List UInt8 := [42, 7, 182, 0, 129, 172]
abbrev dktX4_keeperCount_0 : List UInt8 := dkwX4_keeperCount_0 ++ []
theorem dksX4_keeperCount_0 : cX4_keeperCount.data.toList.drop 0 = dktX4_keeperCount_0 := by decide +kernel
theorem dX4_keeperCount_0 : decode cX4_keeperCount 0 = .ok (.aload_n 0, 1) := dk_42 (dk_at dksX4_keeperCount_0 0 rfl rfl)
theorem dX4_keeperCount_1 : decode cX4_keeperCount 1 = .ok (.iconst 4, 1) := dk_7 (dk_at dksX4_keeperCount_0 1 rfl rfl)
theorem dX4_keeperCount_2 : decode cX4_keeperCount 2 = .ok (.invokevirtual 129, 3) := dk_182 0 129 (dk_at dksX4_keeperCount_0 2 rfl rfl)
theorem dX4_keeperCount_5 : decode cX4_keeperCount 5 = .ok (.ireturn, 1) := dk_172 (dk_at dksX4_keeperCount_0 5 rfl rfl)
abbrev cX4_lateShare : ByteArray := prog_18_method_72_code
def yX4_lateShare : MethodName := ⟨RX4, "lateShare", "()F"⟩
def dkwX4_lateShare_2 : List UInt8 := [174]
abbrev dktX4_lateShare_2 : List UInt8 := dkwX4_lateShare_2 ++ []
def dkwX4_lateShare_1 : List UInt8 := [154, 0, 23, 42, 180, 0, 16, 16, 7, 46, 134, 42, 180, 0, 16, 16, 6, 46, 134, 110, 167, 0, 4, 11]
abbrev dktX4_lateShare_1 : List UInt8 := dkwX4_lateShare_1 ++ dktX4_lateShare_2
def dkwX4_lateShare_0 : List UInt8 := [42, 42, 180, 0, 16, 16, 6, 46, 154, 0, 7, 4, 167, 0, 4, 3, 181, 0, 50, 42, 180, 0, 50]
abbrev dktX4_lateShare_0 : List UInt8 := dkwX4_lateShare_0 ++ dktX4_lateShare_1
theorem dksX4_lateShare_0 : cX4_lateShare.data.toList.drop 0 = dktX4_lateShare_0 := by decide +kernel
theorem dksX4_lateShare_1 : cX4_lateShare.data.toList.drop 23 = dktX4_lateShare_1 := dk_seg dksX4_lateShare_0 23 rfl rfl
theorem dksX4_lateShare_2 : cX4_lateShare.data.toList.drop 47 = dktX4_lateShare_2 := dk_seg dksX4_lateShare_1 24 rfl rfl
theorem dX4_lateShare_0 : decode cX4_lateShare 0 = .ok (.aload_n 0, 1) := dk_42 (dk_at dksX4_lateShare_0 0 rfl rfl)
theorem dX4_lateShare_1 : decode cX4_lateShare 1 = .ok (.aload_n 0, 1) := dk_42 (dk_at dksX4_lateShare_0 1 rfl rfl)
theorem dX4_lateShare_2 : decode cX4_lateShare 2 = .ok (.getfield 16, 3) := dk_180 0 16 (dk_at dksX4_lateShare_0 2 rfl rfl)
theorem dX4_lateShare_5 : decode cX4_lateShare 5 = .ok (.bipush 6, 2) := dk_16 6 (dk_at dksX4_lateShare_0 5 rfl rfl)
theorem dX4_lateShare_7 : decode cX4_lateShare 7 = .ok (.iaload, 1) := dk_46 (dk_at dksX4_lateShare_0 7 rfl rfl)
theorem dX4_lateShare_8 : decode cX4_lateShare 8 = .ok (.ifCond .ne 7, 3) := dk_154 0 7 (dk_at dksX4_lateShare_0 8 rfl rfl)
theorem dX4_lateShare_11 : decode cX4_lateShare 11 = .ok (.iconst 1, 1) := dk_4 (dk_at dksX4_lateShare_0 11 rfl rfl)
theorem dX4_lateShare_12 : decode cX4_lateShare 12 = .ok (.goto 4, 3) := dk_167 0 4 (dk_at dksX4_lateShare_0 12 rfl rfl)
theorem dX4_lateShare_15 : decode cX4_lateShare 15 = .ok (.iconst 0, 1) := dk_3 (dk_at dksX4_lateShare_0 15 rfl rfl)
theorem dX4_lateShare_16 : decode cX4_lateShare 16 = .ok (.putfield 50, 3) := dk_181 0 50 (dk_at dksX4_lateShare_0 16 rfl rfl)
theorem dX4_lateShare_19 : decode cX4_lateShare 19 = .ok (.aload_n 0, 1) := dk_42 (dk_at dksX4_lateShare_0 19 rfl rfl)
theorem dX4_lateShare_20 : decode cX4_lateShare 20 = .ok (.getfield 50, 3) := dk_180 0 50 (dk_at dksX4_lateShare_0 20 rfl rfl)
theorem dX4_lateShare_23 : decode cX4_lateShare 23 = .ok (.ifCond .ne 23, 3) := dk_154 0 23 (dk_at dksX4_lateShare_1 0 rfl rfl)
theorem dX4_lateShare_26 : decode cX4_lateShare 26 = .ok (.aload_n 0, 1) := dk_42 (dk_at dksX4_lateShare_1 3 rfl rfl)
theorem dX4_lateShare_27 : decode cX4_lateShare 27 = .ok (.getfield 16, 3) := dk_180 0 16 (dk_at dksX4_lateShare_1 4 rfl rfl)
theorem dX4_lateShare_30 : decode cX4_lateShare 30 = .ok (.bipush 7, 2) := dk_16 7 (dk_at dksX4_lateShare_1 7 rfl rfl)
theorem dX4_lateShare_32 : decode cX4_lateShare 32 = .ok (.iaload, 1) := dk_46 (dk_at dksX4_lateShare_1 9 rfl rfl)
theorem dX4_lateShare_33 : decode cX4_lateShare 33 = .ok (.i2f, 1) := dk_134 (dk_at dksX4_lateShare_1 10 rfl rfl)
theorem dX4_lateShare_34 : decode cX4_lateShare 34 = .ok (.aload_n 0, 1) := dk_42 (dk_at dksX4_lateShare_1 11 rfl rfl)
theorem dX4_lateShare_35 : decode cX4_lateShare 35 = .ok (.getfield 16, 3) := dk_180 0 16 (dk_at dksX4_lateShare_1 12 rfl rfl)
theorem dX4_lateShare_38 : decode cX4_lateShare 38 = .ok (.bipush 6, 2) := dk_16 6 (dk_at dksX4_lateShare_1 15 rfl rfl)
theorem dX4_lateShare_40 : decode cX4_lateShare 40 = .ok (.iaload, 1) := dk_46 (dk_at dksX4_lateShare_1 17 rfl rfl)
theorem dX4_lateShare_41 : decode cX4_lateShare 41 = .ok (.i2f, 1) := dk_134 (dk_at dksX4_lateShare_1 18 rfl rfl)
theorem dX4_lateShare_42 : decode cX4_lateShare 42 = .ok (.fdiv, 1) := dk_110 (dk_at dksX4_lateShare_1 19 rfl rfl)
theorem dX4_lateShare_43 : decode cX4_lateShare 43 = .ok (.goto 4, 3) := dk_167 0 4 (dk_at dksX4_lateShare_1 20 rfl rfl)
theorem dX4_lateShare_46 : decode cX4_lateShare 46 = .ok (.fconst 0, 1) := dk_11 (dk_at dksX4_lateShare_1 23 rfl rfl)
theorem dX4_lateShare_47 : decode cX4_lateShare 47 = .ok (.freturn, 1) := dk_174 (dk_at dksX4_lateShare_2 0 rfl rfl)
abbrev cX4_lateTotal : ByteArray := prog_18_method_66_code
def yX4_lateTotal : MethodName := ⟨RX4, "lateTotal", "()I"⟩
def dkwX4_lateTotal_0 : List UInt8 := [42, 16, 7, 182, 0, 129, 172]
abbrev dktX4_lateTotal_0 : List UInt8 := dkwX4_lateTotal_0 ++ []
theorem dksX4_lateTotal_0 : cX4_lateTotal.data.toList.drop 0 = dktX4_lateTotal_0 := by decide +kernel
theorem dX4_lateTotal_0 : decode cX4_lateTotal 0 = .ok (.aload_n 0, 1) := dk_42 (dk_at dksX4_lateTotal_0 0 rfl rfl)
theorem dX4_lateTotal_1 : decode cX4_lateTotal 1 = .ok (.bipush 7, 2) := dk_16 7 (dk_at dksX4_lateTotal_0 1 rfl rfl)
theorem dX4_lateTotal_3 : decode cX4_lateTotal 3 = .ok (.invokevirtual 129, 3) := dk_182 0 129 (dk_at dksX4_lateTotal_0 3 rfl rfl)
theorem dX4_lateTotal_6 : decode cX4_lateTotal 6 = .ok (.ireturn, 1) := dk_172 (dk_at dksX4_lateTotal_0 6 rfl rfl)
