set_option maxRecDepth 100000
abbrev cX4_goes : ByteArray := prog_18_method_21_code
def yX4_goes : MethodName := ⟨RX4, "goes", "(I)V"⟩
def dkwX4_goes_2 : List UInt8 := [180, 0, 16, 6, 92, 46, 4, 100, 79, 177]
abbrev dktX4_goes_2 : List UInt8 := dkwX4_goes_2 ++ []
def dkwX4_goes_1 : List UInt8 := [162, 0, 14, 42, 180, 0, 16, 28, 8, 96, 46, 167, 0, 4, 3, 79, 132, 2, 1, 167, 255, 221, 42]
abbrev dktX4_goes_1 : List UInt8 := dkwX4_goes_1 ++ dktX4_goes_2
def dkwX4_goes_0 : List UInt8 := [27, 3, 184, 0, 60, 61, 28, 16, 60, 162, 0, 35, 42, 180, 0, 16, 28, 28, 8, 96, 16, 60]
abbrev dktX4_goes_0 : List UInt8 := dkwX4_goes_0 ++ dktX4_goes_1
theorem dksX4_goes_0 : cX4_goes.data.toList.drop 0 = dktX4_goes_0 := by decide +kernel
theorem dksX4_goes_1 : cX4_goes.data.toList.drop 22 = dktX4_goes_1 := dk_seg dksX4_goes_0 22 rfl rfl
theorem dksX4_goes_2 : cX4_goes.data.toList.drop 45 = dktX4_goes_2 := dk_seg dksX4_goes_1 23 rfl rfl
theorem dX4_goes_0 : decode cX4_goes 0 = .ok (.iload_n 1, 1) := dk_27 (dk_at dksX4_goes_0 0 rfl rfl)
theorem dX4_goes_1 : decode cX4_goes 1 = .ok (.iconst 0, 1) := dk_3 (dk_at dksX4_goes_0 1 rfl rfl)
theorem dX4_goes_2 : decode cX4_goes 2 = .ok (.invokestatic 60, 3) := dk_184 0 60 (dk_at dksX4_goes_0 2 rfl rfl)
theorem dX4_goes_5 : decode cX4_goes 5 = .ok (.istore_n 2, 1) := dk_61 (dk_at dksX4_goes_0 5 rfl rfl)
theorem dX4_goes_6 : decode cX4_goes 6 = .ok (.iload_n 2, 1) := dk_28 (dk_at dksX4_goes_0 6 rfl rfl)
theorem dX4_goes_7 : decode cX4_goes 7 = .ok (.bipush 60, 2) := dk_16 60 (dk_at dksX4_goes_0 7 rfl rfl)
theorem dX4_goes_9 : decode cX4_goes 9 = .ok (.if_icmp .ge 35, 3) := dk_162 0 35 (dk_at dksX4_goes_0 9 rfl rfl)
theorem dX4_goes_12 : decode cX4_goes 12 = .ok (.aload_n 0, 1) := dk_42 (dk_at dksX4_goes_0 12 rfl rfl)
theorem dX4_goes_13 : decode cX4_goes 13 = .ok (.getfield 16, 3) := dk_180 0 16 (dk_at dksX4_goes_0 13 rfl rfl)
theorem dX4_goes_16 : decode cX4_goes 16 = .ok (.iload_n 2, 1) := dk_28 (dk_at dksX4_goes_0 16 rfl rfl)
theorem dX4_goes_17 : decode cX4_goes 17 = .ok (.iload_n 2, 1) := dk_28 (dk_at dksX4_goes_0 17 rfl rfl)
theorem dX4_goes_18 : decode cX4_goes 18 = .ok (.iconst 5, 1) := dk_8 (dk_at dksX4_goes_0 18 rfl rfl)
theorem dX4_goes_19 : decode cX4_goes 19 = .ok (.iadd, 1) := dk_96 (dk_at dksX4_goes_0 19 rfl rfl)
theorem dX4_goes_20 : decode cX4_goes 20 = .ok (.bipush 60, 2) := dk_16 60 (dk_at dksX4_goes_0 20 rfl rfl)
theorem dX4_goes_22 : decode cX4_goes 22 = .ok (.if_icmp .ge 14, 3) := dk_162 0 14 (dk_at dksX4_goes_1 0 rfl rfl)
theorem dX4_goes_25 : decode cX4_goes 25 = .ok (.aload_n 0, 1) := dk_42 (dk_at dksX4_goes_1 3 rfl rfl)
theorem dX4_goes_26 : decode cX4_goes 26 = .ok (.getfield 16, 3) := dk_180 0 16 (dk_at dksX4_goes_1 4 rfl rfl)
theorem dX4_goes_29 : decode cX4_goes 29 = .ok (.iload_n 2, 1) := dk_28 (dk_at dksX4_goes_1 7 rfl rfl)
theorem dX4_goes_30 : decode cX4_goes 30 = .ok (.iconst 5, 1) := dk_8 (dk_at dksX4_goes_1 8 rfl rfl)
theorem dX4_goes_31 : decode cX4_goes 31 = .ok (.iadd, 1) := dk_96 (dk_at dksX4_goes_1 9 rfl rfl)
theorem dX4_goes_32 : decode cX4_goes 32 = .ok (.iaload, 1) := dk_46 (dk_at dksX4_goes_1 10 rfl rfl)
theorem dX4_goes_33 : decode cX4_goes 33 = .ok (.goto 4, 3) := dk_167 0 4 (dk_at dksX4_goes_1 11 rfl rfl)
theorem dX4_goes_36 : decode cX4_goes 36 = .ok (.iconst 0, 1) := dk_3 (dk_at dksX4_goes_1 14 rfl rfl)
theorem dX4_goes_37 : decode cX4_goes 37 = .ok (.iastore, 1) := dk_79 (dk_at dksX4_goes_1 15 rfl rfl)
theorem dX4_goes_38 : decode cX4_goes 38 = .ok (.iinc 2 1, 3) := dk_132 2 1 (dk_at dksX4_goes_1 16 rfl rfl)
theorem dX4_goes_41 : decode cX4_goes 41 = .ok (.goto (-35), 3) := dk_167 255 221 (dk_at dksX4_goes_1 19 rfl rfl)
theorem dX4_goes_44 : decode cX4_goes 44 = .ok (.aload_n 0, 1) := dk_42 (dk_at dksX4_goes_1 22 rfl rfl)
theorem dX4_goes_45 : decode cX4_goes 45 = .ok (.getfield 16, 3) := dk_180 0 16 (dk_at dksX4_goes_2 0 rfl rfl)
theorem dX4_goes_48 : decode cX4_goes 48 = .ok (.iconst 3, 1) := dk_6 (dk_at dksX4_goes_2 3 rfl rfl)
theorem dX4_goes_49 : decode cX4_goes 49 = .ok (.dup2, 1) := dk_92 (dk_at dksX4_goes_2 4 rfl rfl)
theorem dX4_goes_50 : decode cX4_goes 50 = .ok (.iaload, 1) := dk_46 (dk_at dksX4_goes_2 5 rfl rfl)
theorem dX4_goes_51 : decode cX4_goes 51 = .ok (.iconst 1, 1) := dk_4 (dk_at dksX4_goes_2 6 rfl rfl)
theorem dX4_goes_52 : decode cX4_goes 52 = .ok (.isub, 1) := dk_100 (dk_at dksX4_goes_2 7 rfl rfl)
theorem dX4_goes_53 : decode cX4_goes 53 = .ok (.iastore, 1) := dk_79 (dk_at dksX4_goes_2 8 rfl rfl)
theorem dX4_goes_54 : decode cX4_goes 54 = .ok (.return_, 1) := dk_177 (dk_at dksX4_goes_2 9 rfl rfl)
abbrev cX4_leaves : ByteArray := prog_18_method_22_code
def yX4_leaves : MethodName := ⟨RX4, "leaves", "(I)I"⟩
def dkwX4_leaves_1 : List UInt8 := [180, 0, 16, 6, 46, 172]
abbrev dktX4_leaves_1 : List UInt8 := dkwX4_leaves_1 ++ []
def dkwX4_leaves_0 : List UInt8 := [42, 27, 182, 0, 99, 61, 28, 156, 0, 9, 42, 4, 182, 0, 86, 172, 42, 28, 182, 0, 108, 42]
abbrev dktX4_leaves_0 : List UInt8 := dkwX4_leaves_0 ++ dktX4_leaves_1
theorem dksX4_leaves_0 : cX4_leaves.data.toList.drop 0 = dktX4_leaves_0 := by decide +kernel
theorem dksX4_leaves_1 : cX4_leaves.data.toList.drop 22 = dktX4_leaves_1 := dk_seg dksX4_leaves_0 22 rfl rfl
theorem dX4_leaves_0 : decode cX4_leaves 0 = .ok (.aload_n 0, 1) := dk_42 (dk_at dksX4_leaves_0 0 rfl rfl)
theorem dX4_leaves_1 : decode cX4_leaves 1 = .ok (.iload_n 1, 1) := dk_27 (dk_at dksX4_leaves_0 1 rfl rfl)
theorem dX4_leaves_2 : decode cX4_leaves 2 = .ok (.invokevirtual 99, 3) := dk_182 0 99 (dk_at dksX4_leaves_0 2 rfl rfl)
theorem dX4_leaves_5 : decode cX4_leaves 5 = .ok (.istore_n 2, 1) := dk_61 (dk_at dksX4_leaves_0 5 rfl rfl)
theorem dX4_leaves_6 : decode cX4_leaves 6 = .ok (.iload_n 2, 1) := dk_28 (dk_at dksX4_leaves_0 6 rfl rfl)
theorem dX4_leaves_7 : decode cX4_leaves 7 = .ok (.ifCond .ge 9, 3) := dk_156 0 9 (dk_at dksX4_leaves_0 7 rfl rfl)
theorem dX4_leaves_10 : decode cX4_leaves 10 = .ok (.aload_n 0, 1) := dk_42 (dk_at dksX4_leaves_0 10 rfl rfl)
theorem dX4_leaves_11 : decode cX4_leaves 11 = .ok (.iconst 1, 1) := dk_4 (dk_at dksX4_leaves_0 11 rfl rfl)
theorem dX4_leaves_12 : decode cX4_leaves 12 = .ok (.invokevirtual 86, 3) := dk_182 0 86 (dk_at dksX4_leaves_0 12 rfl rfl)
theorem dX4_leaves_15 : decode cX4_leaves 15 = .ok (.ireturn, 1) := dk_172 (dk_at dksX4_leaves_0 15 rfl rfl)
theorem dX4_leaves_16 : decode cX4_leaves 16 = .ok (.aload_n 0, 1) := dk_42 (dk_at dksX4_leaves_0 16 rfl rfl)
theorem dX4_leaves_17 : decode cX4_leaves 17 = .ok (.iload_n 2, 1) := dk_28 (dk_at dksX4_leaves_0 17 rfl rfl)
theorem dX4_leaves_18 : decode cX4_leaves 18 = .ok (.invokevirtual 108, 3) := dk_182 0 108 (dk_at dksX4_leaves_0 18 rfl rfl)
theorem dX4_leaves_21 : decode cX4_leaves 21 = .ok (.aload_n 0, 1) := dk_42 (dk_at dksX4_leaves_0 21 rfl rfl)
theorem dX4_leaves_22 : decode cX4_leaves 22 = .ok (.getfield 16, 3) := dk_180 0 16 (dk_at dksX4_leaves_1 0 rfl rfl)
theorem dX4_leaves_25 : decode cX4_leaves 25 = .ok (.iconst 3, 1) := dk_6 (dk_at dksX4_leaves_1 3 rfl rfl)
theorem dX4_leaves_26 : decode cX4_leaves 26 = .ok (.iaload, 1) := dk_46 (dk_at dksX4_leaves_1 4 rfl rfl)
theorem dX4_leaves_27 : decode cX4_leaves 27 = .ok (.ireturn, 1) := dk_172 (dk_at dksX4_leaves_1 5 rfl rfl)
abbrev cX4_leave : ByteArray := prog_18_method_23_code
def yX4_leave : MethodName := ⟨RX4, "leave", "(I)I"⟩
def dkwX4_leave_0 : List UInt8 := [42, 182, 0, 89, 42, 42, 27, 182, 0, 111, 182, 0, 96, 172]
abbrev dktX4_leave_0 : List UInt8 := dkwX4_leave_0 ++ []
theorem dksX4_leave_0 : cX4_leave.data.toList.drop 0 = dktX4_leave_0 := by decide +kernel
theorem dX4_leave_0 : decode cX4_leave 0 = .ok (.aload_n 0, 1) := dk_42 (dk_at dksX4_leave_0 0 rfl rfl)
theorem dX4_leave_1 : decode cX4_leave 1 = .ok (.invokevirtual 89, 3) := dk_182 0 89 (dk_at dksX4_leave_0 1 rfl rfl)
theorem dX4_leave_4 : decode cX4_leave 4 = .ok (.aload_n 0, 1) := dk_42 (dk_at dksX4_leave_0 4 rfl rfl)
theorem dX4_leave_5 : decode cX4_leave 5 = .ok (.aload_n 0, 1) := dk_42 (dk_at dksX4_leave_0 5 rfl rfl)
theorem dX4_leave_6 : decode cX4_leave 6 = .ok (.iload_n 1, 1) := dk_27 (dk_at dksX4_leave_0 6 rfl rfl)
theorem dX4_leave_7 : decode cX4_leave 7 = .ok (.invokevirtual 111, 3) := dk_182 0 111 (dk_at dksX4_leave_0 7 rfl rfl)
theorem dX4_leave_10 : decode cX4_leave 10 = .ok (.invokevirtual 96, 3) := dk_182 0 96 (dk_at dksX4_leave_0 10 rfl rfl)
theorem dX4_leave_13 : decode cX4_leave 13 = .ok (.ireturn, 1) := dk_172 (dk_at dksX4_leave_0 13 rfl rfl)
abbrev cX4_lionAt : ByteArray := prog_18_method_36_code
def yX4_lionAt : MethodName := ⟨RX4, "lionAt", "(I)I"⟩
def dkwX4_lionAt_2 : List UInt8 := [172]
abbrev dktX4_lionAt_2 : List UInt8 := dkwX4_lionAt_2 ++ []
def dkwX4_lionAt_1 : List UInt8 := [181, 0, 50, 42, 180, 0, 50, 154, 0, 16, 42, 180, 0, 16, 27, 3, 184, 0, 60, 46, 167, 0, 4, 3]
abbrev dktX4_lionAt_1 : List UInt8 := dkwX4_lionAt_1 ++ dktX4_lionAt_2
def dkwX4_lionAt_0 : List UInt8 := [42, 27, 3, 42, 180, 0, 16, 6, 46, 4, 100, 184, 0, 82, 153, 0, 7, 3, 167, 0, 4, 4]
abbrev dktX4_lionAt_0 : List UInt8 := dkwX4_lionAt_0 ++ dktX4_lionAt_1
theorem dksX4_lionAt_0 : cX4_lionAt.data.toList.drop 0 = dktX4_lionAt_0 := by decide +kernel
theorem dksX4_lionAt_1 : cX4_lionAt.data.toList.drop 22 = dktX4_lionAt_1 := dk_seg dksX4_lionAt_0 22 rfl rfl
theorem dksX4_lionAt_2 : cX4_lionAt.data.toList.drop 46 = dktX4_lionAt_2 := dk_seg dksX4_lionAt_1 24 rfl rfl
theorem dX4_lionAt_0 : decode cX4_lionAt 0 = .ok (.aload_n 0, 1) := dk_42 (dk_at dksX4_lionAt_0 0 rfl rfl)
theorem dX4_lionAt_1 : decode cX4_lionAt 1 = .ok (.iload_n 1, 1) := dk_27 (dk_at dksX4_lionAt_0 1 rfl rfl)
theorem dX4_lionAt_2 : decode cX4_lionAt 2 = .ok (.iconst 0, 1) := dk_3 (dk_at dksX4_lionAt_0 2 rfl rfl)
theorem dX4_lionAt_3 : decode cX4_lionAt 3 = .ok (.aload_n 0, 1) := dk_42 (dk_at dksX4_lionAt_0 3 rfl rfl)
theorem dX4_lionAt_4 : decode cX4_lionAt 4 = .ok (.getfield 16, 3) := dk_180 0 16 (dk_at dksX4_lionAt_0 4 rfl rfl)
theorem dX4_lionAt_7 : decode cX4_lionAt 7 = .ok (.iconst 3, 1) := dk_6 (dk_at dksX4_lionAt_0 7 rfl rfl)
theorem dX4_lionAt_8 : decode cX4_lionAt 8 = .ok (.iaload, 1) := dk_46 (dk_at dksX4_lionAt_0 8 rfl rfl)
theorem dX4_lionAt_9 : decode cX4_lionAt 9 = .ok (.iconst 1, 1) := dk_4 (dk_at dksX4_lionAt_0 9 rfl rfl)
theorem dX4_lionAt_10 : decode cX4_lionAt 10 = .ok (.isub, 1) := dk_100 (dk_at dksX4_lionAt_0 10 rfl rfl)
theorem dX4_lionAt_11 : decode cX4_lionAt 11 = .ok (.invokestatic 82, 3) := dk_184 0 82 (dk_at dksX4_lionAt_0 11 rfl rfl)
theorem dX4_lionAt_14 : decode cX4_lionAt 14 = .ok (.ifCond .eq 7, 3) := dk_153 0 7 (dk_at dksX4_lionAt_0 14 rfl rfl)
theorem dX4_lionAt_17 : decode cX4_lionAt 17 = .ok (.iconst 0, 1) := dk_3 (dk_at dksX4_lionAt_0 17 rfl rfl)
theorem dX4_lionAt_18 : decode cX4_lionAt 18 = .ok (.goto 4, 3) := dk_167 0 4 (dk_at dksX4_lionAt_0 18 rfl rfl)
theorem dX4_lionAt_21 : decode cX4_lionAt 21 = .ok (.iconst 1, 1) := dk_4 (dk_at dksX4_lionAt_0 21 rfl rfl)
theorem dX4_lionAt_22 : decode cX4_lionAt 22 = .ok (.putfield 50, 3) := dk_181 0 50 (dk_at dksX4_lionAt_1 0 rfl rfl)
theorem dX4_lionAt_25 : decode cX4_lionAt 25 = .ok (.aload_n 0, 1) := dk_42 (dk_at dksX4_lionAt_1 3 rfl rfl)
theorem dX4_lionAt_26 : decode cX4_lionAt 26 = .ok (.getfield 50, 3) := dk_180 0 50 (dk_at dksX4_lionAt_1 4 rfl rfl)
theorem dX4_lionAt_29 : decode cX4_lionAt 29 = .ok (.ifCond .ne 16, 3) := dk_154 0 16 (dk_at dksX4_lionAt_1 7 rfl rfl)
theorem dX4_lionAt_32 : decode cX4_lionAt 32 = .ok (.aload_n 0, 1) := dk_42 (dk_at dksX4_lionAt_1 10 rfl rfl)
theorem dX4_lionAt_33 : decode cX4_lionAt 33 = .ok (.getfield 16, 3) := dk_180 0 16 (dk_at dksX4_lionAt_1 11 rfl rfl)
theorem dX4_lionAt_36 : decode cX4_lionAt 36 = .ok (.iload_n 1, 1) := dk_27 (dk_at dksX4_lionAt_1 14 rfl rfl)
theorem dX4_lionAt_37 : decode cX4_lionAt 37 = .ok (.iconst 0, 1) := dk_3 (dk_at dksX4_lionAt_1 15 rfl rfl)
theorem dX4_lionAt_38 : decode cX4_lionAt 38 = .ok (.invokestatic 60, 3) := dk_184 0 60 (dk_at dksX4_lionAt_1 16 rfl rfl)
theorem dX4_lionAt_41 : decode cX4_lionAt 41 = .ok (.iaload, 1) := dk_46 (dk_at dksX4_lionAt_1 19 rfl rfl)
theorem dX4_lionAt_42 : decode cX4_lionAt 42 = .ok (.goto 4, 3) := dk_167 0 4 (dk_at dksX4_lionAt_1 20 rfl rfl)
theorem dX4_lionAt_45 : decode cX4_lionAt 45 = .ok (.iconst 0, 1) := dk_3 (dk_at dksX4_lionAt_1 23 rfl rfl)
theorem dX4_lionAt_46 : decode cX4_lionAt 46 = .ok (.ireturn, 1) := dk_172 (dk_at dksX4_lionAt_2 0 rfl rfl)
abbrev cX4_lionCount : ByteArray := prog_18_method_35_code
def yX4_lionCount : MethodName := ⟨RX4, "lionCount", "()I"⟩
def dkwX4_lionCount_0 : List UInt8 := [42, 6, 182, 0, 129, 172]
abbrev dktX4_lionCount_0 : List UInt8 := dkwX4_lionCount_0 ++ []
theorem dksX4_lionCount_0 : cX4_lionCount.data.toList.drop 0 = dktX4_lionCount_0 := by decide +kernel
theorem dX4_lionCount_0 : decode cX4_lionCount 0 = .ok (.aload_n 0, 1) := dk_42 (dk_at dksX4_lionCount_0 0 rfl rfl)
theorem dX4_lionCount_1 : decode cX4_lionCount 1 = .ok (.iconst 3, 1) := dk_6 (dk_at dksX4_lionCount_0 1 rfl rfl)
theorem dX4_lionCount_2 : decode cX4_lionCount 2 = .ok (.invokevirtual 129, 3) := dk_182 0 129 (dk_at dksX4_lionCount_0 2 rfl rfl)
theorem dX4_lionCount_5 : decode cX4_lionCount 5 = .ok (.ireturn, 1) := dk_172 (dk_at dksX4_lionCount_0 5 rfl rfl)
abbrev cX4_meanHunger : ByteArray := prog_18_method_71_code
def yX4_meanHunger : MethodName := ⟨RX4, "meanHunger", "()D"⟩
def dkwX4_meanHunger_3 : List UInt8 := [175]
abbrev dktX4_meanHunger_3 : List UInt8 := dkwX4_meanHunger_3 ++ []
def dkwX4_meanHunger_2 : List UInt8 := [167, 255, 230, 42, 180, 0, 50, 154, 0, 16, 27, 135, 42, 180, 0, 16, 6, 46, 135, 111, 167, 0, 4, 14]
abbrev dktX4_meanHunger_2 : List UInt8 := dkwX4_meanHunger_2 ++ dktX4_meanHunger_3
def dkwX4_meanHunger_1 : List UInt8 := [180, 0, 16, 6, 46, 162, 0, 22, 27, 42, 180, 0, 16, 28, 4, 184, 0, 60, 46, 96, 60, 132, 2, 1]
abbrev dktX4_meanHunger_1 : List UInt8 := dkwX4_meanHunger_1 ++ dktX4_meanHunger_2
def dkwX4_meanHunger_0 : List UInt8 := [42, 42, 180, 0, 16, 6, 46, 154, 0, 7, 4, 167, 0, 4, 3, 181, 0, 50, 3, 60, 3, 61, 28, 42]
abbrev dktX4_meanHunger_0 : List UInt8 := dkwX4_meanHunger_0 ++ dktX4_meanHunger_1
theorem dksX4_meanHunger_0 : cX4_meanHunger.data.toList.drop 0 = dktX4_meanHunger_0 := by decide +kernel
theorem dksX4_meanHunger_1 : cX4_meanHunger.data.toList.drop 24 = dktX4_meanHunger_1 := dk_seg dksX4_meanHunger_0 24 rfl rfl
theorem dksX4_meanHunger_2 : cX4_meanHunger.data.toList.drop 48 = dktX4_meanHunger_2 := dk_seg dksX4_meanHunger_1 24 rfl rfl
theorem dksX4_meanHunger_3 : cX4_meanHunger.data.toList.drop 72 = dktX4_meanHunger_3 := dk_seg dksX4_meanHunger_2 24 rfl rfl
theorem dX4_meanHunger_0 : decode cX4_meanHunger 0 = .ok (.aload_n 0, 1) := dk_42 (dk_at dksX4_meanHunger_0 0 rfl rfl)
theorem dX4_meanHunger_1 : decode cX4_meanHunger 1 = .ok (.aload_n 0, 1) := dk_42 (dk_at dksX4_meanHunger_0 1 rfl rfl)
theorem dX4_meanHunger_2 : decode cX4_meanHunger 2 = .ok (.getfield 16, 3) := dk_180 0 16 (dk_at dksX4_meanHunger_0 2 rfl rfl)
theorem dX4_meanHunger_5 : decode cX4_meanHunger 5 = .ok (.iconst 3, 1) := dk_6 (dk_at dksX4_meanHunger_0 5 rfl rfl)
theorem dX4_meanHunger_6 : decode cX4_meanHunger 6 = .ok (.iaload, 1) := dk_46 (dk_at dksX4_meanHunger_0 6 rfl rfl)
theorem dX4_meanHunger_7 : decode cX4_meanHunger 7 = .ok (.ifCond .ne 7, 3) := dk_154 0 7 (dk_at dksX4_meanHunger_0 7 rfl rfl)
theorem dX4_meanHunger_10 : decode cX4_meanHunger 10 = .ok (.iconst 1, 1) := dk_4 (dk_at dksX4_meanHunger_0 10 rfl rfl)
theorem dX4_meanHunger_11 : decode cX4_meanHunger 11 = .ok (.goto 4, 3) := dk_167 0 4 (dk_at dksX4_meanHunger_0 11 rfl rfl)
theorem dX4_meanHunger_14 : decode cX4_meanHunger 14 = .ok (.iconst 0, 1) := dk_3 (dk_at dksX4_meanHunger_0 14 rfl rfl)
theorem dX4_meanHunger_15 : decode cX4_meanHunger 15 = .ok (.putfield 50, 3) := dk_181 0 50 (dk_at dksX4_meanHunger_0 15 rfl rfl)
theorem dX4_meanHunger_18 : decode cX4_meanHunger 18 = .ok (.iconst 0, 1) := dk_3 (dk_at dksX4_meanHunger_0 18 rfl rfl)
theorem dX4_meanHunger_19 : decode cX4_meanHunger 19 = .ok (.istore_n 1, 1) := dk_60 (dk_at dksX4_meanHunger_0 19 rfl rfl)
theorem dX4_meanHunger_20 : decode cX4_meanHunger 20 = .ok (.iconst 0, 1) := dk_3 (dk_at dksX4_meanHunger_0 20 rfl rfl)
theorem dX4_meanHunger_21 : decode cX4_meanHunger 21 = .ok (.istore_n 2, 1) := dk_61 (dk_at dksX4_meanHunger_0 21 rfl rfl)
theorem dX4_meanHunger_22 : decode cX4_meanHunger 22 = .ok (.iload_n 2, 1) := dk_28 (dk_at dksX4_meanHunger_0 22 rfl rfl)
theorem dX4_meanHunger_23 : decode cX4_meanHunger 23 = .ok (.aload_n 0, 1) := dk_42 (dk_at dksX4_meanHunger_0 23 rfl rfl)
theorem dX4_meanHunger_24 : decode cX4_meanHunger 24 = .ok (.getfield 16, 3) := dk_180 0 16 (dk_at dksX4_meanHunger_1 0 rfl rfl)
theorem dX4_meanHunger_27 : decode cX4_meanHunger 27 = .ok (.iconst 3, 1) := dk_6 (dk_at dksX4_meanHunger_1 3 rfl rfl)
theorem dX4_meanHunger_28 : decode cX4_meanHunger 28 = .ok (.iaload, 1) := dk_46 (dk_at dksX4_meanHunger_1 4 rfl rfl)
theorem dX4_meanHunger_29 : decode cX4_meanHunger 29 = .ok (.if_icmp .ge 22, 3) := dk_162 0 22 (dk_at dksX4_meanHunger_1 5 rfl rfl)
theorem dX4_meanHunger_32 : decode cX4_meanHunger 32 = .ok (.iload_n 1, 1) := dk_27 (dk_at dksX4_meanHunger_1 8 rfl rfl)
theorem dX4_meanHunger_33 : decode cX4_meanHunger 33 = .ok (.aload_n 0, 1) := dk_42 (dk_at dksX4_meanHunger_1 9 rfl rfl)
theorem dX4_meanHunger_34 : decode cX4_meanHunger 34 = .ok (.getfield 16, 3) := dk_180 0 16 (dk_at dksX4_meanHunger_1 10 rfl rfl)
theorem dX4_meanHunger_37 : decode cX4_meanHunger 37 = .ok (.iload_n 2, 1) := dk_28 (dk_at dksX4_meanHunger_1 13 rfl rfl)
theorem dX4_meanHunger_38 : decode cX4_meanHunger 38 = .ok (.iconst 1, 1) := dk_4 (dk_at dksX4_meanHunger_1 14 rfl rfl)
theorem dX4_meanHunger_39 : decode cX4_meanHunger 39 = .ok (.invokestatic 60, 3) := dk_184 0 60 (dk_at dksX4_meanHunger_1 15 rfl rfl)
theorem dX4_meanHunger_42 : decode cX4_meanHunger 42 = .ok (.iaload, 1) := dk_46 (dk_at dksX4_meanHunger_1 18 rfl rfl)
theorem dX4_meanHunger_43 : decode cX4_meanHunger 43 = .ok (.iadd, 1) := dk_96 (dk_at dksX4_meanHunger_1 19 rfl rfl)
theorem dX4_meanHunger_44 : decode cX4_meanHunger 44 = .ok (.istore_n 1, 1) := dk_60 (dk_at dksX4_meanHunger_1 20 rfl rfl)
theorem dX4_meanHunger_45 : decode cX4_meanHunger 45 = .ok (.iinc 2 1, 3) := dk_132 2 1 (dk_at dksX4_meanHunger_1 21 rfl rfl)
theorem dX4_meanHunger_48 : decode cX4_meanHunger 48 = .ok (.goto (-26), 3) := dk_167 255 230 (dk_at dksX4_meanHunger_2 0 rfl rfl)
theorem dX4_meanHunger_51 : decode cX4_meanHunger 51 = .ok (.aload_n 0, 1) := dk_42 (dk_at dksX4_meanHunger_2 3 rfl rfl)
theorem dX4_meanHunger_52 : decode cX4_meanHunger 52 = .ok (.getfield 50, 3) := dk_180 0 50 (dk_at dksX4_meanHunger_2 4 rfl rfl)
theorem dX4_meanHunger_55 : decode cX4_meanHunger 55 = .ok (.ifCond .ne 16, 3) := dk_154 0 16 (dk_at dksX4_meanHunger_2 7 rfl rfl)
theorem dX4_meanHunger_58 : decode cX4_meanHunger 58 = .ok (.iload_n 1, 1) := dk_27 (dk_at dksX4_meanHunger_2 10 rfl rfl)
theorem dX4_meanHunger_59 : decode cX4_meanHunger 59 = .ok (.i2d, 1) := dk_135 (dk_at dksX4_meanHunger_2 11 rfl rfl)
theorem dX4_meanHunger_60 : decode cX4_meanHunger 60 = .ok (.aload_n 0, 1) := dk_42 (dk_at dksX4_meanHunger_2 12 rfl rfl)
theorem dX4_meanHunger_61 : decode cX4_meanHunger 61 = .ok (.getfield 16, 3) := dk_180 0 16 (dk_at dksX4_meanHunger_2 13 rfl rfl)
theorem dX4_meanHunger_64 : decode cX4_meanHunger 64 = .ok (.iconst 3, 1) := dk_6 (dk_at dksX4_meanHunger_2 16 rfl rfl)
theorem dX4_meanHunger_65 : decode cX4_meanHunger 65 = .ok (.iaload, 1) := dk_46 (dk_at dksX4_meanHunger_2 17 rfl rfl)
theorem dX4_meanHunger_66 : decode cX4_meanHunger 66 = .ok (.i2d, 1) := dk_135 (dk_at dksX4_meanHunger_2 18 rfl rfl)
theorem dX4_meanHunger_67 : decode cX4_meanHunger 67 = .ok (.ddiv, 1) := dk_111 (dk_at dksX4_meanHunger_2 19 rfl rfl)
theorem dX4_meanHunger_68 : decode cX4_meanHunger 68 = .ok (.goto 4, 3) := dk_167 0 4 (dk_at dksX4_meanHunger_2 20 rfl rfl)
theorem dX4_meanHunger_71 : decode cX4_meanHunger 71 = .ok (.dconst 0, 1) := dk_14 (dk_at dksX4_meanHunger_2 23 rfl rfl)
theorem dX4_meanHunger_72 : decode cX4_meanHunger 72 = .ok (.dreturn, 1) := dk_175 (dk_at dksX4_meanHunger_3 0 rfl rfl)
abbrev cX4_mostInTime : ByteArray := prog_18_method_53_code
def yX4_mostInTime : MethodName := ⟨RX4, "mostInTime", "()I"⟩
def dkwX4_mostInTime_2 : List UInt8 := [132, 2, 1, 167, 255, 220, 27, 172]
abbrev dktX4_mostInTime_2 : List UInt8 := dkwX4_mostInTime_2 ++ []
def dkwX4_mostInTime_1 : List UInt8 := [162, 0, 30, 28, 184, 0, 145, 27, 164, 0, 16, 42, 28, 182, 0, 141, 153, 0, 8, 28, 184, 0, 145, 60]
abbrev dktX4_mostInTime_1 : List UInt8 := dkwX4_mostInTime_1 ++ dktX4_mostInTime_2
def dkwX4_mostInTime_0 : List UInt8 := [42, 3, 181, 0, 50, 42, 182, 0, 138, 3, 60, 4, 61, 28, 4, 42, 180, 0, 16, 6, 46, 120]
abbrev dktX4_mostInTime_0 : List UInt8 := dkwX4_mostInTime_0 ++ dktX4_mostInTime_1
theorem dksX4_mostInTime_0 : cX4_mostInTime.data.toList.drop 0 = dktX4_mostInTime_0 := by decide +kernel
theorem dksX4_mostInTime_1 : cX4_mostInTime.data.toList.drop 22 = dktX4_mostInTime_1 := dk_seg dksX4_mostInTime_0 22 rfl rfl
theorem dksX4_mostInTime_2 : cX4_mostInTime.data.toList.drop 46 = dktX4_mostInTime_2 := dk_seg dksX4_mostInTime_1 24 rfl rfl
theorem dX4_mostInTime_0 : decode cX4_mostInTime 0 = .ok (.aload_n 0, 1) := dk_42 (dk_at dksX4_mostInTime_0 0 rfl rfl)
theorem dX4_mostInTime_1 : decode cX4_mostInTime 1 = .ok (.iconst 0, 1) := dk_3 (dk_at dksX4_mostInTime_0 1 rfl rfl)
theorem dX4_mostInTime_2 : decode cX4_mostInTime 2 = .ok (.putfield 50, 3) := dk_181 0 50 (dk_at dksX4_mostInTime_0 2 rfl rfl)
theorem dX4_mostInTime_5 : decode cX4_mostInTime 5 = .ok (.aload_n 0, 1) := dk_42 (dk_at dksX4_mostInTime_0 5 rfl rfl)
theorem dX4_mostInTime_6 : decode cX4_mostInTime 6 = .ok (.invokevirtual 138, 3) := dk_182 0 138 (dk_at dksX4_mostInTime_0 6 rfl rfl)
theorem dX4_mostInTime_9 : decode cX4_mostInTime 9 = .ok (.iconst 0, 1) := dk_3 (dk_at dksX4_mostInTime_0 9 rfl rfl)
theorem dX4_mostInTime_10 : decode cX4_mostInTime 10 = .ok (.istore_n 1, 1) := dk_60 (dk_at dksX4_mostInTime_0 10 rfl rfl)
theorem dX4_mostInTime_11 : decode cX4_mostInTime 11 = .ok (.iconst 1, 1) := dk_4 (dk_at dksX4_mostInTime_0 11 rfl rfl)
theorem dX4_mostInTime_12 : decode cX4_mostInTime 12 = .ok (.istore_n 2, 1) := dk_61 (dk_at dksX4_mostInTime_0 12 rfl rfl)
theorem dX4_mostInTime_13 : decode cX4_mostInTime 13 = .ok (.iload_n 2, 1) := dk_28 (dk_at dksX4_mostInTime_0 13 rfl rfl)
theorem dX4_mostInTime_14 : decode cX4_mostInTime 14 = .ok (.iconst 1, 1) := dk_4 (dk_at dksX4_mostInTime_0 14 rfl rfl)
theorem dX4_mostInTime_15 : decode cX4_mostInTime 15 = .ok (.aload_n 0, 1) := dk_42 (dk_at dksX4_mostInTime_0 15 rfl rfl)
theorem dX4_mostInTime_16 : decode cX4_mostInTime 16 = .ok (.getfield 16, 3) := dk_180 0 16 (dk_at dksX4_mostInTime_0 16 rfl rfl)
theorem dX4_mostInTime_19 : decode cX4_mostInTime 19 = .ok (.iconst 3, 1) := dk_6 (dk_at dksX4_mostInTime_0 19 rfl rfl)
theorem dX4_mostInTime_20 : decode cX4_mostInTime 20 = .ok (.iaload, 1) := dk_46 (dk_at dksX4_mostInTime_0 20 rfl rfl)
theorem dX4_mostInTime_21 : decode cX4_mostInTime 21 = .ok (.ishl, 1) := dk_120 (dk_at dksX4_mostInTime_0 21 rfl rfl)
theorem dX4_mostInTime_22 : decode cX4_mostInTime 22 = .ok (.if_icmp .ge 30, 3) := dk_162 0 30 (dk_at dksX4_mostInTime_1 0 rfl rfl)
theorem dX4_mostInTime_25 : decode cX4_mostInTime 25 = .ok (.iload_n 2, 1) := dk_28 (dk_at dksX4_mostInTime_1 3 rfl rfl)
theorem dX4_mostInTime_26 : decode cX4_mostInTime 26 = .ok (.invokestatic 145, 3) := dk_184 0 145 (dk_at dksX4_mostInTime_1 4 rfl rfl)
theorem dX4_mostInTime_29 : decode cX4_mostInTime 29 = .ok (.iload_n 1, 1) := dk_27 (dk_at dksX4_mostInTime_1 7 rfl rfl)
theorem dX4_mostInTime_30 : decode cX4_mostInTime 30 = .ok (.if_icmp .le 16, 3) := dk_164 0 16 (dk_at dksX4_mostInTime_1 8 rfl rfl)
theorem dX4_mostInTime_33 : decode cX4_mostInTime 33 = .ok (.aload_n 0, 1) := dk_42 (dk_at dksX4_mostInTime_1 11 rfl rfl)
theorem dX4_mostInTime_34 : decode cX4_mostInTime 34 = .ok (.iload_n 2, 1) := dk_28 (dk_at dksX4_mostInTime_1 12 rfl rfl)
theorem dX4_mostInTime_35 : decode cX4_mostInTime 35 = .ok (.invokevirtual 141, 3) := dk_182 0 141 (dk_at dksX4_mostInTime_1 13 rfl rfl)
theorem dX4_mostInTime_38 : decode cX4_mostInTime 38 = .ok (.ifCond .eq 8, 3) := dk_153 0 8 (dk_at dksX4_mostInTime_1 16 rfl rfl)
theorem dX4_mostInTime_41 : decode cX4_mostInTime 41 = .ok (.iload_n 2, 1) := dk_28 (dk_at dksX4_mostInTime_1 19 rfl rfl)
theorem dX4_mostInTime_42 : decode cX4_mostInTime 42 = .ok (.invokestatic 145, 3) := dk_184 0 145 (dk_at dksX4_mostInTime_1 20 rfl rfl)
theorem dX4_mostInTime_45 : decode cX4_mostInTime 45 = .ok (.istore_n 1, 1) := dk_60 (dk_at dksX4_mostInTime_1 23 rfl rfl)
theorem dX4_mostInTime_46 : decode cX4_mostInTime 46 = .ok (.iinc 2 1, 3) := dk_132 2 1 (dk_at dksX4_mostInTime_2 0 rfl rfl)
theorem dX4_mostInTime_49 : decode cX4_mostInTime 49 = .ok (.goto (-36), 3) := dk_167 255 220 (dk_at dksX4_mostInTime_2 3 rfl rfl)
theorem dX4_mostInTime_52 : decode cX4_mostInTime 52 = .ok (.iload_n 1, 1) := dk_27 (dk_at dksX4_mostInTime_2 6 rfl rfl)
theorem dX4_mostInTime_53 : decode cX4_mostInTime 53 = .ok (.ireturn, 1) := dk_172 (dk_at dksX4_mostInTime_2 7 rfl rfl)
abbrev cX4_mostInTimeBySets : ByteArray := prog_18_method_54_code
def yX4_mostInTimeBySets : MethodName := ⟨RX4, "mostInTimeBySets", "()I"⟩
theorem dX4_mostInTimeBySets_0 : decode cX4_mostInTimeBySets 0 = .ok (.aload_n 0, 1) := by decide +kernel
theorem dX4_mostInTimeBySets_1 : decode cX4_mostInTimeBySets 1 = .ok (.invokevirtual 148, 3) := by decide +kernel
theorem dX4_mostInTimeBySets_4 : decode cX4_mostInTimeBySets 4 = .ok (.ireturn, 1) := by decide +kernel
abbrev cX4_onDutyAt : ByteArray := prog_18_method_24_code
def yX4_onDutyAt : MethodName := ⟨RX4, "onDutyAt", "(I)I"⟩
def dkwX4_onDutyAt_2 : List UInt8 := [167, 0, 4, 3, 96, 61, 132, 3, 1, 167, 255, 203, 28, 172]
abbrev dktX4_onDutyAt_2 : List UInt8 := dkwX4_onDutyAt_2 ++ []
def dkwX4_onDutyAt_1 : List UInt8 := [96, 46, 27, 163, 0, 24, 27, 42, 180, 0, 16, 16, 60, 5, 29, 104, 96, 4, 96, 46, 162, 0, 7, 4]
abbrev dktX4_onDutyAt_1 : List UInt8 := dkwX4_onDutyAt_1 ++ dktX4_onDutyAt_2
def dkwX4_onDutyAt_0 : List UInt8 := [3, 61, 3, 62, 29, 42, 180, 0, 16, 7, 46, 162, 0, 49, 28, 42, 180, 0, 16, 16, 60, 5, 29, 104]
abbrev dktX4_onDutyAt_0 : List UInt8 := dkwX4_onDutyAt_0 ++ dktX4_onDutyAt_1
theorem dksX4_onDutyAt_0 : cX4_onDutyAt.data.toList.drop 0 = dktX4_onDutyAt_0 := by decide +kernel
theorem dksX4_onDutyAt_1 : cX4_onDutyAt.data.toList.drop 24 = dktX4_onDutyAt_1 := dk_seg dksX4_onDutyAt_0 24 rfl rfl
theorem dksX4_onDutyAt_2 : cX4_onDutyAt.data.toList.drop 48 = dktX4_onDutyAt_2 := dk_seg dksX4_onDutyAt_1 24 rfl rfl
theorem dX4_onDutyAt_0 : decode cX4_onDutyAt 0 = .ok (.iconst 0, 1) := dk_3 (dk_at dksX4_onDutyAt_0 0 rfl rfl)
theorem dX4_onDutyAt_1 : decode cX4_onDutyAt 1 = .ok (.istore_n 2, 1) := dk_61 (dk_at dksX4_onDutyAt_0 1 rfl rfl)
theorem dX4_onDutyAt_2 : decode cX4_onDutyAt 2 = .ok (.iconst 0, 1) := dk_3 (dk_at dksX4_onDutyAt_0 2 rfl rfl)
theorem dX4_onDutyAt_3 : decode cX4_onDutyAt 3 = .ok (.istore_n 3, 1) := dk_62 (dk_at dksX4_onDutyAt_0 3 rfl rfl)
theorem dX4_onDutyAt_4 : decode cX4_onDutyAt 4 = .ok (.iload_n 3, 1) := dk_29 (dk_at dksX4_onDutyAt_0 4 rfl rfl)
theorem dX4_onDutyAt_5 : decode cX4_onDutyAt 5 = .ok (.aload_n 0, 1) := dk_42 (dk_at dksX4_onDutyAt_0 5 rfl rfl)
theorem dX4_onDutyAt_6 : decode cX4_onDutyAt 6 = .ok (.getfield 16, 3) := dk_180 0 16 (dk_at dksX4_onDutyAt_0 6 rfl rfl)
theorem dX4_onDutyAt_9 : decode cX4_onDutyAt 9 = .ok (.iconst 4, 1) := dk_7 (dk_at dksX4_onDutyAt_0 9 rfl rfl)
theorem dX4_onDutyAt_10 : decode cX4_onDutyAt 10 = .ok (.iaload, 1) := dk_46 (dk_at dksX4_onDutyAt_0 10 rfl rfl)
theorem dX4_onDutyAt_11 : decode cX4_onDutyAt 11 = .ok (.if_icmp .ge 49, 3) := dk_162 0 49 (dk_at dksX4_onDutyAt_0 11 rfl rfl)
theorem dX4_onDutyAt_14 : decode cX4_onDutyAt 14 = .ok (.iload_n 2, 1) := dk_28 (dk_at dksX4_onDutyAt_0 14 rfl rfl)
theorem dX4_onDutyAt_15 : decode cX4_onDutyAt 15 = .ok (.aload_n 0, 1) := dk_42 (dk_at dksX4_onDutyAt_0 15 rfl rfl)
theorem dX4_onDutyAt_16 : decode cX4_onDutyAt 16 = .ok (.getfield 16, 3) := dk_180 0 16 (dk_at dksX4_onDutyAt_0 16 rfl rfl)
theorem dX4_onDutyAt_19 : decode cX4_onDutyAt 19 = .ok (.bipush 60, 2) := dk_16 60 (dk_at dksX4_onDutyAt_0 19 rfl rfl)
theorem dX4_onDutyAt_21 : decode cX4_onDutyAt 21 = .ok (.iconst 2, 1) := dk_5 (dk_at dksX4_onDutyAt_0 21 rfl rfl)
theorem dX4_onDutyAt_22 : decode cX4_onDutyAt 22 = .ok (.iload_n 3, 1) := dk_29 (dk_at dksX4_onDutyAt_0 22 rfl rfl)
theorem dX4_onDutyAt_23 : decode cX4_onDutyAt 23 = .ok (.imul, 1) := dk_104 (dk_at dksX4_onDutyAt_0 23 rfl rfl)
theorem dX4_onDutyAt_24 : decode cX4_onDutyAt 24 = .ok (.iadd, 1) := dk_96 (dk_at dksX4_onDutyAt_1 0 rfl rfl)
theorem dX4_onDutyAt_25 : decode cX4_onDutyAt 25 = .ok (.iaload, 1) := dk_46 (dk_at dksX4_onDutyAt_1 1 rfl rfl)
theorem dX4_onDutyAt_26 : decode cX4_onDutyAt 26 = .ok (.iload_n 1, 1) := dk_27 (dk_at dksX4_onDutyAt_1 2 rfl rfl)
theorem dX4_onDutyAt_27 : decode cX4_onDutyAt 27 = .ok (.if_icmp .gt 24, 3) := dk_163 0 24 (dk_at dksX4_onDutyAt_1 3 rfl rfl)
theorem dX4_onDutyAt_30 : decode cX4_onDutyAt 30 = .ok (.iload_n 1, 1) := dk_27 (dk_at dksX4_onDutyAt_1 6 rfl rfl)
theorem dX4_onDutyAt_31 : decode cX4_onDutyAt 31 = .ok (.aload_n 0, 1) := dk_42 (dk_at dksX4_onDutyAt_1 7 rfl rfl)
theorem dX4_onDutyAt_32 : decode cX4_onDutyAt 32 = .ok (.getfield 16, 3) := dk_180 0 16 (dk_at dksX4_onDutyAt_1 8 rfl rfl)
theorem dX4_onDutyAt_35 : decode cX4_onDutyAt 35 = .ok (.bipush 60, 2) := dk_16 60 (dk_at dksX4_onDutyAt_1 11 rfl rfl)
theorem dX4_onDutyAt_37 : decode cX4_onDutyAt 37 = .ok (.iconst 2, 1) := dk_5 (dk_at dksX4_onDutyAt_1 13 rfl rfl)
theorem dX4_onDutyAt_38 : decode cX4_onDutyAt 38 = .ok (.iload_n 3, 1) := dk_29 (dk_at dksX4_onDutyAt_1 14 rfl rfl)
theorem dX4_onDutyAt_39 : decode cX4_onDutyAt 39 = .ok (.imul, 1) := dk_104 (dk_at dksX4_onDutyAt_1 15 rfl rfl)
theorem dX4_onDutyAt_40 : decode cX4_onDutyAt 40 = .ok (.iadd, 1) := dk_96 (dk_at dksX4_onDutyAt_1 16 rfl rfl)
theorem dX4_onDutyAt_41 : decode cX4_onDutyAt 41 = .ok (.iconst 1, 1) := dk_4 (dk_at dksX4_onDutyAt_1 17 rfl rfl)
theorem dX4_onDutyAt_42 : decode cX4_onDutyAt 42 = .ok (.iadd, 1) := dk_96 (dk_at dksX4_onDutyAt_1 18 rfl rfl)
theorem dX4_onDutyAt_43 : decode cX4_onDutyAt 43 = .ok (.iaload, 1) := dk_46 (dk_at dksX4_onDutyAt_1 19 rfl rfl)
theorem dX4_onDutyAt_44 : decode cX4_onDutyAt 44 = .ok (.if_icmp .ge 7, 3) := dk_162 0 7 (dk_at dksX4_onDutyAt_1 20 rfl rfl)
theorem dX4_onDutyAt_47 : decode cX4_onDutyAt 47 = .ok (.iconst 1, 1) := dk_4 (dk_at dksX4_onDutyAt_1 23 rfl rfl)
theorem dX4_onDutyAt_48 : decode cX4_onDutyAt 48 = .ok (.goto 4, 3) := dk_167 0 4 (dk_at dksX4_onDutyAt_2 0 rfl rfl)
theorem dX4_onDutyAt_51 : decode cX4_onDutyAt 51 = .ok (.iconst 0, 1) := dk_3 (dk_at dksX4_onDutyAt_2 3 rfl rfl)
theorem dX4_onDutyAt_52 : decode cX4_onDutyAt 52 = .ok (.iadd, 1) := dk_96 (dk_at dksX4_onDutyAt_2 4 rfl rfl)
theorem dX4_onDutyAt_53 : decode cX4_onDutyAt 53 = .ok (.istore_n 2, 1) := dk_61 (dk_at dksX4_onDutyAt_2 5 rfl rfl)
theorem dX4_onDutyAt_54 : decode cX4_onDutyAt 54 = .ok (.iinc 3 1, 3) := dk_132 3 1 (dk_at dksX4_onDutyAt_2 6 rfl rfl)
theorem dX4_onDutyAt_57 : decode cX4_onDutyAt 57 = .ok (.goto (-53), 3) := dk_167 255 203 (dk_at dksX4_onDutyAt_2 9 rfl rfl)
theorem dX4_onDutyAt_60 : decode cX4_onDutyAt 60 = .ok (.iload_n 2, 1) := dk_28 (dk_at dksX4_onDutyAt_2 12 rfl rfl)
theorem dX4_onDutyAt_61 : decode cX4_onDutyAt 61 = .ok (.ireturn, 1) := dk_172 (dk_at dksX4_onDutyAt_2 13 rfl rfl)
abbrev cX4_onDuty : ByteArray := prog_18_method_59_code
def yX4_onDuty : MethodName := ⟨RX4, "onDuty", "(I)I"⟩
def dkwX4_onDuty_1 : List UInt8 := [154, 0, 11, 42, 27, 182, 0, 114, 167, 0, 4, 3, 172]
abbrev dktX4_onDuty_1 : List UInt8 := dkwX4_onDuty_1 ++ []
def dkwX4_onDuty_0 : List UInt8 := [42, 27, 3, 16, 23, 184, 0, 82, 153, 0, 7, 3, 167, 0, 4, 4, 181, 0, 50, 42, 180, 0, 50]
abbrev dktX4_onDuty_0 : List UInt8 := dkwX4_onDuty_0 ++ dktX4_onDuty_1
theorem dksX4_onDuty_0 : cX4_onDuty.data.toList.drop 0 = dktX4_onDuty_0 := by decide +kernel
theorem dksX4_onDuty_1 : cX4_onDuty.data.toList.drop 23 = dktX4_onDuty_1 := dk_seg dksX4_onDuty_0 23 rfl rfl
theorem dX4_onDuty_0 : decode cX4_onDuty 0 = .ok (.aload_n 0, 1) := dk_42 (dk_at dksX4_onDuty_0 0 rfl rfl)
theorem dX4_onDuty_1 : decode cX4_onDuty 1 = .ok (.iload_n 1, 1) := dk_27 (dk_at dksX4_onDuty_0 1 rfl rfl)
theorem dX4_onDuty_2 : decode cX4_onDuty 2 = .ok (.iconst 0, 1) := dk_3 (dk_at dksX4_onDuty_0 2 rfl rfl)
theorem dX4_onDuty_3 : decode cX4_onDuty 3 = .ok (.bipush 23, 2) := dk_16 23 (dk_at dksX4_onDuty_0 3 rfl rfl)
theorem dX4_onDuty_5 : decode cX4_onDuty 5 = .ok (.invokestatic 82, 3) := dk_184 0 82 (dk_at dksX4_onDuty_0 5 rfl rfl)
theorem dX4_onDuty_8 : decode cX4_onDuty 8 = .ok (.ifCond .eq 7, 3) := dk_153 0 7 (dk_at dksX4_onDuty_0 8 rfl rfl)
theorem dX4_onDuty_11 : decode cX4_onDuty 11 = .ok (.iconst 0, 1) := dk_3 (dk_at dksX4_onDuty_0 11 rfl rfl)
theorem dX4_onDuty_12 : decode cX4_onDuty 12 = .ok (.goto 4, 3) := dk_167 0 4 (dk_at dksX4_onDuty_0 12 rfl rfl)
theorem dX4_onDuty_15 : decode cX4_onDuty 15 = .ok (.iconst 1, 1) := dk_4 (dk_at dksX4_onDuty_0 15 rfl rfl)
theorem dX4_onDuty_16 : decode cX4_onDuty 16 = .ok (.putfield 50, 3) := dk_181 0 50 (dk_at dksX4_onDuty_0 16 rfl rfl)
theorem dX4_onDuty_19 : decode cX4_onDuty 19 = .ok (.aload_n 0, 1) := dk_42 (dk_at dksX4_onDuty_0 19 rfl rfl)
theorem dX4_onDuty_20 : decode cX4_onDuty 20 = .ok (.getfield 50, 3) := dk_180 0 50 (dk_at dksX4_onDuty_0 20 rfl rfl)
theorem dX4_onDuty_23 : decode cX4_onDuty 23 = .ok (.ifCond .ne 11, 3) := dk_154 0 11 (dk_at dksX4_onDuty_1 0 rfl rfl)
theorem dX4_onDuty_26 : decode cX4_onDuty 26 = .ok (.aload_n 0, 1) := dk_42 (dk_at dksX4_onDuty_1 3 rfl rfl)
theorem dX4_onDuty_27 : decode cX4_onDuty 27 = .ok (.iload_n 1, 1) := dk_27 (dk_at dksX4_onDuty_1 4 rfl rfl)
theorem dX4_onDuty_28 : decode cX4_onDuty 28 = .ok (.invokevirtual 114, 3) := dk_182 0 114 (dk_at dksX4_onDuty_1 5 rfl rfl)
theorem dX4_onDuty_31 : decode cX4_onDuty 31 = .ok (.goto 4, 3) := dk_167 0 4 (dk_at dksX4_onDuty_1 8 rfl rfl)
theorem dX4_onDuty_34 : decode cX4_onDuty 34 = .ok (.iconst 0, 1) := dk_3 (dk_at dksX4_onDuty_1 11 rfl rfl)
theorem dX4_onDuty_35 : decode cX4_onDuty 35 = .ok (.ireturn, 1) := dk_172 (dk_at dksX4_onDuty_1 12 rfl rfl)
abbrev cX4_outputAt : ByteArray := prog_18_method_79_code
def yX4_outputAt : MethodName := ⟨RX4, "outputAt", "(I)C"⟩
def dkwX4_outputAt_1 : List UInt8 := [180, 0, 50, 154, 0, 13, 42, 180, 0, 35, 27, 46, 146, 167, 0, 5, 16, 97, 172]
abbrev dktX4_outputAt_1 : List UInt8 := dkwX4_outputAt_1 ++ []
def dkwX4_outputAt_0 : List UInt8 := [42, 27, 3, 42, 180, 0, 164, 4, 100, 184, 0, 82, 153, 0, 7, 3, 167, 0, 4, 4, 181, 0, 50, 42]
abbrev dktX4_outputAt_0 : List UInt8 := dkwX4_outputAt_0 ++ dktX4_outputAt_1
theorem dksX4_outputAt_0 : cX4_outputAt.data.toList.drop 0 = dktX4_outputAt_0 := by decide +kernel
theorem dksX4_outputAt_1 : cX4_outputAt.data.toList.drop 24 = dktX4_outputAt_1 := dk_seg dksX4_outputAt_0 24 rfl rfl
theorem dX4_outputAt_0 : decode cX4_outputAt 0 = .ok (.aload_n 0, 1) := dk_42 (dk_at dksX4_outputAt_0 0 rfl rfl)
theorem dX4_outputAt_1 : decode cX4_outputAt 1 = .ok (.iload_n 1, 1) := dk_27 (dk_at dksX4_outputAt_0 1 rfl rfl)
theorem dX4_outputAt_2 : decode cX4_outputAt 2 = .ok (.iconst 0, 1) := dk_3 (dk_at dksX4_outputAt_0 2 rfl rfl)
theorem dX4_outputAt_3 : decode cX4_outputAt 3 = .ok (.aload_n 0, 1) := dk_42 (dk_at dksX4_outputAt_0 3 rfl rfl)
theorem dX4_outputAt_4 : decode cX4_outputAt 4 = .ok (.getfield 164, 3) := dk_180 0 164 (dk_at dksX4_outputAt_0 4 rfl rfl)
theorem dX4_outputAt_7 : decode cX4_outputAt 7 = .ok (.iconst 1, 1) := dk_4 (dk_at dksX4_outputAt_0 7 rfl rfl)
theorem dX4_outputAt_8 : decode cX4_outputAt 8 = .ok (.isub, 1) := dk_100 (dk_at dksX4_outputAt_0 8 rfl rfl)
theorem dX4_outputAt_9 : decode cX4_outputAt 9 = .ok (.invokestatic 82, 3) := dk_184 0 82 (dk_at dksX4_outputAt_0 9 rfl rfl)
theorem dX4_outputAt_12 : decode cX4_outputAt 12 = .ok (.ifCond .eq 7, 3) := dk_153 0 7 (dk_at dksX4_outputAt_0 12 rfl rfl)
theorem dX4_outputAt_15 : decode cX4_outputAt 15 = .ok (.iconst 0, 1) := dk_3 (dk_at dksX4_outputAt_0 15 rfl rfl)
theorem dX4_outputAt_16 : decode cX4_outputAt 16 = .ok (.goto 4, 3) := dk_167 0 4 (dk_at dksX4_outputAt_0 16 rfl rfl)
theorem dX4_outputAt_19 : decode cX4_outputAt 19 = .ok (.iconst 1, 1) := dk_4 (dk_at dksX4_outputAt_0 19 rfl rfl)
theorem dX4_outputAt_20 : decode cX4_outputAt 20 = .ok (.putfield 50, 3) := dk_181 0 50 (dk_at dksX4_outputAt_0 20 rfl rfl)
theorem dX4_outputAt_23 : decode cX4_outputAt 23 = .ok (.aload_n 0, 1) := dk_42 (dk_at dksX4_outputAt_0 23 rfl rfl)
theorem dX4_outputAt_24 : decode cX4_outputAt 24 = .ok (.getfield 50, 3) := dk_180 0 50 (dk_at dksX4_outputAt_1 0 rfl rfl)
theorem dX4_outputAt_27 : decode cX4_outputAt 27 = .ok (.ifCond .ne 13, 3) := dk_154 0 13 (dk_at dksX4_outputAt_1 3 rfl rfl)
theorem dX4_outputAt_30 : decode cX4_outputAt 30 = .ok (.aload_n 0, 1) := dk_42 (dk_at dksX4_outputAt_1 6 rfl rfl)
theorem dX4_outputAt_31 : decode cX4_outputAt 31 = .ok (.getfield 35, 3) := dk_180 0 35 (dk_at dksX4_outputAt_1 7 rfl rfl)
theorem dX4_outputAt_34 : decode cX4_outputAt 34 = .ok (.iload_n 1, 1) := dk_27 (dk_at dksX4_outputAt_1 10 rfl rfl)
theorem dX4_outputAt_35 : decode cX4_outputAt 35 = .ok (.iaload, 1) := dk_46 (dk_at dksX4_outputAt_1 11 rfl rfl)
theorem dX4_outputAt_36 : decode cX4_outputAt 36 = .ok (.i2c, 1) := dk_146 (dk_at dksX4_outputAt_1 12 rfl rfl)
theorem dX4_outputAt_37 : decode cX4_outputAt 37 = .ok (.goto 5, 3) := dk_167 0 5 (dk_at dksX4_outputAt_1 13 rfl rfl)
theorem dX4_outputAt_40 : decode cX4_outputAt 40 = .ok (.bipush 97, 2) := dk_16 97 (dk_at dksX4_outputAt_1 16 rfl rfl)
theorem dX4_outputAt_42 : decode cX4_outputAt 42 = .ok (.ireturn, 1) := dk_172 (dk_at dksX4_outputAt_1 18 rfl rfl)
abbrev cX4_starves : ByteArray := prog_18_method_15_code
def yX4_starves : MethodName := ⟨RX4, "starves", "(II)I"⟩
def dkwX4_starves_2 : List UInt8 := [184, 0, 60, 21, 4, 79, 21, 4, 29, 159, 0, 8, 42, 27, 182, 0, 79, 21, 4, 172]
abbrev dktX4_starves_2 : List UInt8 := dkwX4_starves_2 ++ []
def dkwX4_starves_1 : List UInt8 := [16, 99, 167, 0, 14, 21, 4, 156, 0, 7, 3, 167, 0, 5, 21, 4, 54, 4, 42, 180, 0, 16, 27, 4]
abbrev dktX4_starves_1 : List UInt8 := dkwX4_starves_1 ++ dktX4_starves_2
def dkwX4_starves_0 : List UInt8 := [42, 180, 0, 16, 27, 4, 184, 0, 60, 46, 62, 29, 28, 96, 54, 4, 21, 4, 16, 99, 164, 0, 8]
abbrev dktX4_starves_0 : List UInt8 := dkwX4_starves_0 ++ dktX4_starves_1
theorem dksX4_starves_0 : cX4_starves.data.toList.drop 0 = dktX4_starves_0 := by decide +kernel
theorem dksX4_starves_1 : cX4_starves.data.toList.drop 23 = dktX4_starves_1 := dk_seg dksX4_starves_0 23 rfl rfl
theorem dksX4_starves_2 : cX4_starves.data.toList.drop 47 = dktX4_starves_2 := dk_seg dksX4_starves_1 24 rfl rfl
theorem dX4_starves_0 : decode cX4_starves 0 = .ok (.aload_n 0, 1) := dk_42 (dk_at dksX4_starves_0 0 rfl rfl)
theorem dX4_starves_1 : decode cX4_starves 1 = .ok (.getfield 16, 3) := dk_180 0 16 (dk_at dksX4_starves_0 1 rfl rfl)
theorem dX4_starves_4 : decode cX4_starves 4 = .ok (.iload_n 1, 1) := dk_27 (dk_at dksX4_starves_0 4 rfl rfl)
theorem dX4_starves_5 : decode cX4_starves 5 = .ok (.iconst 1, 1) := dk_4 (dk_at dksX4_starves_0 5 rfl rfl)
theorem dX4_starves_6 : decode cX4_starves 6 = .ok (.invokestatic 60, 3) := dk_184 0 60 (dk_at dksX4_starves_0 6 rfl rfl)
theorem dX4_starves_9 : decode cX4_starves 9 = .ok (.iaload, 1) := dk_46 (dk_at dksX4_starves_0 9 rfl rfl)
theorem dX4_starves_10 : decode cX4_starves 10 = .ok (.istore_n 3, 1) := dk_62 (dk_at dksX4_starves_0 10 rfl rfl)
theorem dX4_starves_11 : decode cX4_starves 11 = .ok (.iload_n 3, 1) := dk_29 (dk_at dksX4_starves_0 11 rfl rfl)
theorem dX4_starves_12 : decode cX4_starves 12 = .ok (.iload_n 2, 1) := dk_28 (dk_at dksX4_starves_0 12 rfl rfl)
theorem dX4_starves_13 : decode cX4_starves 13 = .ok (.iadd, 1) := dk_96 (dk_at dksX4_starves_0 13 rfl rfl)
theorem dX4_starves_14 : decode cX4_starves 14 = .ok (.istore 4, 2) := dk_54 4 (dk_at dksX4_starves_0 14 rfl rfl)
theorem dX4_starves_16 : decode cX4_starves 16 = .ok (.iload 4, 2) := dk_21 4 (dk_at dksX4_starves_0 16 rfl rfl)
theorem dX4_starves_18 : decode cX4_starves 18 = .ok (.bipush 99, 2) := dk_16 99 (dk_at dksX4_starves_0 18 rfl rfl)
theorem dX4_starves_20 : decode cX4_starves 20 = .ok (.if_icmp .le 8, 3) := dk_164 0 8 (dk_at dksX4_starves_0 20 rfl rfl)
theorem dX4_starves_23 : decode cX4_starves 23 = .ok (.bipush 99, 2) := dk_16 99 (dk_at dksX4_starves_1 0 rfl rfl)
theorem dX4_starves_25 : decode cX4_starves 25 = .ok (.goto 14, 3) := dk_167 0 14 (dk_at dksX4_starves_1 2 rfl rfl)
theorem dX4_starves_28 : decode cX4_starves 28 = .ok (.iload 4, 2) := dk_21 4 (dk_at dksX4_starves_1 5 rfl rfl)
theorem dX4_starves_30 : decode cX4_starves 30 = .ok (.ifCond .ge 7, 3) := dk_156 0 7 (dk_at dksX4_starves_1 7 rfl rfl)
theorem dX4_starves_33 : decode cX4_starves 33 = .ok (.iconst 0, 1) := dk_3 (dk_at dksX4_starves_1 10 rfl rfl)
theorem dX4_starves_34 : decode cX4_starves 34 = .ok (.goto 5, 3) := dk_167 0 5 (dk_at dksX4_starves_1 11 rfl rfl)
theorem dX4_starves_37 : decode cX4_starves 37 = .ok (.iload 4, 2) := dk_21 4 (dk_at dksX4_starves_1 14 rfl rfl)
theorem dX4_starves_39 : decode cX4_starves 39 = .ok (.istore 4, 2) := dk_54 4 (dk_at dksX4_starves_1 16 rfl rfl)
theorem dX4_starves_41 : decode cX4_starves 41 = .ok (.aload_n 0, 1) := dk_42 (dk_at dksX4_starves_1 18 rfl rfl)
theorem dX4_starves_42 : decode cX4_starves 42 = .ok (.getfield 16, 3) := dk_180 0 16 (dk_at dksX4_starves_1 19 rfl rfl)
theorem dX4_starves_45 : decode cX4_starves 45 = .ok (.iload_n 1, 1) := dk_27 (dk_at dksX4_starves_1 22 rfl rfl)
theorem dX4_starves_46 : decode cX4_starves 46 = .ok (.iconst 1, 1) := dk_4 (dk_at dksX4_starves_1 23 rfl rfl)
theorem dX4_starves_47 : decode cX4_starves 47 = .ok (.invokestatic 60, 3) := dk_184 0 60 (dk_at dksX4_starves_2 0 rfl rfl)
theorem dX4_starves_50 : decode cX4_starves 50 = .ok (.iload 4, 2) := dk_21 4 (dk_at dksX4_starves_2 3 rfl rfl)
theorem dX4_starves_52 : decode cX4_starves 52 = .ok (.iastore, 1) := dk_79 (dk_at dksX4_starves_2 5 rfl rfl)
theorem dX4_starves_53 : decode cX4_starves 53 = .ok (.iload 4, 2) := dk_21 4 (dk_at dksX4_starves_2 6 rfl rfl)
theorem dX4_starves_55 : decode cX4_starves 55 = .ok (.iload_n 3, 1) := dk_29 (dk_at dksX4_starves_2 8 rfl rfl)
theorem dX4_starves_56 : decode cX4_starves 56 = .ok (.if_icmp .eq 8, 3) := dk_159 0 8 (dk_at dksX4_starves_2 9 rfl rfl)
theorem dX4_starves_59 : decode cX4_starves 59 = .ok (.aload_n 0, 1) := dk_42 (dk_at dksX4_starves_2 12 rfl rfl)
theorem dX4_starves_60 : decode cX4_starves 60 = .ok (.iload_n 1, 1) := dk_27 (dk_at dksX4_starves_2 13 rfl rfl)
theorem dX4_starves_61 : decode cX4_starves 61 = .ok (.invokevirtual 79, 3) := dk_182 0 79 (dk_at dksX4_starves_2 14 rfl rfl)
theorem dX4_starves_64 : decode cX4_starves 64 = .ok (.iload 4, 2) := dk_21 4 (dk_at dksX4_starves_2 17 rfl rfl)
theorem dX4_starves_66 : decode cX4_starves 66 = .ok (.ireturn, 1) := dk_172 (dk_at dksX4_starves_2 19 rfl rfl)
abbrev cX4_passes : ByteArray := prog_18_method_32_code
def yX4_passes : MethodName := ⟨RX4, "passes", "(I)I"⟩
def dkwX4_passes_2 : List UInt8 := [182, 0, 102, 54, 4, 132, 3, 1, 167, 255, 235, 132, 2, 1, 167, 255, 212, 42, 180, 0, 16, 3, 46, 172]
abbrev dktX4_passes_2 : List UInt8 := dkwX4_passes_2 ++ []
def dkwX4_passes_1 : List UInt8 := [180, 0, 16, 3, 92, 46, 4, 96, 79, 3, 62, 29, 42, 180, 0, 16, 6, 46, 162, 0, 17, 42, 29, 4]
abbrev dktX4_passes_1 : List UInt8 := dkwX4_passes_1 ++ dktX4_passes_2
def dkwX4_passes_0 : List UInt8 := [27, 4, 16, 24, 184, 0, 82, 154, 0, 9, 42, 4, 182, 0, 86, 172, 3, 61, 28, 27, 162, 0, 45, 42]
abbrev dktX4_passes_0 : List UInt8 := dkwX4_passes_0 ++ dktX4_passes_1
theorem dksX4_passes_0 : cX4_passes.data.toList.drop 0 = dktX4_passes_0 := by decide +kernel
theorem dksX4_passes_1 : cX4_passes.data.toList.drop 24 = dktX4_passes_1 := dk_seg dksX4_passes_0 24 rfl rfl
theorem dksX4_passes_2 : cX4_passes.data.toList.drop 48 = dktX4_passes_2 := dk_seg dksX4_passes_1 24 rfl rfl
theorem dX4_passes_0 : decode cX4_passes 0 = .ok (.iload_n 1, 1) := dk_27 (dk_at dksX4_passes_0 0 rfl rfl)
theorem dX4_passes_1 : decode cX4_passes 1 = .ok (.iconst 1, 1) := dk_4 (dk_at dksX4_passes_0 1 rfl rfl)
theorem dX4_passes_2 : decode cX4_passes 2 = .ok (.bipush 24, 2) := dk_16 24 (dk_at dksX4_passes_0 2 rfl rfl)
theorem dX4_passes_4 : decode cX4_passes 4 = .ok (.invokestatic 82, 3) := dk_184 0 82 (dk_at dksX4_passes_0 4 rfl rfl)
theorem dX4_passes_7 : decode cX4_passes 7 = .ok (.ifCond .ne 9, 3) := dk_154 0 9 (dk_at dksX4_passes_0 7 rfl rfl)
theorem dX4_passes_10 : decode cX4_passes 10 = .ok (.aload_n 0, 1) := dk_42 (dk_at dksX4_passes_0 10 rfl rfl)
theorem dX4_passes_11 : decode cX4_passes 11 = .ok (.iconst 1, 1) := dk_4 (dk_at dksX4_passes_0 11 rfl rfl)
theorem dX4_passes_12 : decode cX4_passes 12 = .ok (.invokevirtual 86, 3) := dk_182 0 86 (dk_at dksX4_passes_0 12 rfl rfl)
theorem dX4_passes_15 : decode cX4_passes 15 = .ok (.ireturn, 1) := dk_172 (dk_at dksX4_passes_0 15 rfl rfl)
theorem dX4_passes_16 : decode cX4_passes 16 = .ok (.iconst 0, 1) := dk_3 (dk_at dksX4_passes_0 16 rfl rfl)
theorem dX4_passes_17 : decode cX4_passes 17 = .ok (.istore_n 2, 1) := dk_61 (dk_at dksX4_passes_0 17 rfl rfl)
theorem dX4_passes_18 : decode cX4_passes 18 = .ok (.iload_n 2, 1) := dk_28 (dk_at dksX4_passes_0 18 rfl rfl)
theorem dX4_passes_19 : decode cX4_passes 19 = .ok (.iload_n 1, 1) := dk_27 (dk_at dksX4_passes_0 19 rfl rfl)
theorem dX4_passes_20 : decode cX4_passes 20 = .ok (.if_icmp .ge 45, 3) := dk_162 0 45 (dk_at dksX4_passes_0 20 rfl rfl)
theorem dX4_passes_23 : decode cX4_passes 23 = .ok (.aload_n 0, 1) := dk_42 (dk_at dksX4_passes_0 23 rfl rfl)
theorem dX4_passes_24 : decode cX4_passes 24 = .ok (.getfield 16, 3) := dk_180 0 16 (dk_at dksX4_passes_1 0 rfl rfl)
theorem dX4_passes_27 : decode cX4_passes 27 = .ok (.iconst 0, 1) := dk_3 (dk_at dksX4_passes_1 3 rfl rfl)
theorem dX4_passes_28 : decode cX4_passes 28 = .ok (.dup2, 1) := dk_92 (dk_at dksX4_passes_1 4 rfl rfl)
theorem dX4_passes_29 : decode cX4_passes 29 = .ok (.iaload, 1) := dk_46 (dk_at dksX4_passes_1 5 rfl rfl)
theorem dX4_passes_30 : decode cX4_passes 30 = .ok (.iconst 1, 1) := dk_4 (dk_at dksX4_passes_1 6 rfl rfl)
theorem dX4_passes_31 : decode cX4_passes 31 = .ok (.iadd, 1) := dk_96 (dk_at dksX4_passes_1 7 rfl rfl)
theorem dX4_passes_32 : decode cX4_passes 32 = .ok (.iastore, 1) := dk_79 (dk_at dksX4_passes_1 8 rfl rfl)
theorem dX4_passes_33 : decode cX4_passes 33 = .ok (.iconst 0, 1) := dk_3 (dk_at dksX4_passes_1 9 rfl rfl)
theorem dX4_passes_34 : decode cX4_passes 34 = .ok (.istore_n 3, 1) := dk_62 (dk_at dksX4_passes_1 10 rfl rfl)
theorem dX4_passes_35 : decode cX4_passes 35 = .ok (.iload_n 3, 1) := dk_29 (dk_at dksX4_passes_1 11 rfl rfl)
theorem dX4_passes_36 : decode cX4_passes 36 = .ok (.aload_n 0, 1) := dk_42 (dk_at dksX4_passes_1 12 rfl rfl)
theorem dX4_passes_37 : decode cX4_passes 37 = .ok (.getfield 16, 3) := dk_180 0 16 (dk_at dksX4_passes_1 13 rfl rfl)
theorem dX4_passes_40 : decode cX4_passes 40 = .ok (.iconst 3, 1) := dk_6 (dk_at dksX4_passes_1 16 rfl rfl)
theorem dX4_passes_41 : decode cX4_passes 41 = .ok (.iaload, 1) := dk_46 (dk_at dksX4_passes_1 17 rfl rfl)
theorem dX4_passes_42 : decode cX4_passes 42 = .ok (.if_icmp .ge 17, 3) := dk_162 0 17 (dk_at dksX4_passes_1 18 rfl rfl)
theorem dX4_passes_45 : decode cX4_passes 45 = .ok (.aload_n 0, 1) := dk_42 (dk_at dksX4_passes_1 21 rfl rfl)
theorem dX4_passes_46 : decode cX4_passes 46 = .ok (.iload_n 3, 1) := dk_29 (dk_at dksX4_passes_1 22 rfl rfl)
theorem dX4_passes_47 : decode cX4_passes 47 = .ok (.iconst 1, 1) := dk_4 (dk_at dksX4_passes_1 23 rfl rfl)
theorem dX4_passes_48 : decode cX4_passes 48 = .ok (.invokevirtual 102, 3) := dk_182 0 102 (dk_at dksX4_passes_2 0 rfl rfl)
theorem dX4_passes_51 : decode cX4_passes 51 = .ok (.istore 4, 2) := dk_54 4 (dk_at dksX4_passes_2 3 rfl rfl)
theorem dX4_passes_53 : decode cX4_passes 53 = .ok (.iinc 3 1, 3) := dk_132 3 1 (dk_at dksX4_passes_2 5 rfl rfl)
theorem dX4_passes_56 : decode cX4_passes 56 = .ok (.goto (-21), 3) := dk_167 255 235 (dk_at dksX4_passes_2 8 rfl rfl)
theorem dX4_passes_59 : decode cX4_passes 59 = .ok (.iinc 2 1, 3) := dk_132 2 1 (dk_at dksX4_passes_2 11 rfl rfl)
theorem dX4_passes_62 : decode cX4_passes 62 = .ok (.goto (-44), 3) := dk_167 255 212 (dk_at dksX4_passes_2 14 rfl rfl)
theorem dX4_passes_65 : decode cX4_passes 65 = .ok (.aload_n 0, 1) := dk_42 (dk_at dksX4_passes_2 17 rfl rfl)
theorem dX4_passes_66 : decode cX4_passes 66 = .ok (.getfield 16, 3) := dk_180 0 16 (dk_at dksX4_passes_2 18 rfl rfl)
theorem dX4_passes_69 : decode cX4_passes 69 = .ok (.iconst 0, 1) := dk_3 (dk_at dksX4_passes_2 21 rfl rfl)
theorem dX4_passes_70 : decode cX4_passes 70 = .ok (.iaload, 1) := dk_46 (dk_at dksX4_passes_2 22 rfl rfl)
theorem dX4_passes_71 : decode cX4_passes 71 = .ok (.ireturn, 1) := dk_172 (dk_at dksX4_passes_2 23 rfl rfl)
abbrev cX4_passHours : ByteArray := prog_18_method_33_code
def yX4_passHours : MethodName := ⟨RX4, "passHours", "(I)I"⟩
def dkwX4_passHours_0 : List UInt8 := [42, 182, 0, 89, 42, 42, 27, 182, 0, 126, 182, 0, 96, 172]
abbrev dktX4_passHours_0 : List UInt8 := dkwX4_passHours_0 ++ []
theorem dksX4_passHours_0 : cX4_passHours.data.toList.drop 0 = dktX4_passHours_0 := by decide +kernel
theorem dX4_passHours_0 : decode cX4_passHours 0 = .ok (.aload_n 0, 1) := dk_42 (dk_at dksX4_passHours_0 0 rfl rfl)
theorem dX4_passHours_1 : decode cX4_passHours 1 = .ok (.invokevirtual 89, 3) := dk_182 0 89 (dk_at dksX4_passHours_0 1 rfl rfl)
theorem dX4_passHours_4 : decode cX4_passHours 4 = .ok (.aload_n 0, 1) := dk_42 (dk_at dksX4_passHours_0 4 rfl rfl)
theorem dX4_passHours_5 : decode cX4_passHours 5 = .ok (.aload_n 0, 1) := dk_42 (dk_at dksX4_passHours_0 5 rfl rfl)
theorem dX4_passHours_6 : decode cX4_passHours 6 = .ok (.iload_n 1, 1) := dk_27 (dk_at dksX4_passHours_0 6 rfl rfl)
theorem dX4_passHours_7 : decode cX4_passHours 7 = .ok (.invokevirtual 126, 3) := dk_182 0 126 (dk_at dksX4_passHours_0 7 rfl rfl)
theorem dX4_passHours_10 : decode cX4_passHours 10 = .ok (.invokevirtual 96, 3) := dk_182 0 96 (dk_at dksX4_passHours_0 10 rfl rfl)
theorem dX4_passHours_13 : decode cX4_passHours 13 = .ok (.ireturn, 1) := dk_172 (dk_at dksX4_passHours_0 13 rfl rfl)
abbrev cX4_portionOf : ByteArray := prog_18_method_39_code
def yX4_portionOf : MethodName := ⟨RX4, "portionOf", "(I)I"⟩
def dkwX4_portionOf_0 : List UInt8 := [42, 27, 5, 182, 0, 132, 172]
abbrev dktX4_portionOf_0 : List UInt8 := dkwX4_portionOf_0 ++ []
theorem dksX4_portionOf_0 : cX4_portionOf.data.toList.drop 0 = dktX4_portionOf_0 := by decide +kernel
theorem dX4_portionOf_0 : decode cX4_portionOf 0 = .ok (.aload_n 0, 1) := dk_42 (dk_at dksX4_portionOf_0 0 rfl rfl)
theorem dX4_portionOf_1 : decode cX4_portionOf 1 = .ok (.iload_n 1, 1) := dk_27 (dk_at dksX4_portionOf_0 1 rfl rfl)
theorem dX4_portionOf_2 : decode cX4_portionOf 2 = .ok (.iconst 2, 1) := dk_5 (dk_at dksX4_portionOf_0 2 rfl rfl)
theorem dX4_portionOf_3 : decode cX4_portionOf 3 = .ok (.invokevirtual 132, 3) := dk_182 0 132 (dk_at dksX4_portionOf_0 3 rfl rfl)
theorem dX4_portionOf_6 : decode cX4_portionOf 6 = .ok (.ireturn, 1) := dk_172 (dk_at dksX4_portionOf_0 6 rfl rfl)
abbrev cX4_portionTotal : ByteArray := prog_18_method_67_code
def yX4_portionTotal : MethodName := ⟨RX4, "portionTotal", "()I"⟩
def dkwX4_portionTotal_0 : List UInt8 := [42, 16, 8, 182, 0, 129, 172]
abbrev dktX4_portionTotal_0 : List UInt8 := dkwX4_portionTotal_0 ++ []
theorem dksX4_portionTotal_0 : cX4_portionTotal.data.toList.drop 0 = dktX4_portionTotal_0 := by decide +kernel
theorem dX4_portionTotal_0 : decode cX4_portionTotal 0 = .ok (.aload_n 0, 1) := dk_42 (dk_at dksX4_portionTotal_0 0 rfl rfl)
theorem dX4_portionTotal_1 : decode cX4_portionTotal 1 = .ok (.bipush 8, 2) := dk_16 8 (dk_at dksX4_portionTotal_0 1 rfl rfl)
theorem dX4_portionTotal_3 : decode cX4_portionTotal 3 = .ok (.invokevirtual 129, 3) := dk_182 0 129 (dk_at dksX4_portionTotal_0 3 rfl rfl)
theorem dX4_portionTotal_6 : decode cX4_portionTotal 6 = .ok (.ireturn, 1) := dk_172 (dk_at dksX4_portionTotal_0 6 rfl rfl)
abbrev cX4_purge : ByteArray := prog_18_method_27_code
def yX4_purge : MethodName := ⟨RX4, "purge", "()I"⟩
def dkwX4_purge_0 : List UInt8 := [42, 182, 0, 89, 42, 42, 182, 0, 75, 182, 0, 96, 172]
abbrev dktX4_purge_0 : List UInt8 := dkwX4_purge_0 ++ []
theorem dksX4_purge_0 : cX4_purge.data.toList.drop 0 = dktX4_purge_0 := by decide +kernel
theorem dX4_purge_0 : decode cX4_purge 0 = .ok (.aload_n 0, 1) := dk_42 (dk_at dksX4_purge_0 0 rfl rfl)
theorem dX4_purge_1 : decode cX4_purge 1 = .ok (.invokevirtual 89, 3) := dk_182 0 89 (dk_at dksX4_purge_0 1 rfl rfl)
theorem dX4_purge_4 : decode cX4_purge 4 = .ok (.aload_n 0, 1) := dk_42 (dk_at dksX4_purge_0 4 rfl rfl)
theorem dX4_purge_5 : decode cX4_purge 5 = .ok (.aload_n 0, 1) := dk_42 (dk_at dksX4_purge_0 5 rfl rfl)
theorem dX4_purge_6 : decode cX4_purge 6 = .ok (.invokevirtual 75, 3) := dk_182 0 75 (dk_at dksX4_purge_0 6 rfl rfl)
theorem dX4_purge_9 : decode cX4_purge 9 = .ok (.invokevirtual 96, 3) := dk_182 0 96 (dk_at dksX4_purge_0 9 rfl rfl)
theorem dX4_purge_12 : decode cX4_purge 12 = .ok (.ireturn, 1) := dk_172 (dk_at dksX4_purge_0 12 rfl rfl)
abbrev cX4_writes : ByteArray := prog_18_method_74_code
def yX4_writes : MethodName := ⟨RX4, "writes", "(I)V"⟩
def dkwX4_writes_0 : List UInt8 := [42, 180, 0, 35, 42, 180, 0, 164, 27, 79, 42, 89, 180, 0, 164, 4, 96, 181, 0, 164, 177]
abbrev dktX4_writes_0 : List UInt8 := dkwX4_writes_0 ++ []
theorem dksX4_writes_0 : cX4_writes.data.toList.drop 0 = dktX4_writes_0 := by decide +kernel
theorem dX4_writes_0 : decode cX4_writes 0 = .ok (.aload_n 0, 1) := dk_42 (dk_at dksX4_writes_0 0 rfl rfl)
theorem dX4_writes_1 : decode cX4_writes 1 = .ok (.getfield 35, 3) := dk_180 0 35 (dk_at dksX4_writes_0 1 rfl rfl)
theorem dX4_writes_4 : decode cX4_writes 4 = .ok (.aload_n 0, 1) := dk_42 (dk_at dksX4_writes_0 4 rfl rfl)
theorem dX4_writes_5 : decode cX4_writes 5 = .ok (.getfield 164, 3) := dk_180 0 164 (dk_at dksX4_writes_0 5 rfl rfl)
theorem dX4_writes_8 : decode cX4_writes 8 = .ok (.iload_n 1, 1) := dk_27 (dk_at dksX4_writes_0 8 rfl rfl)
theorem dX4_writes_9 : decode cX4_writes 9 = .ok (.iastore, 1) := dk_79 (dk_at dksX4_writes_0 9 rfl rfl)
theorem dX4_writes_10 : decode cX4_writes 10 = .ok (.aload_n 0, 1) := dk_42 (dk_at dksX4_writes_0 10 rfl rfl)
theorem dX4_writes_11 : decode cX4_writes 11 = .ok (.dup, 1) := dk_89 (dk_at dksX4_writes_0 11 rfl rfl)
theorem dX4_writes_12 : decode cX4_writes 12 = .ok (.getfield 164, 3) := dk_180 0 164 (dk_at dksX4_writes_0 12 rfl rfl)
theorem dX4_writes_15 : decode cX4_writes 15 = .ok (.iconst 1, 1) := dk_4 (dk_at dksX4_writes_0 15 rfl rfl)
theorem dX4_writes_16 : decode cX4_writes 16 = .ok (.iadd, 1) := dk_96 (dk_at dksX4_writes_0 16 rfl rfl)
theorem dX4_writes_17 : decode cX4_writes 17 = .ok (.putfield 164, 3) := dk_181 0 164 (dk_at dksX4_writes_0 17 rfl rfl)
theorem dX4_writes_20 : decode cX4_writes 20 = .ok (.return_, 1) := dk_177 (dk_at dksX4_writes_0 20 rfl rfl)
abbrev cX4_writesNumber : ByteArray := prog_18_method_75_code
def yX4_writesNumber : MethodName := ⟨RX4, "writesNumber", "(I)V"⟩
def dkwX4_writesNumber_1 : List UInt8 := [16, 48, 27, 28, 108, 16, 10, 112, 96, 182, 0, 167, 28, 16, 10, 108, 61, 167, 255, 234, 177]
abbrev dktX4_writesNumber_1 : List UInt8 := dkwX4_writesNumber_1 ++ []
def dkwX4_writesNumber_0 : List UInt8 := [4, 61, 27, 28, 108, 16, 10, 161, 0, 11, 28, 16, 10, 104, 61, 167, 255, 243, 28, 158, 0, 24, 42]
abbrev dktX4_writesNumber_0 : List UInt8 := dkwX4_writesNumber_0 ++ dktX4_writesNumber_1
theorem dksX4_writesNumber_0 : cX4_writesNumber.data.toList.drop 0 = dktX4_writesNumber_0 := by decide +kernel
theorem dksX4_writesNumber_1 : cX4_writesNumber.data.toList.drop 23 = dktX4_writesNumber_1 := dk_seg dksX4_writesNumber_0 23 rfl rfl
theorem dX4_writesNumber_0 : decode cX4_writesNumber 0 = .ok (.iconst 1, 1) := dk_4 (dk_at dksX4_writesNumber_0 0 rfl rfl)
theorem dX4_writesNumber_1 : decode cX4_writesNumber 1 = .ok (.istore_n 2, 1) := dk_61 (dk_at dksX4_writesNumber_0 1 rfl rfl)
theorem dX4_writesNumber_2 : decode cX4_writesNumber 2 = .ok (.iload_n 1, 1) := dk_27 (dk_at dksX4_writesNumber_0 2 rfl rfl)
theorem dX4_writesNumber_3 : decode cX4_writesNumber 3 = .ok (.iload_n 2, 1) := dk_28 (dk_at dksX4_writesNumber_0 3 rfl rfl)
theorem dX4_writesNumber_4 : decode cX4_writesNumber 4 = .ok (.idiv, 1) := dk_108 (dk_at dksX4_writesNumber_0 4 rfl rfl)
theorem dX4_writesNumber_5 : decode cX4_writesNumber 5 = .ok (.bipush 10, 2) := dk_16 10 (dk_at dksX4_writesNumber_0 5 rfl rfl)
theorem dX4_writesNumber_7 : decode cX4_writesNumber 7 = .ok (.if_icmp .lt 11, 3) := dk_161 0 11 (dk_at dksX4_writesNumber_0 7 rfl rfl)
theorem dX4_writesNumber_10 : decode cX4_writesNumber 10 = .ok (.iload_n 2, 1) := dk_28 (dk_at dksX4_writesNumber_0 10 rfl rfl)
theorem dX4_writesNumber_11 : decode cX4_writesNumber 11 = .ok (.bipush 10, 2) := dk_16 10 (dk_at dksX4_writesNumber_0 11 rfl rfl)
theorem dX4_writesNumber_13 : decode cX4_writesNumber 13 = .ok (.imul, 1) := dk_104 (dk_at dksX4_writesNumber_0 13 rfl rfl)
theorem dX4_writesNumber_14 : decode cX4_writesNumber 14 = .ok (.istore_n 2, 1) := dk_61 (dk_at dksX4_writesNumber_0 14 rfl rfl)
theorem dX4_writesNumber_15 : decode cX4_writesNumber 15 = .ok (.goto (-13), 3) := dk_167 255 243 (dk_at dksX4_writesNumber_0 15 rfl rfl)
theorem dX4_writesNumber_18 : decode cX4_writesNumber 18 = .ok (.iload_n 2, 1) := dk_28 (dk_at dksX4_writesNumber_0 18 rfl rfl)
theorem dX4_writesNumber_19 : decode cX4_writesNumber 19 = .ok (.ifCond .le 24, 3) := dk_158 0 24 (dk_at dksX4_writesNumber_0 19 rfl rfl)
theorem dX4_writesNumber_22 : decode cX4_writesNumber 22 = .ok (.aload_n 0, 1) := dk_42 (dk_at dksX4_writesNumber_0 22 rfl rfl)
theorem dX4_writesNumber_23 : decode cX4_writesNumber 23 = .ok (.bipush 48, 2) := dk_16 48 (dk_at dksX4_writesNumber_1 0 rfl rfl)
theorem dX4_writesNumber_25 : decode cX4_writesNumber 25 = .ok (.iload_n 1, 1) := dk_27 (dk_at dksX4_writesNumber_1 2 rfl rfl)
theorem dX4_writesNumber_26 : decode cX4_writesNumber 26 = .ok (.iload_n 2, 1) := dk_28 (dk_at dksX4_writesNumber_1 3 rfl rfl)
theorem dX4_writesNumber_27 : decode cX4_writesNumber 27 = .ok (.idiv, 1) := dk_108 (dk_at dksX4_writesNumber_1 4 rfl rfl)
theorem dX4_writesNumber_28 : decode cX4_writesNumber 28 = .ok (.bipush 10, 2) := dk_16 10 (dk_at dksX4_writesNumber_1 5 rfl rfl)
theorem dX4_writesNumber_30 : decode cX4_writesNumber 30 = .ok (.irem, 1) := dk_112 (dk_at dksX4_writesNumber_1 7 rfl rfl)
theorem dX4_writesNumber_31 : decode cX4_writesNumber 31 = .ok (.iadd, 1) := dk_96 (dk_at dksX4_writesNumber_1 8 rfl rfl)
theorem dX4_writesNumber_32 : decode cX4_writesNumber 32 = .ok (.invokevirtual 167, 3) := dk_182 0 167 (dk_at dksX4_writesNumber_1 9 rfl rfl)
theorem dX4_writesNumber_35 : decode cX4_writesNumber 35 = .ok (.iload_n 2, 1) := dk_28 (dk_at dksX4_writesNumber_1 12 rfl rfl)
theorem dX4_writesNumber_36 : decode cX4_writesNumber 36 = .ok (.bipush 10, 2) := dk_16 10 (dk_at dksX4_writesNumber_1 13 rfl rfl)
theorem dX4_writesNumber_38 : decode cX4_writesNumber 38 = .ok (.idiv, 1) := dk_108 (dk_at dksX4_writesNumber_1 15 rfl rfl)
theorem dX4_writesNumber_39 : decode cX4_writesNumber 39 = .ok (.istore_n 2, 1) := dk_61 (dk_at dksX4_writesNumber_1 16 rfl rfl)
theorem dX4_writesNumber_40 : decode cX4_writesNumber 40 = .ok (.goto (-22), 3) := dk_167 255 234 (dk_at dksX4_writesNumber_1 17 rfl rfl)
theorem dX4_writesNumber_43 : decode cX4_writesNumber 43 = .ok (.return_, 1) := dk_177 (dk_at dksX4_writesNumber_1 20 rfl rfl)
abbrev cX4_writesBehind : ByteArray := prog_18_method_76_code
def yX4_writesBehind : MethodName := ⟨RX4, "writesBehind", "(II)V"⟩
def dkwX4_writesBehind_0 : List UInt8 := [42, 27, 182, 0, 167, 42, 28, 182, 0, 170, 177]
abbrev dktX4_writesBehind_0 : List UInt8 := dkwX4_writesBehind_0 ++ []
theorem dksX4_writesBehind_0 : cX4_writesBehind.data.toList.drop 0 = dktX4_writesBehind_0 := by decide +kernel
theorem dX4_writesBehind_0 : decode cX4_writesBehind 0 = .ok (.aload_n 0, 1) := dk_42 (dk_at dksX4_writesBehind_0 0 rfl rfl)
theorem dX4_writesBehind_1 : decode cX4_writesBehind 1 = .ok (.iload_n 1, 1) := dk_27 (dk_at dksX4_writesBehind_0 1 rfl rfl)
theorem dX4_writesBehind_2 : decode cX4_writesBehind 2 = .ok (.invokevirtual 167, 3) := dk_182 0 167 (dk_at dksX4_writesBehind_0 2 rfl rfl)
theorem dX4_writesBehind_5 : decode cX4_writesBehind 5 = .ok (.aload_n 0, 1) := dk_42 (dk_at dksX4_writesBehind_0 5 rfl rfl)
theorem dX4_writesBehind_6 : decode cX4_writesBehind 6 = .ok (.iload_n 2, 1) := dk_28 (dk_at dksX4_writesBehind_0 6 rfl rfl)
theorem dX4_writesBehind_7 : decode cX4_writesBehind 7 = .ok (.invokevirtual 170, 3) := dk_182 0 170 (dk_at dksX4_writesBehind_0 7 rfl rfl)
theorem dX4_writesBehind_10 : decode cX4_writesBehind 10 = .ok (.return_, 1) := dk_177 (dk_at dksX4_writesBehind_0 10 rfl rfl)
abbrev cX4_renderLion : ByteArray := prog_18_method_77_code
def yX4_renderLion : MethodName := ⟨RX4, "renderLion", "(I)I"⟩
def dkwX4_renderLion_4 : List UInt8 := [184, 0, 60, 46, 182, 0, 173, 42, 180, 0, 164, 172]
abbrev dktX4_renderLion_4 : List UInt8 := dkwX4_renderLion_4 ++ []
def dkwX4_renderLion_3 : List UInt8 := [16, 100, 42, 180, 0, 16, 28, 6, 184, 0, 60, 46, 182, 0, 173, 42, 16, 116, 42, 180, 0, 16, 28, 7]
abbrev dktX4_renderLion_3 : List UInt8 := dkwX4_renderLion_3 ++ dktX4_renderLion_4
def dkwX4_renderLion_2 : List UInt8 := [184, 0, 60, 46, 182, 0, 173, 42, 16, 112, 42, 180, 0, 16, 28, 5, 184, 0, 60, 46, 182, 0, 173, 42]
abbrev dktX4_renderLion_2 : List UInt8 := dkwX4_renderLion_2 ++ dktX4_renderLion_3
def dkwX4_renderLion_1 : List UInt8 := [153, 0, 5, 3, 172, 42, 3, 181, 0, 164, 42, 27, 182, 0, 170, 42, 16, 104, 42, 180, 0, 16, 28, 4]
abbrev dktX4_renderLion_1 : List UInt8 := dkwX4_renderLion_1 ++ dktX4_renderLion_2
def dkwX4_renderLion_0 : List UInt8 := [42, 27, 182, 0, 99, 61, 42, 28, 156, 0, 7, 4, 167, 0, 4, 3, 181, 0, 50, 42, 180, 0, 50]
abbrev dktX4_renderLion_0 : List UInt8 := dkwX4_renderLion_0 ++ dktX4_renderLion_1
theorem dksX4_renderLion_0 : cX4_renderLion.data.toList.drop 0 = dktX4_renderLion_0 := by decide +kernel
theorem dksX4_renderLion_1 : cX4_renderLion.data.toList.drop 23 = dktX4_renderLion_1 := dk_seg dksX4_renderLion_0 23 rfl rfl
theorem dksX4_renderLion_2 : cX4_renderLion.data.toList.drop 47 = dktX4_renderLion_2 := dk_seg dksX4_renderLion_1 24 rfl rfl
theorem dksX4_renderLion_3 : cX4_renderLion.data.toList.drop 71 = dktX4_renderLion_3 := dk_seg dksX4_renderLion_2 24 rfl rfl
theorem dksX4_renderLion_4 : cX4_renderLion.data.toList.drop 95 = dktX4_renderLion_4 := dk_seg dksX4_renderLion_3 24 rfl rfl
theorem dX4_renderLion_0 : decode cX4_renderLion 0 = .ok (.aload_n 0, 1) := dk_42 (dk_at dksX4_renderLion_0 0 rfl rfl)
theorem dX4_renderLion_1 : decode cX4_renderLion 1 = .ok (.iload_n 1, 1) := dk_27 (dk_at dksX4_renderLion_0 1 rfl rfl)
theorem dX4_renderLion_2 : decode cX4_renderLion 2 = .ok (.invokevirtual 99, 3) := dk_182 0 99 (dk_at dksX4_renderLion_0 2 rfl rfl)
theorem dX4_renderLion_5 : decode cX4_renderLion 5 = .ok (.istore_n 2, 1) := dk_61 (dk_at dksX4_renderLion_0 5 rfl rfl)
theorem dX4_renderLion_6 : decode cX4_renderLion 6 = .ok (.aload_n 0, 1) := dk_42 (dk_at dksX4_renderLion_0 6 rfl rfl)
theorem dX4_renderLion_7 : decode cX4_renderLion 7 = .ok (.iload_n 2, 1) := dk_28 (dk_at dksX4_renderLion_0 7 rfl rfl)
theorem dX4_renderLion_8 : decode cX4_renderLion 8 = .ok (.ifCond .ge 7, 3) := dk_156 0 7 (dk_at dksX4_renderLion_0 8 rfl rfl)
theorem dX4_renderLion_11 : decode cX4_renderLion 11 = .ok (.iconst 1, 1) := dk_4 (dk_at dksX4_renderLion_0 11 rfl rfl)
theorem dX4_renderLion_12 : decode cX4_renderLion 12 = .ok (.goto 4, 3) := dk_167 0 4 (dk_at dksX4_renderLion_0 12 rfl rfl)
theorem dX4_renderLion_15 : decode cX4_renderLion 15 = .ok (.iconst 0, 1) := dk_3 (dk_at dksX4_renderLion_0 15 rfl rfl)
theorem dX4_renderLion_16 : decode cX4_renderLion 16 = .ok (.putfield 50, 3) := dk_181 0 50 (dk_at dksX4_renderLion_0 16 rfl rfl)
theorem dX4_renderLion_19 : decode cX4_renderLion 19 = .ok (.aload_n 0, 1) := dk_42 (dk_at dksX4_renderLion_0 19 rfl rfl)
theorem dX4_renderLion_20 : decode cX4_renderLion 20 = .ok (.getfield 50, 3) := dk_180 0 50 (dk_at dksX4_renderLion_0 20 rfl rfl)
theorem dX4_renderLion_23 : decode cX4_renderLion 23 = .ok (.ifCond .eq 5, 3) := dk_153 0 5 (dk_at dksX4_renderLion_1 0 rfl rfl)
theorem dX4_renderLion_26 : decode cX4_renderLion 26 = .ok (.iconst 0, 1) := dk_3 (dk_at dksX4_renderLion_1 3 rfl rfl)
theorem dX4_renderLion_27 : decode cX4_renderLion 27 = .ok (.ireturn, 1) := dk_172 (dk_at dksX4_renderLion_1 4 rfl rfl)
theorem dX4_renderLion_28 : decode cX4_renderLion 28 = .ok (.aload_n 0, 1) := dk_42 (dk_at dksX4_renderLion_1 5 rfl rfl)
theorem dX4_renderLion_29 : decode cX4_renderLion 29 = .ok (.iconst 0, 1) := dk_3 (dk_at dksX4_renderLion_1 6 rfl rfl)
theorem dX4_renderLion_30 : decode cX4_renderLion 30 = .ok (.putfield 164, 3) := dk_181 0 164 (dk_at dksX4_renderLion_1 7 rfl rfl)
theorem dX4_renderLion_33 : decode cX4_renderLion 33 = .ok (.aload_n 0, 1) := dk_42 (dk_at dksX4_renderLion_1 10 rfl rfl)
theorem dX4_renderLion_34 : decode cX4_renderLion 34 = .ok (.iload_n 1, 1) := dk_27 (dk_at dksX4_renderLion_1 11 rfl rfl)
theorem dX4_renderLion_35 : decode cX4_renderLion 35 = .ok (.invokevirtual 170, 3) := dk_182 0 170 (dk_at dksX4_renderLion_1 12 rfl rfl)
theorem dX4_renderLion_38 : decode cX4_renderLion 38 = .ok (.aload_n 0, 1) := dk_42 (dk_at dksX4_renderLion_1 15 rfl rfl)
theorem dX4_renderLion_39 : decode cX4_renderLion 39 = .ok (.bipush 104, 2) := dk_16 104 (dk_at dksX4_renderLion_1 16 rfl rfl)
theorem dX4_renderLion_41 : decode cX4_renderLion 41 = .ok (.aload_n 0, 1) := dk_42 (dk_at dksX4_renderLion_1 18 rfl rfl)
theorem dX4_renderLion_42 : decode cX4_renderLion 42 = .ok (.getfield 16, 3) := dk_180 0 16 (dk_at dksX4_renderLion_1 19 rfl rfl)
theorem dX4_renderLion_45 : decode cX4_renderLion 45 = .ok (.iload_n 2, 1) := dk_28 (dk_at dksX4_renderLion_1 22 rfl rfl)
theorem dX4_renderLion_46 : decode cX4_renderLion 46 = .ok (.iconst 1, 1) := dk_4 (dk_at dksX4_renderLion_1 23 rfl rfl)
theorem dX4_renderLion_47 : decode cX4_renderLion 47 = .ok (.invokestatic 60, 3) := dk_184 0 60 (dk_at dksX4_renderLion_2 0 rfl rfl)
theorem dX4_renderLion_50 : decode cX4_renderLion 50 = .ok (.iaload, 1) := dk_46 (dk_at dksX4_renderLion_2 3 rfl rfl)
theorem dX4_renderLion_51 : decode cX4_renderLion 51 = .ok (.invokevirtual 173, 3) := dk_182 0 173 (dk_at dksX4_renderLion_2 4 rfl rfl)
theorem dX4_renderLion_54 : decode cX4_renderLion 54 = .ok (.aload_n 0, 1) := dk_42 (dk_at dksX4_renderLion_2 7 rfl rfl)
theorem dX4_renderLion_55 : decode cX4_renderLion 55 = .ok (.bipush 112, 2) := dk_16 112 (dk_at dksX4_renderLion_2 8 rfl rfl)
theorem dX4_renderLion_57 : decode cX4_renderLion 57 = .ok (.aload_n 0, 1) := dk_42 (dk_at dksX4_renderLion_2 10 rfl rfl)
theorem dX4_renderLion_58 : decode cX4_renderLion 58 = .ok (.getfield 16, 3) := dk_180 0 16 (dk_at dksX4_renderLion_2 11 rfl rfl)
theorem dX4_renderLion_61 : decode cX4_renderLion 61 = .ok (.iload_n 2, 1) := dk_28 (dk_at dksX4_renderLion_2 14 rfl rfl)
theorem dX4_renderLion_62 : decode cX4_renderLion 62 = .ok (.iconst 2, 1) := dk_5 (dk_at dksX4_renderLion_2 15 rfl rfl)
theorem dX4_renderLion_63 : decode cX4_renderLion 63 = .ok (.invokestatic 60, 3) := dk_184 0 60 (dk_at dksX4_renderLion_2 16 rfl rfl)
theorem dX4_renderLion_66 : decode cX4_renderLion 66 = .ok (.iaload, 1) := dk_46 (dk_at dksX4_renderLion_2 19 rfl rfl)
theorem dX4_renderLion_67 : decode cX4_renderLion 67 = .ok (.invokevirtual 173, 3) := dk_182 0 173 (dk_at dksX4_renderLion_2 20 rfl rfl)
theorem dX4_renderLion_70 : decode cX4_renderLion 70 = .ok (.aload_n 0, 1) := dk_42 (dk_at dksX4_renderLion_2 23 rfl rfl)
theorem dX4_renderLion_71 : decode cX4_renderLion 71 = .ok (.bipush 100, 2) := dk_16 100 (dk_at dksX4_renderLion_3 0 rfl rfl)
theorem dX4_renderLion_73 : decode cX4_renderLion 73 = .ok (.aload_n 0, 1) := dk_42 (dk_at dksX4_renderLion_3 2 rfl rfl)
theorem dX4_renderLion_74 : decode cX4_renderLion 74 = .ok (.getfield 16, 3) := dk_180 0 16 (dk_at dksX4_renderLion_3 3 rfl rfl)
theorem dX4_renderLion_77 : decode cX4_renderLion 77 = .ok (.iload_n 2, 1) := dk_28 (dk_at dksX4_renderLion_3 6 rfl rfl)
theorem dX4_renderLion_78 : decode cX4_renderLion 78 = .ok (.iconst 3, 1) := dk_6 (dk_at dksX4_renderLion_3 7 rfl rfl)
theorem dX4_renderLion_79 : decode cX4_renderLion 79 = .ok (.invokestatic 60, 3) := dk_184 0 60 (dk_at dksX4_renderLion_3 8 rfl rfl)
theorem dX4_renderLion_82 : decode cX4_renderLion 82 = .ok (.iaload, 1) := dk_46 (dk_at dksX4_renderLion_3 11 rfl rfl)
theorem dX4_renderLion_83 : decode cX4_renderLion 83 = .ok (.invokevirtual 173, 3) := dk_182 0 173 (dk_at dksX4_renderLion_3 12 rfl rfl)
theorem dX4_renderLion_86 : decode cX4_renderLion 86 = .ok (.aload_n 0, 1) := dk_42 (dk_at dksX4_renderLion_3 15 rfl rfl)
theorem dX4_renderLion_87 : decode cX4_renderLion 87 = .ok (.bipush 116, 2) := dk_16 116 (dk_at dksX4_renderLion_3 16 rfl rfl)
theorem dX4_renderLion_89 : decode cX4_renderLion 89 = .ok (.aload_n 0, 1) := dk_42 (dk_at dksX4_renderLion_3 18 rfl rfl)
theorem dX4_renderLion_90 : decode cX4_renderLion 90 = .ok (.getfield 16, 3) := dk_180 0 16 (dk_at dksX4_renderLion_3 19 rfl rfl)
theorem dX4_renderLion_93 : decode cX4_renderLion 93 = .ok (.iload_n 2, 1) := dk_28 (dk_at dksX4_renderLion_3 22 rfl rfl)
theorem dX4_renderLion_94 : decode cX4_renderLion 94 = .ok (.iconst 4, 1) := dk_7 (dk_at dksX4_renderLion_3 23 rfl rfl)
theorem dX4_renderLion_95 : decode cX4_renderLion 95 = .ok (.invokestatic 60, 3) := dk_184 0 60 (dk_at dksX4_renderLion_4 0 rfl rfl)
theorem dX4_renderLion_98 : decode cX4_renderLion 98 = .ok (.iaload, 1) := dk_46 (dk_at dksX4_renderLion_4 3 rfl rfl)
theorem dX4_renderLion_99 : decode cX4_renderLion 99 = .ok (.invokevirtual 173, 3) := dk_182 0 173 (dk_at dksX4_renderLion_4 4 rfl rfl)
theorem dX4_renderLion_102 : decode cX4_renderLion 102 = .ok (.aload_n 0, 1) := dk_42 (dk_at dksX4_renderLion_4 7 rfl rfl)
theorem dX4_renderLion_103 : decode cX4_renderLion 103 = .ok (.getfield 164, 3) := dk_180 0 164 (dk_at dksX4_renderLion_4 8 rfl rfl)
theorem dX4_renderLion_106 : decode cX4_renderLion 106 = .ok (.ireturn, 1) := dk_172 (dk_at dksX4_renderLion_4 11 rfl rfl)
abbrev cX4_renderTickets : ByteArray := prog_18_method_78_code
def yX4_renderTickets : MethodName := ⟨RX4, "renderTickets", "()I"⟩
def dkwX4_renderTickets_3 : List UInt8 := [42, 180, 0, 164, 172]
abbrev dktX4_renderTickets_3 : List UInt8 := dkwX4_renderTickets_3 ++ []
def dkwX4_renderTickets_2 : List UInt8 := [46, 182, 0, 170, 42, 27, 182, 0, 68, 156, 0, 9, 42, 16, 42, 182, 0, 167, 132, 1, 1, 167, 255, 200]
abbrev dktX4_renderTickets_2 : List UInt8 := dkwX4_renderTickets_2 ++ dktX4_renderTickets_3
def dkwX4_renderTickets_1 : List UInt8 := [16, 6, 162, 0, 46, 27, 158, 0, 9, 42, 16, 32, 182, 0, 167, 42, 42, 180, 0, 16, 27, 184, 0, 64]
abbrev dktX4_renderTickets_1 : List UInt8 := dkwX4_renderTickets_1 ++ dktX4_renderTickets_2
def dkwX4_renderTickets_0 : List UInt8 := [42, 3, 181, 0, 50, 42, 3, 181, 0, 164, 3, 60, 27, 42, 180, 0, 16, 8, 46, 162, 0, 52, 27]
abbrev dktX4_renderTickets_0 : List UInt8 := dkwX4_renderTickets_0 ++ dktX4_renderTickets_1
theorem dksX4_renderTickets_0 : cX4_renderTickets.data.toList.drop 0 = dktX4_renderTickets_0 := by decide +kernel
theorem dksX4_renderTickets_1 : cX4_renderTickets.data.toList.drop 23 = dktX4_renderTickets_1 := dk_seg dksX4_renderTickets_0 23 rfl rfl
theorem dksX4_renderTickets_2 : cX4_renderTickets.data.toList.drop 47 = dktX4_renderTickets_2 := dk_seg dksX4_renderTickets_1 24 rfl rfl
theorem dksX4_renderTickets_3 : cX4_renderTickets.data.toList.drop 71 = dktX4_renderTickets_3 := dk_seg dksX4_renderTickets_2 24 rfl rfl
theorem dX4_renderTickets_0 : decode cX4_renderTickets 0 = .ok (.aload_n 0, 1) := dk_42 (dk_at dksX4_renderTickets_0 0 rfl rfl)
theorem dX4_renderTickets_1 : decode cX4_renderTickets 1 = .ok (.iconst 0, 1) := dk_3 (dk_at dksX4_renderTickets_0 1 rfl rfl)
theorem dX4_renderTickets_2 : decode cX4_renderTickets 2 = .ok (.putfield 50, 3) := dk_181 0 50 (dk_at dksX4_renderTickets_0 2 rfl rfl)
theorem dX4_renderTickets_5 : decode cX4_renderTickets 5 = .ok (.aload_n 0, 1) := dk_42 (dk_at dksX4_renderTickets_0 5 rfl rfl)
theorem dX4_renderTickets_6 : decode cX4_renderTickets 6 = .ok (.iconst 0, 1) := dk_3 (dk_at dksX4_renderTickets_0 6 rfl rfl)
theorem dX4_renderTickets_7 : decode cX4_renderTickets 7 = .ok (.putfield 164, 3) := dk_181 0 164 (dk_at dksX4_renderTickets_0 7 rfl rfl)
theorem dX4_renderTickets_10 : decode cX4_renderTickets 10 = .ok (.iconst 0, 1) := dk_3 (dk_at dksX4_renderTickets_0 10 rfl rfl)
theorem dX4_renderTickets_11 : decode cX4_renderTickets 11 = .ok (.istore_n 1, 1) := dk_60 (dk_at dksX4_renderTickets_0 11 rfl rfl)
theorem dX4_renderTickets_12 : decode cX4_renderTickets 12 = .ok (.iload_n 1, 1) := dk_27 (dk_at dksX4_renderTickets_0 12 rfl rfl)
theorem dX4_renderTickets_13 : decode cX4_renderTickets 13 = .ok (.aload_n 0, 1) := dk_42 (dk_at dksX4_renderTickets_0 13 rfl rfl)
theorem dX4_renderTickets_14 : decode cX4_renderTickets 14 = .ok (.getfield 16, 3) := dk_180 0 16 (dk_at dksX4_renderTickets_0 14 rfl rfl)
theorem dX4_renderTickets_17 : decode cX4_renderTickets 17 = .ok (.iconst 5, 1) := dk_8 (dk_at dksX4_renderTickets_0 17 rfl rfl)
theorem dX4_renderTickets_18 : decode cX4_renderTickets 18 = .ok (.iaload, 1) := dk_46 (dk_at dksX4_renderTickets_0 18 rfl rfl)
theorem dX4_renderTickets_19 : decode cX4_renderTickets 19 = .ok (.if_icmp .ge 52, 3) := dk_162 0 52 (dk_at dksX4_renderTickets_0 19 rfl rfl)
theorem dX4_renderTickets_22 : decode cX4_renderTickets 22 = .ok (.iload_n 1, 1) := dk_27 (dk_at dksX4_renderTickets_0 22 rfl rfl)
theorem dX4_renderTickets_23 : decode cX4_renderTickets 23 = .ok (.bipush 6, 2) := dk_16 6 (dk_at dksX4_renderTickets_1 0 rfl rfl)
theorem dX4_renderTickets_25 : decode cX4_renderTickets 25 = .ok (.if_icmp .ge 46, 3) := dk_162 0 46 (dk_at dksX4_renderTickets_1 2 rfl rfl)
theorem dX4_renderTickets_28 : decode cX4_renderTickets 28 = .ok (.iload_n 1, 1) := dk_27 (dk_at dksX4_renderTickets_1 5 rfl rfl)
theorem dX4_renderTickets_29 : decode cX4_renderTickets 29 = .ok (.ifCond .le 9, 3) := dk_158 0 9 (dk_at dksX4_renderTickets_1 6 rfl rfl)
theorem dX4_renderTickets_32 : decode cX4_renderTickets 32 = .ok (.aload_n 0, 1) := dk_42 (dk_at dksX4_renderTickets_1 9 rfl rfl)
theorem dX4_renderTickets_33 : decode cX4_renderTickets 33 = .ok (.bipush 32, 2) := dk_16 32 (dk_at dksX4_renderTickets_1 10 rfl rfl)
theorem dX4_renderTickets_35 : decode cX4_renderTickets 35 = .ok (.invokevirtual 167, 3) := dk_182 0 167 (dk_at dksX4_renderTickets_1 12 rfl rfl)
theorem dX4_renderTickets_38 : decode cX4_renderTickets 38 = .ok (.aload_n 0, 1) := dk_42 (dk_at dksX4_renderTickets_1 15 rfl rfl)
theorem dX4_renderTickets_39 : decode cX4_renderTickets 39 = .ok (.aload_n 0, 1) := dk_42 (dk_at dksX4_renderTickets_1 16 rfl rfl)
theorem dX4_renderTickets_40 : decode cX4_renderTickets 40 = .ok (.getfield 16, 3) := dk_180 0 16 (dk_at dksX4_renderTickets_1 17 rfl rfl)
theorem dX4_renderTickets_43 : decode cX4_renderTickets 43 = .ok (.iload_n 1, 1) := dk_27 (dk_at dksX4_renderTickets_1 20 rfl rfl)
theorem dX4_renderTickets_44 : decode cX4_renderTickets 44 = .ok (.invokestatic 64, 3) := dk_184 0 64 (dk_at dksX4_renderTickets_1 21 rfl rfl)
theorem dX4_renderTickets_47 : decode cX4_renderTickets 47 = .ok (.iaload, 1) := dk_46 (dk_at dksX4_renderTickets_2 0 rfl rfl)
theorem dX4_renderTickets_48 : decode cX4_renderTickets 48 = .ok (.invokevirtual 170, 3) := dk_182 0 170 (dk_at dksX4_renderTickets_2 1 rfl rfl)
theorem dX4_renderTickets_51 : decode cX4_renderTickets 51 = .ok (.aload_n 0, 1) := dk_42 (dk_at dksX4_renderTickets_2 4 rfl rfl)
theorem dX4_renderTickets_52 : decode cX4_renderTickets 52 = .ok (.iload_n 1, 1) := dk_27 (dk_at dksX4_renderTickets_2 5 rfl rfl)
theorem dX4_renderTickets_53 : decode cX4_renderTickets 53 = .ok (.invokevirtual 68, 3) := dk_182 0 68 (dk_at dksX4_renderTickets_2 6 rfl rfl)
theorem dX4_renderTickets_56 : decode cX4_renderTickets 56 = .ok (.ifCond .ge 9, 3) := dk_156 0 9 (dk_at dksX4_renderTickets_2 9 rfl rfl)
theorem dX4_renderTickets_59 : decode cX4_renderTickets 59 = .ok (.aload_n 0, 1) := dk_42 (dk_at dksX4_renderTickets_2 12 rfl rfl)
theorem dX4_renderTickets_60 : decode cX4_renderTickets 60 = .ok (.bipush 42, 2) := dk_16 42 (dk_at dksX4_renderTickets_2 13 rfl rfl)
theorem dX4_renderTickets_62 : decode cX4_renderTickets 62 = .ok (.invokevirtual 167, 3) := dk_182 0 167 (dk_at dksX4_renderTickets_2 15 rfl rfl)
theorem dX4_renderTickets_65 : decode cX4_renderTickets 65 = .ok (.iinc 1 1, 3) := dk_132 1 1 (dk_at dksX4_renderTickets_2 18 rfl rfl)
theorem dX4_renderTickets_68 : decode cX4_renderTickets 68 = .ok (.goto (-56), 3) := dk_167 255 200 (dk_at dksX4_renderTickets_2 21 rfl rfl)
theorem dX4_renderTickets_71 : decode cX4_renderTickets 71 = .ok (.aload_n 0, 1) := dk_42 (dk_at dksX4_renderTickets_3 0 rfl rfl)
theorem dX4_renderTickets_72 : decode cX4_renderTickets 72 = .ok (.getfield 164, 3) := dk_180 0 164 (dk_at dksX4_renderTickets_3 1 rfl rfl)
theorem dX4_renderTickets_75 : decode cX4_renderTickets 75 = .ok (.ireturn, 1) := dk_172 (dk_at dksX4_renderTickets_3 4 rfl rfl)
abbrev cX4_restore : ByteArray := prog_18_method_95_code
def yX4_restore : MethodName := ⟨RX4, "restore", "()I"⟩
def dkwX4_restore_1 : List UInt8 := [172, 42, 180, 0, 16, 42, 180, 0, 23, 184, 0, 53, 42, 3, 181, 0, 57, 42, 180, 0, 16, 6, 46, 172]
abbrev dktX4_restore_1 : List UInt8 := dkwX4_restore_1 ++ []
def dkwX4_restore_0 : List UInt8 := [42, 42, 180, 0, 224, 153, 0, 7, 3, 167, 0, 4, 4, 181, 0, 50, 42, 180, 0, 50, 153, 0, 5, 3]
abbrev dktX4_restore_0 : List UInt8 := dkwX4_restore_0 ++ dktX4_restore_1
theorem dksX4_restore_0 : cX4_restore.data.toList.drop 0 = dktX4_restore_0 := by decide +kernel
theorem dksX4_restore_1 : cX4_restore.data.toList.drop 24 = dktX4_restore_1 := dk_seg dksX4_restore_0 24 rfl rfl
theorem dX4_restore_0 : decode cX4_restore 0 = .ok (.aload_n 0, 1) := dk_42 (dk_at dksX4_restore_0 0 rfl rfl)
theorem dX4_restore_1 : decode cX4_restore 1 = .ok (.aload_n 0, 1) := dk_42 (dk_at dksX4_restore_0 1 rfl rfl)
theorem dX4_restore_2 : decode cX4_restore 2 = .ok (.getfield 224, 3) := dk_180 0 224 (dk_at dksX4_restore_0 2 rfl rfl)
theorem dX4_restore_5 : decode cX4_restore 5 = .ok (.ifCond .eq 7, 3) := dk_153 0 7 (dk_at dksX4_restore_0 5 rfl rfl)
theorem dX4_restore_8 : decode cX4_restore 8 = .ok (.iconst 0, 1) := dk_3 (dk_at dksX4_restore_0 8 rfl rfl)
theorem dX4_restore_9 : decode cX4_restore 9 = .ok (.goto 4, 3) := dk_167 0 4 (dk_at dksX4_restore_0 9 rfl rfl)
theorem dX4_restore_12 : decode cX4_restore 12 = .ok (.iconst 1, 1) := dk_4 (dk_at dksX4_restore_0 12 rfl rfl)
theorem dX4_restore_13 : decode cX4_restore 13 = .ok (.putfield 50, 3) := dk_181 0 50 (dk_at dksX4_restore_0 13 rfl rfl)
theorem dX4_restore_16 : decode cX4_restore 16 = .ok (.aload_n 0, 1) := dk_42 (dk_at dksX4_restore_0 16 rfl rfl)
theorem dX4_restore_17 : decode cX4_restore 17 = .ok (.getfield 50, 3) := dk_180 0 50 (dk_at dksX4_restore_0 17 rfl rfl)
theorem dX4_restore_20 : decode cX4_restore 20 = .ok (.ifCond .eq 5, 3) := dk_153 0 5 (dk_at dksX4_restore_0 20 rfl rfl)
theorem dX4_restore_23 : decode cX4_restore 23 = .ok (.iconst 0, 1) := dk_3 (dk_at dksX4_restore_0 23 rfl rfl)
theorem dX4_restore_24 : decode cX4_restore 24 = .ok (.ireturn, 1) := dk_172 (dk_at dksX4_restore_1 0 rfl rfl)
theorem dX4_restore_25 : decode cX4_restore 25 = .ok (.aload_n 0, 1) := dk_42 (dk_at dksX4_restore_1 1 rfl rfl)
theorem dX4_restore_26 : decode cX4_restore 26 = .ok (.getfield 16, 3) := dk_180 0 16 (dk_at dksX4_restore_1 2 rfl rfl)
theorem dX4_restore_29 : decode cX4_restore 29 = .ok (.aload_n 0, 1) := dk_42 (dk_at dksX4_restore_1 5 rfl rfl)
theorem dX4_restore_30 : decode cX4_restore 30 = .ok (.getfield 23, 3) := dk_180 0 23 (dk_at dksX4_restore_1 6 rfl rfl)
theorem dX4_restore_33 : decode cX4_restore 33 = .ok (.invokestatic 53, 3) := dk_184 0 53 (dk_at dksX4_restore_1 9 rfl rfl)
theorem dX4_restore_36 : decode cX4_restore 36 = .ok (.aload_n 0, 1) := dk_42 (dk_at dksX4_restore_1 12 rfl rfl)
theorem dX4_restore_37 : decode cX4_restore 37 = .ok (.iconst 0, 1) := dk_3 (dk_at dksX4_restore_1 13 rfl rfl)
theorem dX4_restore_38 : decode cX4_restore 38 = .ok (.putfield 57, 3) := dk_181 0 57 (dk_at dksX4_restore_1 14 rfl rfl)
theorem dX4_restore_41 : decode cX4_restore 41 = .ok (.aload_n 0, 1) := dk_42 (dk_at dksX4_restore_1 17 rfl rfl)
theorem dX4_restore_42 : decode cX4_restore 42 = .ok (.getfield 16, 3) := dk_180 0 16 (dk_at dksX4_restore_1 18 rfl rfl)
theorem dX4_restore_45 : decode cX4_restore 45 = .ok (.iconst 3, 1) := dk_6 (dk_at dksX4_restore_1 21 rfl rfl)
theorem dX4_restore_46 : decode cX4_restore 46 = .ok (.iaload, 1) := dk_46 (dk_at dksX4_restore_1 22 rfl rfl)
theorem dX4_restore_47 : decode cX4_restore 47 = .ok (.ireturn, 1) := dk_172 (dk_at dksX4_restore_1 23 rfl rfl)
abbrev cX4_roars : ByteArray := prog_18_method_18_code
def yX4_roars : MethodName := ⟨RX4, "roars", "(III)I"⟩
def dkwX4_roars_1 : List UInt8 := [184, 0, 82, 154, 0, 9, 42, 5, 182, 0, 86, 172, 42, 21, 4, 29, 28, 104, 182, 0, 102, 172]
abbrev dktX4_roars_1 : List UInt8 := dkwX4_roars_1 ++ []
def dkwX4_roars_0 : List UInt8 := [42, 27, 182, 0, 99, 54, 4, 21, 4, 156, 0, 9, 42, 4, 182, 0, 86, 172, 28, 4, 16, 50]
abbrev dktX4_roars_0 : List UInt8 := dkwX4_roars_0 ++ dktX4_roars_1
theorem dksX4_roars_0 : cX4_roars.data.toList.drop 0 = dktX4_roars_0 := by decide +kernel
theorem dksX4_roars_1 : cX4_roars.data.toList.drop 22 = dktX4_roars_1 := dk_seg dksX4_roars_0 22 rfl rfl
theorem dX4_roars_0 : decode cX4_roars 0 = .ok (.aload_n 0, 1) := dk_42 (dk_at dksX4_roars_0 0 rfl rfl)
theorem dX4_roars_1 : decode cX4_roars 1 = .ok (.iload_n 1, 1) := dk_27 (dk_at dksX4_roars_0 1 rfl rfl)
theorem dX4_roars_2 : decode cX4_roars 2 = .ok (.invokevirtual 99, 3) := dk_182 0 99 (dk_at dksX4_roars_0 2 rfl rfl)
theorem dX4_roars_5 : decode cX4_roars 5 = .ok (.istore 4, 2) := dk_54 4 (dk_at dksX4_roars_0 5 rfl rfl)
theorem dX4_roars_7 : decode cX4_roars 7 = .ok (.iload 4, 2) := dk_21 4 (dk_at dksX4_roars_0 7 rfl rfl)
theorem dX4_roars_9 : decode cX4_roars 9 = .ok (.ifCond .ge 9, 3) := dk_156 0 9 (dk_at dksX4_roars_0 9 rfl rfl)
theorem dX4_roars_12 : decode cX4_roars 12 = .ok (.aload_n 0, 1) := dk_42 (dk_at dksX4_roars_0 12 rfl rfl)
theorem dX4_roars_13 : decode cX4_roars 13 = .ok (.iconst 1, 1) := dk_4 (dk_at dksX4_roars_0 13 rfl rfl)
theorem dX4_roars_14 : decode cX4_roars 14 = .ok (.invokevirtual 86, 3) := dk_182 0 86 (dk_at dksX4_roars_0 14 rfl rfl)
theorem dX4_roars_17 : decode cX4_roars 17 = .ok (.ireturn, 1) := dk_172 (dk_at dksX4_roars_0 17 rfl rfl)
theorem dX4_roars_18 : decode cX4_roars 18 = .ok (.iload_n 2, 1) := dk_28 (dk_at dksX4_roars_0 18 rfl rfl)
theorem dX4_roars_19 : decode cX4_roars 19 = .ok (.iconst 1, 1) := dk_4 (dk_at dksX4_roars_0 19 rfl rfl)
theorem dX4_roars_20 : decode cX4_roars 20 = .ok (.bipush 50, 2) := dk_16 50 (dk_at dksX4_roars_0 20 rfl rfl)
theorem dX4_roars_22 : decode cX4_roars 22 = .ok (.invokestatic 82, 3) := dk_184 0 82 (dk_at dksX4_roars_1 0 rfl rfl)
theorem dX4_roars_25 : decode cX4_roars 25 = .ok (.ifCond .ne 9, 3) := dk_154 0 9 (dk_at dksX4_roars_1 3 rfl rfl)
theorem dX4_roars_28 : decode cX4_roars 28 = .ok (.aload_n 0, 1) := dk_42 (dk_at dksX4_roars_1 6 rfl rfl)
theorem dX4_roars_29 : decode cX4_roars 29 = .ok (.iconst 2, 1) := dk_5 (dk_at dksX4_roars_1 7 rfl rfl)
theorem dX4_roars_30 : decode cX4_roars 30 = .ok (.invokevirtual 86, 3) := dk_182 0 86 (dk_at dksX4_roars_1 8 rfl rfl)
theorem dX4_roars_33 : decode cX4_roars 33 = .ok (.ireturn, 1) := dk_172 (dk_at dksX4_roars_1 11 rfl rfl)
theorem dX4_roars_34 : decode cX4_roars 34 = .ok (.aload_n 0, 1) := dk_42 (dk_at dksX4_roars_1 12 rfl rfl)
theorem dX4_roars_35 : decode cX4_roars 35 = .ok (.iload 4, 2) := dk_21 4 (dk_at dksX4_roars_1 13 rfl rfl)
theorem dX4_roars_37 : decode cX4_roars 37 = .ok (.iload_n 3, 1) := dk_29 (dk_at dksX4_roars_1 15 rfl rfl)
theorem dX4_roars_38 : decode cX4_roars 38 = .ok (.iload_n 2, 1) := dk_28 (dk_at dksX4_roars_1 16 rfl rfl)
theorem dX4_roars_39 : decode cX4_roars 39 = .ok (.imul, 1) := dk_104 (dk_at dksX4_roars_1 17 rfl rfl)
theorem dX4_roars_40 : decode cX4_roars 40 = .ok (.invokevirtual 102, 3) := dk_182 0 102 (dk_at dksX4_roars_1 18 rfl rfl)
theorem dX4_roars_43 : decode cX4_roars 43 = .ok (.ireturn, 1) := dk_172 (dk_at dksX4_roars_1 21 rfl rfl)
abbrev cX4_roar : ByteArray := prog_18_method_19_code
def yX4_roar : MethodName := ⟨RX4, "roar", "(II)I"⟩
def dkwX4_roar_0 : List UInt8 := [42, 182, 0, 89, 42, 42, 27, 28, 4, 182, 0, 105, 182, 0, 96, 172]
abbrev dktX4_roar_0 : List UInt8 := dkwX4_roar_0 ++ []
theorem dksX4_roar_0 : cX4_roar.data.toList.drop 0 = dktX4_roar_0 := by decide +kernel
theorem dX4_roar_0 : decode cX4_roar 0 = .ok (.aload_n 0, 1) := dk_42 (dk_at dksX4_roar_0 0 rfl rfl)
theorem dX4_roar_1 : decode cX4_roar 1 = .ok (.invokevirtual 89, 3) := dk_182 0 89 (dk_at dksX4_roar_0 1 rfl rfl)
theorem dX4_roar_4 : decode cX4_roar 4 = .ok (.aload_n 0, 1) := dk_42 (dk_at dksX4_roar_0 4 rfl rfl)
theorem dX4_roar_5 : decode cX4_roar 5 = .ok (.aload_n 0, 1) := dk_42 (dk_at dksX4_roar_0 5 rfl rfl)
theorem dX4_roar_6 : decode cX4_roar 6 = .ok (.iload_n 1, 1) := dk_27 (dk_at dksX4_roar_0 6 rfl rfl)
theorem dX4_roar_7 : decode cX4_roar 7 = .ok (.iload_n 2, 1) := dk_28 (dk_at dksX4_roar_0 7 rfl rfl)
theorem dX4_roar_8 : decode cX4_roar 8 = .ok (.iconst 1, 1) := dk_4 (dk_at dksX4_roar_0 8 rfl rfl)
theorem dX4_roar_9 : decode cX4_roar 9 = .ok (.invokevirtual 105, 3) := dk_182 0 105 (dk_at dksX4_roar_0 9 rfl rfl)
theorem dX4_roar_12 : decode cX4_roar 12 = .ok (.invokevirtual 96, 3) := dk_182 0 96 (dk_at dksX4_roar_0 12 rfl rfl)
theorem dX4_roar_15 : decode cX4_roar 15 = .ok (.ireturn, 1) := dk_172 (dk_at dksX4_roar_0 15 rfl rfl)
abbrev cX4_sign : ByteArray := prog_18_method_81_code
def yX4_sign : MethodName := ⟨RX4, "sign", "()I"⟩
def dkwX4_sign_1 : List UInt8 := [172]
abbrev dktX4_sign_1 : List UInt8 := dkwX4_sign_1 ++ []
def dkwX4_sign_0 : List UInt8 := [42, 180, 0, 180, 42, 180, 0, 183, 162, 0, 15, 42, 180, 0, 32, 42, 180, 0, 180, 46, 167, 0, 4, 2]
abbrev dktX4_sign_0 : List UInt8 := dkwX4_sign_0 ++ dktX4_sign_1
theorem dksX4_sign_0 : cX4_sign.data.toList.drop 0 = dktX4_sign_0 := by decide +kernel
theorem dksX4_sign_1 : cX4_sign.data.toList.drop 24 = dktX4_sign_1 := dk_seg dksX4_sign_0 24 rfl rfl
theorem dX4_sign_0 : decode cX4_sign 0 = .ok (.aload_n 0, 1) := dk_42 (dk_at dksX4_sign_0 0 rfl rfl)
theorem dX4_sign_1 : decode cX4_sign 1 = .ok (.getfield 180, 3) := dk_180 0 180 (dk_at dksX4_sign_0 1 rfl rfl)
theorem dX4_sign_4 : decode cX4_sign 4 = .ok (.aload_n 0, 1) := dk_42 (dk_at dksX4_sign_0 4 rfl rfl)
theorem dX4_sign_5 : decode cX4_sign 5 = .ok (.getfield 183, 3) := dk_180 0 183 (dk_at dksX4_sign_0 5 rfl rfl)
theorem dX4_sign_8 : decode cX4_sign 8 = .ok (.if_icmp .ge 15, 3) := dk_162 0 15 (dk_at dksX4_sign_0 8 rfl rfl)
theorem dX4_sign_11 : decode cX4_sign 11 = .ok (.aload_n 0, 1) := dk_42 (dk_at dksX4_sign_0 11 rfl rfl)
theorem dX4_sign_12 : decode cX4_sign 12 = .ok (.getfield 32, 3) := dk_180 0 32 (dk_at dksX4_sign_0 12 rfl rfl)
theorem dX4_sign_15 : decode cX4_sign 15 = .ok (.aload_n 0, 1) := dk_42 (dk_at dksX4_sign_0 15 rfl rfl)
theorem dX4_sign_16 : decode cX4_sign 16 = .ok (.getfield 180, 3) := dk_180 0 180 (dk_at dksX4_sign_0 16 rfl rfl)
theorem dX4_sign_19 : decode cX4_sign 19 = .ok (.iaload, 1) := dk_46 (dk_at dksX4_sign_0 19 rfl rfl)
theorem dX4_sign_20 : decode cX4_sign 20 = .ok (.goto 4, 3) := dk_167 0 4 (dk_at dksX4_sign_0 20 rfl rfl)
theorem dX4_sign_23 : decode cX4_sign 23 = .ok (.iconst (-1), 1) := dk_2 (dk_at dksX4_sign_0 23 rfl rfl)
theorem dX4_sign_24 : decode cX4_sign 24 = .ok (.ireturn, 1) := dk_172 (dk_at dksX4_sign_1 0 rfl rfl)
abbrev cX4_digits : ByteArray := prog_18_method_83_code
def yX4_digits : MethodName := ⟨RX4, "digits", "(I)I"⟩
def dkwX4_digits_3 : List UInt8 := [3, 128, 181, 0, 186, 28, 172]
abbrev dktX4_digits_3 : List UInt8 := dkwX4_digits_3 ++ []
def dkwX4_digits_2 : List UInt8 := [4, 96, 181, 0, 180, 132, 3, 1, 167, 255, 204, 42, 89, 180, 0, 186, 29, 154, 0, 7, 4, 167, 0, 4]
abbrev dktX4_digits_2 : List UInt8 := dkwX4_digits_2 ++ dktX4_digits_3
def dkwX4_digits_1 : List UInt8 := [184, 0, 82, 153, 0, 32, 16, 10, 28, 104, 42, 182, 0, 190, 96, 16, 48, 100, 61, 42, 89, 180, 0, 180]
abbrev dktX4_digits_1 : List UInt8 := dkwX4_digits_1 ++ dktX4_digits_2
def dkwX4_digits_0 : List UInt8 := [3, 61, 3, 62, 42, 180, 0, 186, 154, 0, 51, 29, 27, 162, 0, 46, 42, 182, 0, 190, 16, 48, 16, 57]
abbrev dktX4_digits_0 : List UInt8 := dkwX4_digits_0 ++ dktX4_digits_1
theorem dksX4_digits_0 : cX4_digits.data.toList.drop 0 = dktX4_digits_0 := by decide +kernel
theorem dksX4_digits_1 : cX4_digits.data.toList.drop 24 = dktX4_digits_1 := dk_seg dksX4_digits_0 24 rfl rfl
theorem dksX4_digits_2 : cX4_digits.data.toList.drop 48 = dktX4_digits_2 := dk_seg dksX4_digits_1 24 rfl rfl
theorem dksX4_digits_3 : cX4_digits.data.toList.drop 72 = dktX4_digits_3 := dk_seg dksX4_digits_2 24 rfl rfl
theorem dX4_digits_0 : decode cX4_digits 0 = .ok (.iconst 0, 1) := dk_3 (dk_at dksX4_digits_0 0 rfl rfl)
theorem dX4_digits_1 : decode cX4_digits 1 = .ok (.istore_n 2, 1) := dk_61 (dk_at dksX4_digits_0 1 rfl rfl)
theorem dX4_digits_2 : decode cX4_digits 2 = .ok (.iconst 0, 1) := dk_3 (dk_at dksX4_digits_0 2 rfl rfl)
theorem dX4_digits_3 : decode cX4_digits 3 = .ok (.istore_n 3, 1) := dk_62 (dk_at dksX4_digits_0 3 rfl rfl)
theorem dX4_digits_4 : decode cX4_digits 4 = .ok (.aload_n 0, 1) := dk_42 (dk_at dksX4_digits_0 4 rfl rfl)
theorem dX4_digits_5 : decode cX4_digits 5 = .ok (.getfield 186, 3) := dk_180 0 186 (dk_at dksX4_digits_0 5 rfl rfl)
theorem dX4_digits_8 : decode cX4_digits 8 = .ok (.ifCond .ne 51, 3) := dk_154 0 51 (dk_at dksX4_digits_0 8 rfl rfl)
theorem dX4_digits_11 : decode cX4_digits 11 = .ok (.iload_n 3, 1) := dk_29 (dk_at dksX4_digits_0 11 rfl rfl)
theorem dX4_digits_12 : decode cX4_digits 12 = .ok (.iload_n 1, 1) := dk_27 (dk_at dksX4_digits_0 12 rfl rfl)
theorem dX4_digits_13 : decode cX4_digits 13 = .ok (.if_icmp .ge 46, 3) := dk_162 0 46 (dk_at dksX4_digits_0 13 rfl rfl)
theorem dX4_digits_16 : decode cX4_digits 16 = .ok (.aload_n 0, 1) := dk_42 (dk_at dksX4_digits_0 16 rfl rfl)
theorem dX4_digits_17 : decode cX4_digits 17 = .ok (.invokevirtual 190, 3) := dk_182 0 190 (dk_at dksX4_digits_0 17 rfl rfl)
theorem dX4_digits_20 : decode cX4_digits 20 = .ok (.bipush 48, 2) := dk_16 48 (dk_at dksX4_digits_0 20 rfl rfl)
theorem dX4_digits_22 : decode cX4_digits 22 = .ok (.bipush 57, 2) := dk_16 57 (dk_at dksX4_digits_0 22 rfl rfl)
theorem dX4_digits_24 : decode cX4_digits 24 = .ok (.invokestatic 82, 3) := dk_184 0 82 (dk_at dksX4_digits_1 0 rfl rfl)
theorem dX4_digits_27 : decode cX4_digits 27 = .ok (.ifCond .eq 32, 3) := dk_153 0 32 (dk_at dksX4_digits_1 3 rfl rfl)
theorem dX4_digits_30 : decode cX4_digits 30 = .ok (.bipush 10, 2) := dk_16 10 (dk_at dksX4_digits_1 6 rfl rfl)
theorem dX4_digits_32 : decode cX4_digits 32 = .ok (.iload_n 2, 1) := dk_28 (dk_at dksX4_digits_1 8 rfl rfl)
theorem dX4_digits_33 : decode cX4_digits 33 = .ok (.imul, 1) := dk_104 (dk_at dksX4_digits_1 9 rfl rfl)
theorem dX4_digits_34 : decode cX4_digits 34 = .ok (.aload_n 0, 1) := dk_42 (dk_at dksX4_digits_1 10 rfl rfl)
theorem dX4_digits_35 : decode cX4_digits 35 = .ok (.invokevirtual 190, 3) := dk_182 0 190 (dk_at dksX4_digits_1 11 rfl rfl)
theorem dX4_digits_38 : decode cX4_digits 38 = .ok (.iadd, 1) := dk_96 (dk_at dksX4_digits_1 14 rfl rfl)
theorem dX4_digits_39 : decode cX4_digits 39 = .ok (.bipush 48, 2) := dk_16 48 (dk_at dksX4_digits_1 15 rfl rfl)
theorem dX4_digits_41 : decode cX4_digits 41 = .ok (.isub, 1) := dk_100 (dk_at dksX4_digits_1 17 rfl rfl)
theorem dX4_digits_42 : decode cX4_digits 42 = .ok (.istore_n 2, 1) := dk_61 (dk_at dksX4_digits_1 18 rfl rfl)
theorem dX4_digits_43 : decode cX4_digits 43 = .ok (.aload_n 0, 1) := dk_42 (dk_at dksX4_digits_1 19 rfl rfl)
theorem dX4_digits_44 : decode cX4_digits 44 = .ok (.dup, 1) := dk_89 (dk_at dksX4_digits_1 20 rfl rfl)
theorem dX4_digits_45 : decode cX4_digits 45 = .ok (.getfield 180, 3) := dk_180 0 180 (dk_at dksX4_digits_1 21 rfl rfl)
theorem dX4_digits_48 : decode cX4_digits 48 = .ok (.iconst 1, 1) := dk_4 (dk_at dksX4_digits_2 0 rfl rfl)
theorem dX4_digits_49 : decode cX4_digits 49 = .ok (.iadd, 1) := dk_96 (dk_at dksX4_digits_2 1 rfl rfl)
theorem dX4_digits_50 : decode cX4_digits 50 = .ok (.putfield 180, 3) := dk_181 0 180 (dk_at dksX4_digits_2 2 rfl rfl)
theorem dX4_digits_53 : decode cX4_digits 53 = .ok (.iinc 3 1, 3) := dk_132 3 1 (dk_at dksX4_digits_2 5 rfl rfl)
theorem dX4_digits_56 : decode cX4_digits 56 = .ok (.goto (-52), 3) := dk_167 255 204 (dk_at dksX4_digits_2 8 rfl rfl)
theorem dX4_digits_59 : decode cX4_digits 59 = .ok (.aload_n 0, 1) := dk_42 (dk_at dksX4_digits_2 11 rfl rfl)
theorem dX4_digits_60 : decode cX4_digits 60 = .ok (.dup, 1) := dk_89 (dk_at dksX4_digits_2 12 rfl rfl)
theorem dX4_digits_61 : decode cX4_digits 61 = .ok (.getfield 186, 3) := dk_180 0 186 (dk_at dksX4_digits_2 13 rfl rfl)
theorem dX4_digits_64 : decode cX4_digits 64 = .ok (.iload_n 3, 1) := dk_29 (dk_at dksX4_digits_2 16 rfl rfl)
theorem dX4_digits_65 : decode cX4_digits 65 = .ok (.ifCond .ne 7, 3) := dk_154 0 7 (dk_at dksX4_digits_2 17 rfl rfl)
theorem dX4_digits_68 : decode cX4_digits 68 = .ok (.iconst 1, 1) := dk_4 (dk_at dksX4_digits_2 20 rfl rfl)
theorem dX4_digits_69 : decode cX4_digits 69 = .ok (.goto 4, 3) := dk_167 0 4 (dk_at dksX4_digits_2 21 rfl rfl)
theorem dX4_digits_72 : decode cX4_digits 72 = .ok (.iconst 0, 1) := dk_3 (dk_at dksX4_digits_3 0 rfl rfl)
theorem dX4_digits_73 : decode cX4_digits 73 = .ok (.ior, 1) := dk_128 (dk_at dksX4_digits_3 1 rfl rfl)
theorem dX4_digits_74 : decode cX4_digits 74 = .ok (.putfield 186, 3) := dk_181 0 186 (dk_at dksX4_digits_3 2 rfl rfl)
theorem dX4_digits_77 : decode cX4_digits 77 = .ok (.iload_n 2, 1) := dk_28 (dk_at dksX4_digits_3 5 rfl rfl)
theorem dX4_digits_78 : decode cX4_digits 78 = .ok (.ireturn, 1) := dk_172 (dk_at dksX4_digits_3 6 rfl rfl)
abbrev cX4_expects : ByteArray := prog_18_method_82_code
def yX4_expects : MethodName := ⟨RX4, "expects", "(I)V"⟩
def dkwX4_expects_2 : List UInt8 := [177]
abbrev dktX4_expects_2 : List UInt8 := dkwX4_expects_2 ++ []
def dkwX4_expects_1 : List UInt8 := [181, 0, 186, 42, 89, 180, 0, 180, 42, 180, 0, 186, 153, 0, 7, 3, 167, 0, 4, 4, 96, 181, 0, 180]
abbrev dktX4_expects_1 : List UInt8 := dkwX4_expects_1 ++ dktX4_expects_2
def dkwX4_expects_0 : List UInt8 := [42, 180, 0, 186, 153, 0, 4, 177, 42, 42, 182, 0, 190, 27, 159, 0, 7, 4, 167, 0, 4, 3]
abbrev dktX4_expects_0 : List UInt8 := dkwX4_expects_0 ++ dktX4_expects_1
theorem dksX4_expects_0 : cX4_expects.data.toList.drop 0 = dktX4_expects_0 := by decide +kernel
theorem dksX4_expects_1 : cX4_expects.data.toList.drop 22 = dktX4_expects_1 := dk_seg dksX4_expects_0 22 rfl rfl
theorem dksX4_expects_2 : cX4_expects.data.toList.drop 46 = dktX4_expects_2 := dk_seg dksX4_expects_1 24 rfl rfl
theorem dX4_expects_0 : decode cX4_expects 0 = .ok (.aload_n 0, 1) := dk_42 (dk_at dksX4_expects_0 0 rfl rfl)
theorem dX4_expects_1 : decode cX4_expects 1 = .ok (.getfield 186, 3) := dk_180 0 186 (dk_at dksX4_expects_0 1 rfl rfl)
theorem dX4_expects_4 : decode cX4_expects 4 = .ok (.ifCond .eq 4, 3) := dk_153 0 4 (dk_at dksX4_expects_0 4 rfl rfl)
theorem dX4_expects_7 : decode cX4_expects 7 = .ok (.return_, 1) := dk_177 (dk_at dksX4_expects_0 7 rfl rfl)
theorem dX4_expects_8 : decode cX4_expects 8 = .ok (.aload_n 0, 1) := dk_42 (dk_at dksX4_expects_0 8 rfl rfl)
theorem dX4_expects_9 : decode cX4_expects 9 = .ok (.aload_n 0, 1) := dk_42 (dk_at dksX4_expects_0 9 rfl rfl)
theorem dX4_expects_10 : decode cX4_expects 10 = .ok (.invokevirtual 190, 3) := dk_182 0 190 (dk_at dksX4_expects_0 10 rfl rfl)
theorem dX4_expects_13 : decode cX4_expects 13 = .ok (.iload_n 1, 1) := dk_27 (dk_at dksX4_expects_0 13 rfl rfl)
theorem dX4_expects_14 : decode cX4_expects 14 = .ok (.if_icmp .eq 7, 3) := dk_159 0 7 (dk_at dksX4_expects_0 14 rfl rfl)
theorem dX4_expects_17 : decode cX4_expects 17 = .ok (.iconst 1, 1) := dk_4 (dk_at dksX4_expects_0 17 rfl rfl)
theorem dX4_expects_18 : decode cX4_expects 18 = .ok (.goto 4, 3) := dk_167 0 4 (dk_at dksX4_expects_0 18 rfl rfl)
theorem dX4_expects_21 : decode cX4_expects 21 = .ok (.iconst 0, 1) := dk_3 (dk_at dksX4_expects_0 21 rfl rfl)
theorem dX4_expects_22 : decode cX4_expects 22 = .ok (.putfield 186, 3) := dk_181 0 186 (dk_at dksX4_expects_1 0 rfl rfl)
theorem dX4_expects_25 : decode cX4_expects 25 = .ok (.aload_n 0, 1) := dk_42 (dk_at dksX4_expects_1 3 rfl rfl)
theorem dX4_expects_26 : decode cX4_expects 26 = .ok (.dup, 1) := dk_89 (dk_at dksX4_expects_1 4 rfl rfl)
theorem dX4_expects_27 : decode cX4_expects 27 = .ok (.getfield 180, 3) := dk_180 0 180 (dk_at dksX4_expects_1 5 rfl rfl)
theorem dX4_expects_30 : decode cX4_expects 30 = .ok (.aload_n 0, 1) := dk_42 (dk_at dksX4_expects_1 8 rfl rfl)
theorem dX4_expects_31 : decode cX4_expects 31 = .ok (.getfield 186, 3) := dk_180 0 186 (dk_at dksX4_expects_1 9 rfl rfl)
theorem dX4_expects_34 : decode cX4_expects 34 = .ok (.ifCond .eq 7, 3) := dk_153 0 7 (dk_at dksX4_expects_1 12 rfl rfl)
theorem dX4_expects_37 : decode cX4_expects 37 = .ok (.iconst 0, 1) := dk_3 (dk_at dksX4_expects_1 15 rfl rfl)
theorem dX4_expects_38 : decode cX4_expects 38 = .ok (.goto 4, 3) := dk_167 0 4 (dk_at dksX4_expects_1 16 rfl rfl)
theorem dX4_expects_41 : decode cX4_expects 41 = .ok (.iconst 1, 1) := dk_4 (dk_at dksX4_expects_1 19 rfl rfl)
theorem dX4_expects_42 : decode cX4_expects 42 = .ok (.iadd, 1) := dk_96 (dk_at dksX4_expects_1 20 rfl rfl)
theorem dX4_expects_43 : decode cX4_expects 43 = .ok (.putfield 180, 3) := dk_181 0 180 (dk_at dksX4_expects_1 21 rfl rfl)
theorem dX4_expects_46 : decode cX4_expects 46 = .ok (.return_, 1) := dk_177 (dk_at dksX4_expects_2 0 rfl rfl)
abbrev cX4_behind : ByteArray := prog_18_method_84_code
def yX4_behind : MethodName := ⟨RX4, "behind", "(II)I"⟩
def dkwX4_behind_0 : List UInt8 := [42, 27, 182, 0, 193, 42, 180, 0, 186, 153, 0, 7, 3, 167, 0, 8, 42, 28, 182, 0, 196, 172]
abbrev dktX4_behind_0 : List UInt8 := dkwX4_behind_0 ++ []
theorem dksX4_behind_0 : cX4_behind.data.toList.drop 0 = dktX4_behind_0 := by decide +kernel
theorem dX4_behind_0 : decode cX4_behind 0 = .ok (.aload_n 0, 1) := dk_42 (dk_at dksX4_behind_0 0 rfl rfl)
theorem dX4_behind_1 : decode cX4_behind 1 = .ok (.iload_n 1, 1) := dk_27 (dk_at dksX4_behind_0 1 rfl rfl)
theorem dX4_behind_2 : decode cX4_behind 2 = .ok (.invokevirtual 193, 3) := dk_182 0 193 (dk_at dksX4_behind_0 2 rfl rfl)
theorem dX4_behind_5 : decode cX4_behind 5 = .ok (.aload_n 0, 1) := dk_42 (dk_at dksX4_behind_0 5 rfl rfl)
theorem dX4_behind_6 : decode cX4_behind 6 = .ok (.getfield 186, 3) := dk_180 0 186 (dk_at dksX4_behind_0 6 rfl rfl)
theorem dX4_behind_9 : decode cX4_behind 9 = .ok (.ifCond .eq 7, 3) := dk_153 0 7 (dk_at dksX4_behind_0 9 rfl rfl)
theorem dX4_behind_12 : decode cX4_behind 12 = .ok (.iconst 0, 1) := dk_3 (dk_at dksX4_behind_0 12 rfl rfl)
theorem dX4_behind_13 : decode cX4_behind 13 = .ok (.goto 8, 3) := dk_167 0 8 (dk_at dksX4_behind_0 13 rfl rfl)
theorem dX4_behind_16 : decode cX4_behind 16 = .ok (.aload_n 0, 1) := dk_42 (dk_at dksX4_behind_0 16 rfl rfl)
theorem dX4_behind_17 : decode cX4_behind 17 = .ok (.iload_n 2, 1) := dk_28 (dk_at dksX4_behind_0 17 rfl rfl)
theorem dX4_behind_18 : decode cX4_behind 18 = .ok (.invokevirtual 196, 3) := dk_182 0 196 (dk_at dksX4_behind_0 18 rfl rfl)
theorem dX4_behind_21 : decode cX4_behind 21 = .ok (.ireturn, 1) := dk_172 (dk_at dksX4_behind_0 21 rfl rfl)
abbrev cX4_serves : ByteArray := prog_18_method_25_code
def yX4_serves : MethodName := ⟨RX4, "serves", "()I"⟩
def dkwX4_serves_7 : List UInt8 := [167, 0, 4, 3, 96, 79, 42, 27, 182, 0, 108, 28, 172]
abbrev dktX4_serves_7 : List UInt8 := dkwX4_serves_7 ++ []
def dkwX4_serves_6 : List UInt8 := [92, 46, 42, 180, 0, 16, 3, 46, 42, 180, 0, 16, 27, 6, 184, 0, 60, 46, 164, 0, 7, 4]
abbrev dktX4_serves_6 : List UInt8 := dkwX4_serves_6 ++ dktX4_serves_7
def dkwX4_serves_5 : List UInt8 := [5, 184, 0, 60, 46, 96, 79, 42, 180, 0, 16, 16, 6, 92, 46, 4, 96, 79, 42, 180, 0, 16, 16, 7]
abbrev dktX4_serves_5 : List UInt8 := dkwX4_serves_5 ++ dktX4_serves_6
def dkwX4_serves_4 : List UInt8 := [180, 0, 16, 27, 5, 184, 0, 60, 46, 96, 79, 42, 180, 0, 16, 16, 8, 92, 46, 42, 180, 0, 16, 27]
abbrev dktX4_serves_4 : List UInt8 := dkwX4_serves_4 ++ dktX4_serves_5
def dkwX4_serves_3 : List UInt8 := [180, 0, 16, 27, 3, 184, 0, 60, 46, 61, 42, 3, 182, 0, 71, 42, 180, 0, 16, 3, 92, 46, 42]
abbrev dktX4_serves_3 : List UInt8 := dkwX4_serves_3 ++ dktX4_serves_4
def dkwX4_serves_2 : List UInt8 := [182, 0, 71, 42, 180, 0, 16, 16, 9, 92, 46, 4, 96, 79, 167, 255, 232, 42, 3, 182, 0, 68, 60, 42]
abbrev dktX4_serves_2 : List UInt8 := dkwX4_serves_2 ++ dktX4_serves_3
def dkwX4_serves_1 : List UInt8 := [112, 182, 0, 114, 154, 0, 9, 42, 5, 182, 0, 86, 172, 42, 3, 182, 0, 68, 156, 0, 22, 42, 3]
abbrev dktX4_serves_1 : List UInt8 := dkwX4_serves_1 ++ dktX4_serves_2
def dkwX4_serves_0 : List UInt8 := [42, 180, 0, 16, 6, 46, 154, 0, 9, 42, 4, 182, 0, 86, 172, 42, 42, 180, 0, 16, 3, 46, 16, 24]
abbrev dktX4_serves_0 : List UInt8 := dkwX4_serves_0 ++ dktX4_serves_1
theorem dksX4_serves_0 : cX4_serves.data.toList.drop 0 = dktX4_serves_0 := by decide +kernel
theorem dksX4_serves_1 : cX4_serves.data.toList.drop 24 = dktX4_serves_1 := dk_seg dksX4_serves_0 24 rfl rfl
theorem dksX4_serves_2 : cX4_serves.data.toList.drop 47 = dktX4_serves_2 := dk_seg dksX4_serves_1 23 rfl rfl
theorem dksX4_serves_3 : cX4_serves.data.toList.drop 71 = dktX4_serves_3 := dk_seg dksX4_serves_2 24 rfl rfl
theorem dksX4_serves_4 : cX4_serves.data.toList.drop 94 = dktX4_serves_4 := dk_seg dksX4_serves_3 23 rfl rfl
theorem dksX4_serves_5 : cX4_serves.data.toList.drop 118 = dktX4_serves_5 := dk_seg dksX4_serves_4 24 rfl rfl
theorem dksX4_serves_6 : cX4_serves.data.toList.drop 142 = dktX4_serves_6 := dk_seg dksX4_serves_5 24 rfl rfl
theorem dksX4_serves_7 : cX4_serves.data.toList.drop 164 = dktX4_serves_7 := dk_seg dksX4_serves_6 22 rfl rfl
theorem dX4_serves_0 : decode cX4_serves 0 = .ok (.aload_n 0, 1) := dk_42 (dk_at dksX4_serves_0 0 rfl rfl)
theorem dX4_serves_1 : decode cX4_serves 1 = .ok (.getfield 16, 3) := dk_180 0 16 (dk_at dksX4_serves_0 1 rfl rfl)
theorem dX4_serves_4 : decode cX4_serves 4 = .ok (.iconst 3, 1) := dk_6 (dk_at dksX4_serves_0 4 rfl rfl)
theorem dX4_serves_5 : decode cX4_serves 5 = .ok (.iaload, 1) := dk_46 (dk_at dksX4_serves_0 5 rfl rfl)
theorem dX4_serves_6 : decode cX4_serves 6 = .ok (.ifCond .ne 9, 3) := dk_154 0 9 (dk_at dksX4_serves_0 6 rfl rfl)
theorem dX4_serves_9 : decode cX4_serves 9 = .ok (.aload_n 0, 1) := dk_42 (dk_at dksX4_serves_0 9 rfl rfl)
theorem dX4_serves_10 : decode cX4_serves 10 = .ok (.iconst 1, 1) := dk_4 (dk_at dksX4_serves_0 10 rfl rfl)
theorem dX4_serves_11 : decode cX4_serves 11 = .ok (.invokevirtual 86, 3) := dk_182 0 86 (dk_at dksX4_serves_0 11 rfl rfl)
theorem dX4_serves_14 : decode cX4_serves 14 = .ok (.ireturn, 1) := dk_172 (dk_at dksX4_serves_0 14 rfl rfl)
theorem dX4_serves_15 : decode cX4_serves 15 = .ok (.aload_n 0, 1) := dk_42 (dk_at dksX4_serves_0 15 rfl rfl)
theorem dX4_serves_16 : decode cX4_serves 16 = .ok (.aload_n 0, 1) := dk_42 (dk_at dksX4_serves_0 16 rfl rfl)
theorem dX4_serves_17 : decode cX4_serves 17 = .ok (.getfield 16, 3) := dk_180 0 16 (dk_at dksX4_serves_0 17 rfl rfl)
theorem dX4_serves_20 : decode cX4_serves 20 = .ok (.iconst 0, 1) := dk_3 (dk_at dksX4_serves_0 20 rfl rfl)
theorem dX4_serves_21 : decode cX4_serves 21 = .ok (.iaload, 1) := dk_46 (dk_at dksX4_serves_0 21 rfl rfl)
theorem dX4_serves_22 : decode cX4_serves 22 = .ok (.bipush 24, 2) := dk_16 24 (dk_at dksX4_serves_0 22 rfl rfl)
theorem dX4_serves_24 : decode cX4_serves 24 = .ok (.irem, 1) := dk_112 (dk_at dksX4_serves_1 0 rfl rfl)
theorem dX4_serves_25 : decode cX4_serves 25 = .ok (.invokevirtual 114, 3) := dk_182 0 114 (dk_at dksX4_serves_1 1 rfl rfl)
theorem dX4_serves_28 : decode cX4_serves 28 = .ok (.ifCond .ne 9, 3) := dk_154 0 9 (dk_at dksX4_serves_1 4 rfl rfl)
theorem dX4_serves_31 : decode cX4_serves 31 = .ok (.aload_n 0, 1) := dk_42 (dk_at dksX4_serves_1 7 rfl rfl)
theorem dX4_serves_32 : decode cX4_serves 32 = .ok (.iconst 2, 1) := dk_5 (dk_at dksX4_serves_1 8 rfl rfl)
theorem dX4_serves_33 : decode cX4_serves 33 = .ok (.invokevirtual 86, 3) := dk_182 0 86 (dk_at dksX4_serves_1 9 rfl rfl)
theorem dX4_serves_36 : decode cX4_serves 36 = .ok (.ireturn, 1) := dk_172 (dk_at dksX4_serves_1 12 rfl rfl)
theorem dX4_serves_37 : decode cX4_serves 37 = .ok (.aload_n 0, 1) := dk_42 (dk_at dksX4_serves_1 13 rfl rfl)
theorem dX4_serves_38 : decode cX4_serves 38 = .ok (.iconst 0, 1) := dk_3 (dk_at dksX4_serves_1 14 rfl rfl)
theorem dX4_serves_39 : decode cX4_serves 39 = .ok (.invokevirtual 68, 3) := dk_182 0 68 (dk_at dksX4_serves_1 15 rfl rfl)
theorem dX4_serves_42 : decode cX4_serves 42 = .ok (.ifCond .ge 22, 3) := dk_156 0 22 (dk_at dksX4_serves_1 18 rfl rfl)
theorem dX4_serves_45 : decode cX4_serves 45 = .ok (.aload_n 0, 1) := dk_42 (dk_at dksX4_serves_1 21 rfl rfl)
theorem dX4_serves_46 : decode cX4_serves 46 = .ok (.iconst 0, 1) := dk_3 (dk_at dksX4_serves_1 22 rfl rfl)
theorem dX4_serves_47 : decode cX4_serves 47 = .ok (.invokevirtual 71, 3) := dk_182 0 71 (dk_at dksX4_serves_2 0 rfl rfl)
theorem dX4_serves_50 : decode cX4_serves 50 = .ok (.aload_n 0, 1) := dk_42 (dk_at dksX4_serves_2 3 rfl rfl)
theorem dX4_serves_51 : decode cX4_serves 51 = .ok (.getfield 16, 3) := dk_180 0 16 (dk_at dksX4_serves_2 4 rfl rfl)
theorem dX4_serves_54 : decode cX4_serves 54 = .ok (.bipush 9, 2) := dk_16 9 (dk_at dksX4_serves_2 7 rfl rfl)
theorem dX4_serves_56 : decode cX4_serves 56 = .ok (.dup2, 1) := dk_92 (dk_at dksX4_serves_2 9 rfl rfl)
theorem dX4_serves_57 : decode cX4_serves 57 = .ok (.iaload, 1) := dk_46 (dk_at dksX4_serves_2 10 rfl rfl)
theorem dX4_serves_58 : decode cX4_serves 58 = .ok (.iconst 1, 1) := dk_4 (dk_at dksX4_serves_2 11 rfl rfl)
theorem dX4_serves_59 : decode cX4_serves 59 = .ok (.iadd, 1) := dk_96 (dk_at dksX4_serves_2 12 rfl rfl)
theorem dX4_serves_60 : decode cX4_serves 60 = .ok (.iastore, 1) := dk_79 (dk_at dksX4_serves_2 13 rfl rfl)
theorem dX4_serves_61 : decode cX4_serves 61 = .ok (.goto (-24), 3) := dk_167 255 232 (dk_at dksX4_serves_2 14 rfl rfl)
theorem dX4_serves_64 : decode cX4_serves 64 = .ok (.aload_n 0, 1) := dk_42 (dk_at dksX4_serves_2 17 rfl rfl)
theorem dX4_serves_65 : decode cX4_serves 65 = .ok (.iconst 0, 1) := dk_3 (dk_at dksX4_serves_2 18 rfl rfl)
theorem dX4_serves_66 : decode cX4_serves 66 = .ok (.invokevirtual 68, 3) := dk_182 0 68 (dk_at dksX4_serves_2 19 rfl rfl)
theorem dX4_serves_69 : decode cX4_serves 69 = .ok (.istore_n 1, 1) := dk_60 (dk_at dksX4_serves_2 22 rfl rfl)
theorem dX4_serves_70 : decode cX4_serves 70 = .ok (.aload_n 0, 1) := dk_42 (dk_at dksX4_serves_2 23 rfl rfl)
theorem dX4_serves_71 : decode cX4_serves 71 = .ok (.getfield 16, 3) := dk_180 0 16 (dk_at dksX4_serves_3 0 rfl rfl)
theorem dX4_serves_74 : decode cX4_serves 74 = .ok (.iload_n 1, 1) := dk_27 (dk_at dksX4_serves_3 3 rfl rfl)
theorem dX4_serves_75 : decode cX4_serves 75 = .ok (.iconst 0, 1) := dk_3 (dk_at dksX4_serves_3 4 rfl rfl)
theorem dX4_serves_76 : decode cX4_serves 76 = .ok (.invokestatic 60, 3) := dk_184 0 60 (dk_at dksX4_serves_3 5 rfl rfl)
theorem dX4_serves_79 : decode cX4_serves 79 = .ok (.iaload, 1) := dk_46 (dk_at dksX4_serves_3 8 rfl rfl)
theorem dX4_serves_80 : decode cX4_serves 80 = .ok (.istore_n 2, 1) := dk_61 (dk_at dksX4_serves_3 9 rfl rfl)
theorem dX4_serves_81 : decode cX4_serves 81 = .ok (.aload_n 0, 1) := dk_42 (dk_at dksX4_serves_3 10 rfl rfl)
theorem dX4_serves_82 : decode cX4_serves 82 = .ok (.iconst 0, 1) := dk_3 (dk_at dksX4_serves_3 11 rfl rfl)
theorem dX4_serves_83 : decode cX4_serves 83 = .ok (.invokevirtual 71, 3) := dk_182 0 71 (dk_at dksX4_serves_3 12 rfl rfl)
theorem dX4_serves_86 : decode cX4_serves 86 = .ok (.aload_n 0, 1) := dk_42 (dk_at dksX4_serves_3 15 rfl rfl)
theorem dX4_serves_87 : decode cX4_serves 87 = .ok (.getfield 16, 3) := dk_180 0 16 (dk_at dksX4_serves_3 16 rfl rfl)
theorem dX4_serves_90 : decode cX4_serves 90 = .ok (.iconst 0, 1) := dk_3 (dk_at dksX4_serves_3 19 rfl rfl)
theorem dX4_serves_91 : decode cX4_serves 91 = .ok (.dup2, 1) := dk_92 (dk_at dksX4_serves_3 20 rfl rfl)
theorem dX4_serves_92 : decode cX4_serves 92 = .ok (.iaload, 1) := dk_46 (dk_at dksX4_serves_3 21 rfl rfl)
theorem dX4_serves_93 : decode cX4_serves 93 = .ok (.aload_n 0, 1) := dk_42 (dk_at dksX4_serves_3 22 rfl rfl)
theorem dX4_serves_94 : decode cX4_serves 94 = .ok (.getfield 16, 3) := dk_180 0 16 (dk_at dksX4_serves_4 0 rfl rfl)
theorem dX4_serves_97 : decode cX4_serves 97 = .ok (.iload_n 1, 1) := dk_27 (dk_at dksX4_serves_4 3 rfl rfl)
theorem dX4_serves_98 : decode cX4_serves 98 = .ok (.iconst 2, 1) := dk_5 (dk_at dksX4_serves_4 4 rfl rfl)
theorem dX4_serves_99 : decode cX4_serves 99 = .ok (.invokestatic 60, 3) := dk_184 0 60 (dk_at dksX4_serves_4 5 rfl rfl)
theorem dX4_serves_102 : decode cX4_serves 102 = .ok (.iaload, 1) := dk_46 (dk_at dksX4_serves_4 8 rfl rfl)
theorem dX4_serves_103 : decode cX4_serves 103 = .ok (.iadd, 1) := dk_96 (dk_at dksX4_serves_4 9 rfl rfl)
theorem dX4_serves_104 : decode cX4_serves 104 = .ok (.iastore, 1) := dk_79 (dk_at dksX4_serves_4 10 rfl rfl)
theorem dX4_serves_105 : decode cX4_serves 105 = .ok (.aload_n 0, 1) := dk_42 (dk_at dksX4_serves_4 11 rfl rfl)
theorem dX4_serves_106 : decode cX4_serves 106 = .ok (.getfield 16, 3) := dk_180 0 16 (dk_at dksX4_serves_4 12 rfl rfl)
theorem dX4_serves_109 : decode cX4_serves 109 = .ok (.bipush 8, 2) := dk_16 8 (dk_at dksX4_serves_4 15 rfl rfl)
theorem dX4_serves_111 : decode cX4_serves 111 = .ok (.dup2, 1) := dk_92 (dk_at dksX4_serves_4 17 rfl rfl)
theorem dX4_serves_112 : decode cX4_serves 112 = .ok (.iaload, 1) := dk_46 (dk_at dksX4_serves_4 18 rfl rfl)
theorem dX4_serves_113 : decode cX4_serves 113 = .ok (.aload_n 0, 1) := dk_42 (dk_at dksX4_serves_4 19 rfl rfl)
theorem dX4_serves_114 : decode cX4_serves 114 = .ok (.getfield 16, 3) := dk_180 0 16 (dk_at dksX4_serves_4 20 rfl rfl)
theorem dX4_serves_117 : decode cX4_serves 117 = .ok (.iload_n 1, 1) := dk_27 (dk_at dksX4_serves_4 23 rfl rfl)
theorem dX4_serves_118 : decode cX4_serves 118 = .ok (.iconst 2, 1) := dk_5 (dk_at dksX4_serves_5 0 rfl rfl)
theorem dX4_serves_119 : decode cX4_serves 119 = .ok (.invokestatic 60, 3) := dk_184 0 60 (dk_at dksX4_serves_5 1 rfl rfl)
theorem dX4_serves_122 : decode cX4_serves 122 = .ok (.iaload, 1) := dk_46 (dk_at dksX4_serves_5 4 rfl rfl)
theorem dX4_serves_123 : decode cX4_serves 123 = .ok (.iadd, 1) := dk_96 (dk_at dksX4_serves_5 5 rfl rfl)
theorem dX4_serves_124 : decode cX4_serves 124 = .ok (.iastore, 1) := dk_79 (dk_at dksX4_serves_5 6 rfl rfl)
theorem dX4_serves_125 : decode cX4_serves 125 = .ok (.aload_n 0, 1) := dk_42 (dk_at dksX4_serves_5 7 rfl rfl)
theorem dX4_serves_126 : decode cX4_serves 126 = .ok (.getfield 16, 3) := dk_180 0 16 (dk_at dksX4_serves_5 8 rfl rfl)
theorem dX4_serves_129 : decode cX4_serves 129 = .ok (.bipush 6, 2) := dk_16 6 (dk_at dksX4_serves_5 11 rfl rfl)
theorem dX4_serves_131 : decode cX4_serves 131 = .ok (.dup2, 1) := dk_92 (dk_at dksX4_serves_5 13 rfl rfl)
theorem dX4_serves_132 : decode cX4_serves 132 = .ok (.iaload, 1) := dk_46 (dk_at dksX4_serves_5 14 rfl rfl)
theorem dX4_serves_133 : decode cX4_serves 133 = .ok (.iconst 1, 1) := dk_4 (dk_at dksX4_serves_5 15 rfl rfl)
theorem dX4_serves_134 : decode cX4_serves 134 = .ok (.iadd, 1) := dk_96 (dk_at dksX4_serves_5 16 rfl rfl)
theorem dX4_serves_135 : decode cX4_serves 135 = .ok (.iastore, 1) := dk_79 (dk_at dksX4_serves_5 17 rfl rfl)
theorem dX4_serves_136 : decode cX4_serves 136 = .ok (.aload_n 0, 1) := dk_42 (dk_at dksX4_serves_5 18 rfl rfl)
theorem dX4_serves_137 : decode cX4_serves 137 = .ok (.getfield 16, 3) := dk_180 0 16 (dk_at dksX4_serves_5 19 rfl rfl)
theorem dX4_serves_140 : decode cX4_serves 140 = .ok (.bipush 7, 2) := dk_16 7 (dk_at dksX4_serves_5 22 rfl rfl)
theorem dX4_serves_142 : decode cX4_serves 142 = .ok (.dup2, 1) := dk_92 (dk_at dksX4_serves_6 0 rfl rfl)
theorem dX4_serves_143 : decode cX4_serves 143 = .ok (.iaload, 1) := dk_46 (dk_at dksX4_serves_6 1 rfl rfl)
theorem dX4_serves_144 : decode cX4_serves 144 = .ok (.aload_n 0, 1) := dk_42 (dk_at dksX4_serves_6 2 rfl rfl)
theorem dX4_serves_145 : decode cX4_serves 145 = .ok (.getfield 16, 3) := dk_180 0 16 (dk_at dksX4_serves_6 3 rfl rfl)
theorem dX4_serves_148 : decode cX4_serves 148 = .ok (.iconst 0, 1) := dk_3 (dk_at dksX4_serves_6 6 rfl rfl)
theorem dX4_serves_149 : decode cX4_serves 149 = .ok (.iaload, 1) := dk_46 (dk_at dksX4_serves_6 7 rfl rfl)
theorem dX4_serves_150 : decode cX4_serves 150 = .ok (.aload_n 0, 1) := dk_42 (dk_at dksX4_serves_6 8 rfl rfl)
theorem dX4_serves_151 : decode cX4_serves 151 = .ok (.getfield 16, 3) := dk_180 0 16 (dk_at dksX4_serves_6 9 rfl rfl)
theorem dX4_serves_154 : decode cX4_serves 154 = .ok (.iload_n 1, 1) := dk_27 (dk_at dksX4_serves_6 12 rfl rfl)
theorem dX4_serves_155 : decode cX4_serves 155 = .ok (.iconst 3, 1) := dk_6 (dk_at dksX4_serves_6 13 rfl rfl)
theorem dX4_serves_156 : decode cX4_serves 156 = .ok (.invokestatic 60, 3) := dk_184 0 60 (dk_at dksX4_serves_6 14 rfl rfl)
theorem dX4_serves_159 : decode cX4_serves 159 = .ok (.iaload, 1) := dk_46 (dk_at dksX4_serves_6 17 rfl rfl)
theorem dX4_serves_160 : decode cX4_serves 160 = .ok (.if_icmp .le 7, 3) := dk_164 0 7 (dk_at dksX4_serves_6 18 rfl rfl)
theorem dX4_serves_163 : decode cX4_serves 163 = .ok (.iconst 1, 1) := dk_4 (dk_at dksX4_serves_6 21 rfl rfl)
theorem dX4_serves_164 : decode cX4_serves 164 = .ok (.goto 4, 3) := dk_167 0 4 (dk_at dksX4_serves_7 0 rfl rfl)
theorem dX4_serves_167 : decode cX4_serves 167 = .ok (.iconst 0, 1) := dk_3 (dk_at dksX4_serves_7 3 rfl rfl)
theorem dX4_serves_168 : decode cX4_serves 168 = .ok (.iadd, 1) := dk_96 (dk_at dksX4_serves_7 4 rfl rfl)
theorem dX4_serves_169 : decode cX4_serves 169 = .ok (.iastore, 1) := dk_79 (dk_at dksX4_serves_7 5 rfl rfl)
theorem dX4_serves_170 : decode cX4_serves 170 = .ok (.aload_n 0, 1) := dk_42 (dk_at dksX4_serves_7 6 rfl rfl)
theorem dX4_serves_171 : decode cX4_serves 171 = .ok (.iload_n 1, 1) := dk_27 (dk_at dksX4_serves_7 7 rfl rfl)
theorem dX4_serves_172 : decode cX4_serves 172 = .ok (.invokevirtual 108, 3) := dk_182 0 108 (dk_at dksX4_serves_7 8 rfl rfl)
theorem dX4_serves_175 : decode cX4_serves 175 = .ok (.iload_n 2, 1) := dk_28 (dk_at dksX4_serves_7 11 rfl rfl)
theorem dX4_serves_176 : decode cX4_serves 176 = .ok (.ireturn, 1) := dk_172 (dk_at dksX4_serves_7 12 rfl rfl)
