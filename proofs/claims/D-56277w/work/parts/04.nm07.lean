set_option maxRecDepth 100000
abbrev cX0_hungriestByLooking : ByteArray := method_17_code
def yX0_hungriestByLooking : MethodName := ⟨RX0, "hungriestByLooking", "(LLionGate;[J)I"⟩
def dkwX0_hungriestByLooking_0 : List UInt8 := [43, 3, 42, 182, 0, 65, 133, 80, 167, 0, 6, 77, 4, 172, 3, 172]
abbrev dktX0_hungriestByLooking_0 : List UInt8 := dkwX0_hungriestByLooking_0 ++ []
theorem dksX0_hungriestByLooking_0 : cX0_hungriestByLooking.data.toList.drop 0 = dktX0_hungriestByLooking_0 := by decide +kernel
theorem dX0_hungriestByLooking_0 : decode cX0_hungriestByLooking 0 = .ok (.aload_n 1, 1) := dk_43 (dk_at dksX0_hungriestByLooking_0 0 rfl rfl)
theorem dX0_hungriestByLooking_1 : decode cX0_hungriestByLooking 1 = .ok (.iconst 0, 1) := dk_3 (dk_at dksX0_hungriestByLooking_0 1 rfl rfl)
theorem dX0_hungriestByLooking_2 : decode cX0_hungriestByLooking 2 = .ok (.aload_n 0, 1) := dk_42 (dk_at dksX0_hungriestByLooking_0 2 rfl rfl)
theorem dX0_hungriestByLooking_3 : decode cX0_hungriestByLooking 3 = .ok (.invokevirtual 65, 3) := dk_182 0 65 (dk_at dksX0_hungriestByLooking_0 3 rfl rfl)
theorem dX0_hungriestByLooking_6 : decode cX0_hungriestByLooking 6 = .ok (.i2l, 1) := dk_133 (dk_at dksX0_hungriestByLooking_0 6 rfl rfl)
theorem dX0_hungriestByLooking_7 : decode cX0_hungriestByLooking 7 = .ok (.lastore, 1) := dk_80 (dk_at dksX0_hungriestByLooking_0 7 rfl rfl)
theorem dX0_hungriestByLooking_8 : decode cX0_hungriestByLooking 8 = .ok (.goto 6, 3) := dk_167 0 6 (dk_at dksX0_hungriestByLooking_0 8 rfl rfl)
theorem dX0_hungriestByLooking_11 : decode cX0_hungriestByLooking 11 = .ok (.astore_n 2, 1) := dk_77 (dk_at dksX0_hungriestByLooking_0 11 rfl rfl)
theorem dX0_hungriestByLooking_12 : decode cX0_hungriestByLooking 12 = .ok (.iconst 1, 1) := dk_4 (dk_at dksX0_hungriestByLooking_0 12 rfl rfl)
theorem dX0_hungriestByLooking_13 : decode cX0_hungriestByLooking 13 = .ok (.ireturn, 1) := dk_172 (dk_at dksX0_hungriestByLooking_0 13 rfl rfl)
theorem dX0_hungriestByLooking_14 : decode cX0_hungriestByLooking 14 = .ok (.iconst 0, 1) := dk_3 (dk_at dksX0_hungriestByLooking_0 14 rfl rfl)
theorem dX0_hungriestByLooking_15 : decode cX0_hungriestByLooking 15 = .ok (.ireturn, 1) := dk_172 (dk_at dksX0_hungriestByLooking_0 15 rfl rfl)
abbrev cX0_isCovered : ByteArray := method_24_code
def yX0_isCovered : MethodName := ⟨RX0, "isCovered", "(LLionGate;II[J)I"⟩
def dkwX0_isCovered_1 : List UInt8 := [3, 172]
abbrev dktX0_isCovered_1 : List UInt8 := dkwX0_isCovered_1 ++ []
def dkwX0_isCovered_0 : List UInt8 := [45, 3, 42, 27, 28, 182, 0, 87, 153, 0, 7, 10, 167, 0, 4, 9, 80, 167, 0, 7, 58, 4, 4, 172]
abbrev dktX0_isCovered_0 : List UInt8 := dkwX0_isCovered_0 ++ dktX0_isCovered_1
theorem dksX0_isCovered_0 : cX0_isCovered.data.toList.drop 0 = dktX0_isCovered_0 := by decide +kernel
theorem dksX0_isCovered_1 : cX0_isCovered.data.toList.drop 24 = dktX0_isCovered_1 := dk_seg dksX0_isCovered_0 24 rfl rfl
theorem dX0_isCovered_0 : decode cX0_isCovered 0 = .ok (.aload_n 3, 1) := dk_45 (dk_at dksX0_isCovered_0 0 rfl rfl)
theorem dX0_isCovered_1 : decode cX0_isCovered 1 = .ok (.iconst 0, 1) := dk_3 (dk_at dksX0_isCovered_0 1 rfl rfl)
theorem dX0_isCovered_2 : decode cX0_isCovered 2 = .ok (.aload_n 0, 1) := dk_42 (dk_at dksX0_isCovered_0 2 rfl rfl)
theorem dX0_isCovered_3 : decode cX0_isCovered 3 = .ok (.iload_n 1, 1) := dk_27 (dk_at dksX0_isCovered_0 3 rfl rfl)
theorem dX0_isCovered_4 : decode cX0_isCovered 4 = .ok (.iload_n 2, 1) := dk_28 (dk_at dksX0_isCovered_0 4 rfl rfl)
theorem dX0_isCovered_5 : decode cX0_isCovered 5 = .ok (.invokevirtual 87, 3) := dk_182 0 87 (dk_at dksX0_isCovered_0 5 rfl rfl)
theorem dX0_isCovered_8 : decode cX0_isCovered 8 = .ok (.ifCond .eq 7, 3) := dk_153 0 7 (dk_at dksX0_isCovered_0 8 rfl rfl)
theorem dX0_isCovered_11 : decode cX0_isCovered 11 = .ok (.lconst 1, 1) := dk_10 (dk_at dksX0_isCovered_0 11 rfl rfl)
theorem dX0_isCovered_12 : decode cX0_isCovered 12 = .ok (.goto 4, 3) := dk_167 0 4 (dk_at dksX0_isCovered_0 12 rfl rfl)
theorem dX0_isCovered_15 : decode cX0_isCovered 15 = .ok (.lconst 0, 1) := dk_9 (dk_at dksX0_isCovered_0 15 rfl rfl)
theorem dX0_isCovered_16 : decode cX0_isCovered 16 = .ok (.lastore, 1) := dk_80 (dk_at dksX0_isCovered_0 16 rfl rfl)
theorem dX0_isCovered_17 : decode cX0_isCovered 17 = .ok (.goto 7, 3) := dk_167 0 7 (dk_at dksX0_isCovered_0 17 rfl rfl)
theorem dX0_isCovered_20 : decode cX0_isCovered 20 = .ok (.astore 4, 2) := dk_58 4 (dk_at dksX0_isCovered_0 20 rfl rfl)
theorem dX0_isCovered_22 : decode cX0_isCovered 22 = .ok (.iconst 1, 1) := dk_4 (dk_at dksX0_isCovered_0 22 rfl rfl)
theorem dX0_isCovered_23 : decode cX0_isCovered 23 = .ok (.ireturn, 1) := dk_172 (dk_at dksX0_isCovered_0 23 rfl rfl)
theorem dX0_isCovered_24 : decode cX0_isCovered 24 = .ok (.iconst 0, 1) := dk_3 (dk_at dksX0_isCovered_1 0 rfl rfl)
theorem dX0_isCovered_25 : decode cX0_isCovered 25 = .ok (.ireturn, 1) := dk_172 (dk_at dksX0_isCovered_1 1 rfl rfl)
abbrev cX1_ticketWith : ByteArray := prog_1_method_34_code
def yX1_ticketWith : MethodName := ⟨RX1, "ticketWith", "(I)LLionGate$Ticket;"⟩
def dkwX1_ticketWith_1 : List UInt8 := [184, 0, 246, 27, 185, 0, 39, 2, 0, 192, 0, 43, 176]
abbrev dktX1_ticketWith_1 : List UInt8 := dkwX1_ticketWith_1 ++ []
def dkwX1_ticketWith_0 : List UInt8 := [27, 3, 42, 180, 0, 66, 180, 0, 238, 4, 100, 184, 0, 193, 184, 0, 164, 42, 180, 0, 66, 180, 0, 243]
abbrev dktX1_ticketWith_0 : List UInt8 := dkwX1_ticketWith_0 ++ dktX1_ticketWith_1
theorem dksX1_ticketWith_0 : cX1_ticketWith.data.toList.drop 0 = dktX1_ticketWith_0 := by decide +kernel
theorem dksX1_ticketWith_1 : cX1_ticketWith.data.toList.drop 24 = dktX1_ticketWith_1 := dk_seg dksX1_ticketWith_0 24 rfl rfl
theorem dX1_ticketWith_0 : decode cX1_ticketWith 0 = .ok (.iload_n 1, 1) := dk_27 (dk_at dksX1_ticketWith_0 0 rfl rfl)
theorem dX1_ticketWith_1 : decode cX1_ticketWith 1 = .ok (.iconst 0, 1) := dk_3 (dk_at dksX1_ticketWith_0 1 rfl rfl)
theorem dX1_ticketWith_2 : decode cX1_ticketWith 2 = .ok (.aload_n 0, 1) := dk_42 (dk_at dksX1_ticketWith_0 2 rfl rfl)
theorem dX1_ticketWith_3 : decode cX1_ticketWith 3 = .ok (.getfield 66, 3) := dk_180 0 66 (dk_at dksX1_ticketWith_0 3 rfl rfl)
theorem dX1_ticketWith_6 : decode cX1_ticketWith 6 = .ok (.getfield 238, 3) := dk_180 0 238 (dk_at dksX1_ticketWith_0 6 rfl rfl)
theorem dX1_ticketWith_9 : decode cX1_ticketWith 9 = .ok (.iconst 1, 1) := dk_4 (dk_at dksX1_ticketWith_0 9 rfl rfl)
theorem dX1_ticketWith_10 : decode cX1_ticketWith 10 = .ok (.isub, 1) := dk_100 (dk_at dksX1_ticketWith_0 10 rfl rfl)
theorem dX1_ticketWith_11 : decode cX1_ticketWith 11 = .ok (.invokestatic 193, 3) := dk_184 0 193 (dk_at dksX1_ticketWith_0 11 rfl rfl)
theorem dX1_ticketWith_14 : decode cX1_ticketWith 14 = .ok (.invokestatic 164, 3) := dk_184 0 164 (dk_at dksX1_ticketWith_0 14 rfl rfl)
theorem dX1_ticketWith_17 : decode cX1_ticketWith 17 = .ok (.aload_n 0, 1) := dk_42 (dk_at dksX1_ticketWith_0 17 rfl rfl)
theorem dX1_ticketWith_18 : decode cX1_ticketWith 18 = .ok (.getfield 66, 3) := dk_180 0 66 (dk_at dksX1_ticketWith_0 18 rfl rfl)
theorem dX1_ticketWith_21 : decode cX1_ticketWith 21 = .ok (.getfield 243, 3) := dk_180 0 243 (dk_at dksX1_ticketWith_0 21 rfl rfl)
theorem dX1_ticketWith_24 : decode cX1_ticketWith 24 = .ok (.invokestatic 246, 3) := dk_184 0 246 (dk_at dksX1_ticketWith_1 0 rfl rfl)
theorem dX1_ticketWith_27 : decode cX1_ticketWith 27 = .ok (.iload_n 1, 1) := dk_27 (dk_at dksX1_ticketWith_1 3 rfl rfl)
theorem dX1_ticketWith_28 : decode cX1_ticketWith 28 = .ok (.invokeinterface 39 2, 5) := by decide +kernel
theorem dX1_ticketWith_33 : decode cX1_ticketWith 33 = .ok (.checkcast 43, 3) := dk_192 0 43 (dk_at dksX1_ticketWith_1 9 rfl rfl)
theorem dX1_ticketWith_36 : decode cX1_ticketWith 36 = .ok (.areturn, 1) := dk_176 (dk_at dksX1_ticketWith_1 12 rfl rfl)
abbrev cX1_isStaleAtRank : ByteArray := prog_1_method_36_code
def yX1_isStaleAtRank : MethodName := ⟨RX1, "isStaleAtRank", "(I)Z"⟩
def dkwX1_isStaleAtRank_0 : List UInt8 := [42, 180, 0, 66, 42, 27, 182, 0, 250, 182, 0, 254, 154, 0, 7, 4, 167, 0, 4, 3, 172]
abbrev dktX1_isStaleAtRank_0 : List UInt8 := dkwX1_isStaleAtRank_0 ++ []
theorem dksX1_isStaleAtRank_0 : cX1_isStaleAtRank.data.toList.drop 0 = dktX1_isStaleAtRank_0 := by decide +kernel
theorem dX1_isStaleAtRank_0 : decode cX1_isStaleAtRank 0 = .ok (.aload_n 0, 1) := dk_42 (dk_at dksX1_isStaleAtRank_0 0 rfl rfl)
theorem dX1_isStaleAtRank_1 : decode cX1_isStaleAtRank 1 = .ok (.getfield 66, 3) := dk_180 0 66 (dk_at dksX1_isStaleAtRank_0 1 rfl rfl)
theorem dX1_isStaleAtRank_4 : decode cX1_isStaleAtRank 4 = .ok (.aload_n 0, 1) := dk_42 (dk_at dksX1_isStaleAtRank_0 4 rfl rfl)
theorem dX1_isStaleAtRank_5 : decode cX1_isStaleAtRank 5 = .ok (.iload_n 1, 1) := dk_27 (dk_at dksX1_isStaleAtRank_0 5 rfl rfl)
theorem dX1_isStaleAtRank_6 : decode cX1_isStaleAtRank 6 = .ok (.invokevirtual 250, 3) := dk_182 0 250 (dk_at dksX1_isStaleAtRank_0 6 rfl rfl)
theorem dX1_isStaleAtRank_9 : decode cX1_isStaleAtRank 9 = .ok (.invokevirtual 254, 3) := dk_182 0 254 (dk_at dksX1_isStaleAtRank_0 9 rfl rfl)
theorem dX1_isStaleAtRank_12 : decode cX1_isStaleAtRank 12 = .ok (.ifCond .ne 7, 3) := dk_154 0 7 (dk_at dksX1_isStaleAtRank_0 12 rfl rfl)
theorem dX1_isStaleAtRank_15 : decode cX1_isStaleAtRank 15 = .ok (.iconst 1, 1) := dk_4 (dk_at dksX1_isStaleAtRank_0 15 rfl rfl)
theorem dX1_isStaleAtRank_16 : decode cX1_isStaleAtRank 16 = .ok (.goto 4, 3) := dk_167 0 4 (dk_at dksX1_isStaleAtRank_0 16 rfl rfl)
theorem dX1_isStaleAtRank_19 : decode cX1_isStaleAtRank 19 = .ok (.iconst 0, 1) := dk_3 (dk_at dksX1_isStaleAtRank_0 19 rfl rfl)
theorem dX1_isStaleAtRank_20 : decode cX1_isStaleAtRank 20 = .ok (.ireturn, 1) := dk_172 (dk_at dksX1_isStaleAtRank_0 20 rfl rfl)
abbrev cX0_isStaleAtRank : ByteArray := method_20_code
def yX0_isStaleAtRank : MethodName := ⟨RX0, "isStaleAtRank", "(LLionGate;I[J)I"⟩
def dkwX0_isStaleAtRank_0 : List UInt8 := [44, 3, 42, 27, 182, 0, 74, 153, 0, 7, 10, 167, 0, 4, 9, 80, 167, 0, 6, 78, 4, 172, 3, 172]
abbrev dktX0_isStaleAtRank_0 : List UInt8 := dkwX0_isStaleAtRank_0 ++ []
theorem dksX0_isStaleAtRank_0 : cX0_isStaleAtRank.data.toList.drop 0 = dktX0_isStaleAtRank_0 := by decide +kernel
theorem dX0_isStaleAtRank_0 : decode cX0_isStaleAtRank 0 = .ok (.aload_n 2, 1) := dk_44 (dk_at dksX0_isStaleAtRank_0 0 rfl rfl)
theorem dX0_isStaleAtRank_1 : decode cX0_isStaleAtRank 1 = .ok (.iconst 0, 1) := dk_3 (dk_at dksX0_isStaleAtRank_0 1 rfl rfl)
theorem dX0_isStaleAtRank_2 : decode cX0_isStaleAtRank 2 = .ok (.aload_n 0, 1) := dk_42 (dk_at dksX0_isStaleAtRank_0 2 rfl rfl)
theorem dX0_isStaleAtRank_3 : decode cX0_isStaleAtRank 3 = .ok (.iload_n 1, 1) := dk_27 (dk_at dksX0_isStaleAtRank_0 3 rfl rfl)
theorem dX0_isStaleAtRank_4 : decode cX0_isStaleAtRank 4 = .ok (.invokevirtual 74, 3) := dk_182 0 74 (dk_at dksX0_isStaleAtRank_0 4 rfl rfl)
theorem dX0_isStaleAtRank_7 : decode cX0_isStaleAtRank 7 = .ok (.ifCond .eq 7, 3) := dk_153 0 7 (dk_at dksX0_isStaleAtRank_0 7 rfl rfl)
theorem dX0_isStaleAtRank_10 : decode cX0_isStaleAtRank 10 = .ok (.lconst 1, 1) := dk_10 (dk_at dksX0_isStaleAtRank_0 10 rfl rfl)
theorem dX0_isStaleAtRank_11 : decode cX0_isStaleAtRank 11 = .ok (.goto 4, 3) := dk_167 0 4 (dk_at dksX0_isStaleAtRank_0 11 rfl rfl)
theorem dX0_isStaleAtRank_14 : decode cX0_isStaleAtRank 14 = .ok (.lconst 0, 1) := dk_9 (dk_at dksX0_isStaleAtRank_0 14 rfl rfl)
theorem dX0_isStaleAtRank_15 : decode cX0_isStaleAtRank 15 = .ok (.lastore, 1) := dk_80 (dk_at dksX0_isStaleAtRank_0 15 rfl rfl)
theorem dX0_isStaleAtRank_16 : decode cX0_isStaleAtRank 16 = .ok (.goto 6, 3) := dk_167 0 6 (dk_at dksX0_isStaleAtRank_0 16 rfl rfl)
theorem dX0_isStaleAtRank_19 : decode cX0_isStaleAtRank 19 = .ok (.astore_n 3, 1) := dk_78 (dk_at dksX0_isStaleAtRank_0 19 rfl rfl)
theorem dX0_isStaleAtRank_20 : decode cX0_isStaleAtRank 20 = .ok (.iconst 1, 1) := dk_4 (dk_at dksX0_isStaleAtRank_0 20 rfl rfl)
theorem dX0_isStaleAtRank_21 : decode cX0_isStaleAtRank 21 = .ok (.ireturn, 1) := dk_172 (dk_at dksX0_isStaleAtRank_0 21 rfl rfl)
theorem dX0_isStaleAtRank_22 : decode cX0_isStaleAtRank 22 = .ok (.iconst 0, 1) := dk_3 (dk_at dksX0_isStaleAtRank_0 22 rfl rfl)
theorem dX0_isStaleAtRank_23 : decode cX0_isStaleAtRank 23 = .ok (.ireturn, 1) := dk_172 (dk_at dksX0_isStaleAtRank_0 23 rfl rfl)
abbrev cX1_divisor : ByteArray := prog_1_method_55_code
def yX1_divisor : MethodName := ⟨RX1, "divisor", "(I)I"⟩
def dkwX1_divisor_0 : List UInt8 := [26, 154, 0, 11, 187, 1, 90, 89, 183, 1, 92, 191, 26, 172]
abbrev dktX1_divisor_0 : List UInt8 := dkwX1_divisor_0 ++ []
theorem dksX1_divisor_0 : cX1_divisor.data.toList.drop 0 = dktX1_divisor_0 := by decide +kernel
theorem dX1_divisor_0 : decode cX1_divisor 0 = .ok (.iload_n 0, 1) := dk_26 (dk_at dksX1_divisor_0 0 rfl rfl)
theorem dX1_divisor_1 : decode cX1_divisor 1 = .ok (.ifCond .ne 11, 3) := dk_154 0 11 (dk_at dksX1_divisor_0 1 rfl rfl)
theorem dX1_divisor_4 : decode cX1_divisor 4 = .ok (.new 346, 3) := dk_187 1 90 (dk_at dksX1_divisor_0 4 rfl rfl)
theorem dX1_divisor_7 : decode cX1_divisor 7 = .ok (.dup, 1) := dk_89 (dk_at dksX1_divisor_0 7 rfl rfl)
theorem dX1_divisor_8 : decode cX1_divisor 8 = .ok (.invokespecial 348, 3) := dk_183 1 92 (dk_at dksX1_divisor_0 8 rfl rfl)
theorem dX1_divisor_11 : decode cX1_divisor 11 = .ok (.athrow, 1) := dk_191 (dk_at dksX1_divisor_0 11 rfl rfl)
theorem dX1_divisor_12 : decode cX1_divisor 12 = .ok (.iload_n 0, 1) := dk_26 (dk_at dksX1_divisor_0 12 rfl rfl)
theorem dX1_divisor_13 : decode cX1_divisor 13 = .ok (.ireturn, 1) := dk_172 (dk_at dksX1_divisor_0 13 rfl rfl)
abbrev cX1_lateShare : ByteArray := prog_1_method_57_code
def yX1_lateShare : MethodName := ⟨RX1, "lateShare", "()F"⟩
def dkwX1_lateShare_0 : List UInt8 := [42, 180, 0, 66, 180, 1, 72, 184, 1, 93, 60, 42, 180, 0, 66, 180, 1, 75, 134, 27, 134, 110, 174]
abbrev dktX1_lateShare_0 : List UInt8 := dkwX1_lateShare_0 ++ []
theorem dksX1_lateShare_0 : cX1_lateShare.data.toList.drop 0 = dktX1_lateShare_0 := by decide +kernel
theorem dX1_lateShare_0 : decode cX1_lateShare 0 = .ok (.aload_n 0, 1) := dk_42 (dk_at dksX1_lateShare_0 0 rfl rfl)
theorem dX1_lateShare_1 : decode cX1_lateShare 1 = .ok (.getfield 66, 3) := dk_180 0 66 (dk_at dksX1_lateShare_0 1 rfl rfl)
theorem dX1_lateShare_4 : decode cX1_lateShare 4 = .ok (.getfield 328, 3) := dk_180 1 72 (dk_at dksX1_lateShare_0 4 rfl rfl)
theorem dX1_lateShare_7 : decode cX1_lateShare 7 = .ok (.invokestatic 349, 3) := dk_184 1 93 (dk_at dksX1_lateShare_0 7 rfl rfl)
theorem dX1_lateShare_10 : decode cX1_lateShare 10 = .ok (.istore_n 1, 1) := dk_60 (dk_at dksX1_lateShare_0 10 rfl rfl)
theorem dX1_lateShare_11 : decode cX1_lateShare 11 = .ok (.aload_n 0, 1) := dk_42 (dk_at dksX1_lateShare_0 11 rfl rfl)
theorem dX1_lateShare_12 : decode cX1_lateShare 12 = .ok (.getfield 66, 3) := dk_180 0 66 (dk_at dksX1_lateShare_0 12 rfl rfl)
theorem dX1_lateShare_15 : decode cX1_lateShare 15 = .ok (.getfield 331, 3) := dk_180 1 75 (dk_at dksX1_lateShare_0 15 rfl rfl)
theorem dX1_lateShare_18 : decode cX1_lateShare 18 = .ok (.i2f, 1) := dk_134 (dk_at dksX1_lateShare_0 18 rfl rfl)
theorem dX1_lateShare_19 : decode cX1_lateShare 19 = .ok (.iload_n 1, 1) := dk_27 (dk_at dksX1_lateShare_0 19 rfl rfl)
theorem dX1_lateShare_20 : decode cX1_lateShare 20 = .ok (.i2f, 1) := dk_134 (dk_at dksX1_lateShare_0 20 rfl rfl)
theorem dX1_lateShare_21 : decode cX1_lateShare 21 = .ok (.fdiv, 1) := dk_110 (dk_at dksX1_lateShare_0 21 rfl rfl)
theorem dX1_lateShare_22 : decode cX1_lateShare 22 = .ok (.freturn, 1) := dk_174 (dk_at dksX1_lateShare_0 22 rfl rfl)
abbrev cX0_lateShare : ByteArray := method_28_code
def yX0_lateShare : MethodName := ⟨RX0, "lateShare", "(LLionGate;[D)I"⟩
def dkwX0_lateShare_0 : List UInt8 := [43, 3, 42, 182, 0, 103, 141, 82, 167, 0, 6, 77, 4, 172, 3, 172]
abbrev dktX0_lateShare_0 : List UInt8 := dkwX0_lateShare_0 ++ []
theorem dksX0_lateShare_0 : cX0_lateShare.data.toList.drop 0 = dktX0_lateShare_0 := by decide +kernel
theorem dX0_lateShare_0 : decode cX0_lateShare 0 = .ok (.aload_n 1, 1) := dk_43 (dk_at dksX0_lateShare_0 0 rfl rfl)
theorem dX0_lateShare_1 : decode cX0_lateShare 1 = .ok (.iconst 0, 1) := dk_3 (dk_at dksX0_lateShare_0 1 rfl rfl)
theorem dX0_lateShare_2 : decode cX0_lateShare 2 = .ok (.aload_n 0, 1) := dk_42 (dk_at dksX0_lateShare_0 2 rfl rfl)
theorem dX0_lateShare_3 : decode cX0_lateShare 3 = .ok (.invokevirtual 103, 3) := dk_182 0 103 (dk_at dksX0_lateShare_0 3 rfl rfl)
theorem dX0_lateShare_6 : decode cX0_lateShare 6 = .ok (.f2d, 1) := dk_141 (dk_at dksX0_lateShare_0 6 rfl rfl)
theorem dX0_lateShare_7 : decode cX0_lateShare 7 = .ok (.dastore, 1) := dk_82 (dk_at dksX0_lateShare_0 7 rfl rfl)
theorem dX0_lateShare_8 : decode cX0_lateShare 8 = .ok (.goto 6, 3) := dk_167 0 6 (dk_at dksX0_lateShare_0 8 rfl rfl)
theorem dX0_lateShare_11 : decode cX0_lateShare 11 = .ok (.astore_n 2, 1) := dk_77 (dk_at dksX0_lateShare_0 11 rfl rfl)
theorem dX0_lateShare_12 : decode cX0_lateShare 12 = .ok (.iconst 1, 1) := dk_4 (dk_at dksX0_lateShare_0 12 rfl rfl)
theorem dX0_lateShare_13 : decode cX0_lateShare 13 = .ok (.ireturn, 1) := dk_172 (dk_at dksX0_lateShare_0 13 rfl rfl)
theorem dX0_lateShare_14 : decode cX0_lateShare 14 = .ok (.iconst 0, 1) := dk_3 (dk_at dksX0_lateShare_0 14 rfl rfl)
theorem dX0_lateShare_15 : decode cX0_lateShare 15 = .ok (.ireturn, 1) := dk_172 (dk_at dksX0_lateShare_0 15 rfl rfl)
abbrev cX1_leave : ByteArray := prog_1_method_10_code
def yX1_leave : MethodName := ⟨RX1, "leave", "(I)I"⟩
def dkwX1_leave_0 : List UInt8 := [42, 18, 137, 4, 188, 10, 89, 3, 27, 79, 182, 0, 129, 172]
abbrev dktX1_leave_0 : List UInt8 := dkwX1_leave_0 ++ []
theorem dksX1_leave_0 : cX1_leave.data.toList.drop 0 = dktX1_leave_0 := by decide +kernel
theorem dX1_leave_0 : decode cX1_leave 0 = .ok (.aload_n 0, 1) := dk_42 (dk_at dksX1_leave_0 0 rfl rfl)
theorem dX1_leave_1 : decode cX1_leave 1 = .ok (.ldc 137, 2) := dk_18 137 (dk_at dksX1_leave_0 1 rfl rfl)
theorem dX1_leave_3 : decode cX1_leave 3 = .ok (.iconst 1, 1) := dk_4 (dk_at dksX1_leave_0 3 rfl rfl)
theorem dX1_leave_4 : decode cX1_leave 4 = .ok (.newarray .int, 2) := dk_188_10 (dk_at dksX1_leave_0 4 rfl rfl)
theorem dX1_leave_6 : decode cX1_leave 6 = .ok (.dup, 1) := dk_89 (dk_at dksX1_leave_0 6 rfl rfl)
theorem dX1_leave_7 : decode cX1_leave 7 = .ok (.iconst 0, 1) := dk_3 (dk_at dksX1_leave_0 7 rfl rfl)
theorem dX1_leave_8 : decode cX1_leave 8 = .ok (.iload_n 1, 1) := dk_27 (dk_at dksX1_leave_0 8 rfl rfl)
theorem dX1_leave_9 : decode cX1_leave 9 = .ok (.iastore, 1) := dk_79 (dk_at dksX1_leave_0 9 rfl rfl)
theorem dX1_leave_10 : decode cX1_leave 10 = .ok (.invokevirtual 129, 3) := dk_182 0 129 (dk_at dksX1_leave_0 10 rfl rfl)
theorem dX1_leave_13 : decode cX1_leave 13 = .ok (.ireturn, 1) := dk_172 (dk_at dksX1_leave_0 13 rfl rfl)
abbrev cX0_leave : ByteArray := method_6_code
def yX0_leave : MethodName := ⟨RX0, "leave", "(LLionGate;I[J)I"⟩
def dkwX0_leave_0 : List UInt8 := [44, 3, 42, 27, 182, 0, 26, 133, 80, 167, 0, 6, 78, 4, 172, 3, 172]
abbrev dktX0_leave_0 : List UInt8 := dkwX0_leave_0 ++ []
theorem dksX0_leave_0 : cX0_leave.data.toList.drop 0 = dktX0_leave_0 := by decide +kernel
theorem dX0_leave_0 : decode cX0_leave 0 = .ok (.aload_n 2, 1) := dk_44 (dk_at dksX0_leave_0 0 rfl rfl)
theorem dX0_leave_1 : decode cX0_leave 1 = .ok (.iconst 0, 1) := dk_3 (dk_at dksX0_leave_0 1 rfl rfl)
theorem dX0_leave_2 : decode cX0_leave 2 = .ok (.aload_n 0, 1) := dk_42 (dk_at dksX0_leave_0 2 rfl rfl)
theorem dX0_leave_3 : decode cX0_leave 3 = .ok (.iload_n 1, 1) := dk_27 (dk_at dksX0_leave_0 3 rfl rfl)
theorem dX0_leave_4 : decode cX0_leave 4 = .ok (.invokevirtual 26, 3) := dk_182 0 26 (dk_at dksX0_leave_0 4 rfl rfl)
theorem dX0_leave_7 : decode cX0_leave 7 = .ok (.i2l, 1) := dk_133 (dk_at dksX0_leave_0 7 rfl rfl)
theorem dX0_leave_8 : decode cX0_leave 8 = .ok (.lastore, 1) := dk_80 (dk_at dksX0_leave_0 8 rfl rfl)
theorem dX0_leave_9 : decode cX0_leave 9 = .ok (.goto 6, 3) := dk_167 0 6 (dk_at dksX0_leave_0 9 rfl rfl)
theorem dX0_leave_12 : decode cX0_leave 12 = .ok (.astore_n 3, 1) := dk_78 (dk_at dksX0_leave_0 12 rfl rfl)
theorem dX0_leave_13 : decode cX0_leave 13 = .ok (.iconst 1, 1) := dk_4 (dk_at dksX0_leave_0 13 rfl rfl)
theorem dX0_leave_14 : decode cX0_leave 14 = .ok (.ireturn, 1) := dk_172 (dk_at dksX0_leave_0 14 rfl rfl)
theorem dX0_leave_15 : decode cX0_leave 15 = .ok (.iconst 0, 1) := dk_3 (dk_at dksX0_leave_0 15 rfl rfl)
theorem dX0_leave_16 : decode cX0_leave 16 = .ok (.ireturn, 1) := dk_172 (dk_at dksX0_leave_0 16 rfl rfl)
abbrev cJ27_intValue : ByteArray := prog_31_method_27_code
def yJ27_intValue : MethodName := ⟨RJ27, "intValue", "()I"⟩
theorem dJ27_intValue_0 : decode cJ27_intValue 0 = .ok (.aload_n 0, 1) := by decide +kernel
theorem dJ27_intValue_1 : decode cJ27_intValue 1 = .ok (.getfield 205, 3) := by decide +kernel
theorem dJ27_intValue_4 : decode cJ27_intValue 4 = .ok (.ireturn, 1) := by decide +kernel
abbrev cJ48_init : ByteArray := prog_56_method_1_code
def yJ48_init : MethodName := ⟨RJ48, "<init>", "()V"⟩
theorem dJ48_init_0 : decode cJ48_init 0 = .ok (.aload_n 0, 1) := by decide +kernel
theorem dJ48_init_1 : decode cJ48_init 1 = .ok (.invokespecial 1, 3) := by decide +kernel
theorem dJ48_init_4 : decode cJ48_init 4 = .ok (.return_, 1) := by decide +kernel
abbrev cJ51_init : ByteArray := prog_101_method_1_code
def yJ51_init : MethodName := ⟨RJ51, "<init>", "(Ljava/util/NavigableMap;)V"⟩
def dkwJ51_init_0 : List UInt8 := [42, 183, 0, 1, 42, 43, 181, 0, 7, 177]
abbrev dktJ51_init_0 : List UInt8 := dkwJ51_init_0 ++ []
theorem dksJ51_init_0 : cJ51_init.data.toList.drop 0 = dktJ51_init_0 := by decide +kernel
theorem dJ51_init_0 : decode cJ51_init 0 = .ok (.aload_n 0, 1) := dk_42 (dk_at dksJ51_init_0 0 rfl rfl)
theorem dJ51_init_1 : decode cJ51_init 1 = .ok (.invokespecial 1, 3) := dk_183 0 1 (dk_at dksJ51_init_0 1 rfl rfl)
theorem dJ51_init_4 : decode cJ51_init 4 = .ok (.aload_n 0, 1) := dk_42 (dk_at dksJ51_init_0 4 rfl rfl)
theorem dJ51_init_5 : decode cJ51_init 5 = .ok (.aload_n 1, 1) := dk_43 (dk_at dksJ51_init_0 5 rfl rfl)
theorem dJ51_init_6 : decode cJ51_init 6 = .ok (.putfield 7, 3) := dk_181 0 7 (dk_at dksJ51_init_0 6 rfl rfl)
theorem dJ51_init_9 : decode cJ51_init 9 = .ok (.return_, 1) := dk_177 (dk_at dksJ51_init_0 9 rfl rfl)
abbrev cJ1_navigableKeySet : ByteArray := prog_96_method_50_code
def yJ1_navigableKeySet : MethodName := ⟨RJ1, "navigableKeySet", "()Ljava/util/NavigableSet;"⟩
def dkwJ1_navigableKeySet_1 : List UInt8 := [181, 0, 191, 176]
abbrev dktJ1_navigableKeySet_1 : List UInt8 := dkwJ1_navigableKeySet_1 ++ []
def dkwJ1_navigableKeySet_0 : List UInt8 := [42, 180, 0, 191, 76, 43, 198, 0, 7, 43, 167, 0, 16, 42, 187, 0, 222, 89, 42, 183, 0, 224, 90]
abbrev dktJ1_navigableKeySet_0 : List UInt8 := dkwJ1_navigableKeySet_0 ++ dktJ1_navigableKeySet_1
theorem dksJ1_navigableKeySet_0 : cJ1_navigableKeySet.data.toList.drop 0 = dktJ1_navigableKeySet_0 := by decide +kernel
theorem dksJ1_navigableKeySet_1 : cJ1_navigableKeySet.data.toList.drop 23 = dktJ1_navigableKeySet_1 := dk_seg dksJ1_navigableKeySet_0 23 rfl rfl
theorem dJ1_navigableKeySet_0 : decode cJ1_navigableKeySet 0 = .ok (.aload_n 0, 1) := dk_42 (dk_at dksJ1_navigableKeySet_0 0 rfl rfl)
theorem dJ1_navigableKeySet_1 : decode cJ1_navigableKeySet 1 = .ok (.getfield 191, 3) := dk_180 0 191 (dk_at dksJ1_navigableKeySet_0 1 rfl rfl)
theorem dJ1_navigableKeySet_4 : decode cJ1_navigableKeySet 4 = .ok (.astore_n 1, 1) := dk_76 (dk_at dksJ1_navigableKeySet_0 4 rfl rfl)
theorem dJ1_navigableKeySet_5 : decode cJ1_navigableKeySet 5 = .ok (.aload_n 1, 1) := dk_43 (dk_at dksJ1_navigableKeySet_0 5 rfl rfl)
theorem dJ1_navigableKeySet_6 : decode cJ1_navigableKeySet 6 = .ok (.ifnull 7, 3) := dk_198 0 7 (dk_at dksJ1_navigableKeySet_0 6 rfl rfl)
theorem dJ1_navigableKeySet_9 : decode cJ1_navigableKeySet 9 = .ok (.aload_n 1, 1) := dk_43 (dk_at dksJ1_navigableKeySet_0 9 rfl rfl)
theorem dJ1_navigableKeySet_10 : decode cJ1_navigableKeySet 10 = .ok (.goto 16, 3) := dk_167 0 16 (dk_at dksJ1_navigableKeySet_0 10 rfl rfl)
theorem dJ1_navigableKeySet_13 : decode cJ1_navigableKeySet 13 = .ok (.aload_n 0, 1) := dk_42 (dk_at dksJ1_navigableKeySet_0 13 rfl rfl)
theorem dJ1_navigableKeySet_14 : decode cJ1_navigableKeySet 14 = .ok (.new 222, 3) := dk_187 0 222 (dk_at dksJ1_navigableKeySet_0 14 rfl rfl)
theorem dJ1_navigableKeySet_17 : decode cJ1_navigableKeySet 17 = .ok (.dup, 1) := dk_89 (dk_at dksJ1_navigableKeySet_0 17 rfl rfl)
theorem dJ1_navigableKeySet_18 : decode cJ1_navigableKeySet 18 = .ok (.aload_n 0, 1) := dk_42 (dk_at dksJ1_navigableKeySet_0 18 rfl rfl)
theorem dJ1_navigableKeySet_19 : decode cJ1_navigableKeySet 19 = .ok (.invokespecial 224, 3) := dk_183 0 224 (dk_at dksJ1_navigableKeySet_0 19 rfl rfl)
theorem dJ1_navigableKeySet_22 : decode cJ1_navigableKeySet 22 = .ok (.dup_x1, 1) := dk_90 (dk_at dksJ1_navigableKeySet_0 22 rfl rfl)
theorem dJ1_navigableKeySet_23 : decode cJ1_navigableKeySet 23 = .ok (.putfield 191, 3) := dk_181 0 191 (dk_at dksJ1_navigableKeySet_1 0 rfl rfl)
theorem dJ1_navigableKeySet_26 : decode cJ1_navigableKeySet 26 = .ok (.areturn, 1) := dk_176 (dk_at dksJ1_navigableKeySet_1 3 rfl rfl)
abbrev cJ1_keySet : ByteArray := prog_96_method_49_code
def yJ1_keySet : MethodName := ⟨RJ1, "keySet", "()Ljava/util/Set;"⟩
theorem dJ1_keySet_0 : decode cJ1_keySet 0 = .ok (.aload_n 0, 1) := by decide +kernel
theorem dJ1_keySet_1 : decode cJ1_keySet 1 = .ok (.invokevirtual 219, 3) := by decide +kernel
theorem dJ1_keySet_4 : decode cJ1_keySet 4 = .ok (.areturn, 1) := by decide +kernel
abbrev cX1_lionAt : ByteArray := prog_1_method_24_code
def yX1_lionAt : MethodName := ⟨RX1, "lionAt", "(I)I"⟩
def dkwX1_lionAt_1 : List UInt8 := [180, 0, 172, 182, 0, 197, 183, 0, 201, 27, 182, 0, 204, 192, 0, 177, 182, 0, 205, 172]
abbrev dktX1_lionAt_1 : List UInt8 := dkwX1_lionAt_1 ++ []
def dkwX1_lionAt_0 : List UInt8 := [27, 3, 42, 182, 0, 190, 4, 100, 184, 0, 193, 184, 0, 164, 187, 0, 7, 89, 42, 180, 0, 66]
abbrev dktX1_lionAt_0 : List UInt8 := dkwX1_lionAt_0 ++ dktX1_lionAt_1
theorem dksX1_lionAt_0 : cX1_lionAt.data.toList.drop 0 = dktX1_lionAt_0 := by decide +kernel
theorem dksX1_lionAt_1 : cX1_lionAt.data.toList.drop 22 = dktX1_lionAt_1 := dk_seg dksX1_lionAt_0 22 rfl rfl
theorem dX1_lionAt_0 : decode cX1_lionAt 0 = .ok (.iload_n 1, 1) := dk_27 (dk_at dksX1_lionAt_0 0 rfl rfl)
theorem dX1_lionAt_1 : decode cX1_lionAt 1 = .ok (.iconst 0, 1) := dk_3 (dk_at dksX1_lionAt_0 1 rfl rfl)
theorem dX1_lionAt_2 : decode cX1_lionAt 2 = .ok (.aload_n 0, 1) := dk_42 (dk_at dksX1_lionAt_0 2 rfl rfl)
theorem dX1_lionAt_3 : decode cX1_lionAt 3 = .ok (.invokevirtual 190, 3) := dk_182 0 190 (dk_at dksX1_lionAt_0 3 rfl rfl)
theorem dX1_lionAt_6 : decode cX1_lionAt 6 = .ok (.iconst 1, 1) := dk_4 (dk_at dksX1_lionAt_0 6 rfl rfl)
theorem dX1_lionAt_7 : decode cX1_lionAt 7 = .ok (.isub, 1) := dk_100 (dk_at dksX1_lionAt_0 7 rfl rfl)
theorem dX1_lionAt_8 : decode cX1_lionAt 8 = .ok (.invokestatic 193, 3) := dk_184 0 193 (dk_at dksX1_lionAt_0 8 rfl rfl)
theorem dX1_lionAt_11 : decode cX1_lionAt 11 = .ok (.invokestatic 164, 3) := dk_184 0 164 (dk_at dksX1_lionAt_0 11 rfl rfl)
theorem dX1_lionAt_14 : decode cX1_lionAt 14 = .ok (.new 7, 3) := dk_187 0 7 (dk_at dksX1_lionAt_0 14 rfl rfl)
theorem dX1_lionAt_17 : decode cX1_lionAt 17 = .ok (.dup, 1) := dk_89 (dk_at dksX1_lionAt_0 17 rfl rfl)
theorem dX1_lionAt_18 : decode cX1_lionAt 18 = .ok (.aload_n 0, 1) := dk_42 (dk_at dksX1_lionAt_0 18 rfl rfl)
theorem dX1_lionAt_19 : decode cX1_lionAt 19 = .ok (.getfield 66, 3) := dk_180 0 66 (dk_at dksX1_lionAt_0 19 rfl rfl)
theorem dX1_lionAt_22 : decode cX1_lionAt 22 = .ok (.getfield 172, 3) := dk_180 0 172 (dk_at dksX1_lionAt_1 0 rfl rfl)
theorem dX1_lionAt_25 : decode cX1_lionAt 25 = .ok (.invokevirtual 197, 3) := dk_182 0 197 (dk_at dksX1_lionAt_1 3 rfl rfl)
theorem dX1_lionAt_28 : decode cX1_lionAt 28 = .ok (.invokespecial 201, 3) := dk_183 0 201 (dk_at dksX1_lionAt_1 6 rfl rfl)
theorem dX1_lionAt_31 : decode cX1_lionAt 31 = .ok (.iload_n 1, 1) := dk_27 (dk_at dksX1_lionAt_1 9 rfl rfl)
theorem dX1_lionAt_32 : decode cX1_lionAt 32 = .ok (.invokevirtual 204, 3) := dk_182 0 204 (dk_at dksX1_lionAt_1 10 rfl rfl)
theorem dX1_lionAt_35 : decode cX1_lionAt 35 = .ok (.checkcast 177, 3) := dk_192 0 177 (dk_at dksX1_lionAt_1 13 rfl rfl)
theorem dX1_lionAt_38 : decode cX1_lionAt 38 = .ok (.invokevirtual 205, 3) := dk_182 0 205 (dk_at dksX1_lionAt_1 16 rfl rfl)
theorem dX1_lionAt_41 : decode cX1_lionAt 41 = .ok (.ireturn, 1) := dk_172 (dk_at dksX1_lionAt_1 19 rfl rfl)
abbrev cX0_lionAt : ByteArray := method_11_code
def yX0_lionAt : MethodName := ⟨RX0, "lionAt", "(LLionGate;I[J)I"⟩
def dkwX0_lionAt_0 : List UInt8 := [44, 3, 42, 27, 182, 0, 47, 133, 80, 167, 0, 6, 78, 4, 172, 3, 172]
abbrev dktX0_lionAt_0 : List UInt8 := dkwX0_lionAt_0 ++ []
theorem dksX0_lionAt_0 : cX0_lionAt.data.toList.drop 0 = dktX0_lionAt_0 := by decide +kernel
theorem dX0_lionAt_0 : decode cX0_lionAt 0 = .ok (.aload_n 2, 1) := dk_44 (dk_at dksX0_lionAt_0 0 rfl rfl)
theorem dX0_lionAt_1 : decode cX0_lionAt 1 = .ok (.iconst 0, 1) := dk_3 (dk_at dksX0_lionAt_0 1 rfl rfl)
theorem dX0_lionAt_2 : decode cX0_lionAt 2 = .ok (.aload_n 0, 1) := dk_42 (dk_at dksX0_lionAt_0 2 rfl rfl)
theorem dX0_lionAt_3 : decode cX0_lionAt 3 = .ok (.iload_n 1, 1) := dk_27 (dk_at dksX0_lionAt_0 3 rfl rfl)
theorem dX0_lionAt_4 : decode cX0_lionAt 4 = .ok (.invokevirtual 47, 3) := dk_182 0 47 (dk_at dksX0_lionAt_0 4 rfl rfl)
theorem dX0_lionAt_7 : decode cX0_lionAt 7 = .ok (.i2l, 1) := dk_133 (dk_at dksX0_lionAt_0 7 rfl rfl)
theorem dX0_lionAt_8 : decode cX0_lionAt 8 = .ok (.lastore, 1) := dk_80 (dk_at dksX0_lionAt_0 8 rfl rfl)
theorem dX0_lionAt_9 : decode cX0_lionAt 9 = .ok (.goto 6, 3) := dk_167 0 6 (dk_at dksX0_lionAt_0 9 rfl rfl)
theorem dX0_lionAt_12 : decode cX0_lionAt 12 = .ok (.astore_n 3, 1) := dk_78 (dk_at dksX0_lionAt_0 12 rfl rfl)
theorem dX0_lionAt_13 : decode cX0_lionAt 13 = .ok (.iconst 1, 1) := dk_4 (dk_at dksX0_lionAt_0 13 rfl rfl)
theorem dX0_lionAt_14 : decode cX0_lionAt 14 = .ok (.ireturn, 1) := dk_172 (dk_at dksX0_lionAt_0 14 rfl rfl)
theorem dX0_lionAt_15 : decode cX0_lionAt 15 = .ok (.iconst 0, 1) := dk_3 (dk_at dksX0_lionAt_0 15 rfl rfl)
theorem dX0_lionAt_16 : decode cX0_lionAt 16 = .ok (.ireturn, 1) := dk_172 (dk_at dksX0_lionAt_0 16 rfl rfl)
abbrev cX2_lionAt : ByteArray := prog_14_method_22_code
def yX2_lionAt : MethodName := ⟨RX2, "lionAt", "(I)I"⟩
def dkwX2_lionAt_4 : List UInt8 := [54, 4, 167, 255, 209, 21, 4, 27, 160, 0, 8, 45, 180, 0, 48, 172, 167, 255, 159, 2, 172]
abbrev dktX2_lionAt_4 : List UInt8 := dkwX2_lionAt_4 ++ []
def dkwX2_lionAt_3 : List UInt8 := [21, 4, 25, 6, 180, 0, 111, 45, 180, 0, 111, 182, 0, 243, 153, 0, 7, 4, 167, 0, 4, 3, 96]
abbrev dktX2_lionAt_3 : List UInt8 := dkwX2_lionAt_3 ++ dktX2_lionAt_4
def dkwX2_lionAt_2 : List UInt8 := [58, 5, 25, 5, 185, 0, 36, 1, 0, 153, 0, 43, 25, 5, 185, 0, 42, 1, 0, 192, 0, 46, 58, 6]
abbrev dktX2_lionAt_2 : List UInt8 := dkwX2_lionAt_2 ++ dktX2_lionAt_3
def dkwX2_lionAt_1 : List UInt8 := [185, 0, 42, 1, 0, 192, 0, 46, 78, 3, 54, 4, 42, 180, 0, 12, 182, 0, 26, 185, 0, 30, 1, 0]
abbrev dktX2_lionAt_1 : List UInt8 := dkwX2_lionAt_1 ++ dktX2_lionAt_2
def dkwX2_lionAt_0 : List UInt8 := [42, 180, 0, 12, 182, 0, 26, 185, 0, 30, 1, 0, 77, 44, 185, 0, 36, 1, 0, 153, 0, 94, 44]
abbrev dktX2_lionAt_0 : List UInt8 := dkwX2_lionAt_0 ++ dktX2_lionAt_1
theorem dksX2_lionAt_0 : cX2_lionAt.data.toList.drop 0 = dktX2_lionAt_0 := by decide +kernel
theorem dksX2_lionAt_1 : cX2_lionAt.data.toList.drop 23 = dktX2_lionAt_1 := dk_seg dksX2_lionAt_0 23 rfl rfl
theorem dksX2_lionAt_2 : cX2_lionAt.data.toList.drop 47 = dktX2_lionAt_2 := dk_seg dksX2_lionAt_1 24 rfl rfl
theorem dksX2_lionAt_3 : cX2_lionAt.data.toList.drop 71 = dktX2_lionAt_3 := dk_seg dksX2_lionAt_2 24 rfl rfl
theorem dksX2_lionAt_4 : cX2_lionAt.data.toList.drop 94 = dktX2_lionAt_4 := dk_seg dksX2_lionAt_3 23 rfl rfl
theorem dX2_lionAt_0 : decode cX2_lionAt 0 = .ok (.aload_n 0, 1) := dk_42 (dk_at dksX2_lionAt_0 0 rfl rfl)
theorem dX2_lionAt_1 : decode cX2_lionAt 1 = .ok (.getfield 12, 3) := dk_180 0 12 (dk_at dksX2_lionAt_0 1 rfl rfl)
theorem dX2_lionAt_4 : decode cX2_lionAt 4 = .ok (.invokevirtual 26, 3) := dk_182 0 26 (dk_at dksX2_lionAt_0 4 rfl rfl)
theorem dX2_lionAt_7 : decode cX2_lionAt 7 = .ok (.invokeinterface 30 1, 5) := by decide +kernel
theorem dX2_lionAt_12 : decode cX2_lionAt 12 = .ok (.astore_n 2, 1) := dk_77 (dk_at dksX2_lionAt_0 12 rfl rfl)
theorem dX2_lionAt_13 : decode cX2_lionAt 13 = .ok (.aload_n 2, 1) := dk_44 (dk_at dksX2_lionAt_0 13 rfl rfl)
theorem dX2_lionAt_14 : decode cX2_lionAt 14 = .ok (.invokeinterface 36 1, 5) := by decide +kernel
theorem dX2_lionAt_19 : decode cX2_lionAt 19 = .ok (.ifCond .eq 94, 3) := dk_153 0 94 (dk_at dksX2_lionAt_0 19 rfl rfl)
theorem dX2_lionAt_22 : decode cX2_lionAt 22 = .ok (.aload_n 2, 1) := dk_44 (dk_at dksX2_lionAt_0 22 rfl rfl)
theorem dX2_lionAt_23 : decode cX2_lionAt 23 = .ok (.invokeinterface 42 1, 5) := by decide +kernel
theorem dX2_lionAt_28 : decode cX2_lionAt 28 = .ok (.checkcast 46, 3) := dk_192 0 46 (dk_at dksX2_lionAt_1 5 rfl rfl)
theorem dX2_lionAt_31 : decode cX2_lionAt 31 = .ok (.astore_n 3, 1) := dk_78 (dk_at dksX2_lionAt_1 8 rfl rfl)
theorem dX2_lionAt_32 : decode cX2_lionAt 32 = .ok (.iconst 0, 1) := dk_3 (dk_at dksX2_lionAt_1 9 rfl rfl)
theorem dX2_lionAt_33 : decode cX2_lionAt 33 = .ok (.istore 4, 2) := dk_54 4 (dk_at dksX2_lionAt_1 10 rfl rfl)
theorem dX2_lionAt_35 : decode cX2_lionAt 35 = .ok (.aload_n 0, 1) := dk_42 (dk_at dksX2_lionAt_1 12 rfl rfl)
theorem dX2_lionAt_36 : decode cX2_lionAt 36 = .ok (.getfield 12, 3) := dk_180 0 12 (dk_at dksX2_lionAt_1 13 rfl rfl)
theorem dX2_lionAt_39 : decode cX2_lionAt 39 = .ok (.invokevirtual 26, 3) := dk_182 0 26 (dk_at dksX2_lionAt_1 16 rfl rfl)
theorem dX2_lionAt_42 : decode cX2_lionAt 42 = .ok (.invokeinterface 30 1, 5) := by decide +kernel
theorem dX2_lionAt_47 : decode cX2_lionAt 47 = .ok (.astore 5, 2) := dk_58 5 (dk_at dksX2_lionAt_2 0 rfl rfl)
theorem dX2_lionAt_49 : decode cX2_lionAt 49 = .ok (.aload 5, 2) := dk_25 5 (dk_at dksX2_lionAt_2 2 rfl rfl)
theorem dX2_lionAt_51 : decode cX2_lionAt 51 = .ok (.invokeinterface 36 1, 5) := by decide +kernel
theorem dX2_lionAt_56 : decode cX2_lionAt 56 = .ok (.ifCond .eq 43, 3) := dk_153 0 43 (dk_at dksX2_lionAt_2 9 rfl rfl)
theorem dX2_lionAt_59 : decode cX2_lionAt 59 = .ok (.aload 5, 2) := dk_25 5 (dk_at dksX2_lionAt_2 12 rfl rfl)
theorem dX2_lionAt_61 : decode cX2_lionAt 61 = .ok (.invokeinterface 42 1, 5) := by decide +kernel
theorem dX2_lionAt_66 : decode cX2_lionAt 66 = .ok (.checkcast 46, 3) := dk_192 0 46 (dk_at dksX2_lionAt_2 19 rfl rfl)
theorem dX2_lionAt_69 : decode cX2_lionAt 69 = .ok (.astore 6, 2) := dk_58 6 (dk_at dksX2_lionAt_2 22 rfl rfl)
theorem dX2_lionAt_71 : decode cX2_lionAt 71 = .ok (.iload 4, 2) := dk_21 4 (dk_at dksX2_lionAt_3 0 rfl rfl)
theorem dX2_lionAt_73 : decode cX2_lionAt 73 = .ok (.aload 6, 2) := dk_25 6 (dk_at dksX2_lionAt_3 2 rfl rfl)
theorem dX2_lionAt_75 : decode cX2_lionAt 75 = .ok (.getfield 111, 3) := dk_180 0 111 (dk_at dksX2_lionAt_3 4 rfl rfl)
theorem dX2_lionAt_78 : decode cX2_lionAt 78 = .ok (.aload_n 3, 1) := dk_45 (dk_at dksX2_lionAt_3 7 rfl rfl)
theorem dX2_lionAt_79 : decode cX2_lionAt 79 = .ok (.getfield 111, 3) := dk_180 0 111 (dk_at dksX2_lionAt_3 8 rfl rfl)
theorem dX2_lionAt_82 : decode cX2_lionAt 82 = .ok (.invokevirtual 243, 3) := dk_182 0 243 (dk_at dksX2_lionAt_3 11 rfl rfl)
theorem dX2_lionAt_85 : decode cX2_lionAt 85 = .ok (.ifCond .eq 7, 3) := dk_153 0 7 (dk_at dksX2_lionAt_3 14 rfl rfl)
theorem dX2_lionAt_88 : decode cX2_lionAt 88 = .ok (.iconst 1, 1) := dk_4 (dk_at dksX2_lionAt_3 17 rfl rfl)
theorem dX2_lionAt_89 : decode cX2_lionAt 89 = .ok (.goto 4, 3) := dk_167 0 4 (dk_at dksX2_lionAt_3 18 rfl rfl)
theorem dX2_lionAt_92 : decode cX2_lionAt 92 = .ok (.iconst 0, 1) := dk_3 (dk_at dksX2_lionAt_3 21 rfl rfl)
theorem dX2_lionAt_93 : decode cX2_lionAt 93 = .ok (.iadd, 1) := dk_96 (dk_at dksX2_lionAt_3 22 rfl rfl)
theorem dX2_lionAt_94 : decode cX2_lionAt 94 = .ok (.istore 4, 2) := dk_54 4 (dk_at dksX2_lionAt_4 0 rfl rfl)
theorem dX2_lionAt_96 : decode cX2_lionAt 96 = .ok (.goto (-47), 3) := dk_167 255 209 (dk_at dksX2_lionAt_4 2 rfl rfl)
theorem dX2_lionAt_99 : decode cX2_lionAt 99 = .ok (.iload 4, 2) := dk_21 4 (dk_at dksX2_lionAt_4 5 rfl rfl)
theorem dX2_lionAt_101 : decode cX2_lionAt 101 = .ok (.iload_n 1, 1) := dk_27 (dk_at dksX2_lionAt_4 7 rfl rfl)
theorem dX2_lionAt_102 : decode cX2_lionAt 102 = .ok (.if_icmp .ne 8, 3) := dk_160 0 8 (dk_at dksX2_lionAt_4 8 rfl rfl)
theorem dX2_lionAt_105 : decode cX2_lionAt 105 = .ok (.aload_n 3, 1) := dk_45 (dk_at dksX2_lionAt_4 11 rfl rfl)
theorem dX2_lionAt_106 : decode cX2_lionAt 106 = .ok (.getfield 48, 3) := dk_180 0 48 (dk_at dksX2_lionAt_4 12 rfl rfl)
theorem dX2_lionAt_109 : decode cX2_lionAt 109 = .ok (.ireturn, 1) := dk_172 (dk_at dksX2_lionAt_4 15 rfl rfl)
theorem dX2_lionAt_110 : decode cX2_lionAt 110 = .ok (.goto (-97), 3) := dk_167 255 159 (dk_at dksX2_lionAt_4 16 rfl rfl)
theorem dX2_lionAt_113 : decode cX2_lionAt 113 = .ok (.iconst (-1), 1) := dk_2 (dk_at dksX2_lionAt_4 19 rfl rfl)
theorem dX2_lionAt_114 : decode cX2_lionAt 114 = .ok (.ireturn, 1) := dk_172 (dk_at dksX2_lionAt_4 20 rfl rfl)
abbrev cX1_lionAtRank : ByteArray := prog_1_method_31_code
def yX1_lionAtRank : MethodName := ⟨RX1, "lionAtRank", "(I)I"⟩
def dkwX1_lionAtRank_0 : List UInt8 := [42, 180, 0, 66, 27, 182, 0, 235, 184, 0, 228, 172]
abbrev dktX1_lionAtRank_0 : List UInt8 := dkwX1_lionAtRank_0 ++ []
theorem dksX1_lionAtRank_0 : cX1_lionAtRank.data.toList.drop 0 = dktX1_lionAtRank_0 := by decide +kernel
theorem dX1_lionAtRank_0 : decode cX1_lionAtRank 0 = .ok (.aload_n 0, 1) := dk_42 (dk_at dksX1_lionAtRank_0 0 rfl rfl)
theorem dX1_lionAtRank_1 : decode cX1_lionAtRank 1 = .ok (.getfield 66, 3) := dk_180 0 66 (dk_at dksX1_lionAtRank_0 1 rfl rfl)
theorem dX1_lionAtRank_4 : decode cX1_lionAtRank 4 = .ok (.iload_n 1, 1) := dk_27 (dk_at dksX1_lionAtRank_0 4 rfl rfl)
theorem dX1_lionAtRank_5 : decode cX1_lionAtRank 5 = .ok (.invokevirtual 235, 3) := dk_182 0 235 (dk_at dksX1_lionAtRank_0 5 rfl rfl)
theorem dX1_lionAtRank_8 : decode cX1_lionAtRank 8 = .ok (.invokestatic 228, 3) := dk_184 0 228 (dk_at dksX1_lionAtRank_0 8 rfl rfl)
theorem dX1_lionAtRank_11 : decode cX1_lionAtRank 11 = .ok (.ireturn, 1) := dk_172 (dk_at dksX1_lionAtRank_0 11 rfl rfl)
abbrev cX0_lionAtRank : ByteArray := method_18_code
def yX0_lionAtRank : MethodName := ⟨RX0, "lionAtRank", "(LLionGate;I[J)I"⟩
def dkwX0_lionAtRank_0 : List UInt8 := [44, 3, 42, 27, 182, 0, 68, 133, 80, 167, 0, 6, 78, 4, 172, 3, 172]
abbrev dktX0_lionAtRank_0 : List UInt8 := dkwX0_lionAtRank_0 ++ []
theorem dksX0_lionAtRank_0 : cX0_lionAtRank.data.toList.drop 0 = dktX0_lionAtRank_0 := by decide +kernel
theorem dX0_lionAtRank_0 : decode cX0_lionAtRank 0 = .ok (.aload_n 2, 1) := dk_44 (dk_at dksX0_lionAtRank_0 0 rfl rfl)
theorem dX0_lionAtRank_1 : decode cX0_lionAtRank 1 = .ok (.iconst 0, 1) := dk_3 (dk_at dksX0_lionAtRank_0 1 rfl rfl)
theorem dX0_lionAtRank_2 : decode cX0_lionAtRank 2 = .ok (.aload_n 0, 1) := dk_42 (dk_at dksX0_lionAtRank_0 2 rfl rfl)
theorem dX0_lionAtRank_3 : decode cX0_lionAtRank 3 = .ok (.iload_n 1, 1) := dk_27 (dk_at dksX0_lionAtRank_0 3 rfl rfl)
theorem dX0_lionAtRank_4 : decode cX0_lionAtRank 4 = .ok (.invokevirtual 68, 3) := dk_182 0 68 (dk_at dksX0_lionAtRank_0 4 rfl rfl)
theorem dX0_lionAtRank_7 : decode cX0_lionAtRank 7 = .ok (.i2l, 1) := dk_133 (dk_at dksX0_lionAtRank_0 7 rfl rfl)
theorem dX0_lionAtRank_8 : decode cX0_lionAtRank 8 = .ok (.lastore, 1) := dk_80 (dk_at dksX0_lionAtRank_0 8 rfl rfl)
theorem dX0_lionAtRank_9 : decode cX0_lionAtRank 9 = .ok (.goto 6, 3) := dk_167 0 6 (dk_at dksX0_lionAtRank_0 9 rfl rfl)
theorem dX0_lionAtRank_12 : decode cX0_lionAtRank 12 = .ok (.astore_n 3, 1) := dk_78 (dk_at dksX0_lionAtRank_0 12 rfl rfl)
theorem dX0_lionAtRank_13 : decode cX0_lionAtRank 13 = .ok (.iconst 1, 1) := dk_4 (dk_at dksX0_lionAtRank_0 13 rfl rfl)
theorem dX0_lionAtRank_14 : decode cX0_lionAtRank 14 = .ok (.ireturn, 1) := dk_172 (dk_at dksX0_lionAtRank_0 14 rfl rfl)
theorem dX0_lionAtRank_15 : decode cX0_lionAtRank 15 = .ok (.iconst 0, 1) := dk_3 (dk_at dksX0_lionAtRank_0 15 rfl rfl)
theorem dX0_lionAtRank_16 : decode cX0_lionAtRank 16 = .ok (.ireturn, 1) := dk_172 (dk_at dksX0_lionAtRank_0 16 rfl rfl)
abbrev cX2_hungerTotal : ByteArray := prog_14_method_25_code
def yX2_hungerTotal : MethodName := ⟨RX2, "hungerTotal", "()I"⟩
def dkwX2_hungerTotal_1 : List UInt8 := [44, 185, 0, 42, 1, 0, 192, 0, 46, 78, 27, 45, 182, 0, 145, 96, 60, 167, 255, 230, 27, 172]
abbrev dktX2_hungerTotal_1 : List UInt8 := dkwX2_hungerTotal_1 ++ []
def dkwX2_hungerTotal_0 : List UInt8 := [3, 60, 42, 180, 0, 12, 182, 0, 26, 185, 0, 30, 1, 0, 77, 44, 185, 0, 36, 1, 0, 153, 0, 23]
abbrev dktX2_hungerTotal_0 : List UInt8 := dkwX2_hungerTotal_0 ++ dktX2_hungerTotal_1
theorem dksX2_hungerTotal_0 : cX2_hungerTotal.data.toList.drop 0 = dktX2_hungerTotal_0 := by decide +kernel
theorem dksX2_hungerTotal_1 : cX2_hungerTotal.data.toList.drop 24 = dktX2_hungerTotal_1 := dk_seg dksX2_hungerTotal_0 24 rfl rfl
theorem dX2_hungerTotal_0 : decode cX2_hungerTotal 0 = .ok (.iconst 0, 1) := dk_3 (dk_at dksX2_hungerTotal_0 0 rfl rfl)
theorem dX2_hungerTotal_1 : decode cX2_hungerTotal 1 = .ok (.istore_n 1, 1) := dk_60 (dk_at dksX2_hungerTotal_0 1 rfl rfl)
theorem dX2_hungerTotal_2 : decode cX2_hungerTotal 2 = .ok (.aload_n 0, 1) := dk_42 (dk_at dksX2_hungerTotal_0 2 rfl rfl)
theorem dX2_hungerTotal_3 : decode cX2_hungerTotal 3 = .ok (.getfield 12, 3) := dk_180 0 12 (dk_at dksX2_hungerTotal_0 3 rfl rfl)
theorem dX2_hungerTotal_6 : decode cX2_hungerTotal 6 = .ok (.invokevirtual 26, 3) := dk_182 0 26 (dk_at dksX2_hungerTotal_0 6 rfl rfl)
theorem dX2_hungerTotal_9 : decode cX2_hungerTotal 9 = .ok (.invokeinterface 30 1, 5) := by decide +kernel
theorem dX2_hungerTotal_14 : decode cX2_hungerTotal 14 = .ok (.astore_n 2, 1) := dk_77 (dk_at dksX2_hungerTotal_0 14 rfl rfl)
theorem dX2_hungerTotal_15 : decode cX2_hungerTotal 15 = .ok (.aload_n 2, 1) := dk_44 (dk_at dksX2_hungerTotal_0 15 rfl rfl)
theorem dX2_hungerTotal_16 : decode cX2_hungerTotal 16 = .ok (.invokeinterface 36 1, 5) := by decide +kernel
theorem dX2_hungerTotal_21 : decode cX2_hungerTotal 21 = .ok (.ifCond .eq 23, 3) := dk_153 0 23 (dk_at dksX2_hungerTotal_0 21 rfl rfl)
theorem dX2_hungerTotal_24 : decode cX2_hungerTotal 24 = .ok (.aload_n 2, 1) := dk_44 (dk_at dksX2_hungerTotal_1 0 rfl rfl)
theorem dX2_hungerTotal_25 : decode cX2_hungerTotal 25 = .ok (.invokeinterface 42 1, 5) := by decide +kernel
theorem dX2_hungerTotal_30 : decode cX2_hungerTotal 30 = .ok (.checkcast 46, 3) := dk_192 0 46 (dk_at dksX2_hungerTotal_1 6 rfl rfl)
theorem dX2_hungerTotal_33 : decode cX2_hungerTotal 33 = .ok (.astore_n 3, 1) := dk_78 (dk_at dksX2_hungerTotal_1 9 rfl rfl)
theorem dX2_hungerTotal_34 : decode cX2_hungerTotal 34 = .ok (.iload_n 1, 1) := dk_27 (dk_at dksX2_hungerTotal_1 10 rfl rfl)
theorem dX2_hungerTotal_35 : decode cX2_hungerTotal 35 = .ok (.aload_n 3, 1) := dk_45 (dk_at dksX2_hungerTotal_1 11 rfl rfl)
theorem dX2_hungerTotal_36 : decode cX2_hungerTotal 36 = .ok (.invokevirtual 145, 3) := dk_182 0 145 (dk_at dksX2_hungerTotal_1 12 rfl rfl)
theorem dX2_hungerTotal_39 : decode cX2_hungerTotal 39 = .ok (.iadd, 1) := dk_96 (dk_at dksX2_hungerTotal_1 15 rfl rfl)
theorem dX2_hungerTotal_40 : decode cX2_hungerTotal 40 = .ok (.istore_n 1, 1) := dk_60 (dk_at dksX2_hungerTotal_1 16 rfl rfl)
theorem dX2_hungerTotal_41 : decode cX2_hungerTotal 41 = .ok (.goto (-26), 3) := dk_167 255 230 (dk_at dksX2_hungerTotal_1 17 rfl rfl)
theorem dX2_hungerTotal_44 : decode cX2_hungerTotal 44 = .ok (.iload_n 1, 1) := dk_27 (dk_at dksX2_hungerTotal_1 20 rfl rfl)
theorem dX2_hungerTotal_45 : decode cX2_hungerTotal 45 = .ok (.ireturn, 1) := dk_172 (dk_at dksX2_hungerTotal_1 21 rfl rfl)
abbrev cX1_meanHunger : ByteArray := prog_1_method_56_code
def yX1_meanHunger : MethodName := ⟨RX1, "meanHunger", "()D"⟩
def dkwX1_meanHunger_0 : List UInt8 := [42, 182, 0, 190, 184, 1, 93, 60, 42, 180, 0, 66, 182, 1, 96, 135, 27, 135, 111, 175]
abbrev dktX1_meanHunger_0 : List UInt8 := dkwX1_meanHunger_0 ++ []
theorem dksX1_meanHunger_0 : cX1_meanHunger.data.toList.drop 0 = dktX1_meanHunger_0 := by decide +kernel
theorem dX1_meanHunger_0 : decode cX1_meanHunger 0 = .ok (.aload_n 0, 1) := dk_42 (dk_at dksX1_meanHunger_0 0 rfl rfl)
theorem dX1_meanHunger_1 : decode cX1_meanHunger 1 = .ok (.invokevirtual 190, 3) := dk_182 0 190 (dk_at dksX1_meanHunger_0 1 rfl rfl)
theorem dX1_meanHunger_4 : decode cX1_meanHunger 4 = .ok (.invokestatic 349, 3) := dk_184 1 93 (dk_at dksX1_meanHunger_0 4 rfl rfl)
theorem dX1_meanHunger_7 : decode cX1_meanHunger 7 = .ok (.istore_n 1, 1) := dk_60 (dk_at dksX1_meanHunger_0 7 rfl rfl)
theorem dX1_meanHunger_8 : decode cX1_meanHunger 8 = .ok (.aload_n 0, 1) := dk_42 (dk_at dksX1_meanHunger_0 8 rfl rfl)
theorem dX1_meanHunger_9 : decode cX1_meanHunger 9 = .ok (.getfield 66, 3) := dk_180 0 66 (dk_at dksX1_meanHunger_0 9 rfl rfl)
theorem dX1_meanHunger_12 : decode cX1_meanHunger 12 = .ok (.invokevirtual 352, 3) := dk_182 1 96 (dk_at dksX1_meanHunger_0 12 rfl rfl)
theorem dX1_meanHunger_15 : decode cX1_meanHunger 15 = .ok (.i2d, 1) := dk_135 (dk_at dksX1_meanHunger_0 15 rfl rfl)
theorem dX1_meanHunger_16 : decode cX1_meanHunger 16 = .ok (.iload_n 1, 1) := dk_27 (dk_at dksX1_meanHunger_0 16 rfl rfl)
theorem dX1_meanHunger_17 : decode cX1_meanHunger 17 = .ok (.i2d, 1) := dk_135 (dk_at dksX1_meanHunger_0 17 rfl rfl)
theorem dX1_meanHunger_18 : decode cX1_meanHunger 18 = .ok (.ddiv, 1) := dk_111 (dk_at dksX1_meanHunger_0 18 rfl rfl)
theorem dX1_meanHunger_19 : decode cX1_meanHunger 19 = .ok (.dreturn, 1) := dk_175 (dk_at dksX1_meanHunger_0 19 rfl rfl)
abbrev cX0_meanHunger : ByteArray := method_27_code
def yX0_meanHunger : MethodName := ⟨RX0, "meanHunger", "(LLionGate;[D)I"⟩
def dkwX0_meanHunger_0 : List UInt8 := [43, 3, 42, 182, 0, 97, 82, 167, 0, 6, 77, 4, 172, 3, 172]
abbrev dktX0_meanHunger_0 : List UInt8 := dkwX0_meanHunger_0 ++ []
theorem dksX0_meanHunger_0 : cX0_meanHunger.data.toList.drop 0 = dktX0_meanHunger_0 := by decide +kernel
theorem dX0_meanHunger_0 : decode cX0_meanHunger 0 = .ok (.aload_n 1, 1) := dk_43 (dk_at dksX0_meanHunger_0 0 rfl rfl)
theorem dX0_meanHunger_1 : decode cX0_meanHunger 1 = .ok (.iconst 0, 1) := dk_3 (dk_at dksX0_meanHunger_0 1 rfl rfl)
theorem dX0_meanHunger_2 : decode cX0_meanHunger 2 = .ok (.aload_n 0, 1) := dk_42 (dk_at dksX0_meanHunger_0 2 rfl rfl)
theorem dX0_meanHunger_3 : decode cX0_meanHunger 3 = .ok (.invokevirtual 97, 3) := dk_182 0 97 (dk_at dksX0_meanHunger_0 3 rfl rfl)
theorem dX0_meanHunger_6 : decode cX0_meanHunger 6 = .ok (.dastore, 1) := dk_82 (dk_at dksX0_meanHunger_0 6 rfl rfl)
theorem dX0_meanHunger_7 : decode cX0_meanHunger 7 = .ok (.goto 6, 3) := dk_167 0 6 (dk_at dksX0_meanHunger_0 7 rfl rfl)
theorem dX0_meanHunger_10 : decode cX0_meanHunger 10 = .ok (.astore_n 2, 1) := dk_77 (dk_at dksX0_meanHunger_0 10 rfl rfl)
theorem dX0_meanHunger_11 : decode cX0_meanHunger 11 = .ok (.iconst 1, 1) := dk_4 (dk_at dksX0_meanHunger_0 11 rfl rfl)
theorem dX0_meanHunger_12 : decode cX0_meanHunger 12 = .ok (.ireturn, 1) := dk_172 (dk_at dksX0_meanHunger_0 12 rfl rfl)
theorem dX0_meanHunger_13 : decode cX0_meanHunger 13 = .ok (.iconst 0, 1) := dk_3 (dk_at dksX0_meanHunger_0 13 rfl rfl)
theorem dX0_meanHunger_14 : decode cX0_meanHunger 14 = .ok (.ireturn, 1) := dk_172 (dk_at dksX0_meanHunger_0 14 rfl rfl)
abbrev cX1_onDuty : ByteArray := prog_1_method_44_code
def yX1_onDuty : MethodName := ⟨RX1, "onDuty", "(I)I"⟩
def dkwX1_onDuty_0 : List UInt8 := [27, 3, 16, 23, 184, 0, 193, 184, 1, 45, 42, 180, 0, 66, 180, 1, 16, 27, 182, 1, 48, 172]
abbrev dktX1_onDuty_0 : List UInt8 := dkwX1_onDuty_0 ++ []
theorem dksX1_onDuty_0 : cX1_onDuty.data.toList.drop 0 = dktX1_onDuty_0 := by decide +kernel
theorem dX1_onDuty_0 : decode cX1_onDuty 0 = .ok (.iload_n 1, 1) := dk_27 (dk_at dksX1_onDuty_0 0 rfl rfl)
theorem dX1_onDuty_1 : decode cX1_onDuty 1 = .ok (.iconst 0, 1) := dk_3 (dk_at dksX1_onDuty_0 1 rfl rfl)
theorem dX1_onDuty_2 : decode cX1_onDuty 2 = .ok (.bipush 23, 2) := dk_16 23 (dk_at dksX1_onDuty_0 2 rfl rfl)
theorem dX1_onDuty_4 : decode cX1_onDuty 4 = .ok (.invokestatic 193, 3) := dk_184 0 193 (dk_at dksX1_onDuty_0 4 rfl rfl)
theorem dX1_onDuty_7 : decode cX1_onDuty 7 = .ok (.invokestatic 301, 3) := dk_184 1 45 (dk_at dksX1_onDuty_0 7 rfl rfl)
theorem dX1_onDuty_10 : decode cX1_onDuty 10 = .ok (.aload_n 0, 1) := dk_42 (dk_at dksX1_onDuty_0 10 rfl rfl)
theorem dX1_onDuty_11 : decode cX1_onDuty 11 = .ok (.getfield 66, 3) := dk_180 0 66 (dk_at dksX1_onDuty_0 11 rfl rfl)
theorem dX1_onDuty_14 : decode cX1_onDuty 14 = .ok (.getfield 272, 3) := dk_180 1 16 (dk_at dksX1_onDuty_0 14 rfl rfl)
theorem dX1_onDuty_17 : decode cX1_onDuty 17 = .ok (.iload_n 1, 1) := dk_27 (dk_at dksX1_onDuty_0 17 rfl rfl)
theorem dX1_onDuty_18 : decode cX1_onDuty 18 = .ok (.invokevirtual 304, 3) := dk_182 1 48 (dk_at dksX1_onDuty_0 18 rfl rfl)
theorem dX1_onDuty_21 : decode cX1_onDuty 21 = .ok (.ireturn, 1) := dk_172 (dk_at dksX1_onDuty_0 21 rfl rfl)
abbrev cX0_onDuty : ByteArray := method_23_code
def yX0_onDuty : MethodName := ⟨RX0, "onDuty", "(LLionGate;I[J)I"⟩
def dkwX0_onDuty_0 : List UInt8 := [44, 3, 42, 27, 182, 0, 84, 133, 80, 167, 0, 6, 78, 4, 172, 3, 172]
abbrev dktX0_onDuty_0 : List UInt8 := dkwX0_onDuty_0 ++ []
theorem dksX0_onDuty_0 : cX0_onDuty.data.toList.drop 0 = dktX0_onDuty_0 := by decide +kernel
theorem dX0_onDuty_0 : decode cX0_onDuty 0 = .ok (.aload_n 2, 1) := dk_44 (dk_at dksX0_onDuty_0 0 rfl rfl)
theorem dX0_onDuty_1 : decode cX0_onDuty 1 = .ok (.iconst 0, 1) := dk_3 (dk_at dksX0_onDuty_0 1 rfl rfl)
theorem dX0_onDuty_2 : decode cX0_onDuty 2 = .ok (.aload_n 0, 1) := dk_42 (dk_at dksX0_onDuty_0 2 rfl rfl)
theorem dX0_onDuty_3 : decode cX0_onDuty 3 = .ok (.iload_n 1, 1) := dk_27 (dk_at dksX0_onDuty_0 3 rfl rfl)
theorem dX0_onDuty_4 : decode cX0_onDuty 4 = .ok (.invokevirtual 84, 3) := dk_182 0 84 (dk_at dksX0_onDuty_0 4 rfl rfl)
theorem dX0_onDuty_7 : decode cX0_onDuty 7 = .ok (.i2l, 1) := dk_133 (dk_at dksX0_onDuty_0 7 rfl rfl)
theorem dX0_onDuty_8 : decode cX0_onDuty 8 = .ok (.lastore, 1) := dk_80 (dk_at dksX0_onDuty_0 8 rfl rfl)
theorem dX0_onDuty_9 : decode cX0_onDuty 9 = .ok (.goto 6, 3) := dk_167 0 6 (dk_at dksX0_onDuty_0 9 rfl rfl)
theorem dX0_onDuty_12 : decode cX0_onDuty 12 = .ok (.astore_n 3, 1) := dk_78 (dk_at dksX0_onDuty_0 12 rfl rfl)
theorem dX0_onDuty_13 : decode cX0_onDuty 13 = .ok (.iconst 1, 1) := dk_4 (dk_at dksX0_onDuty_0 13 rfl rfl)
theorem dX0_onDuty_14 : decode cX0_onDuty 14 = .ok (.ireturn, 1) := dk_172 (dk_at dksX0_onDuty_0 14 rfl rfl)
theorem dX0_onDuty_15 : decode cX0_onDuty 15 = .ok (.iconst 0, 1) := dk_3 (dk_at dksX0_onDuty_0 15 rfl rfl)
theorem dX0_onDuty_16 : decode cX0_onDuty 16 = .ok (.ireturn, 1) := dk_172 (dk_at dksX0_onDuty_0 16 rfl rfl)
abbrev cJ9_checkIndex : ByteArray := prog_38_method_155_code
def yJ9_checkIndex : MethodName := ⟨RJ9, "checkIndex", "(II)V"⟩
def dkwJ9_checkIndex_0 : List UInt8 := [26, 27, 178, 4, 29, 184, 4, 35, 87, 177]
abbrev dktJ9_checkIndex_0 : List UInt8 := dkwJ9_checkIndex_0 ++ []
theorem dksJ9_checkIndex_0 : cJ9_checkIndex.data.toList.drop 0 = dktJ9_checkIndex_0 := by decide +kernel
theorem dJ9_checkIndex_0 : decode cJ9_checkIndex 0 = .ok (.iload_n 0, 1) := dk_26 (dk_at dksJ9_checkIndex_0 0 rfl rfl)
theorem dJ9_checkIndex_1 : decode cJ9_checkIndex 1 = .ok (.iload_n 1, 1) := dk_27 (dk_at dksJ9_checkIndex_0 1 rfl rfl)
theorem dJ9_checkIndex_2 : decode cJ9_checkIndex 2 = .ok (.getstatic 1053, 3) := dk_178 4 29 (dk_at dksJ9_checkIndex_0 2 rfl rfl)
theorem dJ9_checkIndex_5 : decode cJ9_checkIndex 5 = .ok (.invokestatic 1059, 3) := dk_184 4 35 (dk_at dksJ9_checkIndex_0 5 rfl rfl)
theorem dJ9_checkIndex_8 : decode cJ9_checkIndex 8 = .ok (.pop, 1) := dk_87 (dk_at dksJ9_checkIndex_0 8 rfl rfl)
theorem dJ9_checkIndex_9 : decode cJ9_checkIndex 9 = .ok (.return_, 1) := dk_177 (dk_at dksJ9_checkIndex_0 9 rfl rfl)
abbrev cJ25_charAt : ByteArray := prog_41_method_2_code
def yJ25_charAt : MethodName := ⟨RJ25, "charAt", "([BI)C"⟩
def dkwJ25_charAt_0 : List UInt8 := [27, 42, 190, 184, 0, 9, 42, 27, 51, 17, 0, 255, 126, 146, 172]
abbrev dktJ25_charAt_0 : List UInt8 := dkwJ25_charAt_0 ++ []
theorem dksJ25_charAt_0 : cJ25_charAt.data.toList.drop 0 = dktJ25_charAt_0 := by decide +kernel
theorem dJ25_charAt_0 : decode cJ25_charAt 0 = .ok (.iload_n 1, 1) := dk_27 (dk_at dksJ25_charAt_0 0 rfl rfl)
theorem dJ25_charAt_1 : decode cJ25_charAt 1 = .ok (.aload_n 0, 1) := dk_42 (dk_at dksJ25_charAt_0 1 rfl rfl)
theorem dJ25_charAt_2 : decode cJ25_charAt 2 = .ok (.arraylength, 1) := dk_190 (dk_at dksJ25_charAt_0 2 rfl rfl)
theorem dJ25_charAt_3 : decode cJ25_charAt 3 = .ok (.invokestatic 9, 3) := dk_184 0 9 (dk_at dksJ25_charAt_0 3 rfl rfl)
theorem dJ25_charAt_6 : decode cJ25_charAt 6 = .ok (.aload_n 0, 1) := dk_42 (dk_at dksJ25_charAt_0 6 rfl rfl)
theorem dJ25_charAt_7 : decode cJ25_charAt 7 = .ok (.iload_n 1, 1) := dk_27 (dk_at dksJ25_charAt_0 7 rfl rfl)
theorem dJ25_charAt_8 : decode cJ25_charAt 8 = .ok (.baload, 1) := dk_51 (dk_at dksJ25_charAt_0 8 rfl rfl)
theorem dJ25_charAt_9 : decode cJ25_charAt 9 = .ok (.sipush 255, 3) := dk_17 0 255 (dk_at dksJ25_charAt_0 9 rfl rfl)
theorem dJ25_charAt_12 : decode cJ25_charAt 12 = .ok (.iand, 1) := dk_126 (dk_at dksJ25_charAt_0 12 rfl rfl)
theorem dJ25_charAt_13 : decode cJ25_charAt 13 = .ok (.i2c, 1) := dk_146 (dk_at dksJ25_charAt_0 13 rfl rfl)
theorem dJ25_charAt_14 : decode cJ25_charAt 14 = .ok (.ireturn, 1) := dk_172 (dk_at dksJ25_charAt_0 14 rfl rfl)
abbrev cJ9_charAt : ByteArray := prog_38_method_56_code
def yJ9_charAt : MethodName := ⟨RJ9, "charAt", "(I)C"⟩
def dkwJ9_charAt_1 : List UInt8 := [172]
abbrev dktJ9_charAt_1 : List UInt8 := dkwJ9_charAt_1 ++ []
def dkwJ9_charAt_0 : List UInt8 := [42, 182, 1, 236, 153, 0, 12, 42, 180, 0, 9, 27, 184, 1, 239, 172, 42, 180, 0, 9, 27, 184, 1, 242]
abbrev dktJ9_charAt_0 : List UInt8 := dkwJ9_charAt_0 ++ dktJ9_charAt_1
theorem dksJ9_charAt_0 : cJ9_charAt.data.toList.drop 0 = dktJ9_charAt_0 := by decide +kernel
theorem dksJ9_charAt_1 : cJ9_charAt.data.toList.drop 24 = dktJ9_charAt_1 := dk_seg dksJ9_charAt_0 24 rfl rfl
theorem dJ9_charAt_0 : decode cJ9_charAt 0 = .ok (.aload_n 0, 1) := dk_42 (dk_at dksJ9_charAt_0 0 rfl rfl)
theorem dJ9_charAt_1 : decode cJ9_charAt 1 = .ok (.invokevirtual 492, 3) := dk_182 1 236 (dk_at dksJ9_charAt_0 1 rfl rfl)
theorem dJ9_charAt_4 : decode cJ9_charAt 4 = .ok (.ifCond .eq 12, 3) := dk_153 0 12 (dk_at dksJ9_charAt_0 4 rfl rfl)
theorem dJ9_charAt_7 : decode cJ9_charAt 7 = .ok (.aload_n 0, 1) := dk_42 (dk_at dksJ9_charAt_0 7 rfl rfl)
theorem dJ9_charAt_8 : decode cJ9_charAt 8 = .ok (.getfield 9, 3) := dk_180 0 9 (dk_at dksJ9_charAt_0 8 rfl rfl)
theorem dJ9_charAt_11 : decode cJ9_charAt 11 = .ok (.iload_n 1, 1) := dk_27 (dk_at dksJ9_charAt_0 11 rfl rfl)
theorem dJ9_charAt_12 : decode cJ9_charAt 12 = .ok (.invokestatic 495, 3) := dk_184 1 239 (dk_at dksJ9_charAt_0 12 rfl rfl)
theorem dJ9_charAt_15 : decode cJ9_charAt 15 = .ok (.ireturn, 1) := dk_172 (dk_at dksJ9_charAt_0 15 rfl rfl)
theorem dJ9_charAt_16 : decode cJ9_charAt 16 = .ok (.aload_n 0, 1) := dk_42 (dk_at dksJ9_charAt_0 16 rfl rfl)
theorem dJ9_charAt_17 : decode cJ9_charAt 17 = .ok (.getfield 9, 3) := dk_180 0 9 (dk_at dksJ9_charAt_0 17 rfl rfl)
theorem dJ9_charAt_20 : decode cJ9_charAt 20 = .ok (.iload_n 1, 1) := dk_27 (dk_at dksJ9_charAt_0 20 rfl rfl)
theorem dJ9_charAt_21 : decode cJ9_charAt 21 = .ok (.invokestatic 498, 3) := dk_184 1 242 (dk_at dksJ9_charAt_0 21 rfl rfl)
abbrev cX1_outputAt : ByteArray := prog_1_method_62_code
def yX1_outputAt : MethodName := ⟨RX1, "outputAt", "(I)C"⟩
def dkwX1_outputAt_1 : List UInt8 := [182, 1, 118, 172]
abbrev dktX1_outputAt_1 : List UInt8 := dkwX1_outputAt_1 ++ []
def dkwX1_outputAt_0 : List UInt8 := [27, 3, 42, 180, 0, 95, 182, 1, 102, 4, 100, 184, 0, 193, 184, 1, 25, 42, 180, 0, 95, 27]
abbrev dktX1_outputAt_0 : List UInt8 := dkwX1_outputAt_0 ++ dktX1_outputAt_1
theorem dksX1_outputAt_0 : cX1_outputAt.data.toList.drop 0 = dktX1_outputAt_0 := by decide +kernel
theorem dksX1_outputAt_1 : cX1_outputAt.data.toList.drop 22 = dktX1_outputAt_1 := dk_seg dksX1_outputAt_0 22 rfl rfl
theorem dX1_outputAt_0 : decode cX1_outputAt 0 = .ok (.iload_n 1, 1) := dk_27 (dk_at dksX1_outputAt_0 0 rfl rfl)
theorem dX1_outputAt_1 : decode cX1_outputAt 1 = .ok (.iconst 0, 1) := dk_3 (dk_at dksX1_outputAt_0 1 rfl rfl)
theorem dX1_outputAt_2 : decode cX1_outputAt 2 = .ok (.aload_n 0, 1) := dk_42 (dk_at dksX1_outputAt_0 2 rfl rfl)
theorem dX1_outputAt_3 : decode cX1_outputAt 3 = .ok (.getfield 95, 3) := dk_180 0 95 (dk_at dksX1_outputAt_0 3 rfl rfl)
theorem dX1_outputAt_6 : decode cX1_outputAt 6 = .ok (.invokevirtual 358, 3) := dk_182 1 102 (dk_at dksX1_outputAt_0 6 rfl rfl)
theorem dX1_outputAt_9 : decode cX1_outputAt 9 = .ok (.iconst 1, 1) := dk_4 (dk_at dksX1_outputAt_0 9 rfl rfl)
theorem dX1_outputAt_10 : decode cX1_outputAt 10 = .ok (.isub, 1) := dk_100 (dk_at dksX1_outputAt_0 10 rfl rfl)
theorem dX1_outputAt_11 : decode cX1_outputAt 11 = .ok (.invokestatic 193, 3) := dk_184 0 193 (dk_at dksX1_outputAt_0 11 rfl rfl)
theorem dX1_outputAt_14 : decode cX1_outputAt 14 = .ok (.invokestatic 281, 3) := dk_184 1 25 (dk_at dksX1_outputAt_0 14 rfl rfl)
theorem dX1_outputAt_17 : decode cX1_outputAt 17 = .ok (.aload_n 0, 1) := dk_42 (dk_at dksX1_outputAt_0 17 rfl rfl)
theorem dX1_outputAt_18 : decode cX1_outputAt 18 = .ok (.getfield 95, 3) := dk_180 0 95 (dk_at dksX1_outputAt_0 18 rfl rfl)
theorem dX1_outputAt_21 : decode cX1_outputAt 21 = .ok (.iload_n 1, 1) := dk_27 (dk_at dksX1_outputAt_0 21 rfl rfl)
theorem dX1_outputAt_22 : decode cX1_outputAt 22 = .ok (.invokevirtual 374, 3) := dk_182 1 118 (dk_at dksX1_outputAt_1 0 rfl rfl)
theorem dX1_outputAt_25 : decode cX1_outputAt 25 = .ok (.ireturn, 1) := dk_172 (dk_at dksX1_outputAt_1 3 rfl rfl)
abbrev cX0_outputAt : ByteArray := method_30_code
def yX0_outputAt : MethodName := ⟨RX0, "outputAt", "(LLionGate;I[J)I"⟩
def dkwX0_outputAt_0 : List UInt8 := [44, 3, 42, 27, 182, 0, 110, 133, 80, 167, 0, 6, 78, 4, 172, 3, 172]
abbrev dktX0_outputAt_0 : List UInt8 := dkwX0_outputAt_0 ++ []
theorem dksX0_outputAt_0 : cX0_outputAt.data.toList.drop 0 = dktX0_outputAt_0 := by decide +kernel
theorem dX0_outputAt_0 : decode cX0_outputAt 0 = .ok (.aload_n 2, 1) := dk_44 (dk_at dksX0_outputAt_0 0 rfl rfl)
theorem dX0_outputAt_1 : decode cX0_outputAt 1 = .ok (.iconst 0, 1) := dk_3 (dk_at dksX0_outputAt_0 1 rfl rfl)
theorem dX0_outputAt_2 : decode cX0_outputAt 2 = .ok (.aload_n 0, 1) := dk_42 (dk_at dksX0_outputAt_0 2 rfl rfl)
theorem dX0_outputAt_3 : decode cX0_outputAt 3 = .ok (.iload_n 1, 1) := dk_27 (dk_at dksX0_outputAt_0 3 rfl rfl)
theorem dX0_outputAt_4 : decode cX0_outputAt 4 = .ok (.invokevirtual 110, 3) := dk_182 0 110 (dk_at dksX0_outputAt_0 4 rfl rfl)
theorem dX0_outputAt_7 : decode cX0_outputAt 7 = .ok (.i2l, 1) := dk_133 (dk_at dksX0_outputAt_0 7 rfl rfl)
theorem dX0_outputAt_8 : decode cX0_outputAt 8 = .ok (.lastore, 1) := dk_80 (dk_at dksX0_outputAt_0 8 rfl rfl)
theorem dX0_outputAt_9 : decode cX0_outputAt 9 = .ok (.goto 6, 3) := dk_167 0 6 (dk_at dksX0_outputAt_0 9 rfl rfl)
theorem dX0_outputAt_12 : decode cX0_outputAt 12 = .ok (.astore_n 3, 1) := dk_78 (dk_at dksX0_outputAt_0 12 rfl rfl)
theorem dX0_outputAt_13 : decode cX0_outputAt 13 = .ok (.iconst 1, 1) := dk_4 (dk_at dksX0_outputAt_0 13 rfl rfl)
theorem dX0_outputAt_14 : decode cX0_outputAt 14 = .ok (.ireturn, 1) := dk_172 (dk_at dksX0_outputAt_0 14 rfl rfl)
theorem dX0_outputAt_15 : decode cX0_outputAt 15 = .ok (.iconst 0, 1) := dk_3 (dk_at dksX0_outputAt_0 15 rfl rfl)
theorem dX0_outputAt_16 : decode cX0_outputAt 16 = .ok (.ireturn, 1) := dk_172 (dk_at dksX0_outputAt_0 16 rfl rfl)
abbrev cX1_passHours : ByteArray := prog_1_method_15_code
def yX1_passHours : MethodName := ⟨RX1, "passHours", "(I)I"⟩
def dkwX1_passHours_0 : List UInt8 := [42, 18, 147, 4, 188, 10, 89, 3, 27, 79, 182, 0, 129, 172]
abbrev dktX1_passHours_0 : List UInt8 := dkwX1_passHours_0 ++ []
theorem dksX1_passHours_0 : cX1_passHours.data.toList.drop 0 = dktX1_passHours_0 := by decide +kernel
theorem dX1_passHours_0 : decode cX1_passHours 0 = .ok (.aload_n 0, 1) := dk_42 (dk_at dksX1_passHours_0 0 rfl rfl)
theorem dX1_passHours_1 : decode cX1_passHours 1 = .ok (.ldc 147, 2) := dk_18 147 (dk_at dksX1_passHours_0 1 rfl rfl)
theorem dX1_passHours_3 : decode cX1_passHours 3 = .ok (.iconst 1, 1) := dk_4 (dk_at dksX1_passHours_0 3 rfl rfl)
theorem dX1_passHours_4 : decode cX1_passHours 4 = .ok (.newarray .int, 2) := dk_188_10 (dk_at dksX1_passHours_0 4 rfl rfl)
theorem dX1_passHours_6 : decode cX1_passHours 6 = .ok (.dup, 1) := dk_89 (dk_at dksX1_passHours_0 6 rfl rfl)
theorem dX1_passHours_7 : decode cX1_passHours 7 = .ok (.iconst 0, 1) := dk_3 (dk_at dksX1_passHours_0 7 rfl rfl)
theorem dX1_passHours_8 : decode cX1_passHours 8 = .ok (.iload_n 1, 1) := dk_27 (dk_at dksX1_passHours_0 8 rfl rfl)
theorem dX1_passHours_9 : decode cX1_passHours 9 = .ok (.iastore, 1) := dk_79 (dk_at dksX1_passHours_0 9 rfl rfl)
theorem dX1_passHours_10 : decode cX1_passHours 10 = .ok (.invokevirtual 129, 3) := dk_182 0 129 (dk_at dksX1_passHours_0 10 rfl rfl)
theorem dX1_passHours_13 : decode cX1_passHours 13 = .ok (.ireturn, 1) := dk_172 (dk_at dksX1_passHours_0 13 rfl rfl)
abbrev cX0_passHours : ByteArray := method_10_code
def yX0_passHours : MethodName := ⟨RX0, "passHours", "(LLionGate;I[J)I"⟩
def dkwX0_passHours_0 : List UInt8 := [44, 3, 42, 27, 182, 0, 44, 133, 80, 167, 0, 6, 78, 4, 172, 3, 172]
abbrev dktX0_passHours_0 : List UInt8 := dkwX0_passHours_0 ++ []
theorem dksX0_passHours_0 : cX0_passHours.data.toList.drop 0 = dktX0_passHours_0 := by decide +kernel
theorem dX0_passHours_0 : decode cX0_passHours 0 = .ok (.aload_n 2, 1) := dk_44 (dk_at dksX0_passHours_0 0 rfl rfl)
theorem dX0_passHours_1 : decode cX0_passHours 1 = .ok (.iconst 0, 1) := dk_3 (dk_at dksX0_passHours_0 1 rfl rfl)
theorem dX0_passHours_2 : decode cX0_passHours 2 = .ok (.aload_n 0, 1) := dk_42 (dk_at dksX0_passHours_0 2 rfl rfl)
theorem dX0_passHours_3 : decode cX0_passHours 3 = .ok (.iload_n 1, 1) := dk_27 (dk_at dksX0_passHours_0 3 rfl rfl)
theorem dX0_passHours_4 : decode cX0_passHours 4 = .ok (.invokevirtual 44, 3) := dk_182 0 44 (dk_at dksX0_passHours_0 4 rfl rfl)
theorem dX0_passHours_7 : decode cX0_passHours 7 = .ok (.i2l, 1) := dk_133 (dk_at dksX0_passHours_0 7 rfl rfl)
theorem dX0_passHours_8 : decode cX0_passHours 8 = .ok (.lastore, 1) := dk_80 (dk_at dksX0_passHours_0 8 rfl rfl)
theorem dX0_passHours_9 : decode cX0_passHours 9 = .ok (.goto 6, 3) := dk_167 0 6 (dk_at dksX0_passHours_0 9 rfl rfl)
theorem dX0_passHours_12 : decode cX0_passHours 12 = .ok (.astore_n 3, 1) := dk_78 (dk_at dksX0_passHours_0 12 rfl rfl)
theorem dX0_passHours_13 : decode cX0_passHours 13 = .ok (.iconst 1, 1) := dk_4 (dk_at dksX0_passHours_0 13 rfl rfl)
theorem dX0_passHours_14 : decode cX0_passHours 14 = .ok (.ireturn, 1) := dk_172 (dk_at dksX0_passHours_0 14 rfl rfl)
theorem dX0_passHours_15 : decode cX0_passHours 15 = .ok (.iconst 0, 1) := dk_3 (dk_at dksX0_passHours_0 15 rfl rfl)
theorem dX0_passHours_16 : decode cX0_passHours 16 = .ok (.ireturn, 1) := dk_172 (dk_at dksX0_passHours_0 16 rfl rfl)
abbrev cX1_portionOf : ByteArray := prog_1_method_26_code
def yX1_portionOf : MethodName := ⟨RX1, "portionOf", "(I)I"⟩
def dkwX1_portionOf_0 : List UInt8 := [42, 27, 182, 0, 208, 180, 0, 215, 172]
abbrev dktX1_portionOf_0 : List UInt8 := dkwX1_portionOf_0 ++ []
theorem dksX1_portionOf_0 : cX1_portionOf.data.toList.drop 0 = dktX1_portionOf_0 := by decide +kernel
theorem dX1_portionOf_0 : decode cX1_portionOf 0 = .ok (.aload_n 0, 1) := dk_42 (dk_at dksX1_portionOf_0 0 rfl rfl)
theorem dX1_portionOf_1 : decode cX1_portionOf 1 = .ok (.iload_n 1, 1) := dk_27 (dk_at dksX1_portionOf_0 1 rfl rfl)
theorem dX1_portionOf_2 : decode cX1_portionOf 2 = .ok (.invokevirtual 208, 3) := dk_182 0 208 (dk_at dksX1_portionOf_0 2 rfl rfl)
theorem dX1_portionOf_5 : decode cX1_portionOf 5 = .ok (.getfield 215, 3) := dk_180 0 215 (dk_at dksX1_portionOf_0 5 rfl rfl)
theorem dX1_portionOf_8 : decode cX1_portionOf 8 = .ok (.ireturn, 1) := dk_172 (dk_at dksX1_portionOf_0 8 rfl rfl)
abbrev cX0_portionOf : ByteArray := method_13_code
def yX0_portionOf : MethodName := ⟨RX0, "portionOf", "(LLionGate;I[J)I"⟩
def dkwX0_portionOf_0 : List UInt8 := [44, 3, 42, 27, 182, 0, 53, 133, 80, 167, 0, 6, 78, 4, 172, 3, 172]
abbrev dktX0_portionOf_0 : List UInt8 := dkwX0_portionOf_0 ++ []
theorem dksX0_portionOf_0 : cX0_portionOf.data.toList.drop 0 = dktX0_portionOf_0 := by decide +kernel
theorem dX0_portionOf_0 : decode cX0_portionOf 0 = .ok (.aload_n 2, 1) := dk_44 (dk_at dksX0_portionOf_0 0 rfl rfl)
theorem dX0_portionOf_1 : decode cX0_portionOf 1 = .ok (.iconst 0, 1) := dk_3 (dk_at dksX0_portionOf_0 1 rfl rfl)
theorem dX0_portionOf_2 : decode cX0_portionOf 2 = .ok (.aload_n 0, 1) := dk_42 (dk_at dksX0_portionOf_0 2 rfl rfl)
theorem dX0_portionOf_3 : decode cX0_portionOf 3 = .ok (.iload_n 1, 1) := dk_27 (dk_at dksX0_portionOf_0 3 rfl rfl)
theorem dX0_portionOf_4 : decode cX0_portionOf 4 = .ok (.invokevirtual 53, 3) := dk_182 0 53 (dk_at dksX0_portionOf_0 4 rfl rfl)
theorem dX0_portionOf_7 : decode cX0_portionOf 7 = .ok (.i2l, 1) := dk_133 (dk_at dksX0_portionOf_0 7 rfl rfl)
theorem dX0_portionOf_8 : decode cX0_portionOf 8 = .ok (.lastore, 1) := dk_80 (dk_at dksX0_portionOf_0 8 rfl rfl)
theorem dX0_portionOf_9 : decode cX0_portionOf 9 = .ok (.goto 6, 3) := dk_167 0 6 (dk_at dksX0_portionOf_0 9 rfl rfl)
theorem dX0_portionOf_12 : decode cX0_portionOf 12 = .ok (.astore_n 3, 1) := dk_78 (dk_at dksX0_portionOf_0 12 rfl rfl)
theorem dX0_portionOf_13 : decode cX0_portionOf 13 = .ok (.iconst 1, 1) := dk_4 (dk_at dksX0_portionOf_0 13 rfl rfl)
theorem dX0_portionOf_14 : decode cX0_portionOf 14 = .ok (.ireturn, 1) := dk_172 (dk_at dksX0_portionOf_0 14 rfl rfl)
theorem dX0_portionOf_15 : decode cX0_portionOf 15 = .ok (.iconst 0, 1) := dk_3 (dk_at dksX0_portionOf_0 15 rfl rfl)
theorem dX0_portionOf_16 : decode cX0_portionOf 16 = .ok (.ireturn, 1) := dk_172 (dk_at dksX0_portionOf_0 16 rfl rfl)
abbrev cX8_toString : ByteArray := prog_11_method_4_code
def yX8_toString : MethodName := ⟨RX8, "toString", "()Ljava/lang/String;"⟩
def dkwX8_toString_2 : List UInt8 := [182, 0, 34, 18, 50, 182, 0, 40, 42, 180, 0, 19, 180, 0, 52, 182, 0, 34, 182, 0, 55, 176]
abbrev dktX8_toString_2 : List UInt8 := dkwX8_toString_2 ++ []
def dkwX8_toString_1 : List UInt8 := [182, 0, 34, 18, 46, 182, 0, 40, 42, 180, 0, 13, 182, 0, 34, 18, 48, 182, 0, 40, 42, 180, 0, 16]
abbrev dktX8_toString_1 : List UInt8 := dkwX8_toString_1 ++ dktX8_toString_2
def dkwX8_toString_0 : List UInt8 := [187, 0, 31, 89, 183, 0, 33, 42, 180, 0, 7, 182, 0, 34, 18, 38, 182, 0, 40, 42, 182, 0, 43]
abbrev dktX8_toString_0 : List UInt8 := dkwX8_toString_0 ++ dktX8_toString_1
theorem dksX8_toString_0 : cX8_toString.data.toList.drop 0 = dktX8_toString_0 := by decide +kernel
theorem dksX8_toString_1 : cX8_toString.data.toList.drop 23 = dktX8_toString_1 := dk_seg dksX8_toString_0 23 rfl rfl
theorem dksX8_toString_2 : cX8_toString.data.toList.drop 47 = dktX8_toString_2 := dk_seg dksX8_toString_1 24 rfl rfl
theorem dX8_toString_0 : decode cX8_toString 0 = .ok (.new 31, 3) := dk_187 0 31 (dk_at dksX8_toString_0 0 rfl rfl)
theorem dX8_toString_3 : decode cX8_toString 3 = .ok (.dup, 1) := dk_89 (dk_at dksX8_toString_0 3 rfl rfl)
theorem dX8_toString_4 : decode cX8_toString 4 = .ok (.invokespecial 33, 3) := dk_183 0 33 (dk_at dksX8_toString_0 4 rfl rfl)
theorem dX8_toString_7 : decode cX8_toString 7 = .ok (.aload_n 0, 1) := dk_42 (dk_at dksX8_toString_0 7 rfl rfl)
theorem dX8_toString_8 : decode cX8_toString 8 = .ok (.getfield 7, 3) := dk_180 0 7 (dk_at dksX8_toString_0 8 rfl rfl)
theorem dX8_toString_11 : decode cX8_toString 11 = .ok (.invokevirtual 34, 3) := dk_182 0 34 (dk_at dksX8_toString_0 11 rfl rfl)
theorem dX8_toString_14 : decode cX8_toString 14 = .ok (.ldc 38, 2) := dk_18 38 (dk_at dksX8_toString_0 14 rfl rfl)
theorem dX8_toString_16 : decode cX8_toString 16 = .ok (.invokevirtual 40, 3) := dk_182 0 40 (dk_at dksX8_toString_0 16 rfl rfl)
theorem dX8_toString_19 : decode cX8_toString 19 = .ok (.aload_n 0, 1) := dk_42 (dk_at dksX8_toString_0 19 rfl rfl)
theorem dX8_toString_20 : decode cX8_toString 20 = .ok (.invokevirtual 43, 3) := dk_182 0 43 (dk_at dksX8_toString_0 20 rfl rfl)
theorem dX8_toString_23 : decode cX8_toString 23 = .ok (.invokevirtual 34, 3) := dk_182 0 34 (dk_at dksX8_toString_1 0 rfl rfl)
theorem dX8_toString_26 : decode cX8_toString 26 = .ok (.ldc 46, 2) := dk_18 46 (dk_at dksX8_toString_1 3 rfl rfl)
theorem dX8_toString_28 : decode cX8_toString 28 = .ok (.invokevirtual 40, 3) := dk_182 0 40 (dk_at dksX8_toString_1 5 rfl rfl)
theorem dX8_toString_31 : decode cX8_toString 31 = .ok (.aload_n 0, 1) := dk_42 (dk_at dksX8_toString_1 8 rfl rfl)
theorem dX8_toString_32 : decode cX8_toString 32 = .ok (.getfield 13, 3) := dk_180 0 13 (dk_at dksX8_toString_1 9 rfl rfl)
theorem dX8_toString_35 : decode cX8_toString 35 = .ok (.invokevirtual 34, 3) := dk_182 0 34 (dk_at dksX8_toString_1 12 rfl rfl)
theorem dX8_toString_38 : decode cX8_toString 38 = .ok (.ldc 48, 2) := dk_18 48 (dk_at dksX8_toString_1 15 rfl rfl)
theorem dX8_toString_40 : decode cX8_toString 40 = .ok (.invokevirtual 40, 3) := dk_182 0 40 (dk_at dksX8_toString_1 17 rfl rfl)
theorem dX8_toString_43 : decode cX8_toString 43 = .ok (.aload_n 0, 1) := dk_42 (dk_at dksX8_toString_1 20 rfl rfl)
theorem dX8_toString_44 : decode cX8_toString 44 = .ok (.getfield 16, 3) := dk_180 0 16 (dk_at dksX8_toString_1 21 rfl rfl)
theorem dX8_toString_47 : decode cX8_toString 47 = .ok (.invokevirtual 34, 3) := dk_182 0 34 (dk_at dksX8_toString_2 0 rfl rfl)
theorem dX8_toString_50 : decode cX8_toString 50 = .ok (.ldc 50, 2) := dk_18 50 (dk_at dksX8_toString_2 3 rfl rfl)
theorem dX8_toString_52 : decode cX8_toString 52 = .ok (.invokevirtual 40, 3) := dk_182 0 40 (dk_at dksX8_toString_2 5 rfl rfl)
theorem dX8_toString_55 : decode cX8_toString 55 = .ok (.aload_n 0, 1) := dk_42 (dk_at dksX8_toString_2 8 rfl rfl)
theorem dX8_toString_56 : decode cX8_toString 56 = .ok (.getfield 19, 3) := dk_180 0 19 (dk_at dksX8_toString_2 9 rfl rfl)
theorem dX8_toString_59 : decode cX8_toString 59 = .ok (.getfield 52, 3) := dk_180 0 52 (dk_at dksX8_toString_2 12 rfl rfl)
theorem dX8_toString_62 : decode cX8_toString 62 = .ok (.invokevirtual 34, 3) := dk_182 0 34 (dk_at dksX8_toString_2 15 rfl rfl)
theorem dX8_toString_65 : decode cX8_toString 65 = .ok (.invokevirtual 55, 3) := dk_182 0 55 (dk_at dksX8_toString_2 18 rfl rfl)
theorem dX8_toString_68 : decode cX8_toString 68 = .ok (.areturn, 1) := dk_176 (dk_at dksX8_toString_2 21 rfl rfl)
abbrev cX1_renderLion : ByteArray := prog_1_method_60_code
def yX1_renderLion : MethodName := ⟨RX1, "renderLion", "(I)I"⟩
def dkwX1_renderLion_0 : List UInt8 := [42, 42, 27, 182, 0, 208, 182, 1, 107, 182, 1, 111, 172]
abbrev dktX1_renderLion_0 : List UInt8 := dkwX1_renderLion_0 ++ []
theorem dksX1_renderLion_0 : cX1_renderLion.data.toList.drop 0 = dktX1_renderLion_0 := by decide +kernel
theorem dX1_renderLion_0 : decode cX1_renderLion 0 = .ok (.aload_n 0, 1) := dk_42 (dk_at dksX1_renderLion_0 0 rfl rfl)
theorem dX1_renderLion_1 : decode cX1_renderLion 1 = .ok (.aload_n 0, 1) := dk_42 (dk_at dksX1_renderLion_0 1 rfl rfl)
theorem dX1_renderLion_2 : decode cX1_renderLion 2 = .ok (.iload_n 1, 1) := dk_27 (dk_at dksX1_renderLion_0 2 rfl rfl)
theorem dX1_renderLion_3 : decode cX1_renderLion 3 = .ok (.invokevirtual 208, 3) := dk_182 0 208 (dk_at dksX1_renderLion_0 3 rfl rfl)
theorem dX1_renderLion_6 : decode cX1_renderLion 6 = .ok (.invokevirtual 363, 3) := dk_182 1 107 (dk_at dksX1_renderLion_0 6 rfl rfl)
theorem dX1_renderLion_9 : decode cX1_renderLion 9 = .ok (.invokevirtual 367, 3) := dk_182 1 111 (dk_at dksX1_renderLion_0 9 rfl rfl)
theorem dX1_renderLion_12 : decode cX1_renderLion 12 = .ok (.ireturn, 1) := dk_172 (dk_at dksX1_renderLion_0 12 rfl rfl)
abbrev cX0_renderLion : ByteArray := method_29_code
def yX0_renderLion : MethodName := ⟨RX0, "renderLion", "(LLionGate;I[J)I"⟩
def dkwX0_renderLion_0 : List UInt8 := [44, 3, 42, 27, 182, 0, 107, 133, 80, 167, 0, 6, 78, 4, 172, 3, 172]
abbrev dktX0_renderLion_0 : List UInt8 := dkwX0_renderLion_0 ++ []
theorem dksX0_renderLion_0 : cX0_renderLion.data.toList.drop 0 = dktX0_renderLion_0 := by decide +kernel
theorem dX0_renderLion_0 : decode cX0_renderLion 0 = .ok (.aload_n 2, 1) := dk_44 (dk_at dksX0_renderLion_0 0 rfl rfl)
theorem dX0_renderLion_1 : decode cX0_renderLion 1 = .ok (.iconst 0, 1) := dk_3 (dk_at dksX0_renderLion_0 1 rfl rfl)
theorem dX0_renderLion_2 : decode cX0_renderLion 2 = .ok (.aload_n 0, 1) := dk_42 (dk_at dksX0_renderLion_0 2 rfl rfl)
theorem dX0_renderLion_3 : decode cX0_renderLion 3 = .ok (.iload_n 1, 1) := dk_27 (dk_at dksX0_renderLion_0 3 rfl rfl)
theorem dX0_renderLion_4 : decode cX0_renderLion 4 = .ok (.invokevirtual 107, 3) := dk_182 0 107 (dk_at dksX0_renderLion_0 4 rfl rfl)
theorem dX0_renderLion_7 : decode cX0_renderLion 7 = .ok (.i2l, 1) := dk_133 (dk_at dksX0_renderLion_0 7 rfl rfl)
theorem dX0_renderLion_8 : decode cX0_renderLion 8 = .ok (.lastore, 1) := dk_80 (dk_at dksX0_renderLion_0 8 rfl rfl)
theorem dX0_renderLion_9 : decode cX0_renderLion 9 = .ok (.goto 6, 3) := dk_167 0 6 (dk_at dksX0_renderLion_0 9 rfl rfl)
theorem dX0_renderLion_12 : decode cX0_renderLion 12 = .ok (.astore_n 3, 1) := dk_78 (dk_at dksX0_renderLion_0 12 rfl rfl)
theorem dX0_renderLion_13 : decode cX0_renderLion 13 = .ok (.iconst 1, 1) := dk_4 (dk_at dksX0_renderLion_0 13 rfl rfl)
theorem dX0_renderLion_14 : decode cX0_renderLion 14 = .ok (.ireturn, 1) := dk_172 (dk_at dksX0_renderLion_0 14 rfl rfl)
theorem dX0_renderLion_15 : decode cX0_renderLion 15 = .ok (.iconst 0, 1) := dk_3 (dk_at dksX0_renderLion_0 15 rfl rfl)
theorem dX0_renderLion_16 : decode cX0_renderLion 16 = .ok (.ireturn, 1) := dk_172 (dk_at dksX0_renderLion_0 16 rfl rfl)
abbrev cX1_checkState : ByteArray := prog_1_method_19_code
def yX1_checkState : MethodName := ⟨RX1, "checkState", "(Z)V"⟩
def dkwX1_checkState_0 : List UInt8 := [26, 154, 0, 11, 187, 0, 158, 89, 183, 0, 160, 191, 177]
abbrev dktX1_checkState_0 : List UInt8 := dkwX1_checkState_0 ++ []
theorem dksX1_checkState_0 : cX1_checkState.data.toList.drop 0 = dktX1_checkState_0 := by decide +kernel
theorem dX1_checkState_0 : decode cX1_checkState 0 = .ok (.iload_n 0, 1) := dk_26 (dk_at dksX1_checkState_0 0 rfl rfl)
theorem dX1_checkState_1 : decode cX1_checkState 1 = .ok (.ifCond .ne 11, 3) := dk_154 0 11 (dk_at dksX1_checkState_0 1 rfl rfl)
theorem dX1_checkState_4 : decode cX1_checkState 4 = .ok (.new 158, 3) := dk_187 0 158 (dk_at dksX1_checkState_0 4 rfl rfl)
theorem dX1_checkState_7 : decode cX1_checkState 7 = .ok (.dup, 1) := dk_89 (dk_at dksX1_checkState_0 7 rfl rfl)
theorem dX1_checkState_8 : decode cX1_checkState 8 = .ok (.invokespecial 160, 3) := dk_183 0 160 (dk_at dksX1_checkState_0 8 rfl rfl)
theorem dX1_checkState_11 : decode cX1_checkState 11 = .ok (.athrow, 1) := dk_191 (dk_at dksX1_checkState_0 11 rfl rfl)
theorem dX1_checkState_12 : decode cX1_checkState 12 = .ok (.return_, 1) := dk_177 (dk_at dksX1_checkState_0 12 rfl rfl)
abbrev cJ6_clear : ByteArray := prog_75_method_21_code
def yJ6_clear : MethodName := ⟨RJ6, "clear", "()V"⟩
def dkwJ6_clear_2 : List UInt8 := [181, 0, 7, 42, 89, 180, 0, 33, 4, 96, 181, 0, 33, 177]
abbrev dktJ6_clear_2 : List UInt8 := dkwJ6_clear_2 ++ []
def dkwJ6_clear_1 : List UInt8 := [43, 1, 181, 0, 30, 44, 76, 167, 255, 230, 42, 42, 1, 90, 181, 0, 27, 181, 0, 18, 42, 3]
abbrev dktJ6_clear_1 : List UInt8 := dkwJ6_clear_1 ++ dktJ6_clear_2
def dkwJ6_clear_0 : List UInt8 := [42, 180, 0, 18, 76, 43, 198, 0, 28, 43, 180, 0, 36, 77, 43, 1, 181, 0, 39, 43, 1, 181, 0, 36]
abbrev dktJ6_clear_0 : List UInt8 := dkwJ6_clear_0 ++ dktJ6_clear_1
theorem dksJ6_clear_0 : cJ6_clear.data.toList.drop 0 = dktJ6_clear_0 := by decide +kernel
theorem dksJ6_clear_1 : cJ6_clear.data.toList.drop 24 = dktJ6_clear_1 := dk_seg dksJ6_clear_0 24 rfl rfl
theorem dksJ6_clear_2 : cJ6_clear.data.toList.drop 46 = dktJ6_clear_2 := dk_seg dksJ6_clear_1 22 rfl rfl
theorem dJ6_clear_0 : decode cJ6_clear 0 = .ok (.aload_n 0, 1) := dk_42 (dk_at dksJ6_clear_0 0 rfl rfl)
theorem dJ6_clear_1 : decode cJ6_clear 1 = .ok (.getfield 18, 3) := dk_180 0 18 (dk_at dksJ6_clear_0 1 rfl rfl)
theorem dJ6_clear_4 : decode cJ6_clear 4 = .ok (.astore_n 1, 1) := dk_76 (dk_at dksJ6_clear_0 4 rfl rfl)
theorem dJ6_clear_5 : decode cJ6_clear 5 = .ok (.aload_n 1, 1) := dk_43 (dk_at dksJ6_clear_0 5 rfl rfl)
theorem dJ6_clear_6 : decode cJ6_clear 6 = .ok (.ifnull 28, 3) := dk_198 0 28 (dk_at dksJ6_clear_0 6 rfl rfl)
theorem dJ6_clear_9 : decode cJ6_clear 9 = .ok (.aload_n 1, 1) := dk_43 (dk_at dksJ6_clear_0 9 rfl rfl)
theorem dJ6_clear_10 : decode cJ6_clear 10 = .ok (.getfield 36, 3) := dk_180 0 36 (dk_at dksJ6_clear_0 10 rfl rfl)
theorem dJ6_clear_13 : decode cJ6_clear 13 = .ok (.astore_n 2, 1) := dk_77 (dk_at dksJ6_clear_0 13 rfl rfl)
theorem dJ6_clear_14 : decode cJ6_clear 14 = .ok (.aload_n 1, 1) := dk_43 (dk_at dksJ6_clear_0 14 rfl rfl)
theorem dJ6_clear_15 : decode cJ6_clear 15 = .ok (.aconst_null, 1) := dk_1 (dk_at dksJ6_clear_0 15 rfl rfl)
theorem dJ6_clear_16 : decode cJ6_clear 16 = .ok (.putfield 39, 3) := dk_181 0 39 (dk_at dksJ6_clear_0 16 rfl rfl)
theorem dJ6_clear_19 : decode cJ6_clear 19 = .ok (.aload_n 1, 1) := dk_43 (dk_at dksJ6_clear_0 19 rfl rfl)
theorem dJ6_clear_20 : decode cJ6_clear 20 = .ok (.aconst_null, 1) := dk_1 (dk_at dksJ6_clear_0 20 rfl rfl)
theorem dJ6_clear_21 : decode cJ6_clear 21 = .ok (.putfield 36, 3) := dk_181 0 36 (dk_at dksJ6_clear_0 21 rfl rfl)
theorem dJ6_clear_24 : decode cJ6_clear 24 = .ok (.aload_n 1, 1) := dk_43 (dk_at dksJ6_clear_1 0 rfl rfl)
theorem dJ6_clear_25 : decode cJ6_clear 25 = .ok (.aconst_null, 1) := dk_1 (dk_at dksJ6_clear_1 1 rfl rfl)
theorem dJ6_clear_26 : decode cJ6_clear 26 = .ok (.putfield 30, 3) := dk_181 0 30 (dk_at dksJ6_clear_1 2 rfl rfl)
theorem dJ6_clear_29 : decode cJ6_clear 29 = .ok (.aload_n 2, 1) := dk_44 (dk_at dksJ6_clear_1 5 rfl rfl)
theorem dJ6_clear_30 : decode cJ6_clear 30 = .ok (.astore_n 1, 1) := dk_76 (dk_at dksJ6_clear_1 6 rfl rfl)
theorem dJ6_clear_31 : decode cJ6_clear 31 = .ok (.goto (-26), 3) := dk_167 255 230 (dk_at dksJ6_clear_1 7 rfl rfl)
theorem dJ6_clear_34 : decode cJ6_clear 34 = .ok (.aload_n 0, 1) := dk_42 (dk_at dksJ6_clear_1 10 rfl rfl)
theorem dJ6_clear_35 : decode cJ6_clear 35 = .ok (.aload_n 0, 1) := dk_42 (dk_at dksJ6_clear_1 11 rfl rfl)
theorem dJ6_clear_36 : decode cJ6_clear 36 = .ok (.aconst_null, 1) := dk_1 (dk_at dksJ6_clear_1 12 rfl rfl)
theorem dJ6_clear_37 : decode cJ6_clear 37 = .ok (.dup_x1, 1) := dk_90 (dk_at dksJ6_clear_1 13 rfl rfl)
theorem dJ6_clear_38 : decode cJ6_clear 38 = .ok (.putfield 27, 3) := dk_181 0 27 (dk_at dksJ6_clear_1 14 rfl rfl)
theorem dJ6_clear_41 : decode cJ6_clear 41 = .ok (.putfield 18, 3) := dk_181 0 18 (dk_at dksJ6_clear_1 17 rfl rfl)
theorem dJ6_clear_44 : decode cJ6_clear 44 = .ok (.aload_n 0, 1) := dk_42 (dk_at dksJ6_clear_1 20 rfl rfl)
theorem dJ6_clear_45 : decode cJ6_clear 45 = .ok (.iconst 0, 1) := dk_3 (dk_at dksJ6_clear_1 21 rfl rfl)
theorem dJ6_clear_46 : decode cJ6_clear 46 = .ok (.putfield 7, 3) := dk_181 0 7 (dk_at dksJ6_clear_2 0 rfl rfl)
theorem dJ6_clear_49 : decode cJ6_clear 49 = .ok (.aload_n 0, 1) := dk_42 (dk_at dksJ6_clear_2 3 rfl rfl)
theorem dJ6_clear_50 : decode cJ6_clear 50 = .ok (.dup, 1) := dk_89 (dk_at dksJ6_clear_2 4 rfl rfl)
theorem dJ6_clear_51 : decode cJ6_clear 51 = .ok (.getfield 33, 3) := dk_180 0 33 (dk_at dksJ6_clear_2 5 rfl rfl)
theorem dJ6_clear_54 : decode cJ6_clear 54 = .ok (.iconst 1, 1) := dk_4 (dk_at dksJ6_clear_2 8 rfl rfl)
theorem dJ6_clear_55 : decode cJ6_clear 55 = .ok (.iadd, 1) := dk_96 (dk_at dksJ6_clear_2 9 rfl rfl)
theorem dJ6_clear_56 : decode cJ6_clear 56 = .ok (.putfield 33, 3) := dk_181 0 33 (dk_at dksJ6_clear_2 10 rfl rfl)
theorem dJ6_clear_59 : decode cJ6_clear 59 = .ok (.return_, 1) := dk_177 (dk_at dksJ6_clear_2 13 rfl rfl)
abbrev cX1_restore : ByteArray := prog_1_method_72_code
def yX1_restore : MethodName := ⟨RX1, "restore", "()I"⟩
def dkwX1_restore_1 : List UInt8 := [180, 0, 75, 182, 1, 183, 42, 182, 0, 190, 172]
abbrev dktX1_restore_1 : List UInt8 := dkwX1_restore_1 ++ []
def dkwX1_restore_0 : List UInt8 := [42, 180, 1, 180, 198, 0, 7, 4, 167, 0, 4, 3, 184, 1, 123, 42, 42, 180, 1, 180, 181, 0, 66, 42]
abbrev dktX1_restore_0 : List UInt8 := dkwX1_restore_0 ++ dktX1_restore_1
theorem dksX1_restore_0 : cX1_restore.data.toList.drop 0 = dktX1_restore_0 := by decide +kernel
theorem dksX1_restore_1 : cX1_restore.data.toList.drop 24 = dktX1_restore_1 := dk_seg dksX1_restore_0 24 rfl rfl
theorem dX1_restore_0 : decode cX1_restore 0 = .ok (.aload_n 0, 1) := dk_42 (dk_at dksX1_restore_0 0 rfl rfl)
theorem dX1_restore_1 : decode cX1_restore 1 = .ok (.getfield 436, 3) := dk_180 1 180 (dk_at dksX1_restore_0 1 rfl rfl)
theorem dX1_restore_4 : decode cX1_restore 4 = .ok (.ifnull 7, 3) := dk_198 0 7 (dk_at dksX1_restore_0 4 rfl rfl)
theorem dX1_restore_7 : decode cX1_restore 7 = .ok (.iconst 1, 1) := dk_4 (dk_at dksX1_restore_0 7 rfl rfl)
theorem dX1_restore_8 : decode cX1_restore 8 = .ok (.goto 4, 3) := dk_167 0 4 (dk_at dksX1_restore_0 8 rfl rfl)
theorem dX1_restore_11 : decode cX1_restore 11 = .ok (.iconst 0, 1) := dk_3 (dk_at dksX1_restore_0 11 rfl rfl)
theorem dX1_restore_12 : decode cX1_restore 12 = .ok (.invokestatic 379, 3) := dk_184 1 123 (dk_at dksX1_restore_0 12 rfl rfl)
theorem dX1_restore_15 : decode cX1_restore 15 = .ok (.aload_n 0, 1) := dk_42 (dk_at dksX1_restore_0 15 rfl rfl)
theorem dX1_restore_16 : decode cX1_restore 16 = .ok (.aload_n 0, 1) := dk_42 (dk_at dksX1_restore_0 16 rfl rfl)
theorem dX1_restore_17 : decode cX1_restore 17 = .ok (.getfield 436, 3) := dk_180 1 180 (dk_at dksX1_restore_0 17 rfl rfl)
theorem dX1_restore_20 : decode cX1_restore 20 = .ok (.putfield 66, 3) := dk_181 0 66 (dk_at dksX1_restore_0 20 rfl rfl)
theorem dX1_restore_23 : decode cX1_restore 23 = .ok (.aload_n 0, 1) := dk_42 (dk_at dksX1_restore_0 23 rfl rfl)
theorem dX1_restore_24 : decode cX1_restore 24 = .ok (.getfield 75, 3) := dk_180 0 75 (dk_at dksX1_restore_1 0 rfl rfl)
theorem dX1_restore_27 : decode cX1_restore 27 = .ok (.invokevirtual 439, 3) := dk_182 1 183 (dk_at dksX1_restore_1 3 rfl rfl)
theorem dX1_restore_30 : decode cX1_restore 30 = .ok (.aload_n 0, 1) := dk_42 (dk_at dksX1_restore_1 6 rfl rfl)
theorem dX1_restore_31 : decode cX1_restore 31 = .ok (.invokevirtual 190, 3) := dk_182 0 190 (dk_at dksX1_restore_1 7 rfl rfl)
theorem dX1_restore_34 : decode cX1_restore 34 = .ok (.ireturn, 1) := dk_172 (dk_at dksX1_restore_1 10 rfl rfl)
abbrev cX0_restore : ByteArray := method_37_code
def yX0_restore : MethodName := ⟨RX0, "restore", "(LLionGate;[J)I"⟩
def dkwX0_restore_0 : List UInt8 := [43, 3, 42, 182, 0, 134, 133, 80, 167, 0, 6, 77, 4, 172, 3, 172]
abbrev dktX0_restore_0 : List UInt8 := dkwX0_restore_0 ++ []
theorem dksX0_restore_0 : cX0_restore.data.toList.drop 0 = dktX0_restore_0 := by decide +kernel
theorem dX0_restore_0 : decode cX0_restore 0 = .ok (.aload_n 1, 1) := dk_43 (dk_at dksX0_restore_0 0 rfl rfl)
theorem dX0_restore_1 : decode cX0_restore 1 = .ok (.iconst 0, 1) := dk_3 (dk_at dksX0_restore_0 1 rfl rfl)
theorem dX0_restore_2 : decode cX0_restore 2 = .ok (.aload_n 0, 1) := dk_42 (dk_at dksX0_restore_0 2 rfl rfl)
theorem dX0_restore_3 : decode cX0_restore 3 = .ok (.invokevirtual 134, 3) := dk_182 0 134 (dk_at dksX0_restore_0 3 rfl rfl)
theorem dX0_restore_6 : decode cX0_restore 6 = .ok (.i2l, 1) := dk_133 (dk_at dksX0_restore_0 6 rfl rfl)
theorem dX0_restore_7 : decode cX0_restore 7 = .ok (.lastore, 1) := dk_80 (dk_at dksX0_restore_0 7 rfl rfl)
theorem dX0_restore_8 : decode cX0_restore 8 = .ok (.goto 6, 3) := dk_167 0 6 (dk_at dksX0_restore_0 8 rfl rfl)
theorem dX0_restore_11 : decode cX0_restore 11 = .ok (.astore_n 2, 1) := dk_77 (dk_at dksX0_restore_0 11 rfl rfl)
theorem dX0_restore_12 : decode cX0_restore 12 = .ok (.iconst 1, 1) := dk_4 (dk_at dksX0_restore_0 12 rfl rfl)
theorem dX0_restore_13 : decode cX0_restore 13 = .ok (.ireturn, 1) := dk_172 (dk_at dksX0_restore_0 13 rfl rfl)
theorem dX0_restore_14 : decode cX0_restore 14 = .ok (.iconst 0, 1) := dk_3 (dk_at dksX0_restore_0 14 rfl rfl)
theorem dX0_restore_15 : decode cX0_restore 15 = .ok (.ireturn, 1) := dk_172 (dk_at dksX0_restore_0 15 rfl rfl)
abbrev cX1_roar : ByteArray := prog_1_method_8_code
def yX1_roar : MethodName := ⟨RX1, "roar", "(II)I"⟩
def dkwX1_roar_0 : List UInt8 := [42, 18, 133, 5, 188, 10, 89, 3, 27, 79, 89, 4, 28, 79, 182, 0, 129, 172]
abbrev dktX1_roar_0 : List UInt8 := dkwX1_roar_0 ++ []
theorem dksX1_roar_0 : cX1_roar.data.toList.drop 0 = dktX1_roar_0 := by decide +kernel
theorem dX1_roar_0 : decode cX1_roar 0 = .ok (.aload_n 0, 1) := dk_42 (dk_at dksX1_roar_0 0 rfl rfl)
theorem dX1_roar_1 : decode cX1_roar 1 = .ok (.ldc 133, 2) := dk_18 133 (dk_at dksX1_roar_0 1 rfl rfl)
theorem dX1_roar_3 : decode cX1_roar 3 = .ok (.iconst 2, 1) := dk_5 (dk_at dksX1_roar_0 3 rfl rfl)
theorem dX1_roar_4 : decode cX1_roar 4 = .ok (.newarray .int, 2) := dk_188_10 (dk_at dksX1_roar_0 4 rfl rfl)
theorem dX1_roar_6 : decode cX1_roar 6 = .ok (.dup, 1) := dk_89 (dk_at dksX1_roar_0 6 rfl rfl)
theorem dX1_roar_7 : decode cX1_roar 7 = .ok (.iconst 0, 1) := dk_3 (dk_at dksX1_roar_0 7 rfl rfl)
theorem dX1_roar_8 : decode cX1_roar 8 = .ok (.iload_n 1, 1) := dk_27 (dk_at dksX1_roar_0 8 rfl rfl)
theorem dX1_roar_9 : decode cX1_roar 9 = .ok (.iastore, 1) := dk_79 (dk_at dksX1_roar_0 9 rfl rfl)
theorem dX1_roar_10 : decode cX1_roar 10 = .ok (.dup, 1) := dk_89 (dk_at dksX1_roar_0 10 rfl rfl)
theorem dX1_roar_11 : decode cX1_roar 11 = .ok (.iconst 1, 1) := dk_4 (dk_at dksX1_roar_0 11 rfl rfl)
theorem dX1_roar_12 : decode cX1_roar 12 = .ok (.iload_n 2, 1) := dk_28 (dk_at dksX1_roar_0 12 rfl rfl)
theorem dX1_roar_13 : decode cX1_roar 13 = .ok (.iastore, 1) := dk_79 (dk_at dksX1_roar_0 13 rfl rfl)
theorem dX1_roar_14 : decode cX1_roar 14 = .ok (.invokevirtual 129, 3) := dk_182 0 129 (dk_at dksX1_roar_0 14 rfl rfl)
theorem dX1_roar_17 : decode cX1_roar 17 = .ok (.ireturn, 1) := dk_172 (dk_at dksX1_roar_0 17 rfl rfl)
abbrev cX0_roar : ByteArray := method_4_code
def yX0_roar : MethodName := ⟨RX0, "roar", "(LLionGate;II[J)I"⟩
def dkwX0_roar_0 : List UInt8 := [45, 3, 42, 27, 28, 182, 0, 17, 133, 80, 167, 0, 11, 58, 4, 4, 172, 58, 4, 5, 172, 3, 172]
abbrev dktX0_roar_0 : List UInt8 := dkwX0_roar_0 ++ []
theorem dksX0_roar_0 : cX0_roar.data.toList.drop 0 = dktX0_roar_0 := by decide +kernel
theorem dX0_roar_0 : decode cX0_roar 0 = .ok (.aload_n 3, 1) := dk_45 (dk_at dksX0_roar_0 0 rfl rfl)
theorem dX0_roar_1 : decode cX0_roar 1 = .ok (.iconst 0, 1) := dk_3 (dk_at dksX0_roar_0 1 rfl rfl)
theorem dX0_roar_2 : decode cX0_roar 2 = .ok (.aload_n 0, 1) := dk_42 (dk_at dksX0_roar_0 2 rfl rfl)
theorem dX0_roar_3 : decode cX0_roar 3 = .ok (.iload_n 1, 1) := dk_27 (dk_at dksX0_roar_0 3 rfl rfl)
theorem dX0_roar_4 : decode cX0_roar 4 = .ok (.iload_n 2, 1) := dk_28 (dk_at dksX0_roar_0 4 rfl rfl)
theorem dX0_roar_5 : decode cX0_roar 5 = .ok (.invokevirtual 17, 3) := dk_182 0 17 (dk_at dksX0_roar_0 5 rfl rfl)
theorem dX0_roar_8 : decode cX0_roar 8 = .ok (.i2l, 1) := dk_133 (dk_at dksX0_roar_0 8 rfl rfl)
theorem dX0_roar_9 : decode cX0_roar 9 = .ok (.lastore, 1) := dk_80 (dk_at dksX0_roar_0 9 rfl rfl)
theorem dX0_roar_10 : decode cX0_roar 10 = .ok (.goto 11, 3) := dk_167 0 11 (dk_at dksX0_roar_0 10 rfl rfl)
theorem dX0_roar_13 : decode cX0_roar 13 = .ok (.astore 4, 2) := dk_58 4 (dk_at dksX0_roar_0 13 rfl rfl)
theorem dX0_roar_15 : decode cX0_roar 15 = .ok (.iconst 1, 1) := dk_4 (dk_at dksX0_roar_0 15 rfl rfl)
theorem dX0_roar_16 : decode cX0_roar 16 = .ok (.ireturn, 1) := dk_172 (dk_at dksX0_roar_0 16 rfl rfl)
theorem dX0_roar_17 : decode cX0_roar 17 = .ok (.astore 4, 2) := dk_58 4 (dk_at dksX0_roar_0 17 rfl rfl)
theorem dX0_roar_19 : decode cX0_roar 19 = .ok (.iconst 2, 1) := dk_5 (dk_at dksX0_roar_0 19 rfl rfl)
theorem dX0_roar_20 : decode cX0_roar 20 = .ok (.ireturn, 1) := dk_172 (dk_at dksX0_roar_0 20 rfl rfl)
theorem dX0_roar_21 : decode cX0_roar 21 = .ok (.iconst 0, 1) := dk_3 (dk_at dksX0_roar_0 21 rfl rfl)
theorem dX0_roar_22 : decode cX0_roar 22 = .ok (.ireturn, 1) := dk_172 (dk_at dksX0_roar_0 22 rfl rfl)
abbrev cX17_init : ByteArray := prog_5_method_1_code
def yX17_init : MethodName := ⟨RX17, "<init>", "(ILLionGate$ConditionFailure;)V"⟩
def dkwX17_init_0 : List UInt8 := [42, 44, 183, 0, 1, 42, 27, 181, 0, 7, 177]
abbrev dktX17_init_0 : List UInt8 := dkwX17_init_0 ++ []
theorem dksX17_init_0 : cX17_init.data.toList.drop 0 = dktX17_init_0 := by decide +kernel
theorem dX17_init_0 : decode cX17_init 0 = .ok (.aload_n 0, 1) := dk_42 (dk_at dksX17_init_0 0 rfl rfl)
theorem dX17_init_1 : decode cX17_init 1 = .ok (.aload_n 2, 1) := dk_44 (dk_at dksX17_init_0 1 rfl rfl)
theorem dX17_init_2 : decode cX17_init 2 = .ok (.invokespecial 1, 3) := dk_183 0 1 (dk_at dksX17_init_0 2 rfl rfl)
theorem dX17_init_5 : decode cX17_init 5 = .ok (.aload_n 0, 1) := dk_42 (dk_at dksX17_init_0 5 rfl rfl)
theorem dX17_init_6 : decode cX17_init 6 = .ok (.iload_n 1, 1) := dk_27 (dk_at dksX17_init_0 6 rfl rfl)
theorem dX17_init_7 : decode cX17_init 7 = .ok (.putfield 7, 3) := dk_181 0 7 (dk_at dksX17_init_0 7 rfl rfl)
theorem dX17_init_10 : decode cX17_init 10 = .ok (.return_, 1) := dk_177 (dk_at dksX17_init_0 10 rfl rfl)
abbrev cX1_execute : ByteArray := prog_1_method_64_code
def yX1_execute : MethodName := ⟨RX1, "execute", "(Ljava/util/List;)I"⟩
def dkwX1_execute_2 : List UInt8 := [25, 4, 183, 1, 132, 191, 132, 3, 1, 167, 255, 212, 42, 44, 43, 185, 0, 29, 1, 0, 182, 0, 119, 172]
abbrev dktX1_execute_2 : List UInt8 := dkwX1_execute_2 ++ []
def dkwX1_execute_1 : List UInt8 := [185, 0, 39, 2, 0, 192, 0, 110, 44, 182, 0, 115, 87, 167, 0, 16, 58, 4, 187, 1, 130, 89, 29]
abbrev dktX1_execute_1 : List UInt8 := dkwX1_execute_1 ++ dktX1_execute_2
def dkwX1_execute_0 : List UInt8 := [42, 180, 0, 66, 182, 0, 106, 77, 3, 62, 29, 43, 185, 0, 29, 1, 0, 162, 0, 40, 43, 29]
abbrev dktX1_execute_0 : List UInt8 := dkwX1_execute_0 ++ dktX1_execute_1
theorem dksX1_execute_0 : cX1_execute.data.toList.drop 0 = dktX1_execute_0 := by decide +kernel
theorem dksX1_execute_1 : cX1_execute.data.toList.drop 22 = dktX1_execute_1 := dk_seg dksX1_execute_0 22 rfl rfl
theorem dksX1_execute_2 : cX1_execute.data.toList.drop 45 = dktX1_execute_2 := dk_seg dksX1_execute_1 23 rfl rfl
theorem dX1_execute_0 : decode cX1_execute 0 = .ok (.aload_n 0, 1) := dk_42 (dk_at dksX1_execute_0 0 rfl rfl)
theorem dX1_execute_1 : decode cX1_execute 1 = .ok (.getfield 66, 3) := dk_180 0 66 (dk_at dksX1_execute_0 1 rfl rfl)
theorem dX1_execute_4 : decode cX1_execute 4 = .ok (.invokevirtual 106, 3) := dk_182 0 106 (dk_at dksX1_execute_0 4 rfl rfl)
theorem dX1_execute_7 : decode cX1_execute 7 = .ok (.astore_n 2, 1) := dk_77 (dk_at dksX1_execute_0 7 rfl rfl)
theorem dX1_execute_8 : decode cX1_execute 8 = .ok (.iconst 0, 1) := dk_3 (dk_at dksX1_execute_0 8 rfl rfl)
theorem dX1_execute_9 : decode cX1_execute 9 = .ok (.istore_n 3, 1) := dk_62 (dk_at dksX1_execute_0 9 rfl rfl)
theorem dX1_execute_10 : decode cX1_execute 10 = .ok (.iload_n 3, 1) := dk_29 (dk_at dksX1_execute_0 10 rfl rfl)
theorem dX1_execute_11 : decode cX1_execute 11 = .ok (.aload_n 1, 1) := dk_43 (dk_at dksX1_execute_0 11 rfl rfl)
theorem dX1_execute_12 : decode cX1_execute 12 = .ok (.invokeinterface 29 1, 5) := by decide +kernel
theorem dX1_execute_17 : decode cX1_execute 17 = .ok (.if_icmp .ge 40, 3) := dk_162 0 40 (dk_at dksX1_execute_0 17 rfl rfl)
theorem dX1_execute_20 : decode cX1_execute 20 = .ok (.aload_n 1, 1) := dk_43 (dk_at dksX1_execute_0 20 rfl rfl)
theorem dX1_execute_21 : decode cX1_execute 21 = .ok (.iload_n 3, 1) := dk_29 (dk_at dksX1_execute_0 21 rfl rfl)
theorem dX1_execute_22 : decode cX1_execute 22 = .ok (.invokeinterface 39 2, 5) := by decide +kernel
theorem dX1_execute_27 : decode cX1_execute 27 = .ok (.checkcast 110, 3) := dk_192 0 110 (dk_at dksX1_execute_1 5 rfl rfl)
theorem dX1_execute_30 : decode cX1_execute 30 = .ok (.aload_n 2, 1) := dk_44 (dk_at dksX1_execute_1 8 rfl rfl)
theorem dX1_execute_31 : decode cX1_execute 31 = .ok (.invokevirtual 115, 3) := dk_182 0 115 (dk_at dksX1_execute_1 9 rfl rfl)
theorem dX1_execute_34 : decode cX1_execute 34 = .ok (.pop, 1) := dk_87 (dk_at dksX1_execute_1 12 rfl rfl)
theorem dX1_execute_35 : decode cX1_execute 35 = .ok (.goto 16, 3) := dk_167 0 16 (dk_at dksX1_execute_1 13 rfl rfl)
theorem dX1_execute_38 : decode cX1_execute 38 = .ok (.astore 4, 2) := dk_58 4 (dk_at dksX1_execute_1 16 rfl rfl)
theorem dX1_execute_40 : decode cX1_execute 40 = .ok (.new 386, 3) := dk_187 1 130 (dk_at dksX1_execute_1 18 rfl rfl)
theorem dX1_execute_43 : decode cX1_execute 43 = .ok (.dup, 1) := dk_89 (dk_at dksX1_execute_1 21 rfl rfl)
theorem dX1_execute_44 : decode cX1_execute 44 = .ok (.iload_n 3, 1) := dk_29 (dk_at dksX1_execute_1 22 rfl rfl)
theorem dX1_execute_45 : decode cX1_execute 45 = .ok (.aload 4, 2) := dk_25 4 (dk_at dksX1_execute_2 0 rfl rfl)
theorem dX1_execute_47 : decode cX1_execute 47 = .ok (.invokespecial 388, 3) := dk_183 1 132 (dk_at dksX1_execute_2 2 rfl rfl)
theorem dX1_execute_50 : decode cX1_execute 50 = .ok (.athrow, 1) := dk_191 (dk_at dksX1_execute_2 5 rfl rfl)
theorem dX1_execute_51 : decode cX1_execute 51 = .ok (.iinc 3 1, 3) := dk_132 3 1 (dk_at dksX1_execute_2 6 rfl rfl)
theorem dX1_execute_54 : decode cX1_execute 54 = .ok (.goto (-44), 3) := dk_167 255 212 (dk_at dksX1_execute_2 9 rfl rfl)
theorem dX1_execute_57 : decode cX1_execute 57 = .ok (.aload_n 0, 1) := dk_42 (dk_at dksX1_execute_2 12 rfl rfl)
theorem dX1_execute_58 : decode cX1_execute 58 = .ok (.aload_n 2, 1) := dk_44 (dk_at dksX1_execute_2 13 rfl rfl)
theorem dX1_execute_59 : decode cX1_execute 59 = .ok (.aload_n 1, 1) := dk_43 (dk_at dksX1_execute_2 14 rfl rfl)
theorem dX1_execute_60 : decode cX1_execute 60 = .ok (.invokeinterface 29 1, 5) := by decide +kernel
theorem dX1_execute_65 : decode cX1_execute 65 = .ok (.invokevirtual 119, 3) := dk_182 0 119 (dk_at dksX1_execute_2 20 rfl rfl)
theorem dX1_execute_68 : decode cX1_execute 68 = .ok (.ireturn, 1) := dk_172 (dk_at dksX1_execute_2 23 rfl rfl)
abbrev cX17_index : ByteArray := prog_5_method_2_code
def yX17_index : MethodName := ⟨RX17, "index", "()I"⟩
theorem dX17_index_0 : decode cX17_index 0 = .ok (.aload_n 0, 1) := by decide +kernel
theorem dX17_index_1 : decode cX17_index 1 = .ok (.getfield 7, 3) := by decide +kernel
theorem dX17_index_4 : decode cX17_index 4 = .ok (.ireturn, 1) := by decide +kernel
abbrev cX7_kind : ByteArray := prog_6_method_2_code
def yX7_kind : MethodName := ⟨RX7, "kind", "()C"⟩
theorem dX7_kind_0 : decode cX7_kind 0 = .ok (.aload_n 0, 1) := by decide +kernel
theorem dX7_kind_1 : decode cX7_kind 1 = .ok (.getfield 7, 3) := by decide +kernel
theorem dX7_kind_4 : decode cX7_kind 4 = .ok (.ireturn, 1) := by decide +kernel
abbrev cX17_kind : ByteArray := prog_5_method_3_code
def yX17_kind : MethodName := ⟨RX17, "kind", "()C"⟩
def dkwX17_kind_1 : List UInt8 := [16, 32, 172]
abbrev dktX17_kind_1 : List UInt8 := dkwX17_kind_1 ++ []
def dkwX17_kind_0 : List UInt8 := [42, 182, 0, 13, 77, 44, 193, 0, 17, 153, 0, 15, 44, 192, 0, 17, 76, 43, 182, 0, 19, 167, 0, 5]
abbrev dktX17_kind_0 : List UInt8 := dkwX17_kind_0 ++ dktX17_kind_1
theorem dksX17_kind_0 : cX17_kind.data.toList.drop 0 = dktX17_kind_0 := by decide +kernel
theorem dksX17_kind_1 : cX17_kind.data.toList.drop 24 = dktX17_kind_1 := dk_seg dksX17_kind_0 24 rfl rfl
theorem dX17_kind_0 : decode cX17_kind 0 = .ok (.aload_n 0, 1) := dk_42 (dk_at dksX17_kind_0 0 rfl rfl)
theorem dX17_kind_1 : decode cX17_kind 1 = .ok (.invokevirtual 13, 3) := dk_182 0 13 (dk_at dksX17_kind_0 1 rfl rfl)
theorem dX17_kind_4 : decode cX17_kind 4 = .ok (.astore_n 2, 1) := dk_77 (dk_at dksX17_kind_0 4 rfl rfl)
theorem dX17_kind_5 : decode cX17_kind 5 = .ok (.aload_n 2, 1) := dk_44 (dk_at dksX17_kind_0 5 rfl rfl)
theorem dX17_kind_6 : decode cX17_kind 6 = .ok (.instanceof 17, 3) := dk_193 0 17 (dk_at dksX17_kind_0 6 rfl rfl)
theorem dX17_kind_9 : decode cX17_kind 9 = .ok (.ifCond .eq 15, 3) := dk_153 0 15 (dk_at dksX17_kind_0 9 rfl rfl)
theorem dX17_kind_12 : decode cX17_kind 12 = .ok (.aload_n 2, 1) := dk_44 (dk_at dksX17_kind_0 12 rfl rfl)
theorem dX17_kind_13 : decode cX17_kind 13 = .ok (.checkcast 17, 3) := dk_192 0 17 (dk_at dksX17_kind_0 13 rfl rfl)
theorem dX17_kind_16 : decode cX17_kind 16 = .ok (.astore_n 1, 1) := dk_76 (dk_at dksX17_kind_0 16 rfl rfl)
theorem dX17_kind_17 : decode cX17_kind 17 = .ok (.aload_n 1, 1) := dk_43 (dk_at dksX17_kind_0 17 rfl rfl)
theorem dX17_kind_18 : decode cX17_kind 18 = .ok (.invokevirtual 19, 3) := dk_182 0 19 (dk_at dksX17_kind_0 18 rfl rfl)
theorem dX17_kind_21 : decode cX17_kind 21 = .ok (.goto 5, 3) := dk_167 0 5 (dk_at dksX17_kind_0 21 rfl rfl)
theorem dX17_kind_24 : decode cX17_kind 24 = .ok (.bipush 32, 2) := dk_16 32 (dk_at dksX17_kind_1 0 rfl rfl)
theorem dX17_kind_26 : decode cX17_kind 26 = .ok (.ireturn, 1) := dk_172 (dk_at dksX17_kind_1 2 rfl rfl)
abbrev cX16_position : ByteArray := prog_15_method_2_code
def yX16_position : MethodName := ⟨RX16, "position", "()I"⟩
theorem dX16_position_0 : decode cX16_position 0 = .ok (.aload_n 0, 1) := by decide +kernel
theorem dX16_position_1 : decode cX16_position 1 = .ok (.getfield 7, 3) := by decide +kernel
theorem dX16_position_4 : decode cX16_position 4 = .ok (.ireturn, 1) := by decide +kernel
abbrev cX1_note : ByteArray := prog_1_method_65_code
def yX1_note : MethodName := ⟨RX1, "note", "(LLionGate$Failure;)V"⟩
def dkwX1_note_2 : List UInt8 := [181, 1, 147, 177]
abbrev dktX1_note_2 : List UInt8 := dkwX1_note_2 ++ []
def dkwX1_note_1 : List UInt8 := [193, 1, 130, 153, 0, 24, 43, 192, 1, 130, 78, 42, 45, 182, 1, 140, 181, 0, 90, 42, 45, 182, 1, 143]
abbrev dktX1_note_1 : List UInt8 := dkwX1_note_1 ++ dktX1_note_2
def dkwX1_note_0 : List UInt8 := [43, 193, 1, 135, 153, 0, 19, 43, 192, 1, 135, 77, 42, 44, 182, 1, 137, 181, 0, 86, 167, 0, 31, 43]
abbrev dktX1_note_0 : List UInt8 := dkwX1_note_0 ++ dktX1_note_1
theorem dksX1_note_0 : cX1_note.data.toList.drop 0 = dktX1_note_0 := by decide +kernel
theorem dksX1_note_1 : cX1_note.data.toList.drop 24 = dktX1_note_1 := dk_seg dksX1_note_0 24 rfl rfl
theorem dksX1_note_2 : cX1_note.data.toList.drop 48 = dktX1_note_2 := dk_seg dksX1_note_1 24 rfl rfl
theorem dX1_note_0 : decode cX1_note 0 = .ok (.aload_n 1, 1) := dk_43 (dk_at dksX1_note_0 0 rfl rfl)
theorem dX1_note_1 : decode cX1_note 1 = .ok (.instanceof 391, 3) := dk_193 1 135 (dk_at dksX1_note_0 1 rfl rfl)
theorem dX1_note_4 : decode cX1_note 4 = .ok (.ifCond .eq 19, 3) := dk_153 0 19 (dk_at dksX1_note_0 4 rfl rfl)
theorem dX1_note_7 : decode cX1_note 7 = .ok (.aload_n 1, 1) := dk_43 (dk_at dksX1_note_0 7 rfl rfl)
theorem dX1_note_8 : decode cX1_note 8 = .ok (.checkcast 391, 3) := dk_192 1 135 (dk_at dksX1_note_0 8 rfl rfl)
theorem dX1_note_11 : decode cX1_note 11 = .ok (.astore_n 2, 1) := dk_77 (dk_at dksX1_note_0 11 rfl rfl)
theorem dX1_note_12 : decode cX1_note 12 = .ok (.aload_n 0, 1) := dk_42 (dk_at dksX1_note_0 12 rfl rfl)
theorem dX1_note_13 : decode cX1_note 13 = .ok (.aload_n 2, 1) := dk_44 (dk_at dksX1_note_0 13 rfl rfl)
theorem dX1_note_14 : decode cX1_note 14 = .ok (.invokevirtual 393, 3) := dk_182 1 137 (dk_at dksX1_note_0 14 rfl rfl)
theorem dX1_note_17 : decode cX1_note 17 = .ok (.putfield 86, 3) := dk_181 0 86 (dk_at dksX1_note_0 17 rfl rfl)
theorem dX1_note_20 : decode cX1_note 20 = .ok (.goto 31, 3) := dk_167 0 31 (dk_at dksX1_note_0 20 rfl rfl)
theorem dX1_note_23 : decode cX1_note 23 = .ok (.aload_n 1, 1) := dk_43 (dk_at dksX1_note_0 23 rfl rfl)
theorem dX1_note_24 : decode cX1_note 24 = .ok (.instanceof 386, 3) := dk_193 1 130 (dk_at dksX1_note_1 0 rfl rfl)
theorem dX1_note_27 : decode cX1_note 27 = .ok (.ifCond .eq 24, 3) := dk_153 0 24 (dk_at dksX1_note_1 3 rfl rfl)
theorem dX1_note_30 : decode cX1_note 30 = .ok (.aload_n 1, 1) := dk_43 (dk_at dksX1_note_1 6 rfl rfl)
theorem dX1_note_31 : decode cX1_note 31 = .ok (.checkcast 386, 3) := dk_192 1 130 (dk_at dksX1_note_1 7 rfl rfl)
theorem dX1_note_34 : decode cX1_note 34 = .ok (.astore_n 3, 1) := dk_78 (dk_at dksX1_note_1 10 rfl rfl)
theorem dX1_note_35 : decode cX1_note 35 = .ok (.aload_n 0, 1) := dk_42 (dk_at dksX1_note_1 11 rfl rfl)
theorem dX1_note_36 : decode cX1_note 36 = .ok (.aload_n 3, 1) := dk_45 (dk_at dksX1_note_1 12 rfl rfl)
theorem dX1_note_37 : decode cX1_note 37 = .ok (.invokevirtual 396, 3) := dk_182 1 140 (dk_at dksX1_note_1 13 rfl rfl)
theorem dX1_note_40 : decode cX1_note 40 = .ok (.putfield 90, 3) := dk_181 0 90 (dk_at dksX1_note_1 16 rfl rfl)
theorem dX1_note_43 : decode cX1_note 43 = .ok (.aload_n 0, 1) := dk_42 (dk_at dksX1_note_1 19 rfl rfl)
theorem dX1_note_44 : decode cX1_note 44 = .ok (.aload_n 3, 1) := dk_45 (dk_at dksX1_note_1 20 rfl rfl)
theorem dX1_note_45 : decode cX1_note 45 = .ok (.invokevirtual 399, 3) := dk_182 1 143 (dk_at dksX1_note_1 21 rfl rfl)
theorem dX1_note_48 : decode cX1_note 48 = .ok (.putfield 403, 3) := dk_181 1 147 (dk_at dksX1_note_2 0 rfl rfl)
theorem dX1_note_51 : decode cX1_note 51 = .ok (.return_, 1) := dk_177 (dk_at dksX1_note_2 3 rfl rfl)
abbrev cX17_asPublicException : ByteArray := prog_5_method_4_code
def yX17_asPublicException : MethodName := ⟨RX17, "asPublicException", "()Ljava/lang/RuntimeException;"⟩
def dkwX17_asPublicException_0 : List UInt8 := [187, 0, 23, 89, 183, 0, 25, 176]
abbrev dktX17_asPublicException_0 : List UInt8 := dkwX17_asPublicException_0 ++ []
theorem dksX17_asPublicException_0 : cX17_asPublicException.data.toList.drop 0 = dktX17_asPublicException_0 := by decide +kernel
theorem dX17_asPublicException_0 : decode cX17_asPublicException 0 = .ok (.new 23, 3) := dk_187 0 23 (dk_at dksX17_asPublicException_0 0 rfl rfl)
theorem dX17_asPublicException_3 : decode cX17_asPublicException 3 = .ok (.dup, 1) := dk_89 (dk_at dksX17_asPublicException_0 3 rfl rfl)
theorem dX17_asPublicException_4 : decode cX17_asPublicException 4 = .ok (.invokespecial 25, 3) := dk_183 0 25 (dk_at dksX17_asPublicException_0 4 rfl rfl)
theorem dX17_asPublicException_7 : decode cX17_asPublicException 7 = .ok (.areturn, 1) := dk_176 (dk_at dksX17_asPublicException_0 7 rfl rfl)
abbrev cJ55_init : ByteArray := prog_69_method_1_code
def yJ55_init : MethodName := ⟨RJ55, "<init>", "()V"⟩
theorem dJ55_init_0 : decode cJ55_init 0 = .ok (.aload_n 0, 1) := by decide +kernel
theorem dJ55_init_1 : decode cJ55_init 1 = .ok (.invokespecial 1, 3) := by decide +kernel
theorem dJ55_init_4 : decode cJ55_init 4 = .ok (.return_, 1) := by decide +kernel
abbrev cJ56_init : ByteArray := prog_70_method_1_code
def yJ56_init : MethodName := ⟨RJ56, "<init>", "()V"⟩
theorem dJ56_init_0 : decode cJ56_init 0 = .ok (.aload_n 0, 1) := by decide +kernel
theorem dJ56_init_1 : decode cJ56_init 1 = .ok (.invokespecial 1, 3) := by decide +kernel
theorem dJ56_init_4 : decode cJ56_init 4 = .ok (.return_, 1) := by decide +kernel
abbrev cJ58_init : ByteArray := prog_73_method_1_code
def yJ58_init : MethodName := ⟨RJ58, "<init>", "([Ljava/lang/Object;Z)V"⟩
def dkwJ58_init_0 : List UInt8 := [42, 183, 0, 1, 42, 43, 181, 0, 7, 42, 28, 181, 0, 13, 177]
abbrev dktJ58_init_0 : List UInt8 := dkwJ58_init_0 ++ []
theorem dksJ58_init_0 : cJ58_init.data.toList.drop 0 = dktJ58_init_0 := by decide +kernel
theorem dJ58_init_0 : decode cJ58_init 0 = .ok (.aload_n 0, 1) := dk_42 (dk_at dksJ58_init_0 0 rfl rfl)
theorem dJ58_init_1 : decode cJ58_init 1 = .ok (.invokespecial 1, 3) := dk_183 0 1 (dk_at dksJ58_init_0 1 rfl rfl)
theorem dJ58_init_4 : decode cJ58_init 4 = .ok (.aload_n 0, 1) := dk_42 (dk_at dksJ58_init_0 4 rfl rfl)
theorem dJ58_init_5 : decode cJ58_init 5 = .ok (.aload_n 1, 1) := dk_43 (dk_at dksJ58_init_0 5 rfl rfl)
theorem dJ58_init_6 : decode cJ58_init 6 = .ok (.putfield 7, 3) := dk_181 0 7 (dk_at dksJ58_init_0 6 rfl rfl)
theorem dJ58_init_9 : decode cJ58_init 9 = .ok (.aload_n 0, 1) := dk_42 (dk_at dksJ58_init_0 9 rfl rfl)
theorem dJ58_init_10 : decode cJ58_init 10 = .ok (.iload_n 2, 1) := dk_28 (dk_at dksJ58_init_0 10 rfl rfl)
theorem dJ58_init_11 : decode cJ58_init 11 = .ok (.putfield 13, 3) := dk_181 0 13 (dk_at dksJ58_init_0 11 rfl rfl)
theorem dJ58_init_14 : decode cJ58_init 14 = .ok (.return_, 1) := dk_177 (dk_at dksJ58_init_0 14 rfl rfl)
abbrev cJ16_listFromTrustedArray : ByteArray := prog_68_method_5_code
def yJ16_listFromTrustedArray : MethodName := ⟨RJ16, "listFromTrustedArray", "([Ljava/lang/Object;)Ljava/util/List;"⟩
def dkwJ16_listFromTrustedArray_5 : List UInt8 := [3, 50, 42, 4, 50, 183, 0, 67, 167, 0, 12, 187, 0, 12, 89, 42, 3, 183, 0, 43, 176]
abbrev dktJ16_listFromTrustedArray_5 : List UInt8 := dkwJ16_listFromTrustedArray_5 ++ []
def dkwJ16_listFromTrustedArray_4 : List UInt8 := [178, 0, 60, 167, 0, 41, 187, 0, 10, 89, 42, 3, 50, 183, 0, 64, 167, 0, 28, 187, 0, 10, 89, 42]
abbrev dktJ16_listFromTrustedArray_4 : List UInt8 := dkwJ16_listFromTrustedArray_4 ++ dktJ16_listFromTrustedArray_5
def dkwJ16_listFromTrustedArray_3 : List UInt8 := [170, 0, 0, 0, 0, 61, 0, 0, 0, 0, 0, 0, 0, 2, 0, 0, 0, 26, 0, 0, 0, 32, 0, 0, 0, 45]
abbrev dktJ16_listFromTrustedArray_3 : List UInt8 := dkwJ16_listFromTrustedArray_3 ++ dktJ16_listFromTrustedArray_4
def dkwJ16_listFromTrustedArray_2 : List UInt8 := [132, 3, 1, 167, 255, 237, 42, 190]
abbrev dktJ16_listFromTrustedArray_2 : List UInt8 := dkwJ16_listFromTrustedArray_2 ++ dktJ16_listFromTrustedArray_3
def dkwJ16_listFromTrustedArray_1 : List UInt8 := [76, 43, 190, 61, 3, 62, 29, 28, 162, 0, 20, 43, 29, 50, 58, 4, 25, 4, 184, 0, 37, 87]
abbrev dktJ16_listFromTrustedArray_1 : List UInt8 := dkwJ16_listFromTrustedArray_1 ++ dktJ16_listFromTrustedArray_2
def dkwJ16_listFromTrustedArray_0 : List UInt8 := [178, 0, 46, 154, 0, 20, 42, 182, 0, 51, 18, 55, 165, 0, 11, 187, 0, 57, 89, 183, 0, 59, 191, 42]
abbrev dktJ16_listFromTrustedArray_0 : List UInt8 := dkwJ16_listFromTrustedArray_0 ++ dktJ16_listFromTrustedArray_1
theorem dksJ16_listFromTrustedArray_0 : cJ16_listFromTrustedArray.data.toList.drop 0 = dktJ16_listFromTrustedArray_0 := by decide +kernel
theorem dksJ16_listFromTrustedArray_1 : cJ16_listFromTrustedArray.data.toList.drop 24 = dktJ16_listFromTrustedArray_1 := dk_seg dksJ16_listFromTrustedArray_0 24 rfl rfl
theorem dksJ16_listFromTrustedArray_2 : cJ16_listFromTrustedArray.data.toList.drop 46 = dktJ16_listFromTrustedArray_2 := dk_seg dksJ16_listFromTrustedArray_1 22 rfl rfl
theorem dksJ16_listFromTrustedArray_3 : cJ16_listFromTrustedArray.data.toList.drop 54 = dktJ16_listFromTrustedArray_3 := dk_seg dksJ16_listFromTrustedArray_2 8 rfl rfl
theorem dksJ16_listFromTrustedArray_4 : cJ16_listFromTrustedArray.data.toList.drop 80 = dktJ16_listFromTrustedArray_4 := dk_seg dksJ16_listFromTrustedArray_3 26 rfl rfl
theorem dksJ16_listFromTrustedArray_5 : cJ16_listFromTrustedArray.data.toList.drop 104 = dktJ16_listFromTrustedArray_5 := dk_seg dksJ16_listFromTrustedArray_4 24 rfl rfl
theorem dJ16_listFromTrustedArray_0 : decode cJ16_listFromTrustedArray 0 = .ok (.getstatic 46, 3) := dk_178 0 46 (dk_at dksJ16_listFromTrustedArray_0 0 rfl rfl)
theorem dJ16_listFromTrustedArray_3 : decode cJ16_listFromTrustedArray 3 = .ok (.ifCond .ne 20, 3) := dk_154 0 20 (dk_at dksJ16_listFromTrustedArray_0 3 rfl rfl)
theorem dJ16_listFromTrustedArray_6 : decode cJ16_listFromTrustedArray 6 = .ok (.aload_n 0, 1) := dk_42 (dk_at dksJ16_listFromTrustedArray_0 6 rfl rfl)
theorem dJ16_listFromTrustedArray_7 : decode cJ16_listFromTrustedArray 7 = .ok (.invokevirtual 51, 3) := dk_182 0 51 (dk_at dksJ16_listFromTrustedArray_0 7 rfl rfl)
theorem dJ16_listFromTrustedArray_10 : decode cJ16_listFromTrustedArray 10 = .ok (.ldc 55, 2) := dk_18 55 (dk_at dksJ16_listFromTrustedArray_0 10 rfl rfl)
theorem dJ16_listFromTrustedArray_12 : decode cJ16_listFromTrustedArray 12 = .ok (.if_acmp .eq 11, 3) := dk_165 0 11 (dk_at dksJ16_listFromTrustedArray_0 12 rfl rfl)
theorem dJ16_listFromTrustedArray_15 : decode cJ16_listFromTrustedArray 15 = .ok (.new 57, 3) := dk_187 0 57 (dk_at dksJ16_listFromTrustedArray_0 15 rfl rfl)
theorem dJ16_listFromTrustedArray_23 : decode cJ16_listFromTrustedArray 23 = .ok (.aload_n 0, 1) := dk_42 (dk_at dksJ16_listFromTrustedArray_0 23 rfl rfl)
theorem dJ16_listFromTrustedArray_24 : decode cJ16_listFromTrustedArray 24 = .ok (.astore_n 1, 1) := dk_76 (dk_at dksJ16_listFromTrustedArray_1 0 rfl rfl)
theorem dJ16_listFromTrustedArray_25 : decode cJ16_listFromTrustedArray 25 = .ok (.aload_n 1, 1) := dk_43 (dk_at dksJ16_listFromTrustedArray_1 1 rfl rfl)
theorem dJ16_listFromTrustedArray_26 : decode cJ16_listFromTrustedArray 26 = .ok (.arraylength, 1) := dk_190 (dk_at dksJ16_listFromTrustedArray_1 2 rfl rfl)
theorem dJ16_listFromTrustedArray_27 : decode cJ16_listFromTrustedArray 27 = .ok (.istore_n 2, 1) := dk_61 (dk_at dksJ16_listFromTrustedArray_1 3 rfl rfl)
theorem dJ16_listFromTrustedArray_28 : decode cJ16_listFromTrustedArray 28 = .ok (.iconst 0, 1) := dk_3 (dk_at dksJ16_listFromTrustedArray_1 4 rfl rfl)
theorem dJ16_listFromTrustedArray_29 : decode cJ16_listFromTrustedArray 29 = .ok (.istore_n 3, 1) := dk_62 (dk_at dksJ16_listFromTrustedArray_1 5 rfl rfl)
theorem dJ16_listFromTrustedArray_30 : decode cJ16_listFromTrustedArray 30 = .ok (.iload_n 3, 1) := dk_29 (dk_at dksJ16_listFromTrustedArray_1 6 rfl rfl)
theorem dJ16_listFromTrustedArray_31 : decode cJ16_listFromTrustedArray 31 = .ok (.iload_n 2, 1) := dk_28 (dk_at dksJ16_listFromTrustedArray_1 7 rfl rfl)
theorem dJ16_listFromTrustedArray_32 : decode cJ16_listFromTrustedArray 32 = .ok (.if_icmp .ge 20, 3) := dk_162 0 20 (dk_at dksJ16_listFromTrustedArray_1 8 rfl rfl)
theorem dJ16_listFromTrustedArray_35 : decode cJ16_listFromTrustedArray 35 = .ok (.aload_n 1, 1) := dk_43 (dk_at dksJ16_listFromTrustedArray_1 11 rfl rfl)
theorem dJ16_listFromTrustedArray_36 : decode cJ16_listFromTrustedArray 36 = .ok (.iload_n 3, 1) := dk_29 (dk_at dksJ16_listFromTrustedArray_1 12 rfl rfl)
theorem dJ16_listFromTrustedArray_37 : decode cJ16_listFromTrustedArray 37 = .ok (.aaload, 1) := dk_50 (dk_at dksJ16_listFromTrustedArray_1 13 rfl rfl)
theorem dJ16_listFromTrustedArray_38 : decode cJ16_listFromTrustedArray 38 = .ok (.astore 4, 2) := dk_58 4 (dk_at dksJ16_listFromTrustedArray_1 14 rfl rfl)
theorem dJ16_listFromTrustedArray_40 : decode cJ16_listFromTrustedArray 40 = .ok (.aload 4, 2) := dk_25 4 (dk_at dksJ16_listFromTrustedArray_1 16 rfl rfl)
theorem dJ16_listFromTrustedArray_42 : decode cJ16_listFromTrustedArray 42 = .ok (.invokestatic 37, 3) := dk_184 0 37 (dk_at dksJ16_listFromTrustedArray_1 18 rfl rfl)
theorem dJ16_listFromTrustedArray_45 : decode cJ16_listFromTrustedArray 45 = .ok (.pop, 1) := dk_87 (dk_at dksJ16_listFromTrustedArray_1 21 rfl rfl)
theorem dJ16_listFromTrustedArray_46 : decode cJ16_listFromTrustedArray 46 = .ok (.iinc 3 1, 3) := dk_132 3 1 (dk_at dksJ16_listFromTrustedArray_2 0 rfl rfl)
theorem dJ16_listFromTrustedArray_49 : decode cJ16_listFromTrustedArray 49 = .ok (.goto (-19), 3) := dk_167 255 237 (dk_at dksJ16_listFromTrustedArray_2 3 rfl rfl)
theorem dJ16_listFromTrustedArray_52 : decode cJ16_listFromTrustedArray 52 = .ok (.aload_n 0, 1) := dk_42 (dk_at dksJ16_listFromTrustedArray_2 6 rfl rfl)
theorem dJ16_listFromTrustedArray_53 : decode cJ16_listFromTrustedArray 53 = .ok (.arraylength, 1) := dk_190 (dk_at dksJ16_listFromTrustedArray_2 7 rfl rfl)
theorem dJ16_listFromTrustedArray_54 : decode cJ16_listFromTrustedArray 54 = .ok (.tableswitch 61 0 2 #[26, 32, 45], 26) := by decide +kernel
theorem dJ16_listFromTrustedArray_80 : decode cJ16_listFromTrustedArray 80 = .ok (.getstatic 60, 3) := dk_178 0 60 (dk_at dksJ16_listFromTrustedArray_4 0 rfl rfl)
theorem dJ16_listFromTrustedArray_83 : decode cJ16_listFromTrustedArray 83 = .ok (.goto 41, 3) := dk_167 0 41 (dk_at dksJ16_listFromTrustedArray_4 3 rfl rfl)
theorem dJ16_listFromTrustedArray_86 : decode cJ16_listFromTrustedArray 86 = .ok (.new 10, 3) := dk_187 0 10 (dk_at dksJ16_listFromTrustedArray_4 6 rfl rfl)
theorem dJ16_listFromTrustedArray_99 : decode cJ16_listFromTrustedArray 99 = .ok (.new 10, 3) := dk_187 0 10 (dk_at dksJ16_listFromTrustedArray_4 19 rfl rfl)
theorem dJ16_listFromTrustedArray_115 : decode cJ16_listFromTrustedArray 115 = .ok (.new 12, 3) := dk_187 0 12 (dk_at dksJ16_listFromTrustedArray_5 11 rfl rfl)
theorem dJ16_listFromTrustedArray_118 : decode cJ16_listFromTrustedArray 118 = .ok (.dup, 1) := dk_89 (dk_at dksJ16_listFromTrustedArray_5 14 rfl rfl)
theorem dJ16_listFromTrustedArray_119 : decode cJ16_listFromTrustedArray 119 = .ok (.aload_n 0, 1) := dk_42 (dk_at dksJ16_listFromTrustedArray_5 15 rfl rfl)
theorem dJ16_listFromTrustedArray_120 : decode cJ16_listFromTrustedArray 120 = .ok (.iconst 0, 1) := dk_3 (dk_at dksJ16_listFromTrustedArray_5 16 rfl rfl)
theorem dJ16_listFromTrustedArray_121 : decode cJ16_listFromTrustedArray 121 = .ok (.invokespecial 43, 3) := dk_183 0 43 (dk_at dksJ16_listFromTrustedArray_5 17 rfl rfl)
theorem dJ16_listFromTrustedArray_124 : decode cJ16_listFromTrustedArray 124 = .ok (.areturn, 1) := dk_176 (dk_at dksJ16_listFromTrustedArray_5 20 rfl rfl)
abbrev cJ54_of : ByteArray := prog_78_method_45_code
def yJ54_of : MethodName := ⟨RJ54, "of", "(Ljava/lang/Object;Ljava/lang/Object;Ljava/lang/Object;Ljava/lang/Object;Ljava/lang/Object;Ljava/lang/Object;Ljava/lang/Object;Ljava/lang/Object;Ljava/lang/Object;)Ljava/util/List;"⟩
def dkwJ54_of_2 : List UInt8 := [25, 8, 83, 184, 0, 105, 176]
abbrev dktJ54_of_2 : List UInt8 := dkwJ54_of_2 ++ []
def dkwJ54_of_1 : List UInt8 := [25, 4, 83, 89, 8, 25, 5, 83, 89, 16, 6, 25, 6, 83, 89, 16, 7, 25, 7, 83, 89, 16, 8]
abbrev dktJ54_of_1 : List UInt8 := dkwJ54_of_1 ++ dktJ54_of_2
def dkwJ54_of_0 : List UInt8 := [16, 9, 189, 0, 103, 89, 3, 42, 83, 89, 4, 43, 83, 89, 5, 44, 83, 89, 6, 45, 83, 89, 7]
abbrev dktJ54_of_0 : List UInt8 := dkwJ54_of_0 ++ dktJ54_of_1
theorem dksJ54_of_0 : cJ54_of.data.toList.drop 0 = dktJ54_of_0 := by decide +kernel
theorem dksJ54_of_1 : cJ54_of.data.toList.drop 23 = dktJ54_of_1 := dk_seg dksJ54_of_0 23 rfl rfl
theorem dksJ54_of_2 : cJ54_of.data.toList.drop 46 = dktJ54_of_2 := dk_seg dksJ54_of_1 23 rfl rfl
theorem dJ54_of_0 : decode cJ54_of 0 = .ok (.bipush 9, 2) := dk_16 9 (dk_at dksJ54_of_0 0 rfl rfl)
theorem dJ54_of_2 : decode cJ54_of 2 = .ok (.anewarray 103, 3) := dk_189 0 103 (dk_at dksJ54_of_0 2 rfl rfl)
theorem dJ54_of_5 : decode cJ54_of 5 = .ok (.dup, 1) := dk_89 (dk_at dksJ54_of_0 5 rfl rfl)
theorem dJ54_of_6 : decode cJ54_of 6 = .ok (.iconst 0, 1) := dk_3 (dk_at dksJ54_of_0 6 rfl rfl)
theorem dJ54_of_7 : decode cJ54_of 7 = .ok (.aload_n 0, 1) := dk_42 (dk_at dksJ54_of_0 7 rfl rfl)
theorem dJ54_of_8 : decode cJ54_of 8 = .ok (.aastore, 1) := dk_83 (dk_at dksJ54_of_0 8 rfl rfl)
theorem dJ54_of_9 : decode cJ54_of 9 = .ok (.dup, 1) := dk_89 (dk_at dksJ54_of_0 9 rfl rfl)
theorem dJ54_of_10 : decode cJ54_of 10 = .ok (.iconst 1, 1) := dk_4 (dk_at dksJ54_of_0 10 rfl rfl)
theorem dJ54_of_11 : decode cJ54_of 11 = .ok (.aload_n 1, 1) := dk_43 (dk_at dksJ54_of_0 11 rfl rfl)
theorem dJ54_of_12 : decode cJ54_of 12 = .ok (.aastore, 1) := dk_83 (dk_at dksJ54_of_0 12 rfl rfl)
theorem dJ54_of_13 : decode cJ54_of 13 = .ok (.dup, 1) := dk_89 (dk_at dksJ54_of_0 13 rfl rfl)
theorem dJ54_of_14 : decode cJ54_of 14 = .ok (.iconst 2, 1) := dk_5 (dk_at dksJ54_of_0 14 rfl rfl)
theorem dJ54_of_15 : decode cJ54_of 15 = .ok (.aload_n 2, 1) := dk_44 (dk_at dksJ54_of_0 15 rfl rfl)
theorem dJ54_of_16 : decode cJ54_of 16 = .ok (.aastore, 1) := dk_83 (dk_at dksJ54_of_0 16 rfl rfl)
theorem dJ54_of_17 : decode cJ54_of 17 = .ok (.dup, 1) := dk_89 (dk_at dksJ54_of_0 17 rfl rfl)
theorem dJ54_of_18 : decode cJ54_of 18 = .ok (.iconst 3, 1) := dk_6 (dk_at dksJ54_of_0 18 rfl rfl)
theorem dJ54_of_19 : decode cJ54_of 19 = .ok (.aload_n 3, 1) := dk_45 (dk_at dksJ54_of_0 19 rfl rfl)
theorem dJ54_of_20 : decode cJ54_of 20 = .ok (.aastore, 1) := dk_83 (dk_at dksJ54_of_0 20 rfl rfl)
theorem dJ54_of_21 : decode cJ54_of 21 = .ok (.dup, 1) := dk_89 (dk_at dksJ54_of_0 21 rfl rfl)
theorem dJ54_of_22 : decode cJ54_of 22 = .ok (.iconst 4, 1) := dk_7 (dk_at dksJ54_of_0 22 rfl rfl)
theorem dJ54_of_23 : decode cJ54_of 23 = .ok (.aload 4, 2) := dk_25 4 (dk_at dksJ54_of_1 0 rfl rfl)
theorem dJ54_of_25 : decode cJ54_of 25 = .ok (.aastore, 1) := dk_83 (dk_at dksJ54_of_1 2 rfl rfl)
theorem dJ54_of_26 : decode cJ54_of 26 = .ok (.dup, 1) := dk_89 (dk_at dksJ54_of_1 3 rfl rfl)
theorem dJ54_of_27 : decode cJ54_of 27 = .ok (.iconst 5, 1) := dk_8 (dk_at dksJ54_of_1 4 rfl rfl)
theorem dJ54_of_28 : decode cJ54_of 28 = .ok (.aload 5, 2) := dk_25 5 (dk_at dksJ54_of_1 5 rfl rfl)
theorem dJ54_of_30 : decode cJ54_of 30 = .ok (.aastore, 1) := dk_83 (dk_at dksJ54_of_1 7 rfl rfl)
theorem dJ54_of_31 : decode cJ54_of 31 = .ok (.dup, 1) := dk_89 (dk_at dksJ54_of_1 8 rfl rfl)
theorem dJ54_of_32 : decode cJ54_of 32 = .ok (.bipush 6, 2) := dk_16 6 (dk_at dksJ54_of_1 9 rfl rfl)
theorem dJ54_of_34 : decode cJ54_of 34 = .ok (.aload 6, 2) := dk_25 6 (dk_at dksJ54_of_1 11 rfl rfl)
theorem dJ54_of_36 : decode cJ54_of 36 = .ok (.aastore, 1) := dk_83 (dk_at dksJ54_of_1 13 rfl rfl)
theorem dJ54_of_37 : decode cJ54_of 37 = .ok (.dup, 1) := dk_89 (dk_at dksJ54_of_1 14 rfl rfl)
theorem dJ54_of_38 : decode cJ54_of 38 = .ok (.bipush 7, 2) := dk_16 7 (dk_at dksJ54_of_1 15 rfl rfl)
theorem dJ54_of_40 : decode cJ54_of 40 = .ok (.aload 7, 2) := dk_25 7 (dk_at dksJ54_of_1 17 rfl rfl)
theorem dJ54_of_42 : decode cJ54_of 42 = .ok (.aastore, 1) := dk_83 (dk_at dksJ54_of_1 19 rfl rfl)
theorem dJ54_of_43 : decode cJ54_of 43 = .ok (.dup, 1) := dk_89 (dk_at dksJ54_of_1 20 rfl rfl)
theorem dJ54_of_44 : decode cJ54_of 44 = .ok (.bipush 8, 2) := dk_16 8 (dk_at dksJ54_of_1 21 rfl rfl)
theorem dJ54_of_46 : decode cJ54_of 46 = .ok (.aload 8, 2) := dk_25 8 (dk_at dksJ54_of_2 0 rfl rfl)
theorem dJ54_of_48 : decode cJ54_of 48 = .ok (.aastore, 1) := dk_83 (dk_at dksJ54_of_2 2 rfl rfl)
theorem dJ54_of_49 : decode cJ54_of 49 = .ok (.invokestatic 105, 3) := dk_184 0 105 (dk_at dksJ54_of_2 3 rfl rfl)
theorem dJ54_of_52 : decode cJ54_of 52 = .ok (.areturn, 1) := dk_176 (dk_at dksJ54_of_2 6 rfl rfl)
