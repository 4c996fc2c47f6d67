set_option maxRecDepth 100000
abbrev cX0_startOf : ByteArray := method_21_code
def yX0_startOf : MethodName := ⟨RX0, "startOf", "(LLionGate;I[J)I"⟩
def dkwX0_startOf_0 : List UInt8 := [44, 3, 42, 27, 182, 0, 78, 133, 80, 167, 0, 6, 78, 4, 172, 3, 172]
abbrev dktX0_startOf_0 : List UInt8 := dkwX0_startOf_0 ++ []
theorem dksX0_startOf_0 : cX0_startOf.data.toList.drop 0 = dktX0_startOf_0 := by decide +kernel
theorem dX0_startOf_0 : decode cX0_startOf 0 = .ok (.aload_n 2, 1) := dk_44 (dk_at dksX0_startOf_0 0 rfl rfl)
theorem dX0_startOf_1 : decode cX0_startOf 1 = .ok (.iconst 0, 1) := dk_3 (dk_at dksX0_startOf_0 1 rfl rfl)
theorem dX0_startOf_2 : decode cX0_startOf 2 = .ok (.aload_n 0, 1) := dk_42 (dk_at dksX0_startOf_0 2 rfl rfl)
theorem dX0_startOf_3 : decode cX0_startOf 3 = .ok (.iload_n 1, 1) := dk_27 (dk_at dksX0_startOf_0 3 rfl rfl)
theorem dX0_startOf_4 : decode cX0_startOf 4 = .ok (.invokevirtual 78, 3) := dk_182 0 78 (dk_at dksX0_startOf_0 4 rfl rfl)
theorem dX0_startOf_7 : decode cX0_startOf 7 = .ok (.i2l, 1) := dk_133 (dk_at dksX0_startOf_0 7 rfl rfl)
theorem dX0_startOf_8 : decode cX0_startOf 8 = .ok (.lastore, 1) := dk_80 (dk_at dksX0_startOf_0 8 rfl rfl)
theorem dX0_startOf_9 : decode cX0_startOf 9 = .ok (.goto 6, 3) := dk_167 0 6 (dk_at dksX0_startOf_0 9 rfl rfl)
theorem dX0_startOf_12 : decode cX0_startOf 12 = .ok (.astore_n 3, 1) := dk_78 (dk_at dksX0_startOf_0 12 rfl rfl)
theorem dX0_startOf_13 : decode cX0_startOf 13 = .ok (.iconst 1, 1) := dk_4 (dk_at dksX0_startOf_0 13 rfl rfl)
theorem dX0_startOf_14 : decode cX0_startOf 14 = .ok (.ireturn, 1) := dk_172 (dk_at dksX0_startOf_0 14 rfl rfl)
theorem dX0_startOf_15 : decode cX0_startOf 15 = .ok (.iconst 0, 1) := dk_3 (dk_at dksX0_startOf_0 15 rfl rfl)
theorem dX0_startOf_16 : decode cX0_startOf 16 = .ok (.ireturn, 1) := dk_172 (dk_at dksX0_startOf_0 16 rfl rfl)
abbrev cX1_ticketAtRank : ByteArray := prog_1_method_35_code
def yX1_ticketAtRank : MethodName := ⟨RX1, "ticketAtRank", "(I)I"⟩
def dkwX1_ticketAtRank_0 : List UInt8 := [42, 27, 182, 0, 250, 180, 0, 222, 172]
abbrev dktX1_ticketAtRank_0 : List UInt8 := dkwX1_ticketAtRank_0 ++ []
theorem dksX1_ticketAtRank_0 : cX1_ticketAtRank.data.toList.drop 0 = dktX1_ticketAtRank_0 := by decide +kernel
theorem dX1_ticketAtRank_0 : decode cX1_ticketAtRank 0 = .ok (.aload_n 0, 1) := dk_42 (dk_at dksX1_ticketAtRank_0 0 rfl rfl)
theorem dX1_ticketAtRank_1 : decode cX1_ticketAtRank 1 = .ok (.iload_n 1, 1) := dk_27 (dk_at dksX1_ticketAtRank_0 1 rfl rfl)
theorem dX1_ticketAtRank_2 : decode cX1_ticketAtRank 2 = .ok (.invokevirtual 250, 3) := dk_182 0 250 (dk_at dksX1_ticketAtRank_0 2 rfl rfl)
theorem dX1_ticketAtRank_5 : decode cX1_ticketAtRank 5 = .ok (.getfield 222, 3) := dk_180 0 222 (dk_at dksX1_ticketAtRank_0 5 rfl rfl)
theorem dX1_ticketAtRank_8 : decode cX1_ticketAtRank 8 = .ok (.ireturn, 1) := dk_172 (dk_at dksX1_ticketAtRank_0 8 rfl rfl)
abbrev cX0_ticketAtRank : ByteArray := method_19_code
def yX0_ticketAtRank : MethodName := ⟨RX0, "ticketAtRank", "(LLionGate;I[J)I"⟩
def dkwX0_ticketAtRank_0 : List UInt8 := [44, 3, 42, 27, 182, 0, 71, 133, 80, 167, 0, 6, 78, 4, 172, 3, 172]
abbrev dktX0_ticketAtRank_0 : List UInt8 := dkwX0_ticketAtRank_0 ++ []
theorem dksX0_ticketAtRank_0 : cX0_ticketAtRank.data.toList.drop 0 = dktX0_ticketAtRank_0 := by decide +kernel
theorem dX0_ticketAtRank_0 : decode cX0_ticketAtRank 0 = .ok (.aload_n 2, 1) := dk_44 (dk_at dksX0_ticketAtRank_0 0 rfl rfl)
theorem dX0_ticketAtRank_1 : decode cX0_ticketAtRank 1 = .ok (.iconst 0, 1) := dk_3 (dk_at dksX0_ticketAtRank_0 1 rfl rfl)
theorem dX0_ticketAtRank_2 : decode cX0_ticketAtRank 2 = .ok (.aload_n 0, 1) := dk_42 (dk_at dksX0_ticketAtRank_0 2 rfl rfl)
theorem dX0_ticketAtRank_3 : decode cX0_ticketAtRank 3 = .ok (.iload_n 1, 1) := dk_27 (dk_at dksX0_ticketAtRank_0 3 rfl rfl)
theorem dX0_ticketAtRank_4 : decode cX0_ticketAtRank 4 = .ok (.invokevirtual 71, 3) := dk_182 0 71 (dk_at dksX0_ticketAtRank_0 4 rfl rfl)
theorem dX0_ticketAtRank_7 : decode cX0_ticketAtRank 7 = .ok (.i2l, 1) := dk_133 (dk_at dksX0_ticketAtRank_0 7 rfl rfl)
theorem dX0_ticketAtRank_8 : decode cX0_ticketAtRank 8 = .ok (.lastore, 1) := dk_80 (dk_at dksX0_ticketAtRank_0 8 rfl rfl)
theorem dX0_ticketAtRank_9 : decode cX0_ticketAtRank 9 = .ok (.goto 6, 3) := dk_167 0 6 (dk_at dksX0_ticketAtRank_0 9 rfl rfl)
theorem dX0_ticketAtRank_12 : decode cX0_ticketAtRank 12 = .ok (.astore_n 3, 1) := dk_78 (dk_at dksX0_ticketAtRank_0 12 rfl rfl)
theorem dX0_ticketAtRank_13 : decode cX0_ticketAtRank 13 = .ok (.iconst 1, 1) := dk_4 (dk_at dksX0_ticketAtRank_0 13 rfl rfl)
theorem dX0_ticketAtRank_14 : decode cX0_ticketAtRank 14 = .ok (.ireturn, 1) := dk_172 (dk_at dksX0_ticketAtRank_0 14 rfl rfl)
theorem dX0_ticketAtRank_15 : decode cX0_ticketAtRank 15 = .ok (.iconst 0, 1) := dk_3 (dk_at dksX0_ticketAtRank_0 15 rfl rfl)
theorem dX0_ticketAtRank_16 : decode cX0_ticketAtRank 16 = .ok (.ireturn, 1) := dk_172 (dk_at dksX0_ticketAtRank_0 16 rfl rfl)
abbrev cX1_ticketOf : ByteArray := prog_1_method_28_code
def yX1_ticketOf : MethodName := ⟨RX1, "ticketOf", "(I)I"⟩
def dkwX1_ticketOf_0 : List UInt8 := [42, 27, 182, 0, 208, 180, 0, 221, 180, 0, 222, 172]
abbrev dktX1_ticketOf_0 : List UInt8 := dkwX1_ticketOf_0 ++ []
theorem dksX1_ticketOf_0 : cX1_ticketOf.data.toList.drop 0 = dktX1_ticketOf_0 := by decide +kernel
theorem dX1_ticketOf_0 : decode cX1_ticketOf 0 = .ok (.aload_n 0, 1) := dk_42 (dk_at dksX1_ticketOf_0 0 rfl rfl)
theorem dX1_ticketOf_1 : decode cX1_ticketOf 1 = .ok (.iload_n 1, 1) := dk_27 (dk_at dksX1_ticketOf_0 1 rfl rfl)
theorem dX1_ticketOf_2 : decode cX1_ticketOf 2 = .ok (.invokevirtual 208, 3) := dk_182 0 208 (dk_at dksX1_ticketOf_0 2 rfl rfl)
theorem dX1_ticketOf_5 : decode cX1_ticketOf 5 = .ok (.getfield 221, 3) := dk_180 0 221 (dk_at dksX1_ticketOf_0 5 rfl rfl)
theorem dX1_ticketOf_8 : decode cX1_ticketOf 8 = .ok (.getfield 222, 3) := dk_180 0 222 (dk_at dksX1_ticketOf_0 8 rfl rfl)
theorem dX1_ticketOf_11 : decode cX1_ticketOf 11 = .ok (.ireturn, 1) := dk_172 (dk_at dksX1_ticketOf_0 11 rfl rfl)
abbrev cX0_ticketOf : ByteArray := method_15_code
def yX0_ticketOf : MethodName := ⟨RX0, "ticketOf", "(LLionGate;I[J)I"⟩
def dkwX0_ticketOf_0 : List UInt8 := [44, 3, 42, 27, 182, 0, 59, 133, 80, 167, 0, 6, 78, 4, 172, 3, 172]
abbrev dktX0_ticketOf_0 : List UInt8 := dkwX0_ticketOf_0 ++ []
theorem dksX0_ticketOf_0 : cX0_ticketOf.data.toList.drop 0 = dktX0_ticketOf_0 := by decide +kernel
theorem dX0_ticketOf_0 : decode cX0_ticketOf 0 = .ok (.aload_n 2, 1) := dk_44 (dk_at dksX0_ticketOf_0 0 rfl rfl)
theorem dX0_ticketOf_1 : decode cX0_ticketOf 1 = .ok (.iconst 0, 1) := dk_3 (dk_at dksX0_ticketOf_0 1 rfl rfl)
theorem dX0_ticketOf_2 : decode cX0_ticketOf 2 = .ok (.aload_n 0, 1) := dk_42 (dk_at dksX0_ticketOf_0 2 rfl rfl)
theorem dX0_ticketOf_3 : decode cX0_ticketOf 3 = .ok (.iload_n 1, 1) := dk_27 (dk_at dksX0_ticketOf_0 3 rfl rfl)
theorem dX0_ticketOf_4 : decode cX0_ticketOf 4 = .ok (.invokevirtual 59, 3) := dk_182 0 59 (dk_at dksX0_ticketOf_0 4 rfl rfl)
theorem dX0_ticketOf_7 : decode cX0_ticketOf 7 = .ok (.i2l, 1) := dk_133 (dk_at dksX0_ticketOf_0 7 rfl rfl)
theorem dX0_ticketOf_8 : decode cX0_ticketOf 8 = .ok (.lastore, 1) := dk_80 (dk_at dksX0_ticketOf_0 8 rfl rfl)
theorem dX0_ticketOf_9 : decode cX0_ticketOf 9 = .ok (.goto 6, 3) := dk_167 0 6 (dk_at dksX0_ticketOf_0 9 rfl rfl)
theorem dX0_ticketOf_12 : decode cX0_ticketOf 12 = .ok (.astore_n 3, 1) := dk_78 (dk_at dksX0_ticketOf_0 12 rfl rfl)
theorem dX0_ticketOf_13 : decode cX0_ticketOf 13 = .ok (.iconst 1, 1) := dk_4 (dk_at dksX0_ticketOf_0 13 rfl rfl)
theorem dX0_ticketOf_14 : decode cX0_ticketOf 14 = .ok (.ireturn, 1) := dk_172 (dk_at dksX0_ticketOf_0 14 rfl rfl)
theorem dX0_ticketOf_15 : decode cX0_ticketOf 15 = .ok (.iconst 0, 1) := dk_3 (dk_at dksX0_ticketOf_0 15 rfl rfl)
theorem dX0_ticketOf_16 : decode cX0_ticketOf 16 = .ok (.ireturn, 1) := dk_172 (dk_at dksX0_ticketOf_0 16 rfl rfl)
abbrev cX1_type : ByteArray := prog_1_method_63_code
def yX1_type : MethodName := ⟨RX1, "type", "(C)I"⟩
def dkwX1_type_1 : List UInt8 := [167, 0, 4, 3, 184, 1, 123, 42, 180, 0, 82, 27, 182, 1, 126, 87, 42, 180, 0, 82, 182, 1, 122, 172]
abbrev dktX1_type_1 : List UInt8 := dkwX1_type_1 ++ []
def dkwX1_type_0 : List UInt8 := [27, 16, 32, 16, 126, 184, 0, 193, 184, 1, 45, 42, 180, 0, 82, 182, 1, 122, 16, 60, 162, 0, 7, 4]
abbrev dktX1_type_0 : List UInt8 := dkwX1_type_0 ++ dktX1_type_1
theorem dksX1_type_0 : cX1_type.data.toList.drop 0 = dktX1_type_0 := by decide +kernel
theorem dksX1_type_1 : cX1_type.data.toList.drop 24 = dktX1_type_1 := dk_seg dksX1_type_0 24 rfl rfl
theorem dX1_type_0 : decode cX1_type 0 = .ok (.iload_n 1, 1) := dk_27 (dk_at dksX1_type_0 0 rfl rfl)
theorem dX1_type_1 : decode cX1_type 1 = .ok (.bipush 32, 2) := dk_16 32 (dk_at dksX1_type_0 1 rfl rfl)
theorem dX1_type_3 : decode cX1_type 3 = .ok (.bipush 126, 2) := dk_16 126 (dk_at dksX1_type_0 3 rfl rfl)
theorem dX1_type_5 : decode cX1_type 5 = .ok (.invokestatic 193, 3) := dk_184 0 193 (dk_at dksX1_type_0 5 rfl rfl)
theorem dX1_type_8 : decode cX1_type 8 = .ok (.invokestatic 301, 3) := dk_184 1 45 (dk_at dksX1_type_0 8 rfl rfl)
theorem dX1_type_11 : decode cX1_type 11 = .ok (.aload_n 0, 1) := dk_42 (dk_at dksX1_type_0 11 rfl rfl)
theorem dX1_type_12 : decode cX1_type 12 = .ok (.getfield 82, 3) := dk_180 0 82 (dk_at dksX1_type_0 12 rfl rfl)
theorem dX1_type_15 : decode cX1_type 15 = .ok (.invokevirtual 378, 3) := dk_182 1 122 (dk_at dksX1_type_0 15 rfl rfl)
theorem dX1_type_18 : decode cX1_type 18 = .ok (.bipush 60, 2) := dk_16 60 (dk_at dksX1_type_0 18 rfl rfl)
theorem dX1_type_20 : decode cX1_type 20 = .ok (.if_icmp .ge 7, 3) := dk_162 0 7 (dk_at dksX1_type_0 20 rfl rfl)
theorem dX1_type_23 : decode cX1_type 23 = .ok (.iconst 1, 1) := dk_4 (dk_at dksX1_type_0 23 rfl rfl)
theorem dX1_type_24 : decode cX1_type 24 = .ok (.goto 4, 3) := dk_167 0 4 (dk_at dksX1_type_1 0 rfl rfl)
theorem dX1_type_27 : decode cX1_type 27 = .ok (.iconst 0, 1) := dk_3 (dk_at dksX1_type_1 3 rfl rfl)
theorem dX1_type_28 : decode cX1_type 28 = .ok (.invokestatic 379, 3) := dk_184 1 123 (dk_at dksX1_type_1 4 rfl rfl)
theorem dX1_type_31 : decode cX1_type 31 = .ok (.aload_n 0, 1) := dk_42 (dk_at dksX1_type_1 7 rfl rfl)
theorem dX1_type_32 : decode cX1_type 32 = .ok (.getfield 82, 3) := dk_180 0 82 (dk_at dksX1_type_1 8 rfl rfl)
theorem dX1_type_35 : decode cX1_type 35 = .ok (.iload_n 1, 1) := dk_27 (dk_at dksX1_type_1 11 rfl rfl)
theorem dX1_type_36 : decode cX1_type 36 = .ok (.invokevirtual 382, 3) := dk_182 1 126 (dk_at dksX1_type_1 12 rfl rfl)
theorem dX1_type_39 : decode cX1_type 39 = .ok (.pop, 1) := dk_87 (dk_at dksX1_type_1 15 rfl rfl)
theorem dX1_type_40 : decode cX1_type 40 = .ok (.aload_n 0, 1) := dk_42 (dk_at dksX1_type_1 16 rfl rfl)
theorem dX1_type_41 : decode cX1_type 41 = .ok (.getfield 82, 3) := dk_180 0 82 (dk_at dksX1_type_1 17 rfl rfl)
theorem dX1_type_44 : decode cX1_type 44 = .ok (.invokevirtual 378, 3) := dk_182 1 122 (dk_at dksX1_type_1 20 rfl rfl)
theorem dX1_type_47 : decode cX1_type 47 = .ok (.ireturn, 1) := dk_172 (dk_at dksX1_type_1 23 rfl rfl)
abbrev cX0_type : ByteArray := method_31_code
def yX0_type : MethodName := ⟨RX0, "type", "(LLionGate;C[J)I"⟩
def dkwX0_type_0 : List UInt8 := [44, 3, 42, 27, 182, 0, 114, 133, 80, 167, 0, 9, 78, 4, 172, 78, 5, 172, 3, 172]
abbrev dktX0_type_0 : List UInt8 := dkwX0_type_0 ++ []
theorem dksX0_type_0 : cX0_type.data.toList.drop 0 = dktX0_type_0 := by decide +kernel
theorem dX0_type_0 : decode cX0_type 0 = .ok (.aload_n 2, 1) := dk_44 (dk_at dksX0_type_0 0 rfl rfl)
theorem dX0_type_1 : decode cX0_type 1 = .ok (.iconst 0, 1) := dk_3 (dk_at dksX0_type_0 1 rfl rfl)
theorem dX0_type_2 : decode cX0_type 2 = .ok (.aload_n 0, 1) := dk_42 (dk_at dksX0_type_0 2 rfl rfl)
theorem dX0_type_3 : decode cX0_type 3 = .ok (.iload_n 1, 1) := dk_27 (dk_at dksX0_type_0 3 rfl rfl)
theorem dX0_type_4 : decode cX0_type 4 = .ok (.invokevirtual 114, 3) := dk_182 0 114 (dk_at dksX0_type_0 4 rfl rfl)
theorem dX0_type_7 : decode cX0_type 7 = .ok (.i2l, 1) := dk_133 (dk_at dksX0_type_0 7 rfl rfl)
theorem dX0_type_8 : decode cX0_type 8 = .ok (.lastore, 1) := dk_80 (dk_at dksX0_type_0 8 rfl rfl)
theorem dX0_type_9 : decode cX0_type 9 = .ok (.goto 9, 3) := dk_167 0 9 (dk_at dksX0_type_0 9 rfl rfl)
theorem dX0_type_12 : decode cX0_type 12 = .ok (.astore_n 3, 1) := dk_78 (dk_at dksX0_type_0 12 rfl rfl)
theorem dX0_type_13 : decode cX0_type 13 = .ok (.iconst 1, 1) := dk_4 (dk_at dksX0_type_0 13 rfl rfl)
theorem dX0_type_14 : decode cX0_type 14 = .ok (.ireturn, 1) := dk_172 (dk_at dksX0_type_0 14 rfl rfl)
theorem dX0_type_15 : decode cX0_type 15 = .ok (.astore_n 3, 1) := dk_78 (dk_at dksX0_type_0 15 rfl rfl)
theorem dX0_type_16 : decode cX0_type 16 = .ok (.iconst 2, 1) := dk_5 (dk_at dksX0_type_0 16 rfl rfl)
theorem dX0_type_17 : decode cX0_type 17 = .ok (.ireturn, 1) := dk_172 (dk_at dksX0_type_0 17 rfl rfl)
theorem dX0_type_18 : decode cX0_type 18 = .ok (.iconst 0, 1) := dk_3 (dk_at dksX0_type_0 18 rfl rfl)
theorem dX0_type_19 : decode cX0_type 19 = .ok (.ireturn, 1) := dk_172 (dk_at dksX0_type_0 19 rfl rfl)
abbrev cJ2_isEmpty : ByteArray := prog_49_method_4_code
def yJ2_isEmpty : MethodName := ⟨RJ2, "isEmpty", "()Z"⟩
def dkwJ2_isEmpty_0 : List UInt8 := [42, 182, 0, 7, 154, 0, 7, 4, 167, 0, 4, 3, 172]
abbrev dktJ2_isEmpty_0 : List UInt8 := dkwJ2_isEmpty_0 ++ []
theorem dksJ2_isEmpty_0 : cJ2_isEmpty.data.toList.drop 0 = dktJ2_isEmpty_0 := by decide +kernel
theorem dJ2_isEmpty_0 : decode cJ2_isEmpty 0 = .ok (.aload_n 0, 1) := dk_42 (dk_at dksJ2_isEmpty_0 0 rfl rfl)
theorem dJ2_isEmpty_1 : decode cJ2_isEmpty 1 = .ok (.invokevirtual 7, 3) := dk_182 0 7 (dk_at dksJ2_isEmpty_0 1 rfl rfl)
theorem dJ2_isEmpty_4 : decode cJ2_isEmpty 4 = .ok (.ifCond .ne 7, 3) := dk_154 0 7 (dk_at dksJ2_isEmpty_0 4 rfl rfl)
theorem dJ2_isEmpty_7 : decode cJ2_isEmpty 7 = .ok (.iconst 1, 1) := dk_4 (dk_at dksJ2_isEmpty_0 7 rfl rfl)
theorem dJ2_isEmpty_8 : decode cJ2_isEmpty 8 = .ok (.goto 4, 3) := dk_167 0 4 (dk_at dksJ2_isEmpty_0 8 rfl rfl)
theorem dJ2_isEmpty_11 : decode cJ2_isEmpty 11 = .ok (.iconst 0, 1) := dk_3 (dk_at dksJ2_isEmpty_0 11 rfl rfl)
theorem dJ2_isEmpty_12 : decode cJ2_isEmpty 12 = .ok (.ireturn, 1) := dk_172 (dk_at dksJ2_isEmpty_0 12 rfl rfl)
abbrev cJ6_unlinkLast : ByteArray := prog_75_method_7_code
def yJ6_unlinkLast : MethodName := ⟨RJ6, "unlinkLast", "(Ljava/util/LinkedList$Node;)Ljava/lang/Object;"⟩
def dkwJ6_unlinkLast_2 : List UInt8 := [180, 0, 7, 4, 100, 181, 0, 7, 42, 89, 180, 0, 33, 4, 96, 181, 0, 33, 44, 176]
abbrev dktJ6_unlinkLast_2 : List UInt8 := dkwJ6_unlinkLast_2 ++ []
def dkwJ6_unlinkLast_1 : List UInt8 := [181, 0, 27, 45, 199, 0, 11, 42, 1, 181, 0, 18, 167, 0, 8, 45, 1, 181, 0, 36, 42, 89]
abbrev dktJ6_unlinkLast_1 : List UInt8 := dkwJ6_unlinkLast_1 ++ dktJ6_unlinkLast_2
def dkwJ6_unlinkLast_0 : List UInt8 := [43, 180, 0, 39, 77, 43, 180, 0, 30, 78, 43, 1, 181, 0, 39, 43, 1, 181, 0, 30, 42, 45]
abbrev dktJ6_unlinkLast_0 : List UInt8 := dkwJ6_unlinkLast_0 ++ dktJ6_unlinkLast_1
theorem dksJ6_unlinkLast_0 : cJ6_unlinkLast.data.toList.drop 0 = dktJ6_unlinkLast_0 := by decide +kernel
theorem dksJ6_unlinkLast_1 : cJ6_unlinkLast.data.toList.drop 22 = dktJ6_unlinkLast_1 := dk_seg dksJ6_unlinkLast_0 22 rfl rfl
theorem dksJ6_unlinkLast_2 : cJ6_unlinkLast.data.toList.drop 44 = dktJ6_unlinkLast_2 := dk_seg dksJ6_unlinkLast_1 22 rfl rfl
theorem dJ6_unlinkLast_0 : decode cJ6_unlinkLast 0 = .ok (.aload_n 1, 1) := dk_43 (dk_at dksJ6_unlinkLast_0 0 rfl rfl)
theorem dJ6_unlinkLast_1 : decode cJ6_unlinkLast 1 = .ok (.getfield 39, 3) := dk_180 0 39 (dk_at dksJ6_unlinkLast_0 1 rfl rfl)
theorem dJ6_unlinkLast_4 : decode cJ6_unlinkLast 4 = .ok (.astore_n 2, 1) := dk_77 (dk_at dksJ6_unlinkLast_0 4 rfl rfl)
theorem dJ6_unlinkLast_5 : decode cJ6_unlinkLast 5 = .ok (.aload_n 1, 1) := dk_43 (dk_at dksJ6_unlinkLast_0 5 rfl rfl)
theorem dJ6_unlinkLast_6 : decode cJ6_unlinkLast 6 = .ok (.getfield 30, 3) := dk_180 0 30 (dk_at dksJ6_unlinkLast_0 6 rfl rfl)
theorem dJ6_unlinkLast_9 : decode cJ6_unlinkLast 9 = .ok (.astore_n 3, 1) := dk_78 (dk_at dksJ6_unlinkLast_0 9 rfl rfl)
theorem dJ6_unlinkLast_10 : decode cJ6_unlinkLast 10 = .ok (.aload_n 1, 1) := dk_43 (dk_at dksJ6_unlinkLast_0 10 rfl rfl)
theorem dJ6_unlinkLast_11 : decode cJ6_unlinkLast 11 = .ok (.aconst_null, 1) := dk_1 (dk_at dksJ6_unlinkLast_0 11 rfl rfl)
theorem dJ6_unlinkLast_12 : decode cJ6_unlinkLast 12 = .ok (.putfield 39, 3) := dk_181 0 39 (dk_at dksJ6_unlinkLast_0 12 rfl rfl)
theorem dJ6_unlinkLast_15 : decode cJ6_unlinkLast 15 = .ok (.aload_n 1, 1) := dk_43 (dk_at dksJ6_unlinkLast_0 15 rfl rfl)
theorem dJ6_unlinkLast_16 : decode cJ6_unlinkLast 16 = .ok (.aconst_null, 1) := dk_1 (dk_at dksJ6_unlinkLast_0 16 rfl rfl)
theorem dJ6_unlinkLast_17 : decode cJ6_unlinkLast 17 = .ok (.putfield 30, 3) := dk_181 0 30 (dk_at dksJ6_unlinkLast_0 17 rfl rfl)
theorem dJ6_unlinkLast_20 : decode cJ6_unlinkLast 20 = .ok (.aload_n 0, 1) := dk_42 (dk_at dksJ6_unlinkLast_0 20 rfl rfl)
theorem dJ6_unlinkLast_21 : decode cJ6_unlinkLast 21 = .ok (.aload_n 3, 1) := dk_45 (dk_at dksJ6_unlinkLast_0 21 rfl rfl)
theorem dJ6_unlinkLast_22 : decode cJ6_unlinkLast 22 = .ok (.putfield 27, 3) := dk_181 0 27 (dk_at dksJ6_unlinkLast_1 0 rfl rfl)
theorem dJ6_unlinkLast_25 : decode cJ6_unlinkLast 25 = .ok (.aload_n 3, 1) := dk_45 (dk_at dksJ6_unlinkLast_1 3 rfl rfl)
theorem dJ6_unlinkLast_26 : decode cJ6_unlinkLast 26 = .ok (.ifnonnull 11, 3) := dk_199 0 11 (dk_at dksJ6_unlinkLast_1 4 rfl rfl)
theorem dJ6_unlinkLast_29 : decode cJ6_unlinkLast 29 = .ok (.aload_n 0, 1) := dk_42 (dk_at dksJ6_unlinkLast_1 7 rfl rfl)
theorem dJ6_unlinkLast_30 : decode cJ6_unlinkLast 30 = .ok (.aconst_null, 1) := dk_1 (dk_at dksJ6_unlinkLast_1 8 rfl rfl)
theorem dJ6_unlinkLast_31 : decode cJ6_unlinkLast 31 = .ok (.putfield 18, 3) := dk_181 0 18 (dk_at dksJ6_unlinkLast_1 9 rfl rfl)
theorem dJ6_unlinkLast_34 : decode cJ6_unlinkLast 34 = .ok (.goto 8, 3) := dk_167 0 8 (dk_at dksJ6_unlinkLast_1 12 rfl rfl)
theorem dJ6_unlinkLast_37 : decode cJ6_unlinkLast 37 = .ok (.aload_n 3, 1) := dk_45 (dk_at dksJ6_unlinkLast_1 15 rfl rfl)
theorem dJ6_unlinkLast_38 : decode cJ6_unlinkLast 38 = .ok (.aconst_null, 1) := dk_1 (dk_at dksJ6_unlinkLast_1 16 rfl rfl)
theorem dJ6_unlinkLast_39 : decode cJ6_unlinkLast 39 = .ok (.putfield 36, 3) := dk_181 0 36 (dk_at dksJ6_unlinkLast_1 17 rfl rfl)
theorem dJ6_unlinkLast_42 : decode cJ6_unlinkLast 42 = .ok (.aload_n 0, 1) := dk_42 (dk_at dksJ6_unlinkLast_1 20 rfl rfl)
theorem dJ6_unlinkLast_43 : decode cJ6_unlinkLast 43 = .ok (.dup, 1) := dk_89 (dk_at dksJ6_unlinkLast_1 21 rfl rfl)
theorem dJ6_unlinkLast_44 : decode cJ6_unlinkLast 44 = .ok (.getfield 7, 3) := dk_180 0 7 (dk_at dksJ6_unlinkLast_2 0 rfl rfl)
theorem dJ6_unlinkLast_47 : decode cJ6_unlinkLast 47 = .ok (.iconst 1, 1) := dk_4 (dk_at dksJ6_unlinkLast_2 3 rfl rfl)
theorem dJ6_unlinkLast_48 : decode cJ6_unlinkLast 48 = .ok (.isub, 1) := dk_100 (dk_at dksJ6_unlinkLast_2 4 rfl rfl)
theorem dJ6_unlinkLast_49 : decode cJ6_unlinkLast 49 = .ok (.putfield 7, 3) := dk_181 0 7 (dk_at dksJ6_unlinkLast_2 5 rfl rfl)
theorem dJ6_unlinkLast_52 : decode cJ6_unlinkLast 52 = .ok (.aload_n 0, 1) := dk_42 (dk_at dksJ6_unlinkLast_2 8 rfl rfl)
theorem dJ6_unlinkLast_53 : decode cJ6_unlinkLast 53 = .ok (.dup, 1) := dk_89 (dk_at dksJ6_unlinkLast_2 9 rfl rfl)
theorem dJ6_unlinkLast_54 : decode cJ6_unlinkLast 54 = .ok (.getfield 33, 3) := dk_180 0 33 (dk_at dksJ6_unlinkLast_2 10 rfl rfl)
theorem dJ6_unlinkLast_57 : decode cJ6_unlinkLast 57 = .ok (.iconst 1, 1) := dk_4 (dk_at dksJ6_unlinkLast_2 13 rfl rfl)
theorem dJ6_unlinkLast_58 : decode cJ6_unlinkLast 58 = .ok (.iadd, 1) := dk_96 (dk_at dksJ6_unlinkLast_2 14 rfl rfl)
theorem dJ6_unlinkLast_59 : decode cJ6_unlinkLast 59 = .ok (.putfield 33, 3) := dk_181 0 33 (dk_at dksJ6_unlinkLast_2 15 rfl rfl)
theorem dJ6_unlinkLast_62 : decode cJ6_unlinkLast 62 = .ok (.aload_n 2, 1) := dk_44 (dk_at dksJ6_unlinkLast_2 18 rfl rfl)
theorem dJ6_unlinkLast_63 : decode cJ6_unlinkLast 63 = .ok (.areturn, 1) := dk_176 (dk_at dksJ6_unlinkLast_2 19 rfl rfl)
abbrev cJ6_removeLast : ByteArray := prog_75_method_12_code
def yJ6_removeLast : MethodName := ⟨RJ6, "removeLast", "()Ljava/lang/Object;"⟩
def dkwJ6_removeLast_0 : List UInt8 := [42, 180, 0, 27, 76, 43, 199, 0, 11, 187, 0, 43, 89, 183, 0, 45, 191, 42, 43, 182, 0, 50, 176]
abbrev dktJ6_removeLast_0 : List UInt8 := dkwJ6_removeLast_0 ++ []
theorem dksJ6_removeLast_0 : cJ6_removeLast.data.toList.drop 0 = dktJ6_removeLast_0 := by decide +kernel
theorem dJ6_removeLast_0 : decode cJ6_removeLast 0 = .ok (.aload_n 0, 1) := dk_42 (dk_at dksJ6_removeLast_0 0 rfl rfl)
theorem dJ6_removeLast_1 : decode cJ6_removeLast 1 = .ok (.getfield 27, 3) := dk_180 0 27 (dk_at dksJ6_removeLast_0 1 rfl rfl)
theorem dJ6_removeLast_4 : decode cJ6_removeLast 4 = .ok (.astore_n 1, 1) := dk_76 (dk_at dksJ6_removeLast_0 4 rfl rfl)
theorem dJ6_removeLast_5 : decode cJ6_removeLast 5 = .ok (.aload_n 1, 1) := dk_43 (dk_at dksJ6_removeLast_0 5 rfl rfl)
theorem dJ6_removeLast_6 : decode cJ6_removeLast 6 = .ok (.ifnonnull 11, 3) := dk_199 0 11 (dk_at dksJ6_removeLast_0 6 rfl rfl)
theorem dJ6_removeLast_9 : decode cJ6_removeLast 9 = .ok (.new 43, 3) := dk_187 0 43 (dk_at dksJ6_removeLast_0 9 rfl rfl)
theorem dJ6_removeLast_17 : decode cJ6_removeLast 17 = .ok (.aload_n 0, 1) := dk_42 (dk_at dksJ6_removeLast_0 17 rfl rfl)
theorem dJ6_removeLast_18 : decode cJ6_removeLast 18 = .ok (.aload_n 1, 1) := dk_43 (dk_at dksJ6_removeLast_0 18 rfl rfl)
theorem dJ6_removeLast_19 : decode cJ6_removeLast 19 = .ok (.invokevirtual 50, 3) := dk_182 0 50 (dk_at dksJ6_removeLast_0 19 rfl rfl)
theorem dJ6_removeLast_22 : decode cJ6_removeLast 22 = .ok (.areturn, 1) := dk_176 (dk_at dksJ6_removeLast_0 22 rfl rfl)
abbrev cX1_undo : ByteArray := prog_1_method_70_code
def yX1_undo : MethodName := ⟨RX1, "undo", "()I"⟩
def dkwX1_undo_1 : List UInt8 := [182, 1, 177, 192, 0, 63, 181, 0, 66, 42, 180, 0, 75, 182, 0, 99, 172]
abbrev dktX1_undo_1 : List UInt8 := dkwX1_undo_1 ++ []
def dkwX1_undo_0 : List UInt8 := [42, 180, 0, 75, 182, 1, 176, 154, 0, 7, 4, 167, 0, 4, 3, 184, 0, 164, 42, 42, 180, 0, 75]
abbrev dktX1_undo_0 : List UInt8 := dkwX1_undo_0 ++ dktX1_undo_1
theorem dksX1_undo_0 : cX1_undo.data.toList.drop 0 = dktX1_undo_0 := by decide +kernel
theorem dksX1_undo_1 : cX1_undo.data.toList.drop 23 = dktX1_undo_1 := dk_seg dksX1_undo_0 23 rfl rfl
theorem dX1_undo_0 : decode cX1_undo 0 = .ok (.aload_n 0, 1) := dk_42 (dk_at dksX1_undo_0 0 rfl rfl)
theorem dX1_undo_1 : decode cX1_undo 1 = .ok (.getfield 75, 3) := dk_180 0 75 (dk_at dksX1_undo_0 1 rfl rfl)
theorem dX1_undo_4 : decode cX1_undo 4 = .ok (.invokevirtual 432, 3) := dk_182 1 176 (dk_at dksX1_undo_0 4 rfl rfl)
theorem dX1_undo_7 : decode cX1_undo 7 = .ok (.ifCond .ne 7, 3) := dk_154 0 7 (dk_at dksX1_undo_0 7 rfl rfl)
theorem dX1_undo_10 : decode cX1_undo 10 = .ok (.iconst 1, 1) := dk_4 (dk_at dksX1_undo_0 10 rfl rfl)
theorem dX1_undo_11 : decode cX1_undo 11 = .ok (.goto 4, 3) := dk_167 0 4 (dk_at dksX1_undo_0 11 rfl rfl)
theorem dX1_undo_14 : decode cX1_undo 14 = .ok (.iconst 0, 1) := dk_3 (dk_at dksX1_undo_0 14 rfl rfl)
theorem dX1_undo_15 : decode cX1_undo 15 = .ok (.invokestatic 164, 3) := dk_184 0 164 (dk_at dksX1_undo_0 15 rfl rfl)
theorem dX1_undo_18 : decode cX1_undo 18 = .ok (.aload_n 0, 1) := dk_42 (dk_at dksX1_undo_0 18 rfl rfl)
theorem dX1_undo_19 : decode cX1_undo 19 = .ok (.aload_n 0, 1) := dk_42 (dk_at dksX1_undo_0 19 rfl rfl)
theorem dX1_undo_20 : decode cX1_undo 20 = .ok (.getfield 75, 3) := dk_180 0 75 (dk_at dksX1_undo_0 20 rfl rfl)
theorem dX1_undo_23 : decode cX1_undo 23 = .ok (.invokevirtual 433, 3) := dk_182 1 177 (dk_at dksX1_undo_1 0 rfl rfl)
theorem dX1_undo_26 : decode cX1_undo 26 = .ok (.checkcast 63, 3) := dk_192 0 63 (dk_at dksX1_undo_1 3 rfl rfl)
theorem dX1_undo_29 : decode cX1_undo 29 = .ok (.putfield 66, 3) := dk_181 0 66 (dk_at dksX1_undo_1 6 rfl rfl)
theorem dX1_undo_32 : decode cX1_undo 32 = .ok (.aload_n 0, 1) := dk_42 (dk_at dksX1_undo_1 9 rfl rfl)
theorem dX1_undo_33 : decode cX1_undo 33 = .ok (.getfield 75, 3) := dk_180 0 75 (dk_at dksX1_undo_1 10 rfl rfl)
theorem dX1_undo_36 : decode cX1_undo 36 = .ok (.invokevirtual 99, 3) := dk_182 0 99 (dk_at dksX1_undo_1 13 rfl rfl)
theorem dX1_undo_39 : decode cX1_undo 39 = .ok (.ireturn, 1) := dk_172 (dk_at dksX1_undo_1 16 rfl rfl)
abbrev cX0_undo : ByteArray := method_36_code
def yX0_undo : MethodName := ⟨RX0, "undo", "(LLionGate;[J)I"⟩
def dkwX0_undo_0 : List UInt8 := [43, 3, 42, 182, 0, 131, 133, 80, 167, 0, 6, 77, 4, 172, 3, 172]
abbrev dktX0_undo_0 : List UInt8 := dkwX0_undo_0 ++ []
theorem dksX0_undo_0 : cX0_undo.data.toList.drop 0 = dktX0_undo_0 := by decide +kernel
theorem dX0_undo_0 : decode cX0_undo 0 = .ok (.aload_n 1, 1) := dk_43 (dk_at dksX0_undo_0 0 rfl rfl)
theorem dX0_undo_1 : decode cX0_undo 1 = .ok (.iconst 0, 1) := dk_3 (dk_at dksX0_undo_0 1 rfl rfl)
theorem dX0_undo_2 : decode cX0_undo 2 = .ok (.aload_n 0, 1) := dk_42 (dk_at dksX0_undo_0 2 rfl rfl)
theorem dX0_undo_3 : decode cX0_undo 3 = .ok (.invokevirtual 131, 3) := dk_182 0 131 (dk_at dksX0_undo_0 3 rfl rfl)
theorem dX0_undo_6 : decode cX0_undo 6 = .ok (.i2l, 1) := dk_133 (dk_at dksX0_undo_0 6 rfl rfl)
theorem dX0_undo_7 : decode cX0_undo 7 = .ok (.lastore, 1) := dk_80 (dk_at dksX0_undo_0 7 rfl rfl)
theorem dX0_undo_8 : decode cX0_undo 8 = .ok (.goto 6, 3) := dk_167 0 6 (dk_at dksX0_undo_0 8 rfl rfl)
theorem dX0_undo_11 : decode cX0_undo 11 = .ok (.astore_n 2, 1) := dk_77 (dk_at dksX0_undo_0 11 rfl rfl)
theorem dX0_undo_12 : decode cX0_undo 12 = .ok (.iconst 1, 1) := dk_4 (dk_at dksX0_undo_0 12 rfl rfl)
theorem dX0_undo_13 : decode cX0_undo 13 = .ok (.ireturn, 1) := dk_172 (dk_at dksX0_undo_0 13 rfl rfl)
theorem dX0_undo_14 : decode cX0_undo 14 = .ok (.iconst 0, 1) := dk_3 (dk_at dksX0_undo_0 14 rfl rfl)
theorem dX0_undo_15 : decode cX0_undo 15 = .ok (.ireturn, 1) := dk_172 (dk_at dksX0_undo_0 15 rfl rfl)
abbrev cX1_yawn : ByteArray := prog_1_method_9_code
def yX1_yawn : MethodName := ⟨RX1, "yawn", "(II)I"⟩
def dkwX1_yawn_0 : List UInt8 := [42, 18, 135, 5, 188, 10, 89, 3, 27, 79, 89, 4, 28, 79, 182, 0, 129, 172]
abbrev dktX1_yawn_0 : List UInt8 := dkwX1_yawn_0 ++ []
theorem dksX1_yawn_0 : cX1_yawn.data.toList.drop 0 = dktX1_yawn_0 := by decide +kernel
theorem dX1_yawn_0 : decode cX1_yawn 0 = .ok (.aload_n 0, 1) := dk_42 (dk_at dksX1_yawn_0 0 rfl rfl)
theorem dX1_yawn_1 : decode cX1_yawn 1 = .ok (.ldc 135, 2) := dk_18 135 (dk_at dksX1_yawn_0 1 rfl rfl)
theorem dX1_yawn_3 : decode cX1_yawn 3 = .ok (.iconst 2, 1) := dk_5 (dk_at dksX1_yawn_0 3 rfl rfl)
theorem dX1_yawn_4 : decode cX1_yawn 4 = .ok (.newarray .int, 2) := dk_188_10 (dk_at dksX1_yawn_0 4 rfl rfl)
theorem dX1_yawn_6 : decode cX1_yawn 6 = .ok (.dup, 1) := dk_89 (dk_at dksX1_yawn_0 6 rfl rfl)
theorem dX1_yawn_7 : decode cX1_yawn 7 = .ok (.iconst 0, 1) := dk_3 (dk_at dksX1_yawn_0 7 rfl rfl)
theorem dX1_yawn_8 : decode cX1_yawn 8 = .ok (.iload_n 1, 1) := dk_27 (dk_at dksX1_yawn_0 8 rfl rfl)
theorem dX1_yawn_9 : decode cX1_yawn 9 = .ok (.iastore, 1) := dk_79 (dk_at dksX1_yawn_0 9 rfl rfl)
theorem dX1_yawn_10 : decode cX1_yawn 10 = .ok (.dup, 1) := dk_89 (dk_at dksX1_yawn_0 10 rfl rfl)
theorem dX1_yawn_11 : decode cX1_yawn 11 = .ok (.iconst 1, 1) := dk_4 (dk_at dksX1_yawn_0 11 rfl rfl)
theorem dX1_yawn_12 : decode cX1_yawn 12 = .ok (.iload_n 2, 1) := dk_28 (dk_at dksX1_yawn_0 12 rfl rfl)
theorem dX1_yawn_13 : decode cX1_yawn 13 = .ok (.iastore, 1) := dk_79 (dk_at dksX1_yawn_0 13 rfl rfl)
theorem dX1_yawn_14 : decode cX1_yawn 14 = .ok (.invokevirtual 129, 3) := dk_182 0 129 (dk_at dksX1_yawn_0 14 rfl rfl)
theorem dX1_yawn_17 : decode cX1_yawn 17 = .ok (.ireturn, 1) := dk_172 (dk_at dksX1_yawn_0 17 rfl rfl)
abbrev cX0_yawn : ByteArray := method_5_code
def yX0_yawn : MethodName := ⟨RX0, "yawn", "(LLionGate;II[J)I"⟩
def dkwX0_yawn_0 : List UInt8 := [45, 3, 42, 27, 28, 182, 0, 23, 133, 80, 167, 0, 11, 58, 4, 4, 172, 58, 4, 5, 172, 3, 172]
abbrev dktX0_yawn_0 : List UInt8 := dkwX0_yawn_0 ++ []
theorem dksX0_yawn_0 : cX0_yawn.data.toList.drop 0 = dktX0_yawn_0 := by decide +kernel
theorem dX0_yawn_0 : decode cX0_yawn 0 = .ok (.aload_n 3, 1) := dk_45 (dk_at dksX0_yawn_0 0 rfl rfl)
theorem dX0_yawn_1 : decode cX0_yawn 1 = .ok (.iconst 0, 1) := dk_3 (dk_at dksX0_yawn_0 1 rfl rfl)
theorem dX0_yawn_2 : decode cX0_yawn 2 = .ok (.aload_n 0, 1) := dk_42 (dk_at dksX0_yawn_0 2 rfl rfl)
theorem dX0_yawn_3 : decode cX0_yawn 3 = .ok (.iload_n 1, 1) := dk_27 (dk_at dksX0_yawn_0 3 rfl rfl)
theorem dX0_yawn_4 : decode cX0_yawn 4 = .ok (.iload_n 2, 1) := dk_28 (dk_at dksX0_yawn_0 4 rfl rfl)
theorem dX0_yawn_5 : decode cX0_yawn 5 = .ok (.invokevirtual 23, 3) := dk_182 0 23 (dk_at dksX0_yawn_0 5 rfl rfl)
theorem dX0_yawn_8 : decode cX0_yawn 8 = .ok (.i2l, 1) := dk_133 (dk_at dksX0_yawn_0 8 rfl rfl)
theorem dX0_yawn_9 : decode cX0_yawn 9 = .ok (.lastore, 1) := dk_80 (dk_at dksX0_yawn_0 9 rfl rfl)
theorem dX0_yawn_10 : decode cX0_yawn 10 = .ok (.goto 11, 3) := dk_167 0 11 (dk_at dksX0_yawn_0 10 rfl rfl)
theorem dX0_yawn_13 : decode cX0_yawn 13 = .ok (.astore 4, 2) := dk_58 4 (dk_at dksX0_yawn_0 13 rfl rfl)
theorem dX0_yawn_15 : decode cX0_yawn 15 = .ok (.iconst 1, 1) := dk_4 (dk_at dksX0_yawn_0 15 rfl rfl)
theorem dX0_yawn_16 : decode cX0_yawn 16 = .ok (.ireturn, 1) := dk_172 (dk_at dksX0_yawn_0 16 rfl rfl)
theorem dX0_yawn_17 : decode cX0_yawn 17 = .ok (.astore 4, 2) := dk_58 4 (dk_at dksX0_yawn_0 17 rfl rfl)
theorem dX0_yawn_19 : decode cX0_yawn 19 = .ok (.iconst 2, 1) := dk_5 (dk_at dksX0_yawn_0 19 rfl rfl)
theorem dX0_yawn_20 : decode cX0_yawn 20 = .ok (.ireturn, 1) := dk_172 (dk_at dksX0_yawn_0 20 rfl rfl)
theorem dX0_yawn_21 : decode cX0_yawn 21 = .ok (.iconst 0, 1) := dk_3 (dk_at dksX0_yawn_0 21 rfl rfl)
theorem dX0_yawn_22 : decode cX0_yawn 22 = .ok (.ireturn, 1) := dk_172 (dk_at dksX0_yawn_0 22 rfl rfl)
abbrev cX4_init : ByteArray := prog_18_method_1_code
def yX4_init : MethodName := ⟨RX4, "<init>", "()V"⟩
def dkwX4_init_23 : List UInt8 := [16, 17, 16, 97, 79, 181, 0, 47, 177]
abbrev dktX4_init_23 : List UInt8 := dkwX4_init_23 ++ []
def dkwX4_init_22 : List UInt8 := [16, 13, 16, 115, 79, 89, 16, 14, 16, 105, 79, 89, 16, 15, 16, 105, 79, 89, 16, 16, 16, 97, 79, 89]
abbrev dktX4_init_22 : List UInt8 := dkwX4_init_22 ++ dktX4_init_23
def dkwX4_init_21 : List UInt8 := [16, 9, 16, 117, 79, 89, 16, 10, 16, 97, 79, 89, 16, 11, 16, 97, 79, 89, 16, 12, 16, 97, 79, 89]
abbrev dktX4_init_21 : List UInt8 := dkwX4_init_21 ++ dktX4_init_22
def dkwX4_init_20 : List UInt8 := [8, 16, 97, 79, 89, 16, 6, 16, 101, 79, 89, 16, 7, 16, 101, 79, 89, 16, 8, 16, 101, 79, 89]
abbrev dktX4_init_20 : List UInt8 := dkwX4_init_20 ++ dktX4_init_21
def dkwX4_init_19 : List UInt8 := [16, 97, 79, 89, 4, 16, 115, 79, 89, 5, 16, 101, 79, 89, 6, 16, 97, 79, 89, 7, 16, 101, 79, 89]
abbrev dktX4_init_19 : List UInt8 := dkwX4_init_19 ++ dktX4_init_20
def dkwX4_init_18 : List UInt8 := [79, 89, 16, 8, 16, 46, 79, 89, 16, 9, 16, 51, 79, 181, 0, 44, 42, 16, 18, 188, 10, 89, 3]
abbrev dktX4_init_18 : List UInt8 := dkwX4_init_18 ++ dktX4_init_19
def dkwX4_init_17 : List UInt8 := [16, 15, 79, 89, 7, 16, 21, 79, 89, 8, 16, 26, 79, 89, 16, 6, 16, 31, 79, 89, 16, 7, 16, 38]
abbrev dktX4_init_17 : List UInt8 := dkwX4_init_17 ++ dktX4_init_18
def dkwX4_init_16 : List UInt8 := [79, 181, 0, 41, 42, 16, 10, 188, 10, 89, 3, 3, 79, 89, 4, 8, 79, 89, 5, 16, 10, 79, 89, 6]
abbrev dktX4_init_16 : List UInt8 := dkwX4_init_16 ++ dktX4_init_17
def dkwX4_init_15 : List UInt8 := [79, 89, 16, 47, 16, 97, 79, 89, 16, 48, 16, 105, 79, 89, 16, 49, 16, 116, 79, 89, 16, 50, 16, 32]
abbrev dktX4_init_15 : List UInt8 := dkwX4_init_15 ++ dktX4_init_16
def dkwX4_init_14 : List UInt8 := [79, 89, 16, 43, 16, 115, 79, 89, 16, 44, 16, 115, 79, 89, 16, 45, 16, 32, 79, 89, 16, 46, 16, 119]
abbrev dktX4_init_14 : List UInt8 := dkwX4_init_14 ++ dktX4_init_15
def dkwX4_init_13 : List UInt8 := [79, 89, 16, 39, 16, 105, 79, 89, 16, 40, 16, 115, 79, 89, 16, 41, 16, 109, 79, 89, 16, 42, 16, 105]
abbrev dktX4_init_13 : List UInt8 := dkwX4_init_13 ++ dktX4_init_14
def dkwX4_init_12 : List UInt8 := [79, 89, 16, 35, 16, 101, 79, 89, 16, 36, 16, 114, 79, 89, 16, 37, 16, 32, 79, 89, 16, 38, 16, 100]
abbrev dktX4_init_12 : List UInt8 := dkwX4_init_12 ++ dktX4_init_13
def dkwX4_init_11 : List UInt8 := [79, 89, 16, 31, 16, 107, 79, 89, 16, 32, 16, 101, 79, 89, 16, 33, 16, 101, 79, 89, 16, 34, 16, 112]
abbrev dktX4_init_11 : List UInt8 := dkwX4_init_11 ++ dktX4_init_12
def dkwX4_init_10 : List UInt8 := [79, 89, 16, 27, 16, 117, 79, 89, 16, 28, 16, 114, 79, 89, 16, 29, 16, 103, 79, 89, 16, 30, 16, 101]
abbrev dktX4_init_10 : List UInt8 := dkwX4_init_10 ++ dktX4_init_11
def dkwX4_init_9 : List UInt8 := [79, 89, 16, 23, 16, 114, 79, 89, 16, 24, 16, 118, 79, 89, 16, 25, 16, 101, 79, 89, 16, 26, 16, 112]
abbrev dktX4_init_9 : List UInt8 := dkwX4_init_9 ++ dktX4_init_10
def dkwX4_init_8 : List UInt8 := [79, 89, 16, 19, 16, 101, 79, 89, 16, 20, 16, 32, 79, 89, 16, 21, 16, 115, 79, 89, 16, 22, 16, 101]
abbrev dktX4_init_8 : List UInt8 := dkwX4_init_8 ++ dktX4_init_9
def dkwX4_init_7 : List UInt8 := [79, 89, 16, 15, 16, 108, 79, 89, 16, 16, 16, 101, 79, 89, 16, 17, 16, 97, 79, 89, 16, 18, 16, 118]
abbrev dktX4_init_7 : List UInt8 := dkwX4_init_7 ++ dktX4_init_8
def dkwX4_init_6 : List UInt8 := [79, 89, 16, 11, 16, 97, 79, 89, 16, 12, 16, 119, 79, 89, 16, 13, 16, 110, 79, 89, 16, 14, 16, 32]
abbrev dktX4_init_6 : List UInt8 := dkwX4_init_6 ++ dktX4_init_7
def dkwX4_init_5 : List UInt8 := [79, 89, 16, 7, 16, 97, 79, 89, 16, 8, 16, 114, 79, 89, 16, 9, 16, 32, 79, 89, 16, 10, 16, 121]
abbrev dktX4_init_5 : List UInt8 := dkwX4_init_5 ++ dktX4_init_6
def dkwX4_init_4 : List UInt8 := [5, 16, 111, 79, 89, 6, 16, 110, 79, 89, 7, 16, 32, 79, 89, 8, 16, 114, 79, 89, 16, 6, 16, 111]
abbrev dktX4_init_4 : List UInt8 := dkwX4_init_4 ++ dktX4_init_5
def dkwX4_init_3 : List UInt8 := [42, 16, 9, 188, 10, 181, 0, 38, 42, 16, 51, 188, 10, 89, 3, 16, 108, 79, 89, 4, 16, 105, 79, 89]
abbrev dktX4_init_3 : List UInt8 := dkwX4_init_3 ++ dktX4_init_4
def dkwX4_init_2 : List UInt8 := [42, 16, 10, 188, 10, 181, 0, 29, 42, 16, 60, 188, 10, 181, 0, 32, 42, 16, 96, 188, 10, 181, 0, 35]
abbrev dktX4_init_2 : List UInt8 := dkwX4_init_2 ++ dktX4_init_3
def dkwX4_init_1 : List UInt8 := [16, 112, 188, 10, 181, 0, 20, 42, 16, 112, 188, 10, 181, 0, 23, 42, 17, 3, 128, 188, 10, 181, 0, 26]
abbrev dktX4_init_1 : List UInt8 := dkwX4_init_1 ++ dktX4_init_2
def dkwX4_init_0 : List UInt8 := [42, 183, 0, 1, 42, 2, 181, 0, 7, 42, 2, 181, 0, 13, 42, 16, 112, 188, 10, 181, 0, 16, 42]
abbrev dktX4_init_0 : List UInt8 := dkwX4_init_0 ++ dktX4_init_1
theorem dksX4_init_0 : cX4_init.data.toList.drop 0 = dktX4_init_0 := by decide +kernel
theorem dksX4_init_1 : cX4_init.data.toList.drop 23 = dktX4_init_1 := dk_seg dksX4_init_0 23 rfl rfl
theorem dksX4_init_2 : cX4_init.data.toList.drop 47 = dktX4_init_2 := dk_seg dksX4_init_1 24 rfl rfl
theorem dksX4_init_3 : cX4_init.data.toList.drop 71 = dktX4_init_3 := dk_seg dksX4_init_2 24 rfl rfl
theorem dksX4_init_4 : cX4_init.data.toList.drop 95 = dktX4_init_4 := dk_seg dksX4_init_3 24 rfl rfl
theorem dksX4_init_5 : cX4_init.data.toList.drop 119 = dktX4_init_5 := dk_seg dksX4_init_4 24 rfl rfl
theorem dksX4_init_6 : cX4_init.data.toList.drop 143 = dktX4_init_6 := dk_seg dksX4_init_5 24 rfl rfl
theorem dksX4_init_7 : cX4_init.data.toList.drop 167 = dktX4_init_7 := dk_seg dksX4_init_6 24 rfl rfl
theorem dksX4_init_8 : cX4_init.data.toList.drop 191 = dktX4_init_8 := dk_seg dksX4_init_7 24 rfl rfl
theorem dksX4_init_9 : cX4_init.data.toList.drop 215 = dktX4_init_9 := dk_seg dksX4_init_8 24 rfl rfl
theorem dksX4_init_10 : cX4_init.data.toList.drop 239 = dktX4_init_10 := dk_seg dksX4_init_9 24 rfl rfl
theorem dksX4_init_11 : cX4_init.data.toList.drop 263 = dktX4_init_11 := dk_seg dksX4_init_10 24 rfl rfl
theorem dksX4_init_12 : cX4_init.data.toList.drop 287 = dktX4_init_12 := dk_seg dksX4_init_11 24 rfl rfl
theorem dksX4_init_13 : cX4_init.data.toList.drop 311 = dktX4_init_13 := dk_seg dksX4_init_12 24 rfl rfl
theorem dksX4_init_14 : cX4_init.data.toList.drop 335 = dktX4_init_14 := dk_seg dksX4_init_13 24 rfl rfl
theorem dksX4_init_15 : cX4_init.data.toList.drop 359 = dktX4_init_15 := dk_seg dksX4_init_14 24 rfl rfl
theorem dksX4_init_16 : cX4_init.data.toList.drop 383 = dktX4_init_16 := dk_seg dksX4_init_15 24 rfl rfl
theorem dksX4_init_17 : cX4_init.data.toList.drop 407 = dktX4_init_17 := dk_seg dksX4_init_16 24 rfl rfl
theorem dksX4_init_18 : cX4_init.data.toList.drop 431 = dktX4_init_18 := dk_seg dksX4_init_17 24 rfl rfl
theorem dksX4_init_19 : cX4_init.data.toList.drop 454 = dktX4_init_19 := dk_seg dksX4_init_18 23 rfl rfl
theorem dksX4_init_20 : cX4_init.data.toList.drop 478 = dktX4_init_20 := dk_seg dksX4_init_19 24 rfl rfl
theorem dksX4_init_21 : cX4_init.data.toList.drop 501 = dktX4_init_21 := dk_seg dksX4_init_20 23 rfl rfl
theorem dksX4_init_22 : cX4_init.data.toList.drop 525 = dktX4_init_22 := dk_seg dksX4_init_21 24 rfl rfl
theorem dksX4_init_23 : cX4_init.data.toList.drop 549 = dktX4_init_23 := dk_seg dksX4_init_22 24 rfl rfl
theorem dX4_init_0 : decode cX4_init 0 = .ok (.aload_n 0, 1) := dk_42 (dk_at dksX4_init_0 0 rfl rfl)
theorem dX4_init_1 : decode cX4_init 1 = .ok (.invokespecial 1, 3) := dk_183 0 1 (dk_at dksX4_init_0 1 rfl rfl)
theorem dX4_init_4 : decode cX4_init 4 = .ok (.aload_n 0, 1) := dk_42 (dk_at dksX4_init_0 4 rfl rfl)
theorem dX4_init_5 : decode cX4_init 5 = .ok (.iconst (-1), 1) := dk_2 (dk_at dksX4_init_0 5 rfl rfl)
theorem dX4_init_6 : decode cX4_init 6 = .ok (.putfield 7, 3) := dk_181 0 7 (dk_at dksX4_init_0 6 rfl rfl)
theorem dX4_init_9 : decode cX4_init 9 = .ok (.aload_n 0, 1) := dk_42 (dk_at dksX4_init_0 9 rfl rfl)
theorem dX4_init_10 : decode cX4_init 10 = .ok (.iconst (-1), 1) := dk_2 (dk_at dksX4_init_0 10 rfl rfl)
theorem dX4_init_11 : decode cX4_init 11 = .ok (.putfield 13, 3) := dk_181 0 13 (dk_at dksX4_init_0 11 rfl rfl)
theorem dX4_init_14 : decode cX4_init 14 = .ok (.aload_n 0, 1) := dk_42 (dk_at dksX4_init_0 14 rfl rfl)
theorem dX4_init_15 : decode cX4_init 15 = .ok (.bipush 112, 2) := dk_16 112 (dk_at dksX4_init_0 15 rfl rfl)
theorem dX4_init_17 : decode cX4_init 17 = .ok (.newarray .int, 2) := dk_188_10 (dk_at dksX4_init_0 17 rfl rfl)
theorem dX4_init_19 : decode cX4_init 19 = .ok (.putfield 16, 3) := dk_181 0 16 (dk_at dksX4_init_0 19 rfl rfl)
theorem dX4_init_22 : decode cX4_init 22 = .ok (.aload_n 0, 1) := dk_42 (dk_at dksX4_init_0 22 rfl rfl)
theorem dX4_init_23 : decode cX4_init 23 = .ok (.bipush 112, 2) := dk_16 112 (dk_at dksX4_init_1 0 rfl rfl)
theorem dX4_init_25 : decode cX4_init 25 = .ok (.newarray .int, 2) := dk_188_10 (dk_at dksX4_init_1 2 rfl rfl)
theorem dX4_init_27 : decode cX4_init 27 = .ok (.putfield 20, 3) := dk_181 0 20 (dk_at dksX4_init_1 4 rfl rfl)
theorem dX4_init_30 : decode cX4_init 30 = .ok (.aload_n 0, 1) := dk_42 (dk_at dksX4_init_1 7 rfl rfl)
theorem dX4_init_31 : decode cX4_init 31 = .ok (.bipush 112, 2) := dk_16 112 (dk_at dksX4_init_1 8 rfl rfl)
theorem dX4_init_33 : decode cX4_init 33 = .ok (.newarray .int, 2) := dk_188_10 (dk_at dksX4_init_1 10 rfl rfl)
theorem dX4_init_35 : decode cX4_init 35 = .ok (.putfield 23, 3) := dk_181 0 23 (dk_at dksX4_init_1 12 rfl rfl)
theorem dX4_init_38 : decode cX4_init 38 = .ok (.aload_n 0, 1) := dk_42 (dk_at dksX4_init_1 15 rfl rfl)
theorem dX4_init_39 : decode cX4_init 39 = .ok (.sipush 896, 3) := dk_17 3 128 (dk_at dksX4_init_1 16 rfl rfl)
theorem dX4_init_42 : decode cX4_init 42 = .ok (.newarray .int, 2) := dk_188_10 (dk_at dksX4_init_1 19 rfl rfl)
theorem dX4_init_44 : decode cX4_init 44 = .ok (.putfield 26, 3) := dk_181 0 26 (dk_at dksX4_init_1 21 rfl rfl)
theorem dX4_init_47 : decode cX4_init 47 = .ok (.aload_n 0, 1) := dk_42 (dk_at dksX4_init_2 0 rfl rfl)
theorem dX4_init_48 : decode cX4_init 48 = .ok (.bipush 10, 2) := dk_16 10 (dk_at dksX4_init_2 1 rfl rfl)
theorem dX4_init_50 : decode cX4_init 50 = .ok (.newarray .int, 2) := dk_188_10 (dk_at dksX4_init_2 3 rfl rfl)
theorem dX4_init_52 : decode cX4_init 52 = .ok (.putfield 29, 3) := dk_181 0 29 (dk_at dksX4_init_2 5 rfl rfl)
theorem dX4_init_55 : decode cX4_init 55 = .ok (.aload_n 0, 1) := dk_42 (dk_at dksX4_init_2 8 rfl rfl)
theorem dX4_init_56 : decode cX4_init 56 = .ok (.bipush 60, 2) := dk_16 60 (dk_at dksX4_init_2 9 rfl rfl)
theorem dX4_init_58 : decode cX4_init 58 = .ok (.newarray .int, 2) := dk_188_10 (dk_at dksX4_init_2 11 rfl rfl)
theorem dX4_init_60 : decode cX4_init 60 = .ok (.putfield 32, 3) := dk_181 0 32 (dk_at dksX4_init_2 13 rfl rfl)
theorem dX4_init_63 : decode cX4_init 63 = .ok (.aload_n 0, 1) := dk_42 (dk_at dksX4_init_2 16 rfl rfl)
theorem dX4_init_64 : decode cX4_init 64 = .ok (.bipush 96, 2) := dk_16 96 (dk_at dksX4_init_2 17 rfl rfl)
theorem dX4_init_66 : decode cX4_init 66 = .ok (.newarray .int, 2) := dk_188_10 (dk_at dksX4_init_2 19 rfl rfl)
theorem dX4_init_68 : decode cX4_init 68 = .ok (.putfield 35, 3) := dk_181 0 35 (dk_at dksX4_init_2 21 rfl rfl)
theorem dX4_init_71 : decode cX4_init 71 = .ok (.aload_n 0, 1) := dk_42 (dk_at dksX4_init_3 0 rfl rfl)
theorem dX4_init_72 : decode cX4_init 72 = .ok (.bipush 9, 2) := dk_16 9 (dk_at dksX4_init_3 1 rfl rfl)
theorem dX4_init_74 : decode cX4_init 74 = .ok (.newarray .int, 2) := dk_188_10 (dk_at dksX4_init_3 3 rfl rfl)
theorem dX4_init_76 : decode cX4_init 76 = .ok (.putfield 38, 3) := dk_181 0 38 (dk_at dksX4_init_3 5 rfl rfl)
theorem dX4_init_79 : decode cX4_init 79 = .ok (.aload_n 0, 1) := dk_42 (dk_at dksX4_init_3 8 rfl rfl)
theorem dX4_init_80 : decode cX4_init 80 = .ok (.bipush 51, 2) := dk_16 51 (dk_at dksX4_init_3 9 rfl rfl)
theorem dX4_init_82 : decode cX4_init 82 = .ok (.newarray .int, 2) := dk_188_10 (dk_at dksX4_init_3 11 rfl rfl)
theorem dX4_init_84 : decode cX4_init 84 = .ok (.dup, 1) := dk_89 (dk_at dksX4_init_3 13 rfl rfl)
theorem dX4_init_85 : decode cX4_init 85 = .ok (.iconst 0, 1) := dk_3 (dk_at dksX4_init_3 14 rfl rfl)
theorem dX4_init_86 : decode cX4_init 86 = .ok (.bipush 108, 2) := dk_16 108 (dk_at dksX4_init_3 15 rfl rfl)
theorem dX4_init_88 : decode cX4_init 88 = .ok (.iastore, 1) := dk_79 (dk_at dksX4_init_3 17 rfl rfl)
theorem dX4_init_89 : decode cX4_init 89 = .ok (.dup, 1) := dk_89 (dk_at dksX4_init_3 18 rfl rfl)
theorem dX4_init_90 : decode cX4_init 90 = .ok (.iconst 1, 1) := dk_4 (dk_at dksX4_init_3 19 rfl rfl)
theorem dX4_init_91 : decode cX4_init 91 = .ok (.bipush 105, 2) := dk_16 105 (dk_at dksX4_init_3 20 rfl rfl)
theorem dX4_init_93 : decode cX4_init 93 = .ok (.iastore, 1) := dk_79 (dk_at dksX4_init_3 22 rfl rfl)
theorem dX4_init_94 : decode cX4_init 94 = .ok (.dup, 1) := dk_89 (dk_at dksX4_init_3 23 rfl rfl)
theorem dX4_init_95 : decode cX4_init 95 = .ok (.iconst 2, 1) := dk_5 (dk_at dksX4_init_4 0 rfl rfl)
theorem dX4_init_96 : decode cX4_init 96 = .ok (.bipush 111, 2) := dk_16 111 (dk_at dksX4_init_4 1 rfl rfl)
theorem dX4_init_98 : decode cX4_init 98 = .ok (.iastore, 1) := dk_79 (dk_at dksX4_init_4 3 rfl rfl)
theorem dX4_init_99 : decode cX4_init 99 = .ok (.dup, 1) := dk_89 (dk_at dksX4_init_4 4 rfl rfl)
theorem dX4_init_100 : decode cX4_init 100 = .ok (.iconst 3, 1) := dk_6 (dk_at dksX4_init_4 5 rfl rfl)
theorem dX4_init_101 : decode cX4_init 101 = .ok (.bipush 110, 2) := dk_16 110 (dk_at dksX4_init_4 6 rfl rfl)
theorem dX4_init_103 : decode cX4_init 103 = .ok (.iastore, 1) := dk_79 (dk_at dksX4_init_4 8 rfl rfl)
theorem dX4_init_104 : decode cX4_init 104 = .ok (.dup, 1) := dk_89 (dk_at dksX4_init_4 9 rfl rfl)
theorem dX4_init_105 : decode cX4_init 105 = .ok (.iconst 4, 1) := dk_7 (dk_at dksX4_init_4 10 rfl rfl)
theorem dX4_init_106 : decode cX4_init 106 = .ok (.bipush 32, 2) := dk_16 32 (dk_at dksX4_init_4 11 rfl rfl)
theorem dX4_init_108 : decode cX4_init 108 = .ok (.iastore, 1) := dk_79 (dk_at dksX4_init_4 13 rfl rfl)
theorem dX4_init_109 : decode cX4_init 109 = .ok (.dup, 1) := dk_89 (dk_at dksX4_init_4 14 rfl rfl)
theorem dX4_init_110 : decode cX4_init 110 = .ok (.iconst 5, 1) := dk_8 (dk_at dksX4_init_4 15 rfl rfl)
theorem dX4_init_111 : decode cX4_init 111 = .ok (.bipush 114, 2) := dk_16 114 (dk_at dksX4_init_4 16 rfl rfl)
theorem dX4_init_113 : decode cX4_init 113 = .ok (.iastore, 1) := dk_79 (dk_at dksX4_init_4 18 rfl rfl)
theorem dX4_init_114 : decode cX4_init 114 = .ok (.dup, 1) := dk_89 (dk_at dksX4_init_4 19 rfl rfl)
theorem dX4_init_115 : decode cX4_init 115 = .ok (.bipush 6, 2) := dk_16 6 (dk_at dksX4_init_4 20 rfl rfl)
theorem dX4_init_117 : decode cX4_init 117 = .ok (.bipush 111, 2) := dk_16 111 (dk_at dksX4_init_4 22 rfl rfl)
theorem dX4_init_119 : decode cX4_init 119 = .ok (.iastore, 1) := dk_79 (dk_at dksX4_init_5 0 rfl rfl)
theorem dX4_init_120 : decode cX4_init 120 = .ok (.dup, 1) := dk_89 (dk_at dksX4_init_5 1 rfl rfl)
theorem dX4_init_121 : decode cX4_init 121 = .ok (.bipush 7, 2) := dk_16 7 (dk_at dksX4_init_5 2 rfl rfl)
theorem dX4_init_123 : decode cX4_init 123 = .ok (.bipush 97, 2) := dk_16 97 (dk_at dksX4_init_5 4 rfl rfl)
theorem dX4_init_125 : decode cX4_init 125 = .ok (.iastore, 1) := dk_79 (dk_at dksX4_init_5 6 rfl rfl)
theorem dX4_init_126 : decode cX4_init 126 = .ok (.dup, 1) := dk_89 (dk_at dksX4_init_5 7 rfl rfl)
theorem dX4_init_127 : decode cX4_init 127 = .ok (.bipush 8, 2) := dk_16 8 (dk_at dksX4_init_5 8 rfl rfl)
theorem dX4_init_129 : decode cX4_init 129 = .ok (.bipush 114, 2) := dk_16 114 (dk_at dksX4_init_5 10 rfl rfl)
theorem dX4_init_131 : decode cX4_init 131 = .ok (.iastore, 1) := dk_79 (dk_at dksX4_init_5 12 rfl rfl)
theorem dX4_init_132 : decode cX4_init 132 = .ok (.dup, 1) := dk_89 (dk_at dksX4_init_5 13 rfl rfl)
theorem dX4_init_133 : decode cX4_init 133 = .ok (.bipush 9, 2) := dk_16 9 (dk_at dksX4_init_5 14 rfl rfl)
theorem dX4_init_135 : decode cX4_init 135 = .ok (.bipush 32, 2) := dk_16 32 (dk_at dksX4_init_5 16 rfl rfl)
theorem dX4_init_137 : decode cX4_init 137 = .ok (.iastore, 1) := dk_79 (dk_at dksX4_init_5 18 rfl rfl)
theorem dX4_init_138 : decode cX4_init 138 = .ok (.dup, 1) := dk_89 (dk_at dksX4_init_5 19 rfl rfl)
theorem dX4_init_139 : decode cX4_init 139 = .ok (.bipush 10, 2) := dk_16 10 (dk_at dksX4_init_5 20 rfl rfl)
theorem dX4_init_141 : decode cX4_init 141 = .ok (.bipush 121, 2) := dk_16 121 (dk_at dksX4_init_5 22 rfl rfl)
theorem dX4_init_143 : decode cX4_init 143 = .ok (.iastore, 1) := dk_79 (dk_at dksX4_init_6 0 rfl rfl)
theorem dX4_init_144 : decode cX4_init 144 = .ok (.dup, 1) := dk_89 (dk_at dksX4_init_6 1 rfl rfl)
theorem dX4_init_145 : decode cX4_init 145 = .ok (.bipush 11, 2) := dk_16 11 (dk_at dksX4_init_6 2 rfl rfl)
theorem dX4_init_147 : decode cX4_init 147 = .ok (.bipush 97, 2) := dk_16 97 (dk_at dksX4_init_6 4 rfl rfl)
theorem dX4_init_149 : decode cX4_init 149 = .ok (.iastore, 1) := dk_79 (dk_at dksX4_init_6 6 rfl rfl)
theorem dX4_init_150 : decode cX4_init 150 = .ok (.dup, 1) := dk_89 (dk_at dksX4_init_6 7 rfl rfl)
theorem dX4_init_151 : decode cX4_init 151 = .ok (.bipush 12, 2) := dk_16 12 (dk_at dksX4_init_6 8 rfl rfl)
theorem dX4_init_153 : decode cX4_init 153 = .ok (.bipush 119, 2) := dk_16 119 (dk_at dksX4_init_6 10 rfl rfl)
theorem dX4_init_155 : decode cX4_init 155 = .ok (.iastore, 1) := dk_79 (dk_at dksX4_init_6 12 rfl rfl)
theorem dX4_init_156 : decode cX4_init 156 = .ok (.dup, 1) := dk_89 (dk_at dksX4_init_6 13 rfl rfl)
theorem dX4_init_157 : decode cX4_init 157 = .ok (.bipush 13, 2) := dk_16 13 (dk_at dksX4_init_6 14 rfl rfl)
theorem dX4_init_159 : decode cX4_init 159 = .ok (.bipush 110, 2) := dk_16 110 (dk_at dksX4_init_6 16 rfl rfl)
theorem dX4_init_161 : decode cX4_init 161 = .ok (.iastore, 1) := dk_79 (dk_at dksX4_init_6 18 rfl rfl)
theorem dX4_init_162 : decode cX4_init 162 = .ok (.dup, 1) := dk_89 (dk_at dksX4_init_6 19 rfl rfl)
theorem dX4_init_163 : decode cX4_init 163 = .ok (.bipush 14, 2) := dk_16 14 (dk_at dksX4_init_6 20 rfl rfl)
theorem dX4_init_165 : decode cX4_init 165 = .ok (.bipush 32, 2) := dk_16 32 (dk_at dksX4_init_6 22 rfl rfl)
theorem dX4_init_167 : decode cX4_init 167 = .ok (.iastore, 1) := dk_79 (dk_at dksX4_init_7 0 rfl rfl)
theorem dX4_init_168 : decode cX4_init 168 = .ok (.dup, 1) := dk_89 (dk_at dksX4_init_7 1 rfl rfl)
theorem dX4_init_169 : decode cX4_init 169 = .ok (.bipush 15, 2) := dk_16 15 (dk_at dksX4_init_7 2 rfl rfl)
theorem dX4_init_171 : decode cX4_init 171 = .ok (.bipush 108, 2) := dk_16 108 (dk_at dksX4_init_7 4 rfl rfl)
theorem dX4_init_173 : decode cX4_init 173 = .ok (.iastore, 1) := dk_79 (dk_at dksX4_init_7 6 rfl rfl)
theorem dX4_init_174 : decode cX4_init 174 = .ok (.dup, 1) := dk_89 (dk_at dksX4_init_7 7 rfl rfl)
theorem dX4_init_175 : decode cX4_init 175 = .ok (.bipush 16, 2) := dk_16 16 (dk_at dksX4_init_7 8 rfl rfl)
theorem dX4_init_177 : decode cX4_init 177 = .ok (.bipush 101, 2) := dk_16 101 (dk_at dksX4_init_7 10 rfl rfl)
theorem dX4_init_179 : decode cX4_init 179 = .ok (.iastore, 1) := dk_79 (dk_at dksX4_init_7 12 rfl rfl)
theorem dX4_init_180 : decode cX4_init 180 = .ok (.dup, 1) := dk_89 (dk_at dksX4_init_7 13 rfl rfl)
theorem dX4_init_181 : decode cX4_init 181 = .ok (.bipush 17, 2) := dk_16 17 (dk_at dksX4_init_7 14 rfl rfl)
theorem dX4_init_183 : decode cX4_init 183 = .ok (.bipush 97, 2) := dk_16 97 (dk_at dksX4_init_7 16 rfl rfl)
theorem dX4_init_185 : decode cX4_init 185 = .ok (.iastore, 1) := dk_79 (dk_at dksX4_init_7 18 rfl rfl)
theorem dX4_init_186 : decode cX4_init 186 = .ok (.dup, 1) := dk_89 (dk_at dksX4_init_7 19 rfl rfl)
theorem dX4_init_187 : decode cX4_init 187 = .ok (.bipush 18, 2) := dk_16 18 (dk_at dksX4_init_7 20 rfl rfl)
theorem dX4_init_189 : decode cX4_init 189 = .ok (.bipush 118, 2) := dk_16 118 (dk_at dksX4_init_7 22 rfl rfl)
theorem dX4_init_191 : decode cX4_init 191 = .ok (.iastore, 1) := dk_79 (dk_at dksX4_init_8 0 rfl rfl)
theorem dX4_init_192 : decode cX4_init 192 = .ok (.dup, 1) := dk_89 (dk_at dksX4_init_8 1 rfl rfl)
theorem dX4_init_193 : decode cX4_init 193 = .ok (.bipush 19, 2) := dk_16 19 (dk_at dksX4_init_8 2 rfl rfl)
theorem dX4_init_195 : decode cX4_init 195 = .ok (.bipush 101, 2) := dk_16 101 (dk_at dksX4_init_8 4 rfl rfl)
theorem dX4_init_197 : decode cX4_init 197 = .ok (.iastore, 1) := dk_79 (dk_at dksX4_init_8 6 rfl rfl)
theorem dX4_init_198 : decode cX4_init 198 = .ok (.dup, 1) := dk_89 (dk_at dksX4_init_8 7 rfl rfl)
theorem dX4_init_199 : decode cX4_init 199 = .ok (.bipush 20, 2) := dk_16 20 (dk_at dksX4_init_8 8 rfl rfl)
theorem dX4_init_201 : decode cX4_init 201 = .ok (.bipush 32, 2) := dk_16 32 (dk_at dksX4_init_8 10 rfl rfl)
theorem dX4_init_203 : decode cX4_init 203 = .ok (.iastore, 1) := dk_79 (dk_at dksX4_init_8 12 rfl rfl)
theorem dX4_init_204 : decode cX4_init 204 = .ok (.dup, 1) := dk_89 (dk_at dksX4_init_8 13 rfl rfl)
theorem dX4_init_205 : decode cX4_init 205 = .ok (.bipush 21, 2) := dk_16 21 (dk_at dksX4_init_8 14 rfl rfl)
theorem dX4_init_207 : decode cX4_init 207 = .ok (.bipush 115, 2) := dk_16 115 (dk_at dksX4_init_8 16 rfl rfl)
theorem dX4_init_209 : decode cX4_init 209 = .ok (.iastore, 1) := dk_79 (dk_at dksX4_init_8 18 rfl rfl)
theorem dX4_init_210 : decode cX4_init 210 = .ok (.dup, 1) := dk_89 (dk_at dksX4_init_8 19 rfl rfl)
theorem dX4_init_211 : decode cX4_init 211 = .ok (.bipush 22, 2) := dk_16 22 (dk_at dksX4_init_8 20 rfl rfl)
theorem dX4_init_213 : decode cX4_init 213 = .ok (.bipush 101, 2) := dk_16 101 (dk_at dksX4_init_8 22 rfl rfl)
theorem dX4_init_215 : decode cX4_init 215 = .ok (.iastore, 1) := dk_79 (dk_at dksX4_init_9 0 rfl rfl)
theorem dX4_init_216 : decode cX4_init 216 = .ok (.dup, 1) := dk_89 (dk_at dksX4_init_9 1 rfl rfl)
theorem dX4_init_217 : decode cX4_init 217 = .ok (.bipush 23, 2) := dk_16 23 (dk_at dksX4_init_9 2 rfl rfl)
theorem dX4_init_219 : decode cX4_init 219 = .ok (.bipush 114, 2) := dk_16 114 (dk_at dksX4_init_9 4 rfl rfl)
theorem dX4_init_221 : decode cX4_init 221 = .ok (.iastore, 1) := dk_79 (dk_at dksX4_init_9 6 rfl rfl)
theorem dX4_init_222 : decode cX4_init 222 = .ok (.dup, 1) := dk_89 (dk_at dksX4_init_9 7 rfl rfl)
theorem dX4_init_223 : decode cX4_init 223 = .ok (.bipush 24, 2) := dk_16 24 (dk_at dksX4_init_9 8 rfl rfl)
theorem dX4_init_225 : decode cX4_init 225 = .ok (.bipush 118, 2) := dk_16 118 (dk_at dksX4_init_9 10 rfl rfl)
theorem dX4_init_227 : decode cX4_init 227 = .ok (.iastore, 1) := dk_79 (dk_at dksX4_init_9 12 rfl rfl)
theorem dX4_init_228 : decode cX4_init 228 = .ok (.dup, 1) := dk_89 (dk_at dksX4_init_9 13 rfl rfl)
theorem dX4_init_229 : decode cX4_init 229 = .ok (.bipush 25, 2) := dk_16 25 (dk_at dksX4_init_9 14 rfl rfl)
theorem dX4_init_231 : decode cX4_init 231 = .ok (.bipush 101, 2) := dk_16 101 (dk_at dksX4_init_9 16 rfl rfl)
theorem dX4_init_233 : decode cX4_init 233 = .ok (.iastore, 1) := dk_79 (dk_at dksX4_init_9 18 rfl rfl)
theorem dX4_init_234 : decode cX4_init 234 = .ok (.dup, 1) := dk_89 (dk_at dksX4_init_9 19 rfl rfl)
theorem dX4_init_235 : decode cX4_init 235 = .ok (.bipush 26, 2) := dk_16 26 (dk_at dksX4_init_9 20 rfl rfl)
theorem dX4_init_237 : decode cX4_init 237 = .ok (.bipush 112, 2) := dk_16 112 (dk_at dksX4_init_9 22 rfl rfl)
theorem dX4_init_239 : decode cX4_init 239 = .ok (.iastore, 1) := dk_79 (dk_at dksX4_init_10 0 rfl rfl)
theorem dX4_init_240 : decode cX4_init 240 = .ok (.dup, 1) := dk_89 (dk_at dksX4_init_10 1 rfl rfl)
theorem dX4_init_241 : decode cX4_init 241 = .ok (.bipush 27, 2) := dk_16 27 (dk_at dksX4_init_10 2 rfl rfl)
theorem dX4_init_243 : decode cX4_init 243 = .ok (.bipush 117, 2) := dk_16 117 (dk_at dksX4_init_10 4 rfl rfl)
theorem dX4_init_245 : decode cX4_init 245 = .ok (.iastore, 1) := dk_79 (dk_at dksX4_init_10 6 rfl rfl)
theorem dX4_init_246 : decode cX4_init 246 = .ok (.dup, 1) := dk_89 (dk_at dksX4_init_10 7 rfl rfl)
theorem dX4_init_247 : decode cX4_init 247 = .ok (.bipush 28, 2) := dk_16 28 (dk_at dksX4_init_10 8 rfl rfl)
theorem dX4_init_249 : decode cX4_init 249 = .ok (.bipush 114, 2) := dk_16 114 (dk_at dksX4_init_10 10 rfl rfl)
theorem dX4_init_251 : decode cX4_init 251 = .ok (.iastore, 1) := dk_79 (dk_at dksX4_init_10 12 rfl rfl)
theorem dX4_init_252 : decode cX4_init 252 = .ok (.dup, 1) := dk_89 (dk_at dksX4_init_10 13 rfl rfl)
theorem dX4_init_253 : decode cX4_init 253 = .ok (.bipush 29, 2) := dk_16 29 (dk_at dksX4_init_10 14 rfl rfl)
theorem dX4_init_255 : decode cX4_init 255 = .ok (.bipush 103, 2) := dk_16 103 (dk_at dksX4_init_10 16 rfl rfl)
theorem dX4_init_257 : decode cX4_init 257 = .ok (.iastore, 1) := dk_79 (dk_at dksX4_init_10 18 rfl rfl)
theorem dX4_init_258 : decode cX4_init 258 = .ok (.dup, 1) := dk_89 (dk_at dksX4_init_10 19 rfl rfl)
theorem dX4_init_259 : decode cX4_init 259 = .ok (.bipush 30, 2) := dk_16 30 (dk_at dksX4_init_10 20 rfl rfl)
theorem dX4_init_261 : decode cX4_init 261 = .ok (.bipush 101, 2) := dk_16 101 (dk_at dksX4_init_10 22 rfl rfl)
theorem dX4_init_263 : decode cX4_init 263 = .ok (.iastore, 1) := dk_79 (dk_at dksX4_init_11 0 rfl rfl)
theorem dX4_init_264 : decode cX4_init 264 = .ok (.dup, 1) := dk_89 (dk_at dksX4_init_11 1 rfl rfl)
theorem dX4_init_265 : decode cX4_init 265 = .ok (.bipush 31, 2) := dk_16 31 (dk_at dksX4_init_11 2 rfl rfl)
theorem dX4_init_267 : decode cX4_init 267 = .ok (.bipush 107, 2) := dk_16 107 (dk_at dksX4_init_11 4 rfl rfl)
theorem dX4_init_269 : decode cX4_init 269 = .ok (.iastore, 1) := dk_79 (dk_at dksX4_init_11 6 rfl rfl)
theorem dX4_init_270 : decode cX4_init 270 = .ok (.dup, 1) := dk_89 (dk_at dksX4_init_11 7 rfl rfl)
theorem dX4_init_271 : decode cX4_init 271 = .ok (.bipush 32, 2) := dk_16 32 (dk_at dksX4_init_11 8 rfl rfl)
theorem dX4_init_273 : decode cX4_init 273 = .ok (.bipush 101, 2) := dk_16 101 (dk_at dksX4_init_11 10 rfl rfl)
theorem dX4_init_275 : decode cX4_init 275 = .ok (.iastore, 1) := dk_79 (dk_at dksX4_init_11 12 rfl rfl)
theorem dX4_init_276 : decode cX4_init 276 = .ok (.dup, 1) := dk_89 (dk_at dksX4_init_11 13 rfl rfl)
theorem dX4_init_277 : decode cX4_init 277 = .ok (.bipush 33, 2) := dk_16 33 (dk_at dksX4_init_11 14 rfl rfl)
theorem dX4_init_279 : decode cX4_init 279 = .ok (.bipush 101, 2) := dk_16 101 (dk_at dksX4_init_11 16 rfl rfl)
theorem dX4_init_281 : decode cX4_init 281 = .ok (.iastore, 1) := dk_79 (dk_at dksX4_init_11 18 rfl rfl)
theorem dX4_init_282 : decode cX4_init 282 = .ok (.dup, 1) := dk_89 (dk_at dksX4_init_11 19 rfl rfl)
theorem dX4_init_283 : decode cX4_init 283 = .ok (.bipush 34, 2) := dk_16 34 (dk_at dksX4_init_11 20 rfl rfl)
theorem dX4_init_285 : decode cX4_init 285 = .ok (.bipush 112, 2) := dk_16 112 (dk_at dksX4_init_11 22 rfl rfl)
theorem dX4_init_287 : decode cX4_init 287 = .ok (.iastore, 1) := dk_79 (dk_at dksX4_init_12 0 rfl rfl)
theorem dX4_init_288 : decode cX4_init 288 = .ok (.dup, 1) := dk_89 (dk_at dksX4_init_12 1 rfl rfl)
theorem dX4_init_289 : decode cX4_init 289 = .ok (.bipush 35, 2) := dk_16 35 (dk_at dksX4_init_12 2 rfl rfl)
theorem dX4_init_291 : decode cX4_init 291 = .ok (.bipush 101, 2) := dk_16 101 (dk_at dksX4_init_12 4 rfl rfl)
theorem dX4_init_293 : decode cX4_init 293 = .ok (.iastore, 1) := dk_79 (dk_at dksX4_init_12 6 rfl rfl)
theorem dX4_init_294 : decode cX4_init 294 = .ok (.dup, 1) := dk_89 (dk_at dksX4_init_12 7 rfl rfl)
theorem dX4_init_295 : decode cX4_init 295 = .ok (.bipush 36, 2) := dk_16 36 (dk_at dksX4_init_12 8 rfl rfl)
theorem dX4_init_297 : decode cX4_init 297 = .ok (.bipush 114, 2) := dk_16 114 (dk_at dksX4_init_12 10 rfl rfl)
theorem dX4_init_299 : decode cX4_init 299 = .ok (.iastore, 1) := dk_79 (dk_at dksX4_init_12 12 rfl rfl)
theorem dX4_init_300 : decode cX4_init 300 = .ok (.dup, 1) := dk_89 (dk_at dksX4_init_12 13 rfl rfl)
theorem dX4_init_301 : decode cX4_init 301 = .ok (.bipush 37, 2) := dk_16 37 (dk_at dksX4_init_12 14 rfl rfl)
theorem dX4_init_303 : decode cX4_init 303 = .ok (.bipush 32, 2) := dk_16 32 (dk_at dksX4_init_12 16 rfl rfl)
theorem dX4_init_305 : decode cX4_init 305 = .ok (.iastore, 1) := dk_79 (dk_at dksX4_init_12 18 rfl rfl)
theorem dX4_init_306 : decode cX4_init 306 = .ok (.dup, 1) := dk_89 (dk_at dksX4_init_12 19 rfl rfl)
theorem dX4_init_307 : decode cX4_init 307 = .ok (.bipush 38, 2) := dk_16 38 (dk_at dksX4_init_12 20 rfl rfl)
theorem dX4_init_309 : decode cX4_init 309 = .ok (.bipush 100, 2) := dk_16 100 (dk_at dksX4_init_12 22 rfl rfl)
theorem dX4_init_311 : decode cX4_init 311 = .ok (.iastore, 1) := dk_79 (dk_at dksX4_init_13 0 rfl rfl)
theorem dX4_init_312 : decode cX4_init 312 = .ok (.dup, 1) := dk_89 (dk_at dksX4_init_13 1 rfl rfl)
theorem dX4_init_313 : decode cX4_init 313 = .ok (.bipush 39, 2) := dk_16 39 (dk_at dksX4_init_13 2 rfl rfl)
theorem dX4_init_315 : decode cX4_init 315 = .ok (.bipush 105, 2) := dk_16 105 (dk_at dksX4_init_13 4 rfl rfl)
theorem dX4_init_317 : decode cX4_init 317 = .ok (.iastore, 1) := dk_79 (dk_at dksX4_init_13 6 rfl rfl)
theorem dX4_init_318 : decode cX4_init 318 = .ok (.dup, 1) := dk_89 (dk_at dksX4_init_13 7 rfl rfl)
theorem dX4_init_319 : decode cX4_init 319 = .ok (.bipush 40, 2) := dk_16 40 (dk_at dksX4_init_13 8 rfl rfl)
theorem dX4_init_321 : decode cX4_init 321 = .ok (.bipush 115, 2) := dk_16 115 (dk_at dksX4_init_13 10 rfl rfl)
theorem dX4_init_323 : decode cX4_init 323 = .ok (.iastore, 1) := dk_79 (dk_at dksX4_init_13 12 rfl rfl)
theorem dX4_init_324 : decode cX4_init 324 = .ok (.dup, 1) := dk_89 (dk_at dksX4_init_13 13 rfl rfl)
theorem dX4_init_325 : decode cX4_init 325 = .ok (.bipush 41, 2) := dk_16 41 (dk_at dksX4_init_13 14 rfl rfl)
theorem dX4_init_327 : decode cX4_init 327 = .ok (.bipush 109, 2) := dk_16 109 (dk_at dksX4_init_13 16 rfl rfl)
theorem dX4_init_329 : decode cX4_init 329 = .ok (.iastore, 1) := dk_79 (dk_at dksX4_init_13 18 rfl rfl)
theorem dX4_init_330 : decode cX4_init 330 = .ok (.dup, 1) := dk_89 (dk_at dksX4_init_13 19 rfl rfl)
theorem dX4_init_331 : decode cX4_init 331 = .ok (.bipush 42, 2) := dk_16 42 (dk_at dksX4_init_13 20 rfl rfl)
theorem dX4_init_333 : decode cX4_init 333 = .ok (.bipush 105, 2) := dk_16 105 (dk_at dksX4_init_13 22 rfl rfl)
theorem dX4_init_335 : decode cX4_init 335 = .ok (.iastore, 1) := dk_79 (dk_at dksX4_init_14 0 rfl rfl)
theorem dX4_init_336 : decode cX4_init 336 = .ok (.dup, 1) := dk_89 (dk_at dksX4_init_14 1 rfl rfl)
theorem dX4_init_337 : decode cX4_init 337 = .ok (.bipush 43, 2) := dk_16 43 (dk_at dksX4_init_14 2 rfl rfl)
theorem dX4_init_339 : decode cX4_init 339 = .ok (.bipush 115, 2) := dk_16 115 (dk_at dksX4_init_14 4 rfl rfl)
theorem dX4_init_341 : decode cX4_init 341 = .ok (.iastore, 1) := dk_79 (dk_at dksX4_init_14 6 rfl rfl)
theorem dX4_init_342 : decode cX4_init 342 = .ok (.dup, 1) := dk_89 (dk_at dksX4_init_14 7 rfl rfl)
theorem dX4_init_343 : decode cX4_init 343 = .ok (.bipush 44, 2) := dk_16 44 (dk_at dksX4_init_14 8 rfl rfl)
theorem dX4_init_345 : decode cX4_init 345 = .ok (.bipush 115, 2) := dk_16 115 (dk_at dksX4_init_14 10 rfl rfl)
theorem dX4_init_347 : decode cX4_init 347 = .ok (.iastore, 1) := dk_79 (dk_at dksX4_init_14 12 rfl rfl)
theorem dX4_init_348 : decode cX4_init 348 = .ok (.dup, 1) := dk_89 (dk_at dksX4_init_14 13 rfl rfl)
theorem dX4_init_349 : decode cX4_init 349 = .ok (.bipush 45, 2) := dk_16 45 (dk_at dksX4_init_14 14 rfl rfl)
theorem dX4_init_351 : decode cX4_init 351 = .ok (.bipush 32, 2) := dk_16 32 (dk_at dksX4_init_14 16 rfl rfl)
theorem dX4_init_353 : decode cX4_init 353 = .ok (.iastore, 1) := dk_79 (dk_at dksX4_init_14 18 rfl rfl)
theorem dX4_init_354 : decode cX4_init 354 = .ok (.dup, 1) := dk_89 (dk_at dksX4_init_14 19 rfl rfl)
theorem dX4_init_355 : decode cX4_init 355 = .ok (.bipush 46, 2) := dk_16 46 (dk_at dksX4_init_14 20 rfl rfl)
theorem dX4_init_357 : decode cX4_init 357 = .ok (.bipush 119, 2) := dk_16 119 (dk_at dksX4_init_14 22 rfl rfl)
theorem dX4_init_359 : decode cX4_init 359 = .ok (.iastore, 1) := dk_79 (dk_at dksX4_init_15 0 rfl rfl)
theorem dX4_init_360 : decode cX4_init 360 = .ok (.dup, 1) := dk_89 (dk_at dksX4_init_15 1 rfl rfl)
theorem dX4_init_361 : decode cX4_init 361 = .ok (.bipush 47, 2) := dk_16 47 (dk_at dksX4_init_15 2 rfl rfl)
theorem dX4_init_363 : decode cX4_init 363 = .ok (.bipush 97, 2) := dk_16 97 (dk_at dksX4_init_15 4 rfl rfl)
theorem dX4_init_365 : decode cX4_init 365 = .ok (.iastore, 1) := dk_79 (dk_at dksX4_init_15 6 rfl rfl)
theorem dX4_init_366 : decode cX4_init 366 = .ok (.dup, 1) := dk_89 (dk_at dksX4_init_15 7 rfl rfl)
theorem dX4_init_367 : decode cX4_init 367 = .ok (.bipush 48, 2) := dk_16 48 (dk_at dksX4_init_15 8 rfl rfl)
theorem dX4_init_369 : decode cX4_init 369 = .ok (.bipush 105, 2) := dk_16 105 (dk_at dksX4_init_15 10 rfl rfl)
theorem dX4_init_371 : decode cX4_init 371 = .ok (.iastore, 1) := dk_79 (dk_at dksX4_init_15 12 rfl rfl)
theorem dX4_init_372 : decode cX4_init 372 = .ok (.dup, 1) := dk_89 (dk_at dksX4_init_15 13 rfl rfl)
theorem dX4_init_373 : decode cX4_init 373 = .ok (.bipush 49, 2) := dk_16 49 (dk_at dksX4_init_15 14 rfl rfl)
theorem dX4_init_375 : decode cX4_init 375 = .ok (.bipush 116, 2) := dk_16 116 (dk_at dksX4_init_15 16 rfl rfl)
theorem dX4_init_377 : decode cX4_init 377 = .ok (.iastore, 1) := dk_79 (dk_at dksX4_init_15 18 rfl rfl)
theorem dX4_init_378 : decode cX4_init 378 = .ok (.dup, 1) := dk_89 (dk_at dksX4_init_15 19 rfl rfl)
theorem dX4_init_379 : decode cX4_init 379 = .ok (.bipush 50, 2) := dk_16 50 (dk_at dksX4_init_15 20 rfl rfl)
theorem dX4_init_381 : decode cX4_init 381 = .ok (.bipush 32, 2) := dk_16 32 (dk_at dksX4_init_15 22 rfl rfl)
theorem dX4_init_383 : decode cX4_init 383 = .ok (.iastore, 1) := dk_79 (dk_at dksX4_init_16 0 rfl rfl)
theorem dX4_init_384 : decode cX4_init 384 = .ok (.putfield 41, 3) := dk_181 0 41 (dk_at dksX4_init_16 1 rfl rfl)
theorem dX4_init_387 : decode cX4_init 387 = .ok (.aload_n 0, 1) := dk_42 (dk_at dksX4_init_16 4 rfl rfl)
theorem dX4_init_388 : decode cX4_init 388 = .ok (.bipush 10, 2) := dk_16 10 (dk_at dksX4_init_16 5 rfl rfl)
theorem dX4_init_390 : decode cX4_init 390 = .ok (.newarray .int, 2) := dk_188_10 (dk_at dksX4_init_16 7 rfl rfl)
theorem dX4_init_392 : decode cX4_init 392 = .ok (.dup, 1) := dk_89 (dk_at dksX4_init_16 9 rfl rfl)
theorem dX4_init_393 : decode cX4_init 393 = .ok (.iconst 0, 1) := dk_3 (dk_at dksX4_init_16 10 rfl rfl)
theorem dX4_init_394 : decode cX4_init 394 = .ok (.iconst 0, 1) := dk_3 (dk_at dksX4_init_16 11 rfl rfl)
theorem dX4_init_395 : decode cX4_init 395 = .ok (.iastore, 1) := dk_79 (dk_at dksX4_init_16 12 rfl rfl)
theorem dX4_init_396 : decode cX4_init 396 = .ok (.dup, 1) := dk_89 (dk_at dksX4_init_16 13 rfl rfl)
theorem dX4_init_397 : decode cX4_init 397 = .ok (.iconst 1, 1) := dk_4 (dk_at dksX4_init_16 14 rfl rfl)
theorem dX4_init_398 : decode cX4_init 398 = .ok (.iconst 5, 1) := dk_8 (dk_at dksX4_init_16 15 rfl rfl)
theorem dX4_init_399 : decode cX4_init 399 = .ok (.iastore, 1) := dk_79 (dk_at dksX4_init_16 16 rfl rfl)
theorem dX4_init_400 : decode cX4_init 400 = .ok (.dup, 1) := dk_89 (dk_at dksX4_init_16 17 rfl rfl)
theorem dX4_init_401 : decode cX4_init 401 = .ok (.iconst 2, 1) := dk_5 (dk_at dksX4_init_16 18 rfl rfl)
theorem dX4_init_402 : decode cX4_init 402 = .ok (.bipush 10, 2) := dk_16 10 (dk_at dksX4_init_16 19 rfl rfl)
theorem dX4_init_404 : decode cX4_init 404 = .ok (.iastore, 1) := dk_79 (dk_at dksX4_init_16 21 rfl rfl)
theorem dX4_init_405 : decode cX4_init 405 = .ok (.dup, 1) := dk_89 (dk_at dksX4_init_16 22 rfl rfl)
theorem dX4_init_406 : decode cX4_init 406 = .ok (.iconst 3, 1) := dk_6 (dk_at dksX4_init_16 23 rfl rfl)
theorem dX4_init_407 : decode cX4_init 407 = .ok (.bipush 15, 2) := dk_16 15 (dk_at dksX4_init_17 0 rfl rfl)
theorem dX4_init_409 : decode cX4_init 409 = .ok (.iastore, 1) := dk_79 (dk_at dksX4_init_17 2 rfl rfl)
theorem dX4_init_410 : decode cX4_init 410 = .ok (.dup, 1) := dk_89 (dk_at dksX4_init_17 3 rfl rfl)
theorem dX4_init_411 : decode cX4_init 411 = .ok (.iconst 4, 1) := dk_7 (dk_at dksX4_init_17 4 rfl rfl)
theorem dX4_init_412 : decode cX4_init 412 = .ok (.bipush 21, 2) := dk_16 21 (dk_at dksX4_init_17 5 rfl rfl)
theorem dX4_init_414 : decode cX4_init 414 = .ok (.iastore, 1) := dk_79 (dk_at dksX4_init_17 7 rfl rfl)
theorem dX4_init_415 : decode cX4_init 415 = .ok (.dup, 1) := dk_89 (dk_at dksX4_init_17 8 rfl rfl)
theorem dX4_init_416 : decode cX4_init 416 = .ok (.iconst 5, 1) := dk_8 (dk_at dksX4_init_17 9 rfl rfl)
theorem dX4_init_417 : decode cX4_init 417 = .ok (.bipush 26, 2) := dk_16 26 (dk_at dksX4_init_17 10 rfl rfl)
theorem dX4_init_419 : decode cX4_init 419 = .ok (.iastore, 1) := dk_79 (dk_at dksX4_init_17 12 rfl rfl)
theorem dX4_init_420 : decode cX4_init 420 = .ok (.dup, 1) := dk_89 (dk_at dksX4_init_17 13 rfl rfl)
theorem dX4_init_421 : decode cX4_init 421 = .ok (.bipush 6, 2) := dk_16 6 (dk_at dksX4_init_17 14 rfl rfl)
theorem dX4_init_423 : decode cX4_init 423 = .ok (.bipush 31, 2) := dk_16 31 (dk_at dksX4_init_17 16 rfl rfl)
theorem dX4_init_425 : decode cX4_init 425 = .ok (.iastore, 1) := dk_79 (dk_at dksX4_init_17 18 rfl rfl)
theorem dX4_init_426 : decode cX4_init 426 = .ok (.dup, 1) := dk_89 (dk_at dksX4_init_17 19 rfl rfl)
theorem dX4_init_427 : decode cX4_init 427 = .ok (.bipush 7, 2) := dk_16 7 (dk_at dksX4_init_17 20 rfl rfl)
theorem dX4_init_429 : decode cX4_init 429 = .ok (.bipush 38, 2) := dk_16 38 (dk_at dksX4_init_17 22 rfl rfl)
theorem dX4_init_431 : decode cX4_init 431 = .ok (.iastore, 1) := dk_79 (dk_at dksX4_init_18 0 rfl rfl)
theorem dX4_init_432 : decode cX4_init 432 = .ok (.dup, 1) := dk_89 (dk_at dksX4_init_18 1 rfl rfl)
theorem dX4_init_433 : decode cX4_init 433 = .ok (.bipush 8, 2) := dk_16 8 (dk_at dksX4_init_18 2 rfl rfl)
theorem dX4_init_435 : decode cX4_init 435 = .ok (.bipush 46, 2) := dk_16 46 (dk_at dksX4_init_18 4 rfl rfl)
theorem dX4_init_437 : decode cX4_init 437 = .ok (.iastore, 1) := dk_79 (dk_at dksX4_init_18 6 rfl rfl)
theorem dX4_init_438 : decode cX4_init 438 = .ok (.dup, 1) := dk_89 (dk_at dksX4_init_18 7 rfl rfl)
theorem dX4_init_439 : decode cX4_init 439 = .ok (.bipush 9, 2) := dk_16 9 (dk_at dksX4_init_18 8 rfl rfl)
theorem dX4_init_441 : decode cX4_init 441 = .ok (.bipush 51, 2) := dk_16 51 (dk_at dksX4_init_18 10 rfl rfl)
theorem dX4_init_443 : decode cX4_init 443 = .ok (.iastore, 1) := dk_79 (dk_at dksX4_init_18 12 rfl rfl)
theorem dX4_init_444 : decode cX4_init 444 = .ok (.putfield 44, 3) := dk_181 0 44 (dk_at dksX4_init_18 13 rfl rfl)
theorem dX4_init_447 : decode cX4_init 447 = .ok (.aload_n 0, 1) := dk_42 (dk_at dksX4_init_18 16 rfl rfl)
theorem dX4_init_448 : decode cX4_init 448 = .ok (.bipush 18, 2) := dk_16 18 (dk_at dksX4_init_18 17 rfl rfl)
theorem dX4_init_450 : decode cX4_init 450 = .ok (.newarray .int, 2) := dk_188_10 (dk_at dksX4_init_18 19 rfl rfl)
theorem dX4_init_452 : decode cX4_init 452 = .ok (.dup, 1) := dk_89 (dk_at dksX4_init_18 21 rfl rfl)
theorem dX4_init_453 : decode cX4_init 453 = .ok (.iconst 0, 1) := dk_3 (dk_at dksX4_init_18 22 rfl rfl)
theorem dX4_init_454 : decode cX4_init 454 = .ok (.bipush 97, 2) := dk_16 97 (dk_at dksX4_init_19 0 rfl rfl)
theorem dX4_init_456 : decode cX4_init 456 = .ok (.iastore, 1) := dk_79 (dk_at dksX4_init_19 2 rfl rfl)
theorem dX4_init_457 : decode cX4_init 457 = .ok (.dup, 1) := dk_89 (dk_at dksX4_init_19 3 rfl rfl)
theorem dX4_init_458 : decode cX4_init 458 = .ok (.iconst 1, 1) := dk_4 (dk_at dksX4_init_19 4 rfl rfl)
theorem dX4_init_459 : decode cX4_init 459 = .ok (.bipush 115, 2) := dk_16 115 (dk_at dksX4_init_19 5 rfl rfl)
theorem dX4_init_461 : decode cX4_init 461 = .ok (.iastore, 1) := dk_79 (dk_at dksX4_init_19 7 rfl rfl)
theorem dX4_init_462 : decode cX4_init 462 = .ok (.dup, 1) := dk_89 (dk_at dksX4_init_19 8 rfl rfl)
theorem dX4_init_463 : decode cX4_init 463 = .ok (.iconst 2, 1) := dk_5 (dk_at dksX4_init_19 9 rfl rfl)
theorem dX4_init_464 : decode cX4_init 464 = .ok (.bipush 101, 2) := dk_16 101 (dk_at dksX4_init_19 10 rfl rfl)
theorem dX4_init_466 : decode cX4_init 466 = .ok (.iastore, 1) := dk_79 (dk_at dksX4_init_19 12 rfl rfl)
theorem dX4_init_467 : decode cX4_init 467 = .ok (.dup, 1) := dk_89 (dk_at dksX4_init_19 13 rfl rfl)
theorem dX4_init_468 : decode cX4_init 468 = .ok (.iconst 3, 1) := dk_6 (dk_at dksX4_init_19 14 rfl rfl)
theorem dX4_init_469 : decode cX4_init 469 = .ok (.bipush 97, 2) := dk_16 97 (dk_at dksX4_init_19 15 rfl rfl)
theorem dX4_init_471 : decode cX4_init 471 = .ok (.iastore, 1) := dk_79 (dk_at dksX4_init_19 17 rfl rfl)
theorem dX4_init_472 : decode cX4_init 472 = .ok (.dup, 1) := dk_89 (dk_at dksX4_init_19 18 rfl rfl)
theorem dX4_init_473 : decode cX4_init 473 = .ok (.iconst 4, 1) := dk_7 (dk_at dksX4_init_19 19 rfl rfl)
theorem dX4_init_474 : decode cX4_init 474 = .ok (.bipush 101, 2) := dk_16 101 (dk_at dksX4_init_19 20 rfl rfl)
theorem dX4_init_476 : decode cX4_init 476 = .ok (.iastore, 1) := dk_79 (dk_at dksX4_init_19 22 rfl rfl)
theorem dX4_init_477 : decode cX4_init 477 = .ok (.dup, 1) := dk_89 (dk_at dksX4_init_19 23 rfl rfl)
theorem dX4_init_478 : decode cX4_init 478 = .ok (.iconst 5, 1) := dk_8 (dk_at dksX4_init_20 0 rfl rfl)
theorem dX4_init_479 : decode cX4_init 479 = .ok (.bipush 97, 2) := dk_16 97 (dk_at dksX4_init_20 1 rfl rfl)
theorem dX4_init_481 : decode cX4_init 481 = .ok (.iastore, 1) := dk_79 (dk_at dksX4_init_20 3 rfl rfl)
theorem dX4_init_482 : decode cX4_init 482 = .ok (.dup, 1) := dk_89 (dk_at dksX4_init_20 4 rfl rfl)
theorem dX4_init_483 : decode cX4_init 483 = .ok (.bipush 6, 2) := dk_16 6 (dk_at dksX4_init_20 5 rfl rfl)
theorem dX4_init_485 : decode cX4_init 485 = .ok (.bipush 101, 2) := dk_16 101 (dk_at dksX4_init_20 7 rfl rfl)
theorem dX4_init_487 : decode cX4_init 487 = .ok (.iastore, 1) := dk_79 (dk_at dksX4_init_20 9 rfl rfl)
theorem dX4_init_488 : decode cX4_init 488 = .ok (.dup, 1) := dk_89 (dk_at dksX4_init_20 10 rfl rfl)
theorem dX4_init_489 : decode cX4_init 489 = .ok (.bipush 7, 2) := dk_16 7 (dk_at dksX4_init_20 11 rfl rfl)
theorem dX4_init_491 : decode cX4_init 491 = .ok (.bipush 101, 2) := dk_16 101 (dk_at dksX4_init_20 13 rfl rfl)
theorem dX4_init_493 : decode cX4_init 493 = .ok (.iastore, 1) := dk_79 (dk_at dksX4_init_20 15 rfl rfl)
theorem dX4_init_494 : decode cX4_init 494 = .ok (.dup, 1) := dk_89 (dk_at dksX4_init_20 16 rfl rfl)
theorem dX4_init_495 : decode cX4_init 495 = .ok (.bipush 8, 2) := dk_16 8 (dk_at dksX4_init_20 17 rfl rfl)
theorem dX4_init_497 : decode cX4_init 497 = .ok (.bipush 101, 2) := dk_16 101 (dk_at dksX4_init_20 19 rfl rfl)
theorem dX4_init_499 : decode cX4_init 499 = .ok (.iastore, 1) := dk_79 (dk_at dksX4_init_20 21 rfl rfl)
theorem dX4_init_500 : decode cX4_init 500 = .ok (.dup, 1) := dk_89 (dk_at dksX4_init_20 22 rfl rfl)
theorem dX4_init_501 : decode cX4_init 501 = .ok (.bipush 9, 2) := dk_16 9 (dk_at dksX4_init_21 0 rfl rfl)
theorem dX4_init_503 : decode cX4_init 503 = .ok (.bipush 117, 2) := dk_16 117 (dk_at dksX4_init_21 2 rfl rfl)
theorem dX4_init_505 : decode cX4_init 505 = .ok (.iastore, 1) := dk_79 (dk_at dksX4_init_21 4 rfl rfl)
theorem dX4_init_506 : decode cX4_init 506 = .ok (.dup, 1) := dk_89 (dk_at dksX4_init_21 5 rfl rfl)
theorem dX4_init_507 : decode cX4_init 507 = .ok (.bipush 10, 2) := dk_16 10 (dk_at dksX4_init_21 6 rfl rfl)
theorem dX4_init_509 : decode cX4_init 509 = .ok (.bipush 97, 2) := dk_16 97 (dk_at dksX4_init_21 8 rfl rfl)
theorem dX4_init_511 : decode cX4_init 511 = .ok (.iastore, 1) := dk_79 (dk_at dksX4_init_21 10 rfl rfl)
theorem dX4_init_512 : decode cX4_init 512 = .ok (.dup, 1) := dk_89 (dk_at dksX4_init_21 11 rfl rfl)
theorem dX4_init_513 : decode cX4_init 513 = .ok (.bipush 11, 2) := dk_16 11 (dk_at dksX4_init_21 12 rfl rfl)
theorem dX4_init_515 : decode cX4_init 515 = .ok (.bipush 97, 2) := dk_16 97 (dk_at dksX4_init_21 14 rfl rfl)
theorem dX4_init_517 : decode cX4_init 517 = .ok (.iastore, 1) := dk_79 (dk_at dksX4_init_21 16 rfl rfl)
theorem dX4_init_518 : decode cX4_init 518 = .ok (.dup, 1) := dk_89 (dk_at dksX4_init_21 17 rfl rfl)
theorem dX4_init_519 : decode cX4_init 519 = .ok (.bipush 12, 2) := dk_16 12 (dk_at dksX4_init_21 18 rfl rfl)
theorem dX4_init_521 : decode cX4_init 521 = .ok (.bipush 97, 2) := dk_16 97 (dk_at dksX4_init_21 20 rfl rfl)
theorem dX4_init_523 : decode cX4_init 523 = .ok (.iastore, 1) := dk_79 (dk_at dksX4_init_21 22 rfl rfl)
theorem dX4_init_524 : decode cX4_init 524 = .ok (.dup, 1) := dk_89 (dk_at dksX4_init_21 23 rfl rfl)
theorem dX4_init_525 : decode cX4_init 525 = .ok (.bipush 13, 2) := dk_16 13 (dk_at dksX4_init_22 0 rfl rfl)
theorem dX4_init_527 : decode cX4_init 527 = .ok (.bipush 115, 2) := dk_16 115 (dk_at dksX4_init_22 2 rfl rfl)
theorem dX4_init_529 : decode cX4_init 529 = .ok (.iastore, 1) := dk_79 (dk_at dksX4_init_22 4 rfl rfl)
theorem dX4_init_530 : decode cX4_init 530 = .ok (.dup, 1) := dk_89 (dk_at dksX4_init_22 5 rfl rfl)
theorem dX4_init_531 : decode cX4_init 531 = .ok (.bipush 14, 2) := dk_16 14 (dk_at dksX4_init_22 6 rfl rfl)
theorem dX4_init_533 : decode cX4_init 533 = .ok (.bipush 105, 2) := dk_16 105 (dk_at dksX4_init_22 8 rfl rfl)
theorem dX4_init_535 : decode cX4_init 535 = .ok (.iastore, 1) := dk_79 (dk_at dksX4_init_22 10 rfl rfl)
theorem dX4_init_536 : decode cX4_init 536 = .ok (.dup, 1) := dk_89 (dk_at dksX4_init_22 11 rfl rfl)
theorem dX4_init_537 : decode cX4_init 537 = .ok (.bipush 15, 2) := dk_16 15 (dk_at dksX4_init_22 12 rfl rfl)
theorem dX4_init_539 : decode cX4_init 539 = .ok (.bipush 105, 2) := dk_16 105 (dk_at dksX4_init_22 14 rfl rfl)
theorem dX4_init_541 : decode cX4_init 541 = .ok (.iastore, 1) := dk_79 (dk_at dksX4_init_22 16 rfl rfl)
theorem dX4_init_542 : decode cX4_init 542 = .ok (.dup, 1) := dk_89 (dk_at dksX4_init_22 17 rfl rfl)
theorem dX4_init_543 : decode cX4_init 543 = .ok (.bipush 16, 2) := dk_16 16 (dk_at dksX4_init_22 18 rfl rfl)
theorem dX4_init_545 : decode cX4_init 545 = .ok (.bipush 97, 2) := dk_16 97 (dk_at dksX4_init_22 20 rfl rfl)
theorem dX4_init_547 : decode cX4_init 547 = .ok (.iastore, 1) := dk_79 (dk_at dksX4_init_22 22 rfl rfl)
theorem dX4_init_548 : decode cX4_init 548 = .ok (.dup, 1) := dk_89 (dk_at dksX4_init_22 23 rfl rfl)
theorem dX4_init_549 : decode cX4_init 549 = .ok (.bipush 17, 2) := dk_16 17 (dk_at dksX4_init_23 0 rfl rfl)
theorem dX4_init_551 : decode cX4_init 551 = .ok (.bipush 97, 2) := dk_16 97 (dk_at dksX4_init_23 2 rfl rfl)
theorem dX4_init_553 : decode cX4_init 553 = .ok (.iastore, 1) := dk_79 (dk_at dksX4_init_23 4 rfl rfl)
theorem dX4_init_554 : decode cX4_init 554 = .ok (.putfield 47, 3) := dk_181 0 47 (dk_at dksX4_init_23 5 rfl rfl)
theorem dX4_init_557 : decode cX4_init 557 = .ok (.return_, 1) := dk_177 (dk_at dksX4_init_23 8 rfl rfl)
abbrev cX4_of : ByteArray := prog_18_method_8_code
def yX4_of : MethodName := ⟨RX4, "of", "(II)I"⟩
def dkwX4_of_0 : List UInt8 := [16, 10, 8, 26, 104, 96, 27, 96, 172]
abbrev dktX4_of_0 : List UInt8 := dkwX4_of_0 ++ []
theorem dksX4_of_0 : cX4_of.data.toList.drop 0 = dktX4_of_0 := by decide +kernel
theorem dX4_of_0 : decode cX4_of 0 = .ok (.bipush 10, 2) := dk_16 10 (dk_at dksX4_of_0 0 rfl rfl)
theorem dX4_of_2 : decode cX4_of 2 = .ok (.iconst 5, 1) := dk_8 (dk_at dksX4_of_0 2 rfl rfl)
theorem dX4_of_3 : decode cX4_of 3 = .ok (.iload_n 0, 1) := dk_26 (dk_at dksX4_of_0 3 rfl rfl)
theorem dX4_of_4 : decode cX4_of 4 = .ok (.imul, 1) := dk_104 (dk_at dksX4_of_0 4 rfl rfl)
theorem dX4_of_5 : decode cX4_of 5 = .ok (.iadd, 1) := dk_96 (dk_at dksX4_of_0 5 rfl rfl)
theorem dX4_of_6 : decode cX4_of 6 = .ok (.iload_n 1, 1) := dk_27 (dk_at dksX4_of_0 6 rfl rfl)
theorem dX4_of_7 : decode cX4_of 7 = .ok (.iadd, 1) := dk_96 (dk_at dksX4_of_0 7 rfl rfl)
theorem dX4_of_8 : decode cX4_of 8 = .ok (.ireturn, 1) := dk_172 (dk_at dksX4_of_0 8 rfl rfl)
abbrev cX4_pile : ByteArray := prog_18_method_10_code
def yX4_pile : MethodName := ⟨RX4, "pile", "(I)I"⟩
def dkwX4_pile_0 : List UInt8 := [16, 72, 5, 26, 104, 96, 172]
abbrev dktX4_pile_0 : List UInt8 := dkwX4_pile_0 ++ []
theorem dksX4_pile_0 : cX4_pile.data.toList.drop 0 = dktX4_pile_0 := by decide +kernel
theorem dX4_pile_0 : decode cX4_pile 0 = .ok (.bipush 72, 2) := dk_16 72 (dk_at dksX4_pile_0 0 rfl rfl)
theorem dX4_pile_2 : decode cX4_pile 2 = .ok (.iconst 2, 1) := dk_5 (dk_at dksX4_pile_0 2 rfl rfl)
theorem dX4_pile_3 : decode cX4_pile 3 = .ok (.iload_n 0, 1) := dk_26 (dk_at dksX4_pile_0 3 rfl rfl)
theorem dX4_pile_4 : decode cX4_pile 4 = .ok (.imul, 1) := dk_104 (dk_at dksX4_pile_0 4 rfl rfl)
theorem dX4_pile_5 : decode cX4_pile 5 = .ok (.iadd, 1) := dk_96 (dk_at dksX4_pile_0 5 rfl rfl)
theorem dX4_pile_6 : decode cX4_pile 6 = .ok (.ireturn, 1) := dk_172 (dk_at dksX4_pile_0 6 rfl rfl)
abbrev cX4_owner : ByteArray := prog_18_method_11_code
def yX4_owner : MethodName := ⟨RX4, "owner", "(I)I"⟩
def dkwX4_owner_1 : List UInt8 := [180, 0, 16, 27, 184, 0, 64, 46, 160, 0, 5, 28, 172, 132, 2, 1, 167, 255, 219, 2, 172]
abbrev dktX4_owner_1 : List UInt8 := dkwX4_owner_1 ++ []
def dkwX4_owner_0 : List UInt8 := [3, 61, 28, 42, 180, 0, 16, 6, 46, 162, 0, 33, 42, 180, 0, 16, 28, 7, 184, 0, 60, 46, 42]
abbrev dktX4_owner_0 : List UInt8 := dkwX4_owner_0 ++ dktX4_owner_1
theorem dksX4_owner_0 : cX4_owner.data.toList.drop 0 = dktX4_owner_0 := by decide +kernel
theorem dksX4_owner_1 : cX4_owner.data.toList.drop 23 = dktX4_owner_1 := dk_seg dksX4_owner_0 23 rfl rfl
theorem dX4_owner_0 : decode cX4_owner 0 = .ok (.iconst 0, 1) := dk_3 (dk_at dksX4_owner_0 0 rfl rfl)
theorem dX4_owner_1 : decode cX4_owner 1 = .ok (.istore_n 2, 1) := dk_61 (dk_at dksX4_owner_0 1 rfl rfl)
theorem dX4_owner_2 : decode cX4_owner 2 = .ok (.iload_n 2, 1) := dk_28 (dk_at dksX4_owner_0 2 rfl rfl)
theorem dX4_owner_3 : decode cX4_owner 3 = .ok (.aload_n 0, 1) := dk_42 (dk_at dksX4_owner_0 3 rfl rfl)
theorem dX4_owner_4 : decode cX4_owner 4 = .ok (.getfield 16, 3) := dk_180 0 16 (dk_at dksX4_owner_0 4 rfl rfl)
theorem dX4_owner_7 : decode cX4_owner 7 = .ok (.iconst 3, 1) := dk_6 (dk_at dksX4_owner_0 7 rfl rfl)
theorem dX4_owner_8 : decode cX4_owner 8 = .ok (.iaload, 1) := dk_46 (dk_at dksX4_owner_0 8 rfl rfl)
theorem dX4_owner_9 : decode cX4_owner 9 = .ok (.if_icmp .ge 33, 3) := dk_162 0 33 (dk_at dksX4_owner_0 9 rfl rfl)
theorem dX4_owner_12 : decode cX4_owner 12 = .ok (.aload_n 0, 1) := dk_42 (dk_at dksX4_owner_0 12 rfl rfl)
theorem dX4_owner_13 : decode cX4_owner 13 = .ok (.getfield 16, 3) := dk_180 0 16 (dk_at dksX4_owner_0 13 rfl rfl)
theorem dX4_owner_16 : decode cX4_owner 16 = .ok (.iload_n 2, 1) := dk_28 (dk_at dksX4_owner_0 16 rfl rfl)
theorem dX4_owner_17 : decode cX4_owner 17 = .ok (.iconst 4, 1) := dk_7 (dk_at dksX4_owner_0 17 rfl rfl)
theorem dX4_owner_18 : decode cX4_owner 18 = .ok (.invokestatic 60, 3) := dk_184 0 60 (dk_at dksX4_owner_0 18 rfl rfl)
theorem dX4_owner_21 : decode cX4_owner 21 = .ok (.iaload, 1) := dk_46 (dk_at dksX4_owner_0 21 rfl rfl)
theorem dX4_owner_22 : decode cX4_owner 22 = .ok (.aload_n 0, 1) := dk_42 (dk_at dksX4_owner_0 22 rfl rfl)
theorem dX4_owner_23 : decode cX4_owner 23 = .ok (.getfield 16, 3) := dk_180 0 16 (dk_at dksX4_owner_1 0 rfl rfl)
theorem dX4_owner_26 : decode cX4_owner 26 = .ok (.iload_n 1, 1) := dk_27 (dk_at dksX4_owner_1 3 rfl rfl)
theorem dX4_owner_27 : decode cX4_owner 27 = .ok (.invokestatic 64, 3) := dk_184 0 64 (dk_at dksX4_owner_1 4 rfl rfl)
theorem dX4_owner_30 : decode cX4_owner 30 = .ok (.iaload, 1) := dk_46 (dk_at dksX4_owner_1 7 rfl rfl)
theorem dX4_owner_31 : decode cX4_owner 31 = .ok (.if_icmp .ne 5, 3) := dk_160 0 5 (dk_at dksX4_owner_1 8 rfl rfl)
theorem dX4_owner_34 : decode cX4_owner 34 = .ok (.iload_n 2, 1) := dk_28 (dk_at dksX4_owner_1 11 rfl rfl)
theorem dX4_owner_35 : decode cX4_owner 35 = .ok (.ireturn, 1) := dk_172 (dk_at dksX4_owner_1 12 rfl rfl)
theorem dX4_owner_36 : decode cX4_owner 36 = .ok (.iinc 2 1, 3) := dk_132 2 1 (dk_at dksX4_owner_1 13 rfl rfl)
theorem dX4_owner_39 : decode cX4_owner 39 = .ok (.goto (-37), 3) := dk_167 255 219 (dk_at dksX4_owner_1 16 rfl rfl)
theorem dX4_owner_42 : decode cX4_owner 42 = .ok (.iconst (-1), 1) := dk_2 (dk_at dksX4_owner_1 19 rfl rfl)
theorem dX4_owner_43 : decode cX4_owner 43 = .ok (.ireturn, 1) := dk_172 (dk_at dksX4_owner_1 20 rfl rfl)
abbrev cX4_takesOut : ByteArray := prog_18_method_12_code
def yX4_takesOut : MethodName := ⟨RX4, "takesOut", "(I)V"⟩
def dkwX4_takesOut_2 : List UInt8 := [92, 46, 4, 100, 79, 177]
abbrev dktX4_takesOut_2 : List UInt8 := dkwX4_takesOut_2 ++ []
def dkwX4_takesOut_1 : List UInt8 := [42, 180, 0, 16, 28, 5, 96, 46, 167, 0, 4, 3, 79, 132, 2, 1, 167, 255, 221, 42, 180, 0, 16, 8]
abbrev dktX4_takesOut_1 : List UInt8 := dkwX4_takesOut_1 ++ dktX4_takesOut_2
def dkwX4_takesOut_0 : List UInt8 := [27, 184, 0, 64, 61, 28, 16, 112, 162, 0, 35, 42, 180, 0, 16, 28, 28, 5, 96, 16, 112, 162, 0, 14]
abbrev dktX4_takesOut_0 : List UInt8 := dkwX4_takesOut_0 ++ dktX4_takesOut_1
theorem dksX4_takesOut_0 : cX4_takesOut.data.toList.drop 0 = dktX4_takesOut_0 := by decide +kernel
theorem dksX4_takesOut_1 : cX4_takesOut.data.toList.drop 24 = dktX4_takesOut_1 := dk_seg dksX4_takesOut_0 24 rfl rfl
theorem dksX4_takesOut_2 : cX4_takesOut.data.toList.drop 48 = dktX4_takesOut_2 := dk_seg dksX4_takesOut_1 24 rfl rfl
theorem dX4_takesOut_0 : decode cX4_takesOut 0 = .ok (.iload_n 1, 1) := dk_27 (dk_at dksX4_takesOut_0 0 rfl rfl)
theorem dX4_takesOut_1 : decode cX4_takesOut 1 = .ok (.invokestatic 64, 3) := dk_184 0 64 (dk_at dksX4_takesOut_0 1 rfl rfl)
theorem dX4_takesOut_4 : decode cX4_takesOut 4 = .ok (.istore_n 2, 1) := dk_61 (dk_at dksX4_takesOut_0 4 rfl rfl)
theorem dX4_takesOut_5 : decode cX4_takesOut 5 = .ok (.iload_n 2, 1) := dk_28 (dk_at dksX4_takesOut_0 5 rfl rfl)
theorem dX4_takesOut_6 : decode cX4_takesOut 6 = .ok (.bipush 112, 2) := dk_16 112 (dk_at dksX4_takesOut_0 6 rfl rfl)
theorem dX4_takesOut_8 : decode cX4_takesOut 8 = .ok (.if_icmp .ge 35, 3) := dk_162 0 35 (dk_at dksX4_takesOut_0 8 rfl rfl)
theorem dX4_takesOut_11 : decode cX4_takesOut 11 = .ok (.aload_n 0, 1) := dk_42 (dk_at dksX4_takesOut_0 11 rfl rfl)
theorem dX4_takesOut_12 : decode cX4_takesOut 12 = .ok (.getfield 16, 3) := dk_180 0 16 (dk_at dksX4_takesOut_0 12 rfl rfl)
theorem dX4_takesOut_15 : decode cX4_takesOut 15 = .ok (.iload_n 2, 1) := dk_28 (dk_at dksX4_takesOut_0 15 rfl rfl)
theorem dX4_takesOut_16 : decode cX4_takesOut 16 = .ok (.iload_n 2, 1) := dk_28 (dk_at dksX4_takesOut_0 16 rfl rfl)
theorem dX4_takesOut_17 : decode cX4_takesOut 17 = .ok (.iconst 2, 1) := dk_5 (dk_at dksX4_takesOut_0 17 rfl rfl)
theorem dX4_takesOut_18 : decode cX4_takesOut 18 = .ok (.iadd, 1) := dk_96 (dk_at dksX4_takesOut_0 18 rfl rfl)
theorem dX4_takesOut_19 : decode cX4_takesOut 19 = .ok (.bipush 112, 2) := dk_16 112 (dk_at dksX4_takesOut_0 19 rfl rfl)
theorem dX4_takesOut_21 : decode cX4_takesOut 21 = .ok (.if_icmp .ge 14, 3) := dk_162 0 14 (dk_at dksX4_takesOut_0 21 rfl rfl)
theorem dX4_takesOut_24 : decode cX4_takesOut 24 = .ok (.aload_n 0, 1) := dk_42 (dk_at dksX4_takesOut_1 0 rfl rfl)
theorem dX4_takesOut_25 : decode cX4_takesOut 25 = .ok (.getfield 16, 3) := dk_180 0 16 (dk_at dksX4_takesOut_1 1 rfl rfl)
theorem dX4_takesOut_28 : decode cX4_takesOut 28 = .ok (.iload_n 2, 1) := dk_28 (dk_at dksX4_takesOut_1 4 rfl rfl)
theorem dX4_takesOut_29 : decode cX4_takesOut 29 = .ok (.iconst 2, 1) := dk_5 (dk_at dksX4_takesOut_1 5 rfl rfl)
theorem dX4_takesOut_30 : decode cX4_takesOut 30 = .ok (.iadd, 1) := dk_96 (dk_at dksX4_takesOut_1 6 rfl rfl)
theorem dX4_takesOut_31 : decode cX4_takesOut 31 = .ok (.iaload, 1) := dk_46 (dk_at dksX4_takesOut_1 7 rfl rfl)
theorem dX4_takesOut_32 : decode cX4_takesOut 32 = .ok (.goto 4, 3) := dk_167 0 4 (dk_at dksX4_takesOut_1 8 rfl rfl)
theorem dX4_takesOut_35 : decode cX4_takesOut 35 = .ok (.iconst 0, 1) := dk_3 (dk_at dksX4_takesOut_1 11 rfl rfl)
theorem dX4_takesOut_36 : decode cX4_takesOut 36 = .ok (.iastore, 1) := dk_79 (dk_at dksX4_takesOut_1 12 rfl rfl)
theorem dX4_takesOut_37 : decode cX4_takesOut 37 = .ok (.iinc 2 1, 3) := dk_132 2 1 (dk_at dksX4_takesOut_1 13 rfl rfl)
theorem dX4_takesOut_40 : decode cX4_takesOut 40 = .ok (.goto (-35), 3) := dk_167 255 221 (dk_at dksX4_takesOut_1 16 rfl rfl)
theorem dX4_takesOut_43 : decode cX4_takesOut 43 = .ok (.aload_n 0, 1) := dk_42 (dk_at dksX4_takesOut_1 19 rfl rfl)
theorem dX4_takesOut_44 : decode cX4_takesOut 44 = .ok (.getfield 16, 3) := dk_180 0 16 (dk_at dksX4_takesOut_1 20 rfl rfl)
theorem dX4_takesOut_47 : decode cX4_takesOut 47 = .ok (.iconst 5, 1) := dk_8 (dk_at dksX4_takesOut_1 23 rfl rfl)
theorem dX4_takesOut_48 : decode cX4_takesOut 48 = .ok (.dup2, 1) := dk_92 (dk_at dksX4_takesOut_2 0 rfl rfl)
theorem dX4_takesOut_49 : decode cX4_takesOut 49 = .ok (.iaload, 1) := dk_46 (dk_at dksX4_takesOut_2 1 rfl rfl)
theorem dX4_takesOut_50 : decode cX4_takesOut 50 = .ok (.iconst 1, 1) := dk_4 (dk_at dksX4_takesOut_2 2 rfl rfl)
theorem dX4_takesOut_51 : decode cX4_takesOut 51 = .ok (.isub, 1) := dk_100 (dk_at dksX4_takesOut_2 3 rfl rfl)
theorem dX4_takesOut_52 : decode cX4_takesOut 52 = .ok (.iastore, 1) := dk_79 (dk_at dksX4_takesOut_2 4 rfl rfl)
theorem dX4_takesOut_53 : decode cX4_takesOut 53 = .ok (.return_, 1) := dk_177 (dk_at dksX4_takesOut_2 5 rfl rfl)
abbrev cX4_clears : ByteArray := prog_18_method_13_code
def yX4_clears : MethodName := ⟨RX4, "clears", "()I"⟩
def dkwX4_clears_2 : List UInt8 := [46, 27, 96, 79, 27, 172]
abbrev dktX4_clears_2 : List UInt8 := dkwX4_clears_2 ++ []
def dkwX4_clears_1 : List UInt8 := [167, 0, 11, 42, 28, 182, 0, 71, 132, 1, 1, 132, 2, 255, 167, 255, 230, 42, 180, 0, 16, 16, 9, 92]
abbrev dktX4_clears_1 : List UInt8 := dkwX4_clears_1 ++ dktX4_clears_2
def dkwX4_clears_0 : List UInt8 := [3, 60, 42, 180, 0, 16, 8, 46, 4, 100, 61, 28, 155, 0, 28, 42, 28, 182, 0, 68, 155, 0, 6]
abbrev dktX4_clears_0 : List UInt8 := dkwX4_clears_0 ++ dktX4_clears_1
theorem dksX4_clears_0 : cX4_clears.data.toList.drop 0 = dktX4_clears_0 := by decide +kernel
theorem dksX4_clears_1 : cX4_clears.data.toList.drop 23 = dktX4_clears_1 := dk_seg dksX4_clears_0 23 rfl rfl
theorem dksX4_clears_2 : cX4_clears.data.toList.drop 47 = dktX4_clears_2 := dk_seg dksX4_clears_1 24 rfl rfl
theorem dX4_clears_0 : decode cX4_clears 0 = .ok (.iconst 0, 1) := dk_3 (dk_at dksX4_clears_0 0 rfl rfl)
theorem dX4_clears_1 : decode cX4_clears 1 = .ok (.istore_n 1, 1) := dk_60 (dk_at dksX4_clears_0 1 rfl rfl)
theorem dX4_clears_2 : decode cX4_clears 2 = .ok (.aload_n 0, 1) := dk_42 (dk_at dksX4_clears_0 2 rfl rfl)
theorem dX4_clears_3 : decode cX4_clears 3 = .ok (.getfield 16, 3) := dk_180 0 16 (dk_at dksX4_clears_0 3 rfl rfl)
theorem dX4_clears_6 : decode cX4_clears 6 = .ok (.iconst 5, 1) := dk_8 (dk_at dksX4_clears_0 6 rfl rfl)
theorem dX4_clears_7 : decode cX4_clears 7 = .ok (.iaload, 1) := dk_46 (dk_at dksX4_clears_0 7 rfl rfl)
theorem dX4_clears_8 : decode cX4_clears 8 = .ok (.iconst 1, 1) := dk_4 (dk_at dksX4_clears_0 8 rfl rfl)
theorem dX4_clears_9 : decode cX4_clears 9 = .ok (.isub, 1) := dk_100 (dk_at dksX4_clears_0 9 rfl rfl)
theorem dX4_clears_10 : decode cX4_clears 10 = .ok (.istore_n 2, 1) := dk_61 (dk_at dksX4_clears_0 10 rfl rfl)
theorem dX4_clears_11 : decode cX4_clears 11 = .ok (.iload_n 2, 1) := dk_28 (dk_at dksX4_clears_0 11 rfl rfl)
theorem dX4_clears_12 : decode cX4_clears 12 = .ok (.ifCond .lt 28, 3) := dk_155 0 28 (dk_at dksX4_clears_0 12 rfl rfl)
theorem dX4_clears_15 : decode cX4_clears 15 = .ok (.aload_n 0, 1) := dk_42 (dk_at dksX4_clears_0 15 rfl rfl)
theorem dX4_clears_16 : decode cX4_clears 16 = .ok (.iload_n 2, 1) := dk_28 (dk_at dksX4_clears_0 16 rfl rfl)
theorem dX4_clears_17 : decode cX4_clears 17 = .ok (.invokevirtual 68, 3) := dk_182 0 68 (dk_at dksX4_clears_0 17 rfl rfl)
theorem dX4_clears_20 : decode cX4_clears 20 = .ok (.ifCond .lt 6, 3) := dk_155 0 6 (dk_at dksX4_clears_0 20 rfl rfl)
theorem dX4_clears_23 : decode cX4_clears 23 = .ok (.goto 11, 3) := dk_167 0 11 (dk_at dksX4_clears_1 0 rfl rfl)
theorem dX4_clears_26 : decode cX4_clears 26 = .ok (.aload_n 0, 1) := dk_42 (dk_at dksX4_clears_1 3 rfl rfl)
theorem dX4_clears_27 : decode cX4_clears 27 = .ok (.iload_n 2, 1) := dk_28 (dk_at dksX4_clears_1 4 rfl rfl)
theorem dX4_clears_28 : decode cX4_clears 28 = .ok (.invokevirtual 71, 3) := dk_182 0 71 (dk_at dksX4_clears_1 5 rfl rfl)
theorem dX4_clears_31 : decode cX4_clears 31 = .ok (.iinc 1 1, 3) := dk_132 1 1 (dk_at dksX4_clears_1 8 rfl rfl)
theorem dX4_clears_34 : decode cX4_clears 34 = .ok (.iinc 2 (-1), 3) := dk_132 2 255 (dk_at dksX4_clears_1 11 rfl rfl)
theorem dX4_clears_37 : decode cX4_clears 37 = .ok (.goto (-26), 3) := dk_167 255 230 (dk_at dksX4_clears_1 14 rfl rfl)
theorem dX4_clears_40 : decode cX4_clears 40 = .ok (.aload_n 0, 1) := dk_42 (dk_at dksX4_clears_1 17 rfl rfl)
theorem dX4_clears_41 : decode cX4_clears 41 = .ok (.getfield 16, 3) := dk_180 0 16 (dk_at dksX4_clears_1 18 rfl rfl)
theorem dX4_clears_44 : decode cX4_clears 44 = .ok (.bipush 9, 2) := dk_16 9 (dk_at dksX4_clears_1 21 rfl rfl)
theorem dX4_clears_46 : decode cX4_clears 46 = .ok (.dup2, 1) := dk_92 (dk_at dksX4_clears_1 23 rfl rfl)
theorem dX4_clears_47 : decode cX4_clears 47 = .ok (.iaload, 1) := dk_46 (dk_at dksX4_clears_2 0 rfl rfl)
theorem dX4_clears_48 : decode cX4_clears 48 = .ok (.iload_n 1, 1) := dk_27 (dk_at dksX4_clears_2 1 rfl rfl)
theorem dX4_clears_49 : decode cX4_clears 49 = .ok (.iadd, 1) := dk_96 (dk_at dksX4_clears_2 2 rfl rfl)
theorem dX4_clears_50 : decode cX4_clears 50 = .ok (.iastore, 1) := dk_79 (dk_at dksX4_clears_2 3 rfl rfl)
theorem dX4_clears_51 : decode cX4_clears 51 = .ok (.iload_n 1, 1) := dk_27 (dk_at dksX4_clears_2 4 rfl rfl)
theorem dX4_clears_52 : decode cX4_clears 52 = .ok (.ireturn, 1) := dk_172 (dk_at dksX4_clears_2 5 rfl rfl)
abbrev cX4_draws : ByteArray := prog_18_method_14_code
def yX4_draws : MethodName := ⟨RX4, "draws", "(I)V"⟩
def dkwX4_draws_7 : List UInt8 := [4, 96, 79, 177]
abbrev dktX4_draws_7 : List UInt8 := dkwX4_draws_7 ++ []
def dkwX4_draws_6 : List UInt8 := [184, 0, 64, 4, 96, 29, 79, 42, 180, 0, 16, 8, 92, 46, 4, 96, 79, 42, 180, 0, 16, 5, 92, 46]
abbrev dktX4_draws_6 : List UInt8 := dkwX4_draws_6 ++ dktX4_draws_7
def dkwX4_draws_5 : List UInt8 := [167, 255, 188, 42, 180, 0, 16, 28, 184, 0, 64, 42, 180, 0, 16, 5, 46, 79, 42, 180, 0, 16, 28]
abbrev dktX4_draws_5 : List UInt8 := dkwX4_draws_5 ++ dktX4_draws_6
def dkwX4_draws_4 : List UInt8 := [184, 0, 64, 4, 96, 42, 180, 0, 16, 28, 4, 100, 184, 0, 64, 4, 96, 46, 79, 132, 2, 255]
abbrev dktX4_draws_4 : List UInt8 := dkwX4_draws_4 ++ dktX4_draws_5
def dkwX4_draws_3 : List UInt8 := [180, 0, 16, 28, 184, 0, 64, 42, 180, 0, 16, 28, 4, 100, 184, 0, 64, 46, 79, 42, 180, 0, 16, 28]
abbrev dktX4_draws_3 : List UInt8 := dkwX4_draws_3 ++ dktX4_draws_4
def dkwX4_draws_2 : List UInt8 := [46, 62, 28, 158, 0, 70, 42, 180, 0, 16, 28, 4, 100, 184, 0, 64, 4, 96, 46, 29, 162, 0, 53, 42]
abbrev dktX4_draws_2 : List UInt8 := dkwX4_draws_2 ++ dktX4_draws_3
def dkwX4_draws_1 : List UInt8 := [160, 0, 8, 42, 182, 0, 75, 61, 42, 180, 0, 16, 8, 46, 61, 42, 180, 0, 16, 27, 4, 184, 0, 60]
abbrev dktX4_draws_1 : List UInt8 := dkwX4_draws_1 ++ dktX4_draws_2
def dkwX4_draws_0 : List UInt8 := [42, 180, 0, 16, 27, 7, 184, 0, 60, 42, 180, 0, 16, 5, 46, 79, 42, 180, 0, 16, 8, 46, 16, 20]
abbrev dktX4_draws_0 : List UInt8 := dkwX4_draws_0 ++ dktX4_draws_1
theorem dksX4_draws_0 : cX4_draws.data.toList.drop 0 = dktX4_draws_0 := by decide +kernel
theorem dksX4_draws_1 : cX4_draws.data.toList.drop 24 = dktX4_draws_1 := dk_seg dksX4_draws_0 24 rfl rfl
theorem dksX4_draws_2 : cX4_draws.data.toList.drop 48 = dktX4_draws_2 := dk_seg dksX4_draws_1 24 rfl rfl
theorem dksX4_draws_3 : cX4_draws.data.toList.drop 72 = dktX4_draws_3 := dk_seg dksX4_draws_2 24 rfl rfl
theorem dksX4_draws_4 : cX4_draws.data.toList.drop 96 = dktX4_draws_4 := dk_seg dksX4_draws_3 24 rfl rfl
theorem dksX4_draws_5 : cX4_draws.data.toList.drop 118 = dktX4_draws_5 := dk_seg dksX4_draws_4 22 rfl rfl
theorem dksX4_draws_6 : cX4_draws.data.toList.drop 141 = dktX4_draws_6 := dk_seg dksX4_draws_5 23 rfl rfl
theorem dksX4_draws_7 : cX4_draws.data.toList.drop 165 = dktX4_draws_7 := dk_seg dksX4_draws_6 24 rfl rfl
theorem dX4_draws_0 : decode cX4_draws 0 = .ok (.aload_n 0, 1) := dk_42 (dk_at dksX4_draws_0 0 rfl rfl)
theorem dX4_draws_1 : decode cX4_draws 1 = .ok (.getfield 16, 3) := dk_180 0 16 (dk_at dksX4_draws_0 1 rfl rfl)
theorem dX4_draws_4 : decode cX4_draws 4 = .ok (.iload_n 1, 1) := dk_27 (dk_at dksX4_draws_0 4 rfl rfl)
theorem dX4_draws_5 : decode cX4_draws 5 = .ok (.iconst 4, 1) := dk_7 (dk_at dksX4_draws_0 5 rfl rfl)
theorem dX4_draws_6 : decode cX4_draws 6 = .ok (.invokestatic 60, 3) := dk_184 0 60 (dk_at dksX4_draws_0 6 rfl rfl)
theorem dX4_draws_9 : decode cX4_draws 9 = .ok (.aload_n 0, 1) := dk_42 (dk_at dksX4_draws_0 9 rfl rfl)
theorem dX4_draws_10 : decode cX4_draws 10 = .ok (.getfield 16, 3) := dk_180 0 16 (dk_at dksX4_draws_0 10 rfl rfl)
theorem dX4_draws_13 : decode cX4_draws 13 = .ok (.iconst 2, 1) := dk_5 (dk_at dksX4_draws_0 13 rfl rfl)
theorem dX4_draws_14 : decode cX4_draws 14 = .ok (.iaload, 1) := dk_46 (dk_at dksX4_draws_0 14 rfl rfl)
theorem dX4_draws_15 : decode cX4_draws 15 = .ok (.iastore, 1) := dk_79 (dk_at dksX4_draws_0 15 rfl rfl)
theorem dX4_draws_16 : decode cX4_draws 16 = .ok (.aload_n 0, 1) := dk_42 (dk_at dksX4_draws_0 16 rfl rfl)
theorem dX4_draws_17 : decode cX4_draws 17 = .ok (.getfield 16, 3) := dk_180 0 16 (dk_at dksX4_draws_0 17 rfl rfl)
theorem dX4_draws_20 : decode cX4_draws 20 = .ok (.iconst 5, 1) := dk_8 (dk_at dksX4_draws_0 20 rfl rfl)
theorem dX4_draws_21 : decode cX4_draws 21 = .ok (.iaload, 1) := dk_46 (dk_at dksX4_draws_0 21 rfl rfl)
theorem dX4_draws_22 : decode cX4_draws 22 = .ok (.bipush 20, 2) := dk_16 20 (dk_at dksX4_draws_0 22 rfl rfl)
theorem dX4_draws_24 : decode cX4_draws 24 = .ok (.if_icmp .ne 8, 3) := dk_160 0 8 (dk_at dksX4_draws_1 0 rfl rfl)
theorem dX4_draws_27 : decode cX4_draws 27 = .ok (.aload_n 0, 1) := dk_42 (dk_at dksX4_draws_1 3 rfl rfl)
theorem dX4_draws_28 : decode cX4_draws 28 = .ok (.invokevirtual 75, 3) := dk_182 0 75 (dk_at dksX4_draws_1 4 rfl rfl)
theorem dX4_draws_31 : decode cX4_draws 31 = .ok (.istore_n 2, 1) := dk_61 (dk_at dksX4_draws_1 7 rfl rfl)
theorem dX4_draws_32 : decode cX4_draws 32 = .ok (.aload_n 0, 1) := dk_42 (dk_at dksX4_draws_1 8 rfl rfl)
theorem dX4_draws_33 : decode cX4_draws 33 = .ok (.getfield 16, 3) := dk_180 0 16 (dk_at dksX4_draws_1 9 rfl rfl)
theorem dX4_draws_36 : decode cX4_draws 36 = .ok (.iconst 5, 1) := dk_8 (dk_at dksX4_draws_1 12 rfl rfl)
theorem dX4_draws_37 : decode cX4_draws 37 = .ok (.iaload, 1) := dk_46 (dk_at dksX4_draws_1 13 rfl rfl)
theorem dX4_draws_38 : decode cX4_draws 38 = .ok (.istore_n 2, 1) := dk_61 (dk_at dksX4_draws_1 14 rfl rfl)
theorem dX4_draws_39 : decode cX4_draws 39 = .ok (.aload_n 0, 1) := dk_42 (dk_at dksX4_draws_1 15 rfl rfl)
theorem dX4_draws_40 : decode cX4_draws 40 = .ok (.getfield 16, 3) := dk_180 0 16 (dk_at dksX4_draws_1 16 rfl rfl)
theorem dX4_draws_43 : decode cX4_draws 43 = .ok (.iload_n 1, 1) := dk_27 (dk_at dksX4_draws_1 19 rfl rfl)
theorem dX4_draws_44 : decode cX4_draws 44 = .ok (.iconst 1, 1) := dk_4 (dk_at dksX4_draws_1 20 rfl rfl)
theorem dX4_draws_45 : decode cX4_draws 45 = .ok (.invokestatic 60, 3) := dk_184 0 60 (dk_at dksX4_draws_1 21 rfl rfl)
theorem dX4_draws_48 : decode cX4_draws 48 = .ok (.iaload, 1) := dk_46 (dk_at dksX4_draws_2 0 rfl rfl)
theorem dX4_draws_49 : decode cX4_draws 49 = .ok (.istore_n 3, 1) := dk_62 (dk_at dksX4_draws_2 1 rfl rfl)
theorem dX4_draws_50 : decode cX4_draws 50 = .ok (.iload_n 2, 1) := dk_28 (dk_at dksX4_draws_2 2 rfl rfl)
theorem dX4_draws_51 : decode cX4_draws 51 = .ok (.ifCond .le 70, 3) := dk_158 0 70 (dk_at dksX4_draws_2 3 rfl rfl)
theorem dX4_draws_54 : decode cX4_draws 54 = .ok (.aload_n 0, 1) := dk_42 (dk_at dksX4_draws_2 6 rfl rfl)
theorem dX4_draws_55 : decode cX4_draws 55 = .ok (.getfield 16, 3) := dk_180 0 16 (dk_at dksX4_draws_2 7 rfl rfl)
theorem dX4_draws_58 : decode cX4_draws 58 = .ok (.iload_n 2, 1) := dk_28 (dk_at dksX4_draws_2 10 rfl rfl)
theorem dX4_draws_59 : decode cX4_draws 59 = .ok (.iconst 1, 1) := dk_4 (dk_at dksX4_draws_2 11 rfl rfl)
theorem dX4_draws_60 : decode cX4_draws 60 = .ok (.isub, 1) := dk_100 (dk_at dksX4_draws_2 12 rfl rfl)
theorem dX4_draws_61 : decode cX4_draws 61 = .ok (.invokestatic 64, 3) := dk_184 0 64 (dk_at dksX4_draws_2 13 rfl rfl)
theorem dX4_draws_64 : decode cX4_draws 64 = .ok (.iconst 1, 1) := dk_4 (dk_at dksX4_draws_2 16 rfl rfl)
theorem dX4_draws_65 : decode cX4_draws 65 = .ok (.iadd, 1) := dk_96 (dk_at dksX4_draws_2 17 rfl rfl)
theorem dX4_draws_66 : decode cX4_draws 66 = .ok (.iaload, 1) := dk_46 (dk_at dksX4_draws_2 18 rfl rfl)
theorem dX4_draws_67 : decode cX4_draws 67 = .ok (.iload_n 3, 1) := dk_29 (dk_at dksX4_draws_2 19 rfl rfl)
theorem dX4_draws_68 : decode cX4_draws 68 = .ok (.if_icmp .ge 53, 3) := dk_162 0 53 (dk_at dksX4_draws_2 20 rfl rfl)
theorem dX4_draws_71 : decode cX4_draws 71 = .ok (.aload_n 0, 1) := dk_42 (dk_at dksX4_draws_2 23 rfl rfl)
theorem dX4_draws_72 : decode cX4_draws 72 = .ok (.getfield 16, 3) := dk_180 0 16 (dk_at dksX4_draws_3 0 rfl rfl)
theorem dX4_draws_75 : decode cX4_draws 75 = .ok (.iload_n 2, 1) := dk_28 (dk_at dksX4_draws_3 3 rfl rfl)
theorem dX4_draws_76 : decode cX4_draws 76 = .ok (.invokestatic 64, 3) := dk_184 0 64 (dk_at dksX4_draws_3 4 rfl rfl)
theorem dX4_draws_79 : decode cX4_draws 79 = .ok (.aload_n 0, 1) := dk_42 (dk_at dksX4_draws_3 7 rfl rfl)
theorem dX4_draws_80 : decode cX4_draws 80 = .ok (.getfield 16, 3) := dk_180 0 16 (dk_at dksX4_draws_3 8 rfl rfl)
theorem dX4_draws_83 : decode cX4_draws 83 = .ok (.iload_n 2, 1) := dk_28 (dk_at dksX4_draws_3 11 rfl rfl)
theorem dX4_draws_84 : decode cX4_draws 84 = .ok (.iconst 1, 1) := dk_4 (dk_at dksX4_draws_3 12 rfl rfl)
theorem dX4_draws_85 : decode cX4_draws 85 = .ok (.isub, 1) := dk_100 (dk_at dksX4_draws_3 13 rfl rfl)
theorem dX4_draws_86 : decode cX4_draws 86 = .ok (.invokestatic 64, 3) := dk_184 0 64 (dk_at dksX4_draws_3 14 rfl rfl)
theorem dX4_draws_89 : decode cX4_draws 89 = .ok (.iaload, 1) := dk_46 (dk_at dksX4_draws_3 17 rfl rfl)
theorem dX4_draws_90 : decode cX4_draws 90 = .ok (.iastore, 1) := dk_79 (dk_at dksX4_draws_3 18 rfl rfl)
theorem dX4_draws_91 : decode cX4_draws 91 = .ok (.aload_n 0, 1) := dk_42 (dk_at dksX4_draws_3 19 rfl rfl)
theorem dX4_draws_92 : decode cX4_draws 92 = .ok (.getfield 16, 3) := dk_180 0 16 (dk_at dksX4_draws_3 20 rfl rfl)
theorem dX4_draws_95 : decode cX4_draws 95 = .ok (.iload_n 2, 1) := dk_28 (dk_at dksX4_draws_3 23 rfl rfl)
theorem dX4_draws_96 : decode cX4_draws 96 = .ok (.invokestatic 64, 3) := dk_184 0 64 (dk_at dksX4_draws_4 0 rfl rfl)
theorem dX4_draws_99 : decode cX4_draws 99 = .ok (.iconst 1, 1) := dk_4 (dk_at dksX4_draws_4 3 rfl rfl)
theorem dX4_draws_100 : decode cX4_draws 100 = .ok (.iadd, 1) := dk_96 (dk_at dksX4_draws_4 4 rfl rfl)
theorem dX4_draws_101 : decode cX4_draws 101 = .ok (.aload_n 0, 1) := dk_42 (dk_at dksX4_draws_4 5 rfl rfl)
theorem dX4_draws_102 : decode cX4_draws 102 = .ok (.getfield 16, 3) := dk_180 0 16 (dk_at dksX4_draws_4 6 rfl rfl)
theorem dX4_draws_105 : decode cX4_draws 105 = .ok (.iload_n 2, 1) := dk_28 (dk_at dksX4_draws_4 9 rfl rfl)
theorem dX4_draws_106 : decode cX4_draws 106 = .ok (.iconst 1, 1) := dk_4 (dk_at dksX4_draws_4 10 rfl rfl)
theorem dX4_draws_107 : decode cX4_draws 107 = .ok (.isub, 1) := dk_100 (dk_at dksX4_draws_4 11 rfl rfl)
theorem dX4_draws_108 : decode cX4_draws 108 = .ok (.invokestatic 64, 3) := dk_184 0 64 (dk_at dksX4_draws_4 12 rfl rfl)
theorem dX4_draws_111 : decode cX4_draws 111 = .ok (.iconst 1, 1) := dk_4 (dk_at dksX4_draws_4 15 rfl rfl)
theorem dX4_draws_112 : decode cX4_draws 112 = .ok (.iadd, 1) := dk_96 (dk_at dksX4_draws_4 16 rfl rfl)
theorem dX4_draws_113 : decode cX4_draws 113 = .ok (.iaload, 1) := dk_46 (dk_at dksX4_draws_4 17 rfl rfl)
theorem dX4_draws_114 : decode cX4_draws 114 = .ok (.iastore, 1) := dk_79 (dk_at dksX4_draws_4 18 rfl rfl)
theorem dX4_draws_115 : decode cX4_draws 115 = .ok (.iinc 2 (-1), 3) := dk_132 2 255 (dk_at dksX4_draws_4 19 rfl rfl)
theorem dX4_draws_118 : decode cX4_draws 118 = .ok (.goto (-68), 3) := dk_167 255 188 (dk_at dksX4_draws_5 0 rfl rfl)
theorem dX4_draws_121 : decode cX4_draws 121 = .ok (.aload_n 0, 1) := dk_42 (dk_at dksX4_draws_5 3 rfl rfl)
theorem dX4_draws_122 : decode cX4_draws 122 = .ok (.getfield 16, 3) := dk_180 0 16 (dk_at dksX4_draws_5 4 rfl rfl)
theorem dX4_draws_125 : decode cX4_draws 125 = .ok (.iload_n 2, 1) := dk_28 (dk_at dksX4_draws_5 7 rfl rfl)
theorem dX4_draws_126 : decode cX4_draws 126 = .ok (.invokestatic 64, 3) := dk_184 0 64 (dk_at dksX4_draws_5 8 rfl rfl)
theorem dX4_draws_129 : decode cX4_draws 129 = .ok (.aload_n 0, 1) := dk_42 (dk_at dksX4_draws_5 11 rfl rfl)
theorem dX4_draws_130 : decode cX4_draws 130 = .ok (.getfield 16, 3) := dk_180 0 16 (dk_at dksX4_draws_5 12 rfl rfl)
theorem dX4_draws_133 : decode cX4_draws 133 = .ok (.iconst 2, 1) := dk_5 (dk_at dksX4_draws_5 15 rfl rfl)
theorem dX4_draws_134 : decode cX4_draws 134 = .ok (.iaload, 1) := dk_46 (dk_at dksX4_draws_5 16 rfl rfl)
theorem dX4_draws_135 : decode cX4_draws 135 = .ok (.iastore, 1) := dk_79 (dk_at dksX4_draws_5 17 rfl rfl)
theorem dX4_draws_136 : decode cX4_draws 136 = .ok (.aload_n 0, 1) := dk_42 (dk_at dksX4_draws_5 18 rfl rfl)
theorem dX4_draws_137 : decode cX4_draws 137 = .ok (.getfield 16, 3) := dk_180 0 16 (dk_at dksX4_draws_5 19 rfl rfl)
theorem dX4_draws_140 : decode cX4_draws 140 = .ok (.iload_n 2, 1) := dk_28 (dk_at dksX4_draws_5 22 rfl rfl)
theorem dX4_draws_141 : decode cX4_draws 141 = .ok (.invokestatic 64, 3) := dk_184 0 64 (dk_at dksX4_draws_6 0 rfl rfl)
theorem dX4_draws_144 : decode cX4_draws 144 = .ok (.iconst 1, 1) := dk_4 (dk_at dksX4_draws_6 3 rfl rfl)
theorem dX4_draws_145 : decode cX4_draws 145 = .ok (.iadd, 1) := dk_96 (dk_at dksX4_draws_6 4 rfl rfl)
theorem dX4_draws_146 : decode cX4_draws 146 = .ok (.iload_n 3, 1) := dk_29 (dk_at dksX4_draws_6 5 rfl rfl)
theorem dX4_draws_147 : decode cX4_draws 147 = .ok (.iastore, 1) := dk_79 (dk_at dksX4_draws_6 6 rfl rfl)
theorem dX4_draws_148 : decode cX4_draws 148 = .ok (.aload_n 0, 1) := dk_42 (dk_at dksX4_draws_6 7 rfl rfl)
theorem dX4_draws_149 : decode cX4_draws 149 = .ok (.getfield 16, 3) := dk_180 0 16 (dk_at dksX4_draws_6 8 rfl rfl)
theorem dX4_draws_152 : decode cX4_draws 152 = .ok (.iconst 5, 1) := dk_8 (dk_at dksX4_draws_6 11 rfl rfl)
theorem dX4_draws_153 : decode cX4_draws 153 = .ok (.dup2, 1) := dk_92 (dk_at dksX4_draws_6 12 rfl rfl)
theorem dX4_draws_154 : decode cX4_draws 154 = .ok (.iaload, 1) := dk_46 (dk_at dksX4_draws_6 13 rfl rfl)
theorem dX4_draws_155 : decode cX4_draws 155 = .ok (.iconst 1, 1) := dk_4 (dk_at dksX4_draws_6 14 rfl rfl)
theorem dX4_draws_156 : decode cX4_draws 156 = .ok (.iadd, 1) := dk_96 (dk_at dksX4_draws_6 15 rfl rfl)
theorem dX4_draws_157 : decode cX4_draws 157 = .ok (.iastore, 1) := dk_79 (dk_at dksX4_draws_6 16 rfl rfl)
theorem dX4_draws_158 : decode cX4_draws 158 = .ok (.aload_n 0, 1) := dk_42 (dk_at dksX4_draws_6 17 rfl rfl)
theorem dX4_draws_159 : decode cX4_draws 159 = .ok (.getfield 16, 3) := dk_180 0 16 (dk_at dksX4_draws_6 18 rfl rfl)
theorem dX4_draws_162 : decode cX4_draws 162 = .ok (.iconst 2, 1) := dk_5 (dk_at dksX4_draws_6 21 rfl rfl)
theorem dX4_draws_163 : decode cX4_draws 163 = .ok (.dup2, 1) := dk_92 (dk_at dksX4_draws_6 22 rfl rfl)
theorem dX4_draws_164 : decode cX4_draws 164 = .ok (.iaload, 1) := dk_46 (dk_at dksX4_draws_6 23 rfl rfl)
theorem dX4_draws_165 : decode cX4_draws 165 = .ok (.iconst 1, 1) := dk_4 (dk_at dksX4_draws_7 0 rfl rfl)
theorem dX4_draws_166 : decode cX4_draws 166 = .ok (.iadd, 1) := dk_96 (dk_at dksX4_draws_7 1 rfl rfl)
theorem dX4_draws_167 : decode cX4_draws 167 = .ok (.iastore, 1) := dk_79 (dk_at dksX4_draws_7 2 rfl rfl)
theorem dX4_draws_168 : decode cX4_draws 168 = .ok (.return_, 1) := dk_177 (dk_at dksX4_draws_7 3 rfl rfl)
abbrev cX4_fail : ByteArray := prog_18_method_3_code
def yX4_fail : MethodName := ⟨RX4, "fail", "(I)I"⟩
def dkwX4_fail_0 : List UInt8 := [42, 27, 181, 0, 50, 3, 172]
abbrev dktX4_fail_0 : List UInt8 := dkwX4_fail_0 ++ []
theorem dksX4_fail_0 : cX4_fail.data.toList.drop 0 = dktX4_fail_0 := by decide +kernel
theorem dX4_fail_0 : decode cX4_fail 0 = .ok (.aload_n 0, 1) := dk_42 (dk_at dksX4_fail_0 0 rfl rfl)
theorem dX4_fail_1 : decode cX4_fail 1 = .ok (.iload_n 1, 1) := dk_27 (dk_at dksX4_fail_0 1 rfl rfl)
theorem dX4_fail_2 : decode cX4_fail 2 = .ok (.putfield 50, 3) := dk_181 0 50 (dk_at dksX4_fail_0 2 rfl rfl)
theorem dX4_fail_5 : decode cX4_fail 5 = .ok (.iconst 0, 1) := dk_3 (dk_at dksX4_fail_0 5 rfl rfl)
theorem dX4_fail_6 : decode cX4_fail 6 = .ok (.ireturn, 1) := dk_172 (dk_at dksX4_fail_0 6 rfl rfl)
abbrev cX4_isIn : ByteArray := prog_18_method_4_code
def yX4_isIn : MethodName := ⟨RX4, "isIn", "(III)Z"⟩
def dkwX4_isIn_0 : List UInt8 := [26, 27, 161, 0, 12, 26, 28, 163, 0, 7, 4, 167, 0, 4, 3, 172]
abbrev dktX4_isIn_0 : List UInt8 := dkwX4_isIn_0 ++ []
theorem dksX4_isIn_0 : cX4_isIn.data.toList.drop 0 = dktX4_isIn_0 := by decide +kernel
theorem dX4_isIn_0 : decode cX4_isIn 0 = .ok (.iload_n 0, 1) := dk_26 (dk_at dksX4_isIn_0 0 rfl rfl)
theorem dX4_isIn_1 : decode cX4_isIn 1 = .ok (.iload_n 1, 1) := dk_27 (dk_at dksX4_isIn_0 1 rfl rfl)
theorem dX4_isIn_2 : decode cX4_isIn 2 = .ok (.if_icmp .lt 12, 3) := dk_161 0 12 (dk_at dksX4_isIn_0 2 rfl rfl)
theorem dX4_isIn_5 : decode cX4_isIn 5 = .ok (.iload_n 0, 1) := dk_26 (dk_at dksX4_isIn_0 5 rfl rfl)
theorem dX4_isIn_6 : decode cX4_isIn 6 = .ok (.iload_n 2, 1) := dk_28 (dk_at dksX4_isIn_0 6 rfl rfl)
theorem dX4_isIn_7 : decode cX4_isIn 7 = .ok (.if_icmp .gt 7, 3) := dk_163 0 7 (dk_at dksX4_isIn_0 7 rfl rfl)
theorem dX4_isIn_10 : decode cX4_isIn 10 = .ok (.iconst 1, 1) := dk_4 (dk_at dksX4_isIn_0 10 rfl rfl)
theorem dX4_isIn_11 : decode cX4_isIn 11 = .ok (.goto 4, 3) := dk_167 0 4 (dk_at dksX4_isIn_0 11 rfl rfl)
theorem dX4_isIn_14 : decode cX4_isIn 14 = .ok (.iconst 0, 1) := dk_3 (dk_at dksX4_isIn_0 14 rfl rfl)
theorem dX4_isIn_15 : decode cX4_isIn 15 = .ok (.ireturn, 1) := dk_172 (dk_at dksX4_isIn_0 15 rfl rfl)
abbrev cX4_adds : ByteArray := prog_18_method_16_code
def yX4_adds : MethodName := ⟨RX4, "adds", "(III)I"⟩
def dkwX4_adds_6 : List UInt8 := [21, 4, 3, 184, 0, 60, 46, 172]
abbrev dktX4_adds_6 : List UInt8 := dkwX4_adds_6 ++ []
def dkwX4_adds_5 : List UInt8 := [46, 4, 96, 79, 42, 180, 0, 16, 4, 92, 46, 4, 96, 79, 42, 21, 4, 182, 0, 79, 42, 180, 0, 16]
abbrev dktX4_adds_5 : List UInt8 := dkwX4_adds_5 ++ dktX4_adds_6
def dkwX4_adds_4 : List UInt8 := [5, 184, 0, 60, 28, 79, 42, 180, 0, 16, 21, 4, 6, 184, 0, 60, 29, 79, 42, 180, 0, 16, 6, 92]
abbrev dktX4_adds_4 : List UInt8 := dkwX4_adds_4 ++ dktX4_adds_5
def dkwX4_adds_3 : List UInt8 := [180, 0, 16, 4, 46, 79, 42, 180, 0, 16, 21, 4, 4, 184, 0, 60, 27, 79, 42, 180, 0, 16, 21, 4]
abbrev dktX4_adds_3 : List UInt8 := dkwX4_adds_3 ++ dktX4_adds_4
def dkwX4_adds_2 : List UInt8 := [21, 4, 16, 10, 160, 0, 9, 42, 5, 182, 0, 86, 172, 42, 180, 0, 16, 21, 4, 3, 184, 0, 60, 42]
abbrev dktX4_adds_2 : List UInt8 := dkwX4_adds_2 ++ dktX4_adds_3
def dkwX4_adds_1 : List UInt8 := [17, 3, 231, 184, 0, 82, 154, 0, 9, 42, 4, 182, 0, 86, 172, 42, 180, 0, 16, 6, 46, 54, 4]
abbrev dktX4_adds_1 : List UInt8 := dkwX4_adds_1 ++ dktX4_adds_2
def dkwX4_adds_0 : List UInt8 := [27, 3, 16, 99, 184, 0, 82, 153, 0, 24, 28, 4, 16, 9, 184, 0, 82, 153, 0, 14, 29, 3]
abbrev dktX4_adds_0 : List UInt8 := dkwX4_adds_0 ++ dktX4_adds_1
theorem dksX4_adds_0 : cX4_adds.data.toList.drop 0 = dktX4_adds_0 := by decide +kernel
theorem dksX4_adds_1 : cX4_adds.data.toList.drop 22 = dktX4_adds_1 := dk_seg dksX4_adds_0 22 rfl rfl
theorem dksX4_adds_2 : cX4_adds.data.toList.drop 45 = dktX4_adds_2 := dk_seg dksX4_adds_1 23 rfl rfl
theorem dksX4_adds_3 : cX4_adds.data.toList.drop 69 = dktX4_adds_3 := dk_seg dksX4_adds_2 24 rfl rfl
theorem dksX4_adds_4 : cX4_adds.data.toList.drop 93 = dktX4_adds_4 := dk_seg dksX4_adds_3 24 rfl rfl
theorem dksX4_adds_5 : cX4_adds.data.toList.drop 117 = dktX4_adds_5 := dk_seg dksX4_adds_4 24 rfl rfl
theorem dksX4_adds_6 : cX4_adds.data.toList.drop 141 = dktX4_adds_6 := dk_seg dksX4_adds_5 24 rfl rfl
theorem dX4_adds_0 : decode cX4_adds 0 = .ok (.iload_n 1, 1) := dk_27 (dk_at dksX4_adds_0 0 rfl rfl)
theorem dX4_adds_1 : decode cX4_adds 1 = .ok (.iconst 0, 1) := dk_3 (dk_at dksX4_adds_0 1 rfl rfl)
theorem dX4_adds_2 : decode cX4_adds 2 = .ok (.bipush 99, 2) := dk_16 99 (dk_at dksX4_adds_0 2 rfl rfl)
theorem dX4_adds_4 : decode cX4_adds 4 = .ok (.invokestatic 82, 3) := dk_184 0 82 (dk_at dksX4_adds_0 4 rfl rfl)
theorem dX4_adds_7 : decode cX4_adds 7 = .ok (.ifCond .eq 24, 3) := dk_153 0 24 (dk_at dksX4_adds_0 7 rfl rfl)
theorem dX4_adds_10 : decode cX4_adds 10 = .ok (.iload_n 2, 1) := dk_28 (dk_at dksX4_adds_0 10 rfl rfl)
theorem dX4_adds_11 : decode cX4_adds 11 = .ok (.iconst 1, 1) := dk_4 (dk_at dksX4_adds_0 11 rfl rfl)
theorem dX4_adds_12 : decode cX4_adds 12 = .ok (.bipush 9, 2) := dk_16 9 (dk_at dksX4_adds_0 12 rfl rfl)
theorem dX4_adds_14 : decode cX4_adds 14 = .ok (.invokestatic 82, 3) := dk_184 0 82 (dk_at dksX4_adds_0 14 rfl rfl)
theorem dX4_adds_17 : decode cX4_adds 17 = .ok (.ifCond .eq 14, 3) := dk_153 0 14 (dk_at dksX4_adds_0 17 rfl rfl)
theorem dX4_adds_20 : decode cX4_adds 20 = .ok (.iload_n 3, 1) := dk_29 (dk_at dksX4_adds_0 20 rfl rfl)
theorem dX4_adds_21 : decode cX4_adds 21 = .ok (.iconst 0, 1) := dk_3 (dk_at dksX4_adds_0 21 rfl rfl)
theorem dX4_adds_22 : decode cX4_adds 22 = .ok (.sipush 999, 3) := dk_17 3 231 (dk_at dksX4_adds_1 0 rfl rfl)
theorem dX4_adds_25 : decode cX4_adds 25 = .ok (.invokestatic 82, 3) := dk_184 0 82 (dk_at dksX4_adds_1 3 rfl rfl)
theorem dX4_adds_28 : decode cX4_adds 28 = .ok (.ifCond .ne 9, 3) := dk_154 0 9 (dk_at dksX4_adds_1 6 rfl rfl)
theorem dX4_adds_31 : decode cX4_adds 31 = .ok (.aload_n 0, 1) := dk_42 (dk_at dksX4_adds_1 9 rfl rfl)
theorem dX4_adds_32 : decode cX4_adds 32 = .ok (.iconst 1, 1) := dk_4 (dk_at dksX4_adds_1 10 rfl rfl)
theorem dX4_adds_33 : decode cX4_adds 33 = .ok (.invokevirtual 86, 3) := dk_182 0 86 (dk_at dksX4_adds_1 11 rfl rfl)
theorem dX4_adds_36 : decode cX4_adds 36 = .ok (.ireturn, 1) := dk_172 (dk_at dksX4_adds_1 14 rfl rfl)
theorem dX4_adds_37 : decode cX4_adds 37 = .ok (.aload_n 0, 1) := dk_42 (dk_at dksX4_adds_1 15 rfl rfl)
theorem dX4_adds_38 : decode cX4_adds 38 = .ok (.getfield 16, 3) := dk_180 0 16 (dk_at dksX4_adds_1 16 rfl rfl)
theorem dX4_adds_41 : decode cX4_adds 41 = .ok (.iconst 3, 1) := dk_6 (dk_at dksX4_adds_1 19 rfl rfl)
theorem dX4_adds_42 : decode cX4_adds 42 = .ok (.iaload, 1) := dk_46 (dk_at dksX4_adds_1 20 rfl rfl)
theorem dX4_adds_43 : decode cX4_adds 43 = .ok (.istore 4, 2) := dk_54 4 (dk_at dksX4_adds_1 21 rfl rfl)
theorem dX4_adds_45 : decode cX4_adds 45 = .ok (.iload 4, 2) := dk_21 4 (dk_at dksX4_adds_2 0 rfl rfl)
theorem dX4_adds_47 : decode cX4_adds 47 = .ok (.bipush 10, 2) := dk_16 10 (dk_at dksX4_adds_2 2 rfl rfl)
theorem dX4_adds_49 : decode cX4_adds 49 = .ok (.if_icmp .ne 9, 3) := dk_160 0 9 (dk_at dksX4_adds_2 4 rfl rfl)
theorem dX4_adds_52 : decode cX4_adds 52 = .ok (.aload_n 0, 1) := dk_42 (dk_at dksX4_adds_2 7 rfl rfl)
theorem dX4_adds_53 : decode cX4_adds 53 = .ok (.iconst 2, 1) := dk_5 (dk_at dksX4_adds_2 8 rfl rfl)
theorem dX4_adds_54 : decode cX4_adds 54 = .ok (.invokevirtual 86, 3) := dk_182 0 86 (dk_at dksX4_adds_2 9 rfl rfl)
theorem dX4_adds_57 : decode cX4_adds 57 = .ok (.ireturn, 1) := dk_172 (dk_at dksX4_adds_2 12 rfl rfl)
theorem dX4_adds_58 : decode cX4_adds 58 = .ok (.aload_n 0, 1) := dk_42 (dk_at dksX4_adds_2 13 rfl rfl)
theorem dX4_adds_59 : decode cX4_adds 59 = .ok (.getfield 16, 3) := dk_180 0 16 (dk_at dksX4_adds_2 14 rfl rfl)
theorem dX4_adds_62 : decode cX4_adds 62 = .ok (.iload 4, 2) := dk_21 4 (dk_at dksX4_adds_2 17 rfl rfl)
theorem dX4_adds_64 : decode cX4_adds 64 = .ok (.iconst 0, 1) := dk_3 (dk_at dksX4_adds_2 19 rfl rfl)
theorem dX4_adds_65 : decode cX4_adds 65 = .ok (.invokestatic 60, 3) := dk_184 0 60 (dk_at dksX4_adds_2 20 rfl rfl)
theorem dX4_adds_68 : decode cX4_adds 68 = .ok (.aload_n 0, 1) := dk_42 (dk_at dksX4_adds_2 23 rfl rfl)
theorem dX4_adds_69 : decode cX4_adds 69 = .ok (.getfield 16, 3) := dk_180 0 16 (dk_at dksX4_adds_3 0 rfl rfl)
theorem dX4_adds_72 : decode cX4_adds 72 = .ok (.iconst 1, 1) := dk_4 (dk_at dksX4_adds_3 3 rfl rfl)
theorem dX4_adds_73 : decode cX4_adds 73 = .ok (.iaload, 1) := dk_46 (dk_at dksX4_adds_3 4 rfl rfl)
theorem dX4_adds_74 : decode cX4_adds 74 = .ok (.iastore, 1) := dk_79 (dk_at dksX4_adds_3 5 rfl rfl)
theorem dX4_adds_75 : decode cX4_adds 75 = .ok (.aload_n 0, 1) := dk_42 (dk_at dksX4_adds_3 6 rfl rfl)
theorem dX4_adds_76 : decode cX4_adds 76 = .ok (.getfield 16, 3) := dk_180 0 16 (dk_at dksX4_adds_3 7 rfl rfl)
theorem dX4_adds_79 : decode cX4_adds 79 = .ok (.iload 4, 2) := dk_21 4 (dk_at dksX4_adds_3 10 rfl rfl)
theorem dX4_adds_81 : decode cX4_adds 81 = .ok (.iconst 1, 1) := dk_4 (dk_at dksX4_adds_3 12 rfl rfl)
theorem dX4_adds_82 : decode cX4_adds 82 = .ok (.invokestatic 60, 3) := dk_184 0 60 (dk_at dksX4_adds_3 13 rfl rfl)
theorem dX4_adds_85 : decode cX4_adds 85 = .ok (.iload_n 1, 1) := dk_27 (dk_at dksX4_adds_3 16 rfl rfl)
theorem dX4_adds_86 : decode cX4_adds 86 = .ok (.iastore, 1) := dk_79 (dk_at dksX4_adds_3 17 rfl rfl)
theorem dX4_adds_87 : decode cX4_adds 87 = .ok (.aload_n 0, 1) := dk_42 (dk_at dksX4_adds_3 18 rfl rfl)
theorem dX4_adds_88 : decode cX4_adds 88 = .ok (.getfield 16, 3) := dk_180 0 16 (dk_at dksX4_adds_3 19 rfl rfl)
theorem dX4_adds_91 : decode cX4_adds 91 = .ok (.iload 4, 2) := dk_21 4 (dk_at dksX4_adds_3 22 rfl rfl)
theorem dX4_adds_93 : decode cX4_adds 93 = .ok (.iconst 2, 1) := dk_5 (dk_at dksX4_adds_4 0 rfl rfl)
theorem dX4_adds_94 : decode cX4_adds 94 = .ok (.invokestatic 60, 3) := dk_184 0 60 (dk_at dksX4_adds_4 1 rfl rfl)
theorem dX4_adds_97 : decode cX4_adds 97 = .ok (.iload_n 2, 1) := dk_28 (dk_at dksX4_adds_4 4 rfl rfl)
theorem dX4_adds_98 : decode cX4_adds 98 = .ok (.iastore, 1) := dk_79 (dk_at dksX4_adds_4 5 rfl rfl)
theorem dX4_adds_99 : decode cX4_adds 99 = .ok (.aload_n 0, 1) := dk_42 (dk_at dksX4_adds_4 6 rfl rfl)
theorem dX4_adds_100 : decode cX4_adds 100 = .ok (.getfield 16, 3) := dk_180 0 16 (dk_at dksX4_adds_4 7 rfl rfl)
theorem dX4_adds_103 : decode cX4_adds 103 = .ok (.iload 4, 2) := dk_21 4 (dk_at dksX4_adds_4 10 rfl rfl)
theorem dX4_adds_105 : decode cX4_adds 105 = .ok (.iconst 3, 1) := dk_6 (dk_at dksX4_adds_4 12 rfl rfl)
theorem dX4_adds_106 : decode cX4_adds 106 = .ok (.invokestatic 60, 3) := dk_184 0 60 (dk_at dksX4_adds_4 13 rfl rfl)
theorem dX4_adds_109 : decode cX4_adds 109 = .ok (.iload_n 3, 1) := dk_29 (dk_at dksX4_adds_4 16 rfl rfl)
theorem dX4_adds_110 : decode cX4_adds 110 = .ok (.iastore, 1) := dk_79 (dk_at dksX4_adds_4 17 rfl rfl)
theorem dX4_adds_111 : decode cX4_adds 111 = .ok (.aload_n 0, 1) := dk_42 (dk_at dksX4_adds_4 18 rfl rfl)
theorem dX4_adds_112 : decode cX4_adds 112 = .ok (.getfield 16, 3) := dk_180 0 16 (dk_at dksX4_adds_4 19 rfl rfl)
theorem dX4_adds_115 : decode cX4_adds 115 = .ok (.iconst 3, 1) := dk_6 (dk_at dksX4_adds_4 22 rfl rfl)
theorem dX4_adds_116 : decode cX4_adds 116 = .ok (.dup2, 1) := dk_92 (dk_at dksX4_adds_4 23 rfl rfl)
theorem dX4_adds_117 : decode cX4_adds 117 = .ok (.iaload, 1) := dk_46 (dk_at dksX4_adds_5 0 rfl rfl)
theorem dX4_adds_118 : decode cX4_adds 118 = .ok (.iconst 1, 1) := dk_4 (dk_at dksX4_adds_5 1 rfl rfl)
theorem dX4_adds_119 : decode cX4_adds 119 = .ok (.iadd, 1) := dk_96 (dk_at dksX4_adds_5 2 rfl rfl)
theorem dX4_adds_120 : decode cX4_adds 120 = .ok (.iastore, 1) := dk_79 (dk_at dksX4_adds_5 3 rfl rfl)
theorem dX4_adds_121 : decode cX4_adds 121 = .ok (.aload_n 0, 1) := dk_42 (dk_at dksX4_adds_5 4 rfl rfl)
theorem dX4_adds_122 : decode cX4_adds 122 = .ok (.getfield 16, 3) := dk_180 0 16 (dk_at dksX4_adds_5 5 rfl rfl)
theorem dX4_adds_125 : decode cX4_adds 125 = .ok (.iconst 1, 1) := dk_4 (dk_at dksX4_adds_5 8 rfl rfl)
theorem dX4_adds_126 : decode cX4_adds 126 = .ok (.dup2, 1) := dk_92 (dk_at dksX4_adds_5 9 rfl rfl)
theorem dX4_adds_127 : decode cX4_adds 127 = .ok (.iaload, 1) := dk_46 (dk_at dksX4_adds_5 10 rfl rfl)
theorem dX4_adds_128 : decode cX4_adds 128 = .ok (.iconst 1, 1) := dk_4 (dk_at dksX4_adds_5 11 rfl rfl)
theorem dX4_adds_129 : decode cX4_adds 129 = .ok (.iadd, 1) := dk_96 (dk_at dksX4_adds_5 12 rfl rfl)
theorem dX4_adds_130 : decode cX4_adds 130 = .ok (.iastore, 1) := dk_79 (dk_at dksX4_adds_5 13 rfl rfl)
theorem dX4_adds_131 : decode cX4_adds 131 = .ok (.aload_n 0, 1) := dk_42 (dk_at dksX4_adds_5 14 rfl rfl)
theorem dX4_adds_132 : decode cX4_adds 132 = .ok (.iload 4, 2) := dk_21 4 (dk_at dksX4_adds_5 15 rfl rfl)
theorem dX4_adds_134 : decode cX4_adds 134 = .ok (.invokevirtual 79, 3) := dk_182 0 79 (dk_at dksX4_adds_5 17 rfl rfl)
theorem dX4_adds_137 : decode cX4_adds 137 = .ok (.aload_n 0, 1) := dk_42 (dk_at dksX4_adds_5 20 rfl rfl)
theorem dX4_adds_138 : decode cX4_adds 138 = .ok (.getfield 16, 3) := dk_180 0 16 (dk_at dksX4_adds_5 21 rfl rfl)
theorem dX4_adds_141 : decode cX4_adds 141 = .ok (.iload 4, 2) := dk_21 4 (dk_at dksX4_adds_6 0 rfl rfl)
theorem dX4_adds_143 : decode cX4_adds 143 = .ok (.iconst 0, 1) := dk_3 (dk_at dksX4_adds_6 2 rfl rfl)
theorem dX4_adds_144 : decode cX4_adds 144 = .ok (.invokestatic 60, 3) := dk_184 0 60 (dk_at dksX4_adds_6 3 rfl rfl)
theorem dX4_adds_147 : decode cX4_adds 147 = .ok (.iaload, 1) := dk_46 (dk_at dksX4_adds_6 6 rfl rfl)
theorem dX4_adds_148 : decode cX4_adds 148 = .ok (.ireturn, 1) := dk_172 (dk_at dksX4_adds_6 7 rfl rfl)
