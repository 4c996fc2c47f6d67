set_option maxRecDepth 100000
abbrev cJ27_stringSize : ByteArray := prog_31_method_13_code
def yJ27_stringSize : MethodName := ⟨RJ27, "stringSize", "(I)I"⟩
def dkwJ27_stringSize_1 : List UInt8 := [164, 0, 7, 29, 27, 96, 172, 16, 10, 28, 104, 61, 132, 3, 1, 167, 255, 233, 16, 10, 27, 96, 172]
abbrev dktJ27_stringSize_1 : List UInt8 := dkwJ27_stringSize_1 ++ []
def dkwJ27_stringSize_0 : List UInt8 := [4, 60, 26, 155, 0, 8, 3, 60, 26, 116, 59, 16, 246, 61, 4, 62, 29, 16, 10, 162, 0, 23, 26, 28]
abbrev dktJ27_stringSize_0 : List UInt8 := dkwJ27_stringSize_0 ++ dktJ27_stringSize_1
theorem dksJ27_stringSize_0 : cJ27_stringSize.data.toList.drop 0 = dktJ27_stringSize_0 := by decide +kernel
theorem dksJ27_stringSize_1 : cJ27_stringSize.data.toList.drop 24 = dktJ27_stringSize_1 := dk_seg dksJ27_stringSize_0 24 rfl rfl
theorem dJ27_stringSize_0 : decode cJ27_stringSize 0 = .ok (.iconst 1, 1) := dk_4 (dk_at dksJ27_stringSize_0 0 rfl rfl)
theorem dJ27_stringSize_1 : decode cJ27_stringSize 1 = .ok (.istore_n 1, 1) := dk_60 (dk_at dksJ27_stringSize_0 1 rfl rfl)
theorem dJ27_stringSize_2 : decode cJ27_stringSize 2 = .ok (.iload_n 0, 1) := dk_26 (dk_at dksJ27_stringSize_0 2 rfl rfl)
theorem dJ27_stringSize_3 : decode cJ27_stringSize 3 = .ok (.ifCond .lt 8, 3) := dk_155 0 8 (dk_at dksJ27_stringSize_0 3 rfl rfl)
theorem dJ27_stringSize_6 : decode cJ27_stringSize 6 = .ok (.iconst 0, 1) := dk_3 (dk_at dksJ27_stringSize_0 6 rfl rfl)
theorem dJ27_stringSize_7 : decode cJ27_stringSize 7 = .ok (.istore_n 1, 1) := dk_60 (dk_at dksJ27_stringSize_0 7 rfl rfl)
theorem dJ27_stringSize_8 : decode cJ27_stringSize 8 = .ok (.iload_n 0, 1) := dk_26 (dk_at dksJ27_stringSize_0 8 rfl rfl)
theorem dJ27_stringSize_9 : decode cJ27_stringSize 9 = .ok (.ineg, 1) := dk_116 (dk_at dksJ27_stringSize_0 9 rfl rfl)
theorem dJ27_stringSize_10 : decode cJ27_stringSize 10 = .ok (.istore_n 0, 1) := dk_59 (dk_at dksJ27_stringSize_0 10 rfl rfl)
theorem dJ27_stringSize_11 : decode cJ27_stringSize 11 = .ok (.bipush (-10), 2) := dk_16 246 (dk_at dksJ27_stringSize_0 11 rfl rfl)
theorem dJ27_stringSize_13 : decode cJ27_stringSize 13 = .ok (.istore_n 2, 1) := dk_61 (dk_at dksJ27_stringSize_0 13 rfl rfl)
theorem dJ27_stringSize_14 : decode cJ27_stringSize 14 = .ok (.iconst 1, 1) := dk_4 (dk_at dksJ27_stringSize_0 14 rfl rfl)
theorem dJ27_stringSize_15 : decode cJ27_stringSize 15 = .ok (.istore_n 3, 1) := dk_62 (dk_at dksJ27_stringSize_0 15 rfl rfl)
theorem dJ27_stringSize_16 : decode cJ27_stringSize 16 = .ok (.iload_n 3, 1) := dk_29 (dk_at dksJ27_stringSize_0 16 rfl rfl)
theorem dJ27_stringSize_17 : decode cJ27_stringSize 17 = .ok (.bipush 10, 2) := dk_16 10 (dk_at dksJ27_stringSize_0 17 rfl rfl)
theorem dJ27_stringSize_19 : decode cJ27_stringSize 19 = .ok (.if_icmp .ge 23, 3) := dk_162 0 23 (dk_at dksJ27_stringSize_0 19 rfl rfl)
theorem dJ27_stringSize_22 : decode cJ27_stringSize 22 = .ok (.iload_n 0, 1) := dk_26 (dk_at dksJ27_stringSize_0 22 rfl rfl)
theorem dJ27_stringSize_23 : decode cJ27_stringSize 23 = .ok (.iload_n 2, 1) := dk_28 (dk_at dksJ27_stringSize_0 23 rfl rfl)
theorem dJ27_stringSize_24 : decode cJ27_stringSize 24 = .ok (.if_icmp .le 7, 3) := dk_164 0 7 (dk_at dksJ27_stringSize_1 0 rfl rfl)
theorem dJ27_stringSize_27 : decode cJ27_stringSize 27 = .ok (.iload_n 3, 1) := dk_29 (dk_at dksJ27_stringSize_1 3 rfl rfl)
theorem dJ27_stringSize_28 : decode cJ27_stringSize 28 = .ok (.iload_n 1, 1) := dk_27 (dk_at dksJ27_stringSize_1 4 rfl rfl)
theorem dJ27_stringSize_29 : decode cJ27_stringSize 29 = .ok (.iadd, 1) := dk_96 (dk_at dksJ27_stringSize_1 5 rfl rfl)
theorem dJ27_stringSize_30 : decode cJ27_stringSize 30 = .ok (.ireturn, 1) := dk_172 (dk_at dksJ27_stringSize_1 6 rfl rfl)
theorem dJ27_stringSize_31 : decode cJ27_stringSize 31 = .ok (.bipush 10, 2) := dk_16 10 (dk_at dksJ27_stringSize_1 7 rfl rfl)
theorem dJ27_stringSize_33 : decode cJ27_stringSize 33 = .ok (.iload_n 2, 1) := dk_28 (dk_at dksJ27_stringSize_1 9 rfl rfl)
theorem dJ27_stringSize_34 : decode cJ27_stringSize 34 = .ok (.imul, 1) := dk_104 (dk_at dksJ27_stringSize_1 10 rfl rfl)
theorem dJ27_stringSize_35 : decode cJ27_stringSize 35 = .ok (.istore_n 2, 1) := dk_61 (dk_at dksJ27_stringSize_1 11 rfl rfl)
theorem dJ27_stringSize_36 : decode cJ27_stringSize 36 = .ok (.iinc 3 1, 3) := dk_132 3 1 (dk_at dksJ27_stringSize_1 12 rfl rfl)
theorem dJ27_stringSize_39 : decode cJ27_stringSize 39 = .ok (.goto (-23), 3) := dk_167 255 233 (dk_at dksJ27_stringSize_1 15 rfl rfl)
theorem dJ27_stringSize_42 : decode cJ27_stringSize 42 = .ok (.bipush 10, 2) := dk_16 10 (dk_at dksJ27_stringSize_1 18 rfl rfl)
theorem dJ27_stringSize_44 : decode cJ27_stringSize 44 = .ok (.iload_n 1, 1) := dk_27 (dk_at dksJ27_stringSize_1 20 rfl rfl)
theorem dJ27_stringSize_45 : decode cJ27_stringSize 45 = .ok (.iadd, 1) := dk_96 (dk_at dksJ27_stringSize_1 21 rfl rfl)
theorem dJ27_stringSize_46 : decode cJ27_stringSize 46 = .ok (.ireturn, 1) := dk_172 (dk_at dksJ27_stringSize_1 22 rfl rfl)
abbrev cJ7_append_2 : ByteArray := prog_20_method_32_code
def yJ7_append_2 : MethodName := ⟨RJ7, "append", "(I)Ljava/lang/AbstractStringBuilder;"⟩
def dkwJ7_append_2_2 : List UInt8 := [42, 29, 181, 0, 79, 42, 176]
abbrev dktJ7_append_2_2 : List UInt8 := dkwJ7_append_2_2 ++ []
def dkwJ7_append_2_1 : List UInt8 := [27, 29, 42, 180, 0, 15, 184, 0, 248, 87, 167, 0, 14, 27, 28, 29, 42, 180, 0, 15, 184, 0, 251, 87]
abbrev dktJ7_append_2_1 : List UInt8 := dkwJ7_append_2_1 ++ dktJ7_append_2_2
def dkwJ7_append_2_0 : List UInt8 := [42, 180, 0, 79, 61, 28, 27, 184, 0, 245, 96, 62, 42, 29, 182, 0, 100, 42, 182, 0, 83, 153, 0, 16]
abbrev dktJ7_append_2_0 : List UInt8 := dkwJ7_append_2_0 ++ dktJ7_append_2_1
theorem dksJ7_append_2_0 : cJ7_append_2.data.toList.drop 0 = dktJ7_append_2_0 := by decide +kernel
theorem dksJ7_append_2_1 : cJ7_append_2.data.toList.drop 24 = dktJ7_append_2_1 := dk_seg dksJ7_append_2_0 24 rfl rfl
theorem dksJ7_append_2_2 : cJ7_append_2.data.toList.drop 48 = dktJ7_append_2_2 := dk_seg dksJ7_append_2_1 24 rfl rfl
theorem dJ7_append_2_0 : decode cJ7_append_2 0 = .ok (.aload_n 0, 1) := dk_42 (dk_at dksJ7_append_2_0 0 rfl rfl)
theorem dJ7_append_2_1 : decode cJ7_append_2 1 = .ok (.getfield 79, 3) := dk_180 0 79 (dk_at dksJ7_append_2_0 1 rfl rfl)
theorem dJ7_append_2_4 : decode cJ7_append_2 4 = .ok (.istore_n 2, 1) := dk_61 (dk_at dksJ7_append_2_0 4 rfl rfl)
theorem dJ7_append_2_5 : decode cJ7_append_2 5 = .ok (.iload_n 2, 1) := dk_28 (dk_at dksJ7_append_2_0 5 rfl rfl)
theorem dJ7_append_2_6 : decode cJ7_append_2 6 = .ok (.iload_n 1, 1) := dk_27 (dk_at dksJ7_append_2_0 6 rfl rfl)
theorem dJ7_append_2_7 : decode cJ7_append_2 7 = .ok (.invokestatic 245, 3) := dk_184 0 245 (dk_at dksJ7_append_2_0 7 rfl rfl)
theorem dJ7_append_2_10 : decode cJ7_append_2 10 = .ok (.iadd, 1) := dk_96 (dk_at dksJ7_append_2_0 10 rfl rfl)
theorem dJ7_append_2_11 : decode cJ7_append_2 11 = .ok (.istore_n 3, 1) := dk_62 (dk_at dksJ7_append_2_0 11 rfl rfl)
theorem dJ7_append_2_12 : decode cJ7_append_2 12 = .ok (.aload_n 0, 1) := dk_42 (dk_at dksJ7_append_2_0 12 rfl rfl)
theorem dJ7_append_2_13 : decode cJ7_append_2 13 = .ok (.iload_n 3, 1) := dk_29 (dk_at dksJ7_append_2_0 13 rfl rfl)
theorem dJ7_append_2_14 : decode cJ7_append_2 14 = .ok (.invokevirtual 100, 3) := dk_182 0 100 (dk_at dksJ7_append_2_0 14 rfl rfl)
theorem dJ7_append_2_17 : decode cJ7_append_2 17 = .ok (.aload_n 0, 1) := dk_42 (dk_at dksJ7_append_2_0 17 rfl rfl)
theorem dJ7_append_2_18 : decode cJ7_append_2 18 = .ok (.invokevirtual 83, 3) := dk_182 0 83 (dk_at dksJ7_append_2_0 18 rfl rfl)
theorem dJ7_append_2_21 : decode cJ7_append_2 21 = .ok (.ifCond .eq 16, 3) := dk_153 0 16 (dk_at dksJ7_append_2_0 21 rfl rfl)
theorem dJ7_append_2_24 : decode cJ7_append_2 24 = .ok (.iload_n 1, 1) := dk_27 (dk_at dksJ7_append_2_1 0 rfl rfl)
theorem dJ7_append_2_25 : decode cJ7_append_2 25 = .ok (.iload_n 3, 1) := dk_29 (dk_at dksJ7_append_2_1 1 rfl rfl)
theorem dJ7_append_2_26 : decode cJ7_append_2 26 = .ok (.aload_n 0, 1) := dk_42 (dk_at dksJ7_append_2_1 2 rfl rfl)
theorem dJ7_append_2_27 : decode cJ7_append_2 27 = .ok (.getfield 15, 3) := dk_180 0 15 (dk_at dksJ7_append_2_1 3 rfl rfl)
theorem dJ7_append_2_30 : decode cJ7_append_2 30 = .ok (.invokestatic 248, 3) := dk_184 0 248 (dk_at dksJ7_append_2_1 6 rfl rfl)
theorem dJ7_append_2_33 : decode cJ7_append_2 33 = .ok (.pop, 1) := dk_87 (dk_at dksJ7_append_2_1 9 rfl rfl)
theorem dJ7_append_2_34 : decode cJ7_append_2 34 = .ok (.goto 14, 3) := dk_167 0 14 (dk_at dksJ7_append_2_1 10 rfl rfl)
theorem dJ7_append_2_37 : decode cJ7_append_2 37 = .ok (.iload_n 1, 1) := dk_27 (dk_at dksJ7_append_2_1 13 rfl rfl)
theorem dJ7_append_2_38 : decode cJ7_append_2 38 = .ok (.iload_n 2, 1) := dk_28 (dk_at dksJ7_append_2_1 14 rfl rfl)
theorem dJ7_append_2_39 : decode cJ7_append_2 39 = .ok (.iload_n 3, 1) := dk_29 (dk_at dksJ7_append_2_1 15 rfl rfl)
theorem dJ7_append_2_40 : decode cJ7_append_2 40 = .ok (.aload_n 0, 1) := dk_42 (dk_at dksJ7_append_2_1 16 rfl rfl)
theorem dJ7_append_2_41 : decode cJ7_append_2 41 = .ok (.getfield 15, 3) := dk_180 0 15 (dk_at dksJ7_append_2_1 17 rfl rfl)
theorem dJ7_append_2_44 : decode cJ7_append_2 44 = .ok (.invokestatic 251, 3) := dk_184 0 251 (dk_at dksJ7_append_2_1 20 rfl rfl)
theorem dJ7_append_2_48 : decode cJ7_append_2 48 = .ok (.aload_n 0, 1) := dk_42 (dk_at dksJ7_append_2_2 0 rfl rfl)
theorem dJ7_append_2_49 : decode cJ7_append_2 49 = .ok (.iload_n 3, 1) := dk_29 (dk_at dksJ7_append_2_2 1 rfl rfl)
theorem dJ7_append_2_50 : decode cJ7_append_2 50 = .ok (.putfield 79, 3) := dk_181 0 79 (dk_at dksJ7_append_2_2 2 rfl rfl)
theorem dJ7_append_2_53 : decode cJ7_append_2 53 = .ok (.aload_n 0, 1) := dk_42 (dk_at dksJ7_append_2_2 5 rfl rfl)
theorem dJ7_append_2_54 : decode cJ7_append_2 54 = .ok (.areturn, 1) := dk_176 (dk_at dksJ7_append_2_2 6 rfl rfl)
abbrev cJ8_append_2 : ByteArray := prog_39_method_15_code
def yJ8_append_2 : MethodName := ⟨RJ8, "append", "(I)Ljava/lang/StringBuilder;"⟩
def dkwJ8_append_2_0 : List UInt8 := [42, 27, 183, 0, 53, 87, 42, 176]
abbrev dktJ8_append_2_0 : List UInt8 := dkwJ8_append_2_0 ++ []
theorem dksJ8_append_2_0 : cJ8_append_2.data.toList.drop 0 = dktJ8_append_2_0 := by decide +kernel
theorem dJ8_append_2_0 : decode cJ8_append_2 0 = .ok (.aload_n 0, 1) := dk_42 (dk_at dksJ8_append_2_0 0 rfl rfl)
theorem dJ8_append_2_1 : decode cJ8_append_2 1 = .ok (.iload_n 1, 1) := dk_27 (dk_at dksJ8_append_2_0 1 rfl rfl)
theorem dJ8_append_2_2 : decode cJ8_append_2 2 = .ok (.invokespecial 53, 3) := dk_183 0 53 (dk_at dksJ8_append_2_0 2 rfl rfl)
theorem dJ8_append_2_5 : decode cJ8_append_2 5 = .ok (.pop, 1) := dk_87 (dk_at dksJ8_append_2_0 5 rfl rfl)
theorem dJ8_append_2_6 : decode cJ8_append_2 6 = .ok (.aload_n 0, 1) := dk_42 (dk_at dksJ8_append_2_0 6 rfl rfl)
theorem dJ8_append_2_7 : decode cJ8_append_2 7 = .ok (.areturn, 1) := dk_176 (dk_at dksJ8_append_2_0 7 rfl rfl)
abbrev cJ7_inflateIfNeededFor : ByteArray := prog_20_method_71_code
def yJ7_inflateIfNeededFor : MethodName := ⟨RJ7, "inflateIfNeededFor", "(Ljava/lang/String;)V"⟩
def dkwJ7_inflateIfNeededFor_0 : List UInt8 := [178, 0, 18, 153, 0, 18, 42, 180, 0, 22, 43, 182, 0, 40, 159, 0, 7, 42, 182, 0, 195, 177]
abbrev dktJ7_inflateIfNeededFor_0 : List UInt8 := dkwJ7_inflateIfNeededFor_0 ++ []
theorem dksJ7_inflateIfNeededFor_0 : cJ7_inflateIfNeededFor.data.toList.drop 0 = dktJ7_inflateIfNeededFor_0 := by decide +kernel
theorem dJ7_inflateIfNeededFor_0 : decode cJ7_inflateIfNeededFor 0 = .ok (.getstatic 18, 3) := dk_178 0 18 (dk_at dksJ7_inflateIfNeededFor_0 0 rfl rfl)
theorem dJ7_inflateIfNeededFor_3 : decode cJ7_inflateIfNeededFor 3 = .ok (.ifCond .eq 18, 3) := dk_153 0 18 (dk_at dksJ7_inflateIfNeededFor_0 3 rfl rfl)
theorem dJ7_inflateIfNeededFor_6 : decode cJ7_inflateIfNeededFor 6 = .ok (.aload_n 0, 1) := dk_42 (dk_at dksJ7_inflateIfNeededFor_0 6 rfl rfl)
theorem dJ7_inflateIfNeededFor_7 : decode cJ7_inflateIfNeededFor 7 = .ok (.getfield 22, 3) := dk_180 0 22 (dk_at dksJ7_inflateIfNeededFor_0 7 rfl rfl)
theorem dJ7_inflateIfNeededFor_10 : decode cJ7_inflateIfNeededFor 10 = .ok (.aload_n 1, 1) := dk_43 (dk_at dksJ7_inflateIfNeededFor_0 10 rfl rfl)
theorem dJ7_inflateIfNeededFor_11 : decode cJ7_inflateIfNeededFor 11 = .ok (.invokevirtual 40, 3) := dk_182 0 40 (dk_at dksJ7_inflateIfNeededFor_0 11 rfl rfl)
theorem dJ7_inflateIfNeededFor_14 : decode cJ7_inflateIfNeededFor 14 = .ok (.if_icmp .eq 7, 3) := dk_159 0 7 (dk_at dksJ7_inflateIfNeededFor_0 14 rfl rfl)
theorem dJ7_inflateIfNeededFor_17 : decode cJ7_inflateIfNeededFor 17 = .ok (.aload_n 0, 1) := dk_42 (dk_at dksJ7_inflateIfNeededFor_0 17 rfl rfl)
theorem dJ7_inflateIfNeededFor_18 : decode cJ7_inflateIfNeededFor 18 = .ok (.invokevirtual 195, 3) := dk_182 0 195 (dk_at dksJ7_inflateIfNeededFor_0 18 rfl rfl)
theorem dJ7_inflateIfNeededFor_21 : decode cJ7_inflateIfNeededFor 21 = .ok (.return_, 1) := dk_177 (dk_at dksJ7_inflateIfNeededFor_0 21 rfl rfl)
abbrev cJ9_getBytes : ByteArray := prog_38_method_147_code
def yJ9_getBytes : MethodName := ⟨RJ9, "getBytes", "([BIB)V"⟩
def dkwJ9_getBytes_1 : List UInt8 := [184, 0, 212, 167, 0, 18, 42, 180, 0, 9, 3, 43, 28, 42, 180, 0, 9, 190, 184, 0, 106, 177]
abbrev dktJ9_getBytes_1 : List UInt8 := dkwJ9_getBytes_1 ++ []
def dkwJ9_getBytes_0 : List UInt8 := [42, 182, 1, 79, 29, 160, 0, 23, 42, 180, 0, 9, 3, 43, 28, 29, 120, 42, 180, 0, 9, 190]
abbrev dktJ9_getBytes_0 : List UInt8 := dkwJ9_getBytes_0 ++ dktJ9_getBytes_1
theorem dksJ9_getBytes_0 : cJ9_getBytes.data.toList.drop 0 = dktJ9_getBytes_0 := by decide +kernel
theorem dksJ9_getBytes_1 : cJ9_getBytes.data.toList.drop 22 = dktJ9_getBytes_1 := dk_seg dksJ9_getBytes_0 22 rfl rfl
theorem dJ9_getBytes_0 : decode cJ9_getBytes 0 = .ok (.aload_n 0, 1) := dk_42 (dk_at dksJ9_getBytes_0 0 rfl rfl)
theorem dJ9_getBytes_1 : decode cJ9_getBytes 1 = .ok (.invokevirtual 335, 3) := dk_182 1 79 (dk_at dksJ9_getBytes_0 1 rfl rfl)
theorem dJ9_getBytes_4 : decode cJ9_getBytes 4 = .ok (.iload_n 3, 1) := dk_29 (dk_at dksJ9_getBytes_0 4 rfl rfl)
theorem dJ9_getBytes_5 : decode cJ9_getBytes 5 = .ok (.if_icmp .ne 23, 3) := dk_160 0 23 (dk_at dksJ9_getBytes_0 5 rfl rfl)
theorem dJ9_getBytes_8 : decode cJ9_getBytes 8 = .ok (.aload_n 0, 1) := dk_42 (dk_at dksJ9_getBytes_0 8 rfl rfl)
theorem dJ9_getBytes_9 : decode cJ9_getBytes 9 = .ok (.getfield 9, 3) := dk_180 0 9 (dk_at dksJ9_getBytes_0 9 rfl rfl)
theorem dJ9_getBytes_12 : decode cJ9_getBytes 12 = .ok (.iconst 0, 1) := dk_3 (dk_at dksJ9_getBytes_0 12 rfl rfl)
theorem dJ9_getBytes_13 : decode cJ9_getBytes 13 = .ok (.aload_n 1, 1) := dk_43 (dk_at dksJ9_getBytes_0 13 rfl rfl)
theorem dJ9_getBytes_14 : decode cJ9_getBytes 14 = .ok (.iload_n 2, 1) := dk_28 (dk_at dksJ9_getBytes_0 14 rfl rfl)
theorem dJ9_getBytes_15 : decode cJ9_getBytes 15 = .ok (.iload_n 3, 1) := dk_29 (dk_at dksJ9_getBytes_0 15 rfl rfl)
theorem dJ9_getBytes_16 : decode cJ9_getBytes 16 = .ok (.ishl, 1) := dk_120 (dk_at dksJ9_getBytes_0 16 rfl rfl)
theorem dJ9_getBytes_17 : decode cJ9_getBytes 17 = .ok (.aload_n 0, 1) := dk_42 (dk_at dksJ9_getBytes_0 17 rfl rfl)
theorem dJ9_getBytes_18 : decode cJ9_getBytes 18 = .ok (.getfield 9, 3) := dk_180 0 9 (dk_at dksJ9_getBytes_0 18 rfl rfl)
theorem dJ9_getBytes_21 : decode cJ9_getBytes 21 = .ok (.arraylength, 1) := dk_190 (dk_at dksJ9_getBytes_0 21 rfl rfl)
theorem dJ9_getBytes_22 : decode cJ9_getBytes 22 = .ok (.invokestatic 212, 3) := dk_184 0 212 (dk_at dksJ9_getBytes_1 0 rfl rfl)
theorem dJ9_getBytes_25 : decode cJ9_getBytes 25 = .ok (.goto 18, 3) := dk_167 0 18 (dk_at dksJ9_getBytes_1 3 rfl rfl)
theorem dJ9_getBytes_28 : decode cJ9_getBytes 28 = .ok (.aload_n 0, 1) := dk_42 (dk_at dksJ9_getBytes_1 6 rfl rfl)
theorem dJ9_getBytes_29 : decode cJ9_getBytes 29 = .ok (.getfield 9, 3) := dk_180 0 9 (dk_at dksJ9_getBytes_1 7 rfl rfl)
theorem dJ9_getBytes_32 : decode cJ9_getBytes 32 = .ok (.iconst 0, 1) := dk_3 (dk_at dksJ9_getBytes_1 10 rfl rfl)
theorem dJ9_getBytes_33 : decode cJ9_getBytes 33 = .ok (.aload_n 1, 1) := dk_43 (dk_at dksJ9_getBytes_1 11 rfl rfl)
theorem dJ9_getBytes_34 : decode cJ9_getBytes 34 = .ok (.iload_n 2, 1) := dk_28 (dk_at dksJ9_getBytes_1 12 rfl rfl)
theorem dJ9_getBytes_35 : decode cJ9_getBytes 35 = .ok (.aload_n 0, 1) := dk_42 (dk_at dksJ9_getBytes_1 13 rfl rfl)
theorem dJ9_getBytes_36 : decode cJ9_getBytes 36 = .ok (.getfield 9, 3) := dk_180 0 9 (dk_at dksJ9_getBytes_1 14 rfl rfl)
theorem dJ9_getBytes_39 : decode cJ9_getBytes 39 = .ok (.arraylength, 1) := dk_190 (dk_at dksJ9_getBytes_1 17 rfl rfl)
theorem dJ9_getBytes_40 : decode cJ9_getBytes 40 = .ok (.invokestatic 106, 3) := dk_184 0 106 (dk_at dksJ9_getBytes_1 18 rfl rfl)
theorem dJ9_getBytes_43 : decode cJ9_getBytes 43 = .ok (.return_, 1) := dk_177 (dk_at dksJ9_getBytes_1 21 rfl rfl)
abbrev cJ7_putStringAt : ByteArray := prog_20_method_73_code
def yJ7_putStringAt : MethodName := ⟨RJ7, "putStringAt", "(ILjava/lang/String;)V"⟩
def dkwJ7_putStringAt_0 : List UInt8 := [42, 44, 182, 1, 141, 44, 42, 180, 0, 15, 27, 42, 180, 0, 22, 182, 1, 143, 177]
abbrev dktJ7_putStringAt_0 : List UInt8 := dkwJ7_putStringAt_0 ++ []
theorem dksJ7_putStringAt_0 : cJ7_putStringAt.data.toList.drop 0 = dktJ7_putStringAt_0 := by decide +kernel
theorem dJ7_putStringAt_0 : decode cJ7_putStringAt 0 = .ok (.aload_n 0, 1) := dk_42 (dk_at dksJ7_putStringAt_0 0 rfl rfl)
theorem dJ7_putStringAt_1 : decode cJ7_putStringAt 1 = .ok (.aload_n 2, 1) := dk_44 (dk_at dksJ7_putStringAt_0 1 rfl rfl)
theorem dJ7_putStringAt_2 : decode cJ7_putStringAt 2 = .ok (.invokevirtual 397, 3) := dk_182 1 141 (dk_at dksJ7_putStringAt_0 2 rfl rfl)
theorem dJ7_putStringAt_5 : decode cJ7_putStringAt 5 = .ok (.aload_n 2, 1) := dk_44 (dk_at dksJ7_putStringAt_0 5 rfl rfl)
theorem dJ7_putStringAt_6 : decode cJ7_putStringAt 6 = .ok (.aload_n 0, 1) := dk_42 (dk_at dksJ7_putStringAt_0 6 rfl rfl)
theorem dJ7_putStringAt_7 : decode cJ7_putStringAt 7 = .ok (.getfield 15, 3) := dk_180 0 15 (dk_at dksJ7_putStringAt_0 7 rfl rfl)
theorem dJ7_putStringAt_10 : decode cJ7_putStringAt 10 = .ok (.iload_n 1, 1) := dk_27 (dk_at dksJ7_putStringAt_0 10 rfl rfl)
theorem dJ7_putStringAt_11 : decode cJ7_putStringAt 11 = .ok (.aload_n 0, 1) := dk_42 (dk_at dksJ7_putStringAt_0 11 rfl rfl)
theorem dJ7_putStringAt_12 : decode cJ7_putStringAt 12 = .ok (.getfield 22, 3) := dk_180 0 22 (dk_at dksJ7_putStringAt_0 12 rfl rfl)
theorem dJ7_putStringAt_15 : decode cJ7_putStringAt 15 = .ok (.invokevirtual 399, 3) := dk_182 1 143 (dk_at dksJ7_putStringAt_0 15 rfl rfl)
theorem dJ7_putStringAt_18 : decode cJ7_putStringAt 18 = .ok (.return_, 1) := dk_177 (dk_at dksJ7_putStringAt_0 18 rfl rfl)
abbrev cJ7_append : ByteArray := prog_20_method_22_code
def yJ7_append : MethodName := ⟨RJ7, "append", "(Ljava/lang/String;)Ljava/lang/AbstractStringBuilder;"⟩
def dkwJ7_append_1 : List UInt8 := [42, 42, 180, 0, 79, 43, 182, 0, 208, 42, 89, 180, 0, 79, 28, 96, 181, 0, 79, 42, 176]
abbrev dktJ7_append_1 : List UInt8 := dkwJ7_append_1 ++ []
def dkwJ7_append_0 : List UInt8 := [43, 199, 0, 8, 42, 182, 0, 204, 176, 43, 182, 0, 32, 61, 42, 42, 180, 0, 79, 28, 96, 182, 0, 100]
abbrev dktJ7_append_0 : List UInt8 := dkwJ7_append_0 ++ dktJ7_append_1
theorem dksJ7_append_0 : cJ7_append.data.toList.drop 0 = dktJ7_append_0 := by decide +kernel
theorem dksJ7_append_1 : cJ7_append.data.toList.drop 24 = dktJ7_append_1 := dk_seg dksJ7_append_0 24 rfl rfl
theorem dJ7_append_0 : decode cJ7_append 0 = .ok (.aload_n 1, 1) := dk_43 (dk_at dksJ7_append_0 0 rfl rfl)
theorem dJ7_append_1 : decode cJ7_append 1 = .ok (.ifnonnull 8, 3) := dk_199 0 8 (dk_at dksJ7_append_0 1 rfl rfl)
theorem dJ7_append_4 : decode cJ7_append 4 = .ok (.aload_n 0, 1) := dk_42 (dk_at dksJ7_append_0 4 rfl rfl)
theorem dJ7_append_5 : decode cJ7_append 5 = .ok (.invokevirtual 204, 3) := dk_182 0 204 (dk_at dksJ7_append_0 5 rfl rfl)
theorem dJ7_append_9 : decode cJ7_append 9 = .ok (.aload_n 1, 1) := dk_43 (dk_at dksJ7_append_0 9 rfl rfl)
theorem dJ7_append_10 : decode cJ7_append 10 = .ok (.invokevirtual 32, 3) := dk_182 0 32 (dk_at dksJ7_append_0 10 rfl rfl)
theorem dJ7_append_13 : decode cJ7_append 13 = .ok (.istore_n 2, 1) := dk_61 (dk_at dksJ7_append_0 13 rfl rfl)
theorem dJ7_append_14 : decode cJ7_append 14 = .ok (.aload_n 0, 1) := dk_42 (dk_at dksJ7_append_0 14 rfl rfl)
theorem dJ7_append_15 : decode cJ7_append 15 = .ok (.aload_n 0, 1) := dk_42 (dk_at dksJ7_append_0 15 rfl rfl)
theorem dJ7_append_16 : decode cJ7_append 16 = .ok (.getfield 79, 3) := dk_180 0 79 (dk_at dksJ7_append_0 16 rfl rfl)
theorem dJ7_append_19 : decode cJ7_append 19 = .ok (.iload_n 2, 1) := dk_28 (dk_at dksJ7_append_0 19 rfl rfl)
theorem dJ7_append_20 : decode cJ7_append 20 = .ok (.iadd, 1) := dk_96 (dk_at dksJ7_append_0 20 rfl rfl)
theorem dJ7_append_21 : decode cJ7_append 21 = .ok (.invokevirtual 100, 3) := dk_182 0 100 (dk_at dksJ7_append_0 21 rfl rfl)
theorem dJ7_append_24 : decode cJ7_append 24 = .ok (.aload_n 0, 1) := dk_42 (dk_at dksJ7_append_1 0 rfl rfl)
theorem dJ7_append_25 : decode cJ7_append 25 = .ok (.aload_n 0, 1) := dk_42 (dk_at dksJ7_append_1 1 rfl rfl)
theorem dJ7_append_26 : decode cJ7_append 26 = .ok (.getfield 79, 3) := dk_180 0 79 (dk_at dksJ7_append_1 2 rfl rfl)
theorem dJ7_append_29 : decode cJ7_append 29 = .ok (.aload_n 1, 1) := dk_43 (dk_at dksJ7_append_1 5 rfl rfl)
theorem dJ7_append_30 : decode cJ7_append 30 = .ok (.invokevirtual 208, 3) := dk_182 0 208 (dk_at dksJ7_append_1 6 rfl rfl)
theorem dJ7_append_33 : decode cJ7_append 33 = .ok (.aload_n 0, 1) := dk_42 (dk_at dksJ7_append_1 9 rfl rfl)
theorem dJ7_append_34 : decode cJ7_append 34 = .ok (.dup, 1) := dk_89 (dk_at dksJ7_append_1 10 rfl rfl)
theorem dJ7_append_35 : decode cJ7_append 35 = .ok (.getfield 79, 3) := dk_180 0 79 (dk_at dksJ7_append_1 11 rfl rfl)
theorem dJ7_append_38 : decode cJ7_append 38 = .ok (.iload_n 2, 1) := dk_28 (dk_at dksJ7_append_1 14 rfl rfl)
theorem dJ7_append_39 : decode cJ7_append 39 = .ok (.iadd, 1) := dk_96 (dk_at dksJ7_append_1 15 rfl rfl)
theorem dJ7_append_40 : decode cJ7_append 40 = .ok (.putfield 79, 3) := dk_181 0 79 (dk_at dksJ7_append_1 16 rfl rfl)
theorem dJ7_append_43 : decode cJ7_append 43 = .ok (.aload_n 0, 1) := dk_42 (dk_at dksJ7_append_1 19 rfl rfl)
theorem dJ7_append_44 : decode cJ7_append 44 = .ok (.areturn, 1) := dk_176 (dk_at dksJ7_append_1 20 rfl rfl)
abbrev cJ8_append : ByteArray := prog_39_method_7_code
def yJ8_append : MethodName := ⟨RJ8, "append", "(Ljava/lang/String;)Ljava/lang/StringBuilder;"⟩
def dkwJ8_append_0 : List UInt8 := [42, 43, 183, 0, 29, 87, 42, 176]
abbrev dktJ8_append_0 : List UInt8 := dkwJ8_append_0 ++ []
theorem dksJ8_append_0 : cJ8_append.data.toList.drop 0 = dktJ8_append_0 := by decide +kernel
theorem dJ8_append_0 : decode cJ8_append 0 = .ok (.aload_n 0, 1) := dk_42 (dk_at dksJ8_append_0 0 rfl rfl)
theorem dJ8_append_1 : decode cJ8_append 1 = .ok (.aload_n 1, 1) := dk_43 (dk_at dksJ8_append_0 1 rfl rfl)
theorem dJ8_append_2 : decode cJ8_append 2 = .ok (.invokespecial 29, 3) := dk_183 0 29 (dk_at dksJ8_append_0 2 rfl rfl)
theorem dJ8_append_5 : decode cJ8_append 5 = .ok (.pop, 1) := dk_87 (dk_at dksJ8_append_0 5 rfl rfl)
theorem dJ8_append_6 : decode cJ8_append 6 = .ok (.aload_n 0, 1) := dk_42 (dk_at dksJ8_append_0 6 rfl rfl)
theorem dJ8_append_7 : decode cJ8_append 7 = .ok (.areturn, 1) := dk_176 (dk_at dksJ8_append_0 7 rfl rfl)
abbrev cJ7_getValue : ByteArray := prog_20_method_64_code
def yJ7_getValue : MethodName := ⟨RJ7, "getValue", "()[B"⟩
theorem dJ7_getValue_0 : decode cJ7_getValue 0 = .ok (.aload_n 0, 1) := by decide +kernel
theorem dJ7_getValue_1 : decode cJ7_getValue 1 = .ok (.getfield 15, 3) := by decide +kernel
theorem dJ7_getValue_4 : decode cJ7_getValue 4 = .ok (.areturn, 1) := by decide +kernel
abbrev cJ7_length : ByteArray := prog_20_method_6_code
def yJ7_length : MethodName := ⟨RJ7, "length", "()I"⟩
theorem dJ7_length_0 : decode cJ7_length 0 = .ok (.aload_n 0, 1) := by decide +kernel
theorem dJ7_length_1 : decode cJ7_length 1 = .ok (.getfield 79, 3) := by decide +kernel
theorem dJ7_length_4 : decode cJ7_length 4 = .ok (.ireturn, 1) := by decide +kernel
abbrev cJ8_length : ByteArray := prog_39_method_93_code
def yJ8_length : MethodName := ⟨RJ8, "length", "()I"⟩
theorem dJ8_length_0 : decode cJ8_length 0 = .ok (.aload_n 0, 1) := by decide +kernel
theorem dJ8_length_1 : decode cJ8_length 1 = .ok (.invokespecial 343, 3) := by decide +kernel
theorem dJ8_length_4 : decode cJ8_length 4 = .ok (.ireturn, 1) := by decide +kernel
abbrev cJ23_checkLength : ByteArray := prog_62_method_131_code
def yJ23_checkLength : MethodName := ⟨RJ23, "checkLength", "(II)V"⟩
def dkwJ23_checkLength_1 : List UInt8 := [182, 0, 50, 27, 182, 0, 54, 182, 0, 61, 183, 0, 65, 191, 177]
abbrev dktJ23_checkLength_1 : List UInt8 := dkwJ23_checkLength_1 ++ []
def dkwJ23_checkLength_0 : List UInt8 := [27, 26, 162, 0, 35, 187, 0, 43, 89, 187, 0, 45, 89, 183, 0, 47, 26, 182, 0, 54, 19, 1, 81]
abbrev dktJ23_checkLength_0 : List UInt8 := dkwJ23_checkLength_0 ++ dktJ23_checkLength_1
theorem dksJ23_checkLength_0 : cJ23_checkLength.data.toList.drop 0 = dktJ23_checkLength_0 := by decide +kernel
theorem dksJ23_checkLength_1 : cJ23_checkLength.data.toList.drop 23 = dktJ23_checkLength_1 := dk_seg dksJ23_checkLength_0 23 rfl rfl
theorem dJ23_checkLength_0 : decode cJ23_checkLength 0 = .ok (.iload_n 1, 1) := dk_27 (dk_at dksJ23_checkLength_0 0 rfl rfl)
theorem dJ23_checkLength_1 : decode cJ23_checkLength 1 = .ok (.iload_n 0, 1) := dk_26 (dk_at dksJ23_checkLength_0 1 rfl rfl)
theorem dJ23_checkLength_2 : decode cJ23_checkLength 2 = .ok (.if_icmp .ge 35, 3) := dk_162 0 35 (dk_at dksJ23_checkLength_0 2 rfl rfl)
theorem dJ23_checkLength_5 : decode cJ23_checkLength 5 = .ok (.new 43, 3) := dk_187 0 43 (dk_at dksJ23_checkLength_0 5 rfl rfl)
theorem dJ23_checkLength_37 : decode cJ23_checkLength 37 = .ok (.return_, 1) := dk_177 (dk_at dksJ23_checkLength_1 14 rfl rfl)
abbrev cJ23_copyOfRangeByte : ByteArray := prog_62_method_133_code
def yJ23_copyOfRangeByte : MethodName := ⟨RJ23, "copyOfRangeByte", "([BII)[B"⟩
def dkwJ23_copyOfRangeByte_1 : List UInt8 := [184, 1, 48, 184, 0, 150, 25, 4, 176]
abbrev dktJ23_copyOfRangeByte_1 : List UInt8 := dkwJ23_copyOfRangeByte_1 ++ []
def dkwJ23_copyOfRangeByte_0 : List UInt8 := [27, 28, 184, 1, 87, 28, 27, 100, 62, 29, 188, 8, 58, 4, 42, 27, 25, 4, 3, 42, 190, 27, 100, 29]
abbrev dktJ23_copyOfRangeByte_0 : List UInt8 := dkwJ23_copyOfRangeByte_0 ++ dktJ23_copyOfRangeByte_1
theorem dksJ23_copyOfRangeByte_0 : cJ23_copyOfRangeByte.data.toList.drop 0 = dktJ23_copyOfRangeByte_0 := by decide +kernel
theorem dksJ23_copyOfRangeByte_1 : cJ23_copyOfRangeByte.data.toList.drop 24 = dktJ23_copyOfRangeByte_1 := dk_seg dksJ23_copyOfRangeByte_0 24 rfl rfl
theorem dJ23_copyOfRangeByte_0 : decode cJ23_copyOfRangeByte 0 = .ok (.iload_n 1, 1) := dk_27 (dk_at dksJ23_copyOfRangeByte_0 0 rfl rfl)
theorem dJ23_copyOfRangeByte_1 : decode cJ23_copyOfRangeByte 1 = .ok (.iload_n 2, 1) := dk_28 (dk_at dksJ23_copyOfRangeByte_0 1 rfl rfl)
theorem dJ23_copyOfRangeByte_2 : decode cJ23_copyOfRangeByte 2 = .ok (.invokestatic 343, 3) := dk_184 1 87 (dk_at dksJ23_copyOfRangeByte_0 2 rfl rfl)
theorem dJ23_copyOfRangeByte_5 : decode cJ23_copyOfRangeByte 5 = .ok (.iload_n 2, 1) := dk_28 (dk_at dksJ23_copyOfRangeByte_0 5 rfl rfl)
theorem dJ23_copyOfRangeByte_6 : decode cJ23_copyOfRangeByte 6 = .ok (.iload_n 1, 1) := dk_27 (dk_at dksJ23_copyOfRangeByte_0 6 rfl rfl)
theorem dJ23_copyOfRangeByte_7 : decode cJ23_copyOfRangeByte 7 = .ok (.isub, 1) := dk_100 (dk_at dksJ23_copyOfRangeByte_0 7 rfl rfl)
theorem dJ23_copyOfRangeByte_8 : decode cJ23_copyOfRangeByte 8 = .ok (.istore_n 3, 1) := dk_62 (dk_at dksJ23_copyOfRangeByte_0 8 rfl rfl)
theorem dJ23_copyOfRangeByte_9 : decode cJ23_copyOfRangeByte 9 = .ok (.iload_n 3, 1) := dk_29 (dk_at dksJ23_copyOfRangeByte_0 9 rfl rfl)
theorem dJ23_copyOfRangeByte_10 : decode cJ23_copyOfRangeByte 10 = .ok (.newarray .byte, 2) := dk_188_8 (dk_at dksJ23_copyOfRangeByte_0 10 rfl rfl)
theorem dJ23_copyOfRangeByte_12 : decode cJ23_copyOfRangeByte 12 = .ok (.astore 4, 2) := dk_58 4 (dk_at dksJ23_copyOfRangeByte_0 12 rfl rfl)
theorem dJ23_copyOfRangeByte_14 : decode cJ23_copyOfRangeByte 14 = .ok (.aload_n 0, 1) := dk_42 (dk_at dksJ23_copyOfRangeByte_0 14 rfl rfl)
theorem dJ23_copyOfRangeByte_15 : decode cJ23_copyOfRangeByte 15 = .ok (.iload_n 1, 1) := dk_27 (dk_at dksJ23_copyOfRangeByte_0 15 rfl rfl)
theorem dJ23_copyOfRangeByte_16 : decode cJ23_copyOfRangeByte 16 = .ok (.aload 4, 2) := dk_25 4 (dk_at dksJ23_copyOfRangeByte_0 16 rfl rfl)
theorem dJ23_copyOfRangeByte_18 : decode cJ23_copyOfRangeByte 18 = .ok (.iconst 0, 1) := dk_3 (dk_at dksJ23_copyOfRangeByte_0 18 rfl rfl)
theorem dJ23_copyOfRangeByte_19 : decode cJ23_copyOfRangeByte 19 = .ok (.aload_n 0, 1) := dk_42 (dk_at dksJ23_copyOfRangeByte_0 19 rfl rfl)
theorem dJ23_copyOfRangeByte_20 : decode cJ23_copyOfRangeByte 20 = .ok (.arraylength, 1) := dk_190 (dk_at dksJ23_copyOfRangeByte_0 20 rfl rfl)
theorem dJ23_copyOfRangeByte_21 : decode cJ23_copyOfRangeByte 21 = .ok (.iload_n 1, 1) := dk_27 (dk_at dksJ23_copyOfRangeByte_0 21 rfl rfl)
theorem dJ23_copyOfRangeByte_22 : decode cJ23_copyOfRangeByte 22 = .ok (.isub, 1) := dk_100 (dk_at dksJ23_copyOfRangeByte_0 22 rfl rfl)
theorem dJ23_copyOfRangeByte_23 : decode cJ23_copyOfRangeByte 23 = .ok (.iload_n 3, 1) := dk_29 (dk_at dksJ23_copyOfRangeByte_0 23 rfl rfl)
theorem dJ23_copyOfRangeByte_24 : decode cJ23_copyOfRangeByte 24 = .ok (.invokestatic 304, 3) := dk_184 1 48 (dk_at dksJ23_copyOfRangeByte_1 0 rfl rfl)
theorem dJ23_copyOfRangeByte_27 : decode cJ23_copyOfRangeByte 27 = .ok (.invokestatic 150, 3) := dk_184 0 150 (dk_at dksJ23_copyOfRangeByte_1 3 rfl rfl)
theorem dJ23_copyOfRangeByte_30 : decode cJ23_copyOfRangeByte 30 = .ok (.aload 4, 2) := dk_25 4 (dk_at dksJ23_copyOfRangeByte_1 6 rfl rfl)
theorem dJ23_copyOfRangeByte_32 : decode cJ23_copyOfRangeByte 32 = .ok (.areturn, 1) := dk_176 (dk_at dksJ23_copyOfRangeByte_1 8 rfl rfl)
abbrev cJ23_copyOfRange : ByteArray := prog_62_method_132_code
def yJ23_copyOfRange : MethodName := ⟨RJ23, "copyOfRange", "([BII)[B"⟩
def dkwJ23_copyOfRange_1 : List UInt8 := [176]
abbrev dktJ23_copyOfRange_1 : List UInt8 := dkwJ23_copyOfRange_1 ++ []
def dkwJ23_copyOfRange_0 : List UInt8 := [27, 154, 0, 9, 28, 42, 190, 159, 0, 10, 42, 27, 28, 184, 1, 83, 176, 42, 182, 1, 54, 192, 1, 55]
abbrev dktJ23_copyOfRange_0 : List UInt8 := dkwJ23_copyOfRange_0 ++ dktJ23_copyOfRange_1
theorem dksJ23_copyOfRange_0 : cJ23_copyOfRange.data.toList.drop 0 = dktJ23_copyOfRange_0 := by decide +kernel
theorem dksJ23_copyOfRange_1 : cJ23_copyOfRange.data.toList.drop 24 = dktJ23_copyOfRange_1 := dk_seg dksJ23_copyOfRange_0 24 rfl rfl
theorem dJ23_copyOfRange_0 : decode cJ23_copyOfRange 0 = .ok (.iload_n 1, 1) := dk_27 (dk_at dksJ23_copyOfRange_0 0 rfl rfl)
theorem dJ23_copyOfRange_1 : decode cJ23_copyOfRange 1 = .ok (.ifCond .ne 9, 3) := dk_154 0 9 (dk_at dksJ23_copyOfRange_0 1 rfl rfl)
theorem dJ23_copyOfRange_4 : decode cJ23_copyOfRange 4 = .ok (.iload_n 2, 1) := dk_28 (dk_at dksJ23_copyOfRange_0 4 rfl rfl)
theorem dJ23_copyOfRange_5 : decode cJ23_copyOfRange 5 = .ok (.aload_n 0, 1) := dk_42 (dk_at dksJ23_copyOfRange_0 5 rfl rfl)
theorem dJ23_copyOfRange_6 : decode cJ23_copyOfRange 6 = .ok (.arraylength, 1) := dk_190 (dk_at dksJ23_copyOfRange_0 6 rfl rfl)
theorem dJ23_copyOfRange_7 : decode cJ23_copyOfRange 7 = .ok (.if_icmp .eq 10, 3) := dk_159 0 10 (dk_at dksJ23_copyOfRange_0 7 rfl rfl)
theorem dJ23_copyOfRange_10 : decode cJ23_copyOfRange 10 = .ok (.aload_n 0, 1) := dk_42 (dk_at dksJ23_copyOfRange_0 10 rfl rfl)
theorem dJ23_copyOfRange_11 : decode cJ23_copyOfRange 11 = .ok (.iload_n 1, 1) := dk_27 (dk_at dksJ23_copyOfRange_0 11 rfl rfl)
theorem dJ23_copyOfRange_12 : decode cJ23_copyOfRange 12 = .ok (.iload_n 2, 1) := dk_28 (dk_at dksJ23_copyOfRange_0 12 rfl rfl)
theorem dJ23_copyOfRange_13 : decode cJ23_copyOfRange 13 = .ok (.invokestatic 339, 3) := dk_184 1 83 (dk_at dksJ23_copyOfRange_0 13 rfl rfl)
theorem dJ23_copyOfRange_16 : decode cJ23_copyOfRange 16 = .ok (.areturn, 1) := dk_176 (dk_at dksJ23_copyOfRange_0 16 rfl rfl)
theorem dJ23_copyOfRange_17 : decode cJ23_copyOfRange 17 = .ok (.aload_n 0, 1) := dk_42 (dk_at dksJ23_copyOfRange_0 17 rfl rfl)
theorem dJ23_copyOfRange_18 : decode cJ23_copyOfRange 18 = .ok (.invokevirtual 310, 3) := dk_182 1 54 (dk_at dksJ23_copyOfRange_0 18 rfl rfl)
theorem dJ23_copyOfRange_21 : decode cJ23_copyOfRange 21 = .ok (.checkcast 311, 3) := dk_192 1 55 (dk_at dksJ23_copyOfRange_0 21 rfl rfl)
theorem dJ23_copyOfRange_24 : decode cJ23_copyOfRange 24 = .ok (.areturn, 1) := dk_176 (dk_at dksJ23_copyOfRange_1 0 rfl rfl)
abbrev cJ9_init_2 : ByteArray := prog_38_method_150_code
def yJ9_init_2 : MethodName := ⟨RJ9, "<init>", "(Ljava/lang/AbstractStringBuilder;Ljava/lang/Void;)V"⟩
def dkwJ9_init_2_4 : List UInt8 := [181, 0, 9, 177]
abbrev dktJ9_init_2_4 : List UInt8 := dkwJ9_init_2_4 ++ []
def dkwJ9_init_2_3 : List UInt8 := [184, 0, 47, 181, 0, 15, 177, 42, 4, 181, 0, 15, 42, 45, 3, 21, 4, 4, 120, 184, 0, 54]
abbrev dktJ9_init_2_3 : List UInt8 := dkwJ9_init_2_3 ++ dktJ9_init_2_4
def dkwJ9_init_2_2 : List UInt8 := [180, 4, 24, 153, 0, 28, 42, 45, 3, 21, 4, 184, 4, 27, 181, 0, 9, 42, 42, 180, 0, 9, 21, 4]
abbrev dktJ9_init_2_2 : List UInt8 := dkwJ9_init_2_2 ++ dktJ9_init_2_3
def dkwJ9_init_2_1 : List UInt8 := [181, 0, 15, 42, 45, 3, 21, 4, 184, 0, 54, 181, 0, 9, 167, 0, 59, 178, 0, 38, 153, 0, 35, 43]
abbrev dktJ9_init_2_1 : List UInt8 := dkwJ9_init_2_1 ++ dktJ9_init_2_2
def dkwJ9_init_2_0 : List UInt8 := [42, 183, 0, 1, 43, 182, 2, 40, 78, 43, 182, 2, 37, 54, 4, 43, 182, 4, 23, 153, 0, 22, 42, 3]
abbrev dktJ9_init_2_0 : List UInt8 := dkwJ9_init_2_0 ++ dktJ9_init_2_1
theorem dksJ9_init_2_0 : cJ9_init_2.data.toList.drop 0 = dktJ9_init_2_0 := by decide +kernel
theorem dksJ9_init_2_1 : cJ9_init_2.data.toList.drop 24 = dktJ9_init_2_1 := dk_seg dksJ9_init_2_0 24 rfl rfl
theorem dksJ9_init_2_2 : cJ9_init_2.data.toList.drop 48 = dktJ9_init_2_2 := dk_seg dksJ9_init_2_1 24 rfl rfl
theorem dksJ9_init_2_3 : cJ9_init_2.data.toList.drop 72 = dktJ9_init_2_3 := dk_seg dksJ9_init_2_2 24 rfl rfl
theorem dksJ9_init_2_4 : cJ9_init_2.data.toList.drop 94 = dktJ9_init_2_4 := dk_seg dksJ9_init_2_3 22 rfl rfl
theorem dJ9_init_2_0 : decode cJ9_init_2 0 = .ok (.aload_n 0, 1) := dk_42 (dk_at dksJ9_init_2_0 0 rfl rfl)
theorem dJ9_init_2_1 : decode cJ9_init_2 1 = .ok (.invokespecial 1, 3) := dk_183 0 1 (dk_at dksJ9_init_2_0 1 rfl rfl)
theorem dJ9_init_2_4 : decode cJ9_init_2 4 = .ok (.aload_n 1, 1) := dk_43 (dk_at dksJ9_init_2_0 4 rfl rfl)
theorem dJ9_init_2_5 : decode cJ9_init_2 5 = .ok (.invokevirtual 552, 3) := dk_182 2 40 (dk_at dksJ9_init_2_0 5 rfl rfl)
theorem dJ9_init_2_8 : decode cJ9_init_2 8 = .ok (.astore_n 3, 1) := dk_78 (dk_at dksJ9_init_2_0 8 rfl rfl)
theorem dJ9_init_2_9 : decode cJ9_init_2 9 = .ok (.aload_n 1, 1) := dk_43 (dk_at dksJ9_init_2_0 9 rfl rfl)
theorem dJ9_init_2_10 : decode cJ9_init_2 10 = .ok (.invokevirtual 549, 3) := dk_182 2 37 (dk_at dksJ9_init_2_0 10 rfl rfl)
theorem dJ9_init_2_13 : decode cJ9_init_2 13 = .ok (.istore 4, 2) := dk_54 4 (dk_at dksJ9_init_2_0 13 rfl rfl)
theorem dJ9_init_2_15 : decode cJ9_init_2 15 = .ok (.aload_n 1, 1) := dk_43 (dk_at dksJ9_init_2_0 15 rfl rfl)
theorem dJ9_init_2_16 : decode cJ9_init_2 16 = .ok (.invokevirtual 1047, 3) := dk_182 4 23 (dk_at dksJ9_init_2_0 16 rfl rfl)
theorem dJ9_init_2_19 : decode cJ9_init_2 19 = .ok (.ifCond .eq 22, 3) := dk_153 0 22 (dk_at dksJ9_init_2_0 19 rfl rfl)
theorem dJ9_init_2_22 : decode cJ9_init_2 22 = .ok (.aload_n 0, 1) := dk_42 (dk_at dksJ9_init_2_0 22 rfl rfl)
theorem dJ9_init_2_23 : decode cJ9_init_2 23 = .ok (.iconst 0, 1) := dk_3 (dk_at dksJ9_init_2_0 23 rfl rfl)
theorem dJ9_init_2_24 : decode cJ9_init_2 24 = .ok (.putfield 15, 3) := dk_181 0 15 (dk_at dksJ9_init_2_1 0 rfl rfl)
theorem dJ9_init_2_27 : decode cJ9_init_2 27 = .ok (.aload_n 0, 1) := dk_42 (dk_at dksJ9_init_2_1 3 rfl rfl)
theorem dJ9_init_2_28 : decode cJ9_init_2 28 = .ok (.aload_n 3, 1) := dk_45 (dk_at dksJ9_init_2_1 4 rfl rfl)
theorem dJ9_init_2_29 : decode cJ9_init_2 29 = .ok (.iconst 0, 1) := dk_3 (dk_at dksJ9_init_2_1 5 rfl rfl)
theorem dJ9_init_2_30 : decode cJ9_init_2 30 = .ok (.iload 4, 2) := dk_21 4 (dk_at dksJ9_init_2_1 6 rfl rfl)
theorem dJ9_init_2_32 : decode cJ9_init_2 32 = .ok (.invokestatic 54, 3) := dk_184 0 54 (dk_at dksJ9_init_2_1 8 rfl rfl)
theorem dJ9_init_2_35 : decode cJ9_init_2 35 = .ok (.putfield 9, 3) := dk_181 0 9 (dk_at dksJ9_init_2_1 11 rfl rfl)
theorem dJ9_init_2_38 : decode cJ9_init_2 38 = .ok (.goto 59, 3) := dk_167 0 59 (dk_at dksJ9_init_2_1 14 rfl rfl)
theorem dJ9_init_2_41 : decode cJ9_init_2 41 = .ok (.getstatic 38, 3) := dk_178 0 38 (dk_at dksJ9_init_2_1 17 rfl rfl)
theorem dJ9_init_2_44 : decode cJ9_init_2 44 = .ok (.ifCond .eq 35, 3) := dk_153 0 35 (dk_at dksJ9_init_2_1 20 rfl rfl)
theorem dJ9_init_2_47 : decode cJ9_init_2 47 = .ok (.aload_n 1, 1) := dk_43 (dk_at dksJ9_init_2_1 23 rfl rfl)
theorem dJ9_init_2_48 : decode cJ9_init_2 48 = .ok (.getfield 1048, 3) := dk_180 4 24 (dk_at dksJ9_init_2_2 0 rfl rfl)
theorem dJ9_init_2_51 : decode cJ9_init_2 51 = .ok (.ifCond .eq 28, 3) := dk_153 0 28 (dk_at dksJ9_init_2_2 3 rfl rfl)
theorem dJ9_init_2_54 : decode cJ9_init_2 54 = .ok (.aload_n 0, 1) := dk_42 (dk_at dksJ9_init_2_2 6 rfl rfl)
theorem dJ9_init_2_55 : decode cJ9_init_2 55 = .ok (.aload_n 3, 1) := dk_45 (dk_at dksJ9_init_2_2 7 rfl rfl)
theorem dJ9_init_2_56 : decode cJ9_init_2 56 = .ok (.iconst 0, 1) := dk_3 (dk_at dksJ9_init_2_2 8 rfl rfl)
theorem dJ9_init_2_57 : decode cJ9_init_2 57 = .ok (.iload 4, 2) := dk_21 4 (dk_at dksJ9_init_2_2 9 rfl rfl)
theorem dJ9_init_2_59 : decode cJ9_init_2 59 = .ok (.invokestatic 1051, 3) := dk_184 4 27 (dk_at dksJ9_init_2_2 11 rfl rfl)
theorem dJ9_init_2_79 : decode cJ9_init_2 79 = .ok (.aload_n 0, 1) := dk_42 (dk_at dksJ9_init_2_3 7 rfl rfl)
theorem dJ9_init_2_80 : decode cJ9_init_2 80 = .ok (.iconst 1, 1) := dk_4 (dk_at dksJ9_init_2_3 8 rfl rfl)
theorem dJ9_init_2_81 : decode cJ9_init_2 81 = .ok (.putfield 15, 3) := dk_181 0 15 (dk_at dksJ9_init_2_3 9 rfl rfl)
theorem dJ9_init_2_84 : decode cJ9_init_2 84 = .ok (.aload_n 0, 1) := dk_42 (dk_at dksJ9_init_2_3 12 rfl rfl)
theorem dJ9_init_2_85 : decode cJ9_init_2 85 = .ok (.aload_n 3, 1) := dk_45 (dk_at dksJ9_init_2_3 13 rfl rfl)
theorem dJ9_init_2_86 : decode cJ9_init_2 86 = .ok (.iconst 0, 1) := dk_3 (dk_at dksJ9_init_2_3 14 rfl rfl)
theorem dJ9_init_2_87 : decode cJ9_init_2 87 = .ok (.iload 4, 2) := dk_21 4 (dk_at dksJ9_init_2_3 15 rfl rfl)
theorem dJ9_init_2_89 : decode cJ9_init_2 89 = .ok (.iconst 1, 1) := dk_4 (dk_at dksJ9_init_2_3 17 rfl rfl)
theorem dJ9_init_2_90 : decode cJ9_init_2 90 = .ok (.ishl, 1) := dk_120 (dk_at dksJ9_init_2_3 18 rfl rfl)
theorem dJ9_init_2_91 : decode cJ9_init_2 91 = .ok (.invokestatic 54, 3) := dk_184 0 54 (dk_at dksJ9_init_2_3 19 rfl rfl)
theorem dJ9_init_2_94 : decode cJ9_init_2 94 = .ok (.putfield 9, 3) := dk_181 0 9 (dk_at dksJ9_init_2_4 0 rfl rfl)
theorem dJ9_init_2_97 : decode cJ9_init_2 97 = .ok (.return_, 1) := dk_177 (dk_at dksJ9_init_2_4 3 rfl rfl)
abbrev cJ9_init : ByteArray := prog_38_method_53_code
def yJ9_init : MethodName := ⟨RJ9, "<init>", "(Ljava/lang/StringBuilder;)V"⟩
def dkwJ9_init_0 : List UInt8 := [42, 43, 1, 183, 1, 233, 177]
abbrev dktJ9_init_0 : List UInt8 := dkwJ9_init_0 ++ []
theorem dksJ9_init_0 : cJ9_init.data.toList.drop 0 = dktJ9_init_0 := by decide +kernel
theorem dJ9_init_0 : decode cJ9_init 0 = .ok (.aload_n 0, 1) := dk_42 (dk_at dksJ9_init_0 0 rfl rfl)
theorem dJ9_init_1 : decode cJ9_init 1 = .ok (.aload_n 1, 1) := dk_43 (dk_at dksJ9_init_0 1 rfl rfl)
theorem dJ9_init_2 : decode cJ9_init 2 = .ok (.aconst_null, 1) := dk_1 (dk_at dksJ9_init_0 2 rfl rfl)
theorem dJ9_init_3 : decode cJ9_init 3 = .ok (.invokespecial 489, 3) := dk_183 1 233 (dk_at dksJ9_init_0 3 rfl rfl)
theorem dJ9_init_6 : decode cJ9_init 6 = .ok (.return_, 1) := dk_177 (dk_at dksJ9_init_0 6 rfl rfl)
abbrev cJ8_toString : ByteArray := prog_39_method_42_code
def yJ8_toString : MethodName := ⟨RJ8, "toString", "()Ljava/lang/String;"⟩
def dkwJ8_toString_0 : List UInt8 := [187, 0, 18, 89, 42, 183, 0, 137, 176]
abbrev dktJ8_toString_0 : List UInt8 := dkwJ8_toString_0 ++ []
theorem dksJ8_toString_0 : cJ8_toString.data.toList.drop 0 = dktJ8_toString_0 := by decide +kernel
theorem dJ8_toString_0 : decode cJ8_toString 0 = .ok (.new 18, 3) := dk_187 0 18 (dk_at dksJ8_toString_0 0 rfl rfl)
theorem dJ8_toString_3 : decode cJ8_toString 3 = .ok (.dup, 1) := dk_89 (dk_at dksJ8_toString_0 3 rfl rfl)
theorem dJ8_toString_4 : decode cJ8_toString 4 = .ok (.aload_n 0, 1) := dk_42 (dk_at dksJ8_toString_0 4 rfl rfl)
theorem dJ8_toString_5 : decode cJ8_toString 5 = .ok (.invokespecial 137, 3) := dk_183 0 137 (dk_at dksJ8_toString_0 5 rfl rfl)
theorem dJ8_toString_8 : decode cJ8_toString 8 = .ok (.areturn, 1) := dk_176 (dk_at dksJ8_toString_0 8 rfl rfl)
abbrev cX2_ticketsText : ByteArray := prog_14_method_26_code
def yX2_ticketsText : MethodName := ⟨RX2, "ticketsText", "()Ljava/lang/String;"⟩
def dkwX2_ticketsText_4 : List UInt8 := [182, 1, 3, 87, 132, 3, 1, 167, 255, 177, 43, 182, 1, 14, 176]
abbrev dktX2_ticketsText_4 : List UInt8 := dkwX2_ticketsText_4 ++ []
def dkwX2_ticketsText_3 : List UInt8 := [185, 1, 7, 2, 0, 192, 0, 99, 182, 0, 152, 153, 0, 8, 18, 255, 167, 0, 6, 19, 1, 12]
abbrev dktX2_ticketsText_3 : List UInt8 := dkwX2_ticketsText_3 ++ dktX2_ticketsText_4
def dkwX2_ticketsText_2 : List UInt8 := [182, 1, 3, 44, 29, 185, 1, 7, 2, 0, 192, 0, 99, 180, 0, 115, 182, 1, 9, 42, 44, 29]
abbrev dktX2_ticketsText_2 : List UInt8 := dkwX2_ticketsText_2 ++ dktX2_ticketsText_3
def dkwX2_ticketsText_1 : List UInt8 := [185, 0, 254, 1, 0, 184, 0, 173, 162, 0, 70, 43, 29, 154, 0, 8, 18, 255, 167, 0, 6, 19, 1, 1]
abbrev dktX2_ticketsText_1 : List UInt8 := dkwX2_ticketsText_1 ++ dktX2_ticketsText_2
def dkwX2_ticketsText_0 : List UInt8 := [187, 0, 251, 89, 183, 0, 253, 76, 42, 180, 0, 66, 184, 0, 204, 77, 3, 62, 29, 16, 6, 44]
abbrev dktX2_ticketsText_0 : List UInt8 := dkwX2_ticketsText_0 ++ dktX2_ticketsText_1
theorem dksX2_ticketsText_0 : cX2_ticketsText.data.toList.drop 0 = dktX2_ticketsText_0 := by decide +kernel
theorem dksX2_ticketsText_1 : cX2_ticketsText.data.toList.drop 22 = dktX2_ticketsText_1 := dk_seg dksX2_ticketsText_0 22 rfl rfl
theorem dksX2_ticketsText_2 : cX2_ticketsText.data.toList.drop 46 = dktX2_ticketsText_2 := dk_seg dksX2_ticketsText_1 24 rfl rfl
theorem dksX2_ticketsText_3 : cX2_ticketsText.data.toList.drop 68 = dktX2_ticketsText_3 := dk_seg dksX2_ticketsText_2 22 rfl rfl
theorem dksX2_ticketsText_4 : cX2_ticketsText.data.toList.drop 90 = dktX2_ticketsText_4 := dk_seg dksX2_ticketsText_3 22 rfl rfl
theorem dX2_ticketsText_0 : decode cX2_ticketsText 0 = .ok (.new 251, 3) := dk_187 0 251 (dk_at dksX2_ticketsText_0 0 rfl rfl)
theorem dX2_ticketsText_3 : decode cX2_ticketsText 3 = .ok (.dup, 1) := dk_89 (dk_at dksX2_ticketsText_0 3 rfl rfl)
theorem dX2_ticketsText_4 : decode cX2_ticketsText 4 = .ok (.invokespecial 253, 3) := dk_183 0 253 (dk_at dksX2_ticketsText_0 4 rfl rfl)
theorem dX2_ticketsText_7 : decode cX2_ticketsText 7 = .ok (.astore_n 1, 1) := dk_76 (dk_at dksX2_ticketsText_0 7 rfl rfl)
theorem dX2_ticketsText_8 : decode cX2_ticketsText 8 = .ok (.aload_n 0, 1) := dk_42 (dk_at dksX2_ticketsText_0 8 rfl rfl)
theorem dX2_ticketsText_9 : decode cX2_ticketsText 9 = .ok (.getfield 66, 3) := dk_180 0 66 (dk_at dksX2_ticketsText_0 9 rfl rfl)
theorem dX2_ticketsText_12 : decode cX2_ticketsText 12 = .ok (.invokestatic 204, 3) := dk_184 0 204 (dk_at dksX2_ticketsText_0 12 rfl rfl)
theorem dX2_ticketsText_15 : decode cX2_ticketsText 15 = .ok (.astore_n 2, 1) := dk_77 (dk_at dksX2_ticketsText_0 15 rfl rfl)
theorem dX2_ticketsText_16 : decode cX2_ticketsText 16 = .ok (.iconst 0, 1) := dk_3 (dk_at dksX2_ticketsText_0 16 rfl rfl)
theorem dX2_ticketsText_17 : decode cX2_ticketsText 17 = .ok (.istore_n 3, 1) := dk_62 (dk_at dksX2_ticketsText_0 17 rfl rfl)
theorem dX2_ticketsText_18 : decode cX2_ticketsText 18 = .ok (.iload_n 3, 1) := dk_29 (dk_at dksX2_ticketsText_0 18 rfl rfl)
theorem dX2_ticketsText_19 : decode cX2_ticketsText 19 = .ok (.bipush 6, 2) := dk_16 6 (dk_at dksX2_ticketsText_0 19 rfl rfl)
theorem dX2_ticketsText_21 : decode cX2_ticketsText 21 = .ok (.aload_n 2, 1) := dk_44 (dk_at dksX2_ticketsText_0 21 rfl rfl)
theorem dX2_ticketsText_22 : decode cX2_ticketsText 22 = .ok (.invokeinterface 254 1, 5) := by decide +kernel
theorem dX2_ticketsText_27 : decode cX2_ticketsText 27 = .ok (.invokestatic 173, 3) := dk_184 0 173 (dk_at dksX2_ticketsText_1 5 rfl rfl)
theorem dX2_ticketsText_30 : decode cX2_ticketsText 30 = .ok (.if_icmp .ge 70, 3) := dk_162 0 70 (dk_at dksX2_ticketsText_1 8 rfl rfl)
theorem dX2_ticketsText_33 : decode cX2_ticketsText 33 = .ok (.aload_n 1, 1) := dk_43 (dk_at dksX2_ticketsText_1 11 rfl rfl)
theorem dX2_ticketsText_34 : decode cX2_ticketsText 34 = .ok (.iload_n 3, 1) := dk_29 (dk_at dksX2_ticketsText_1 12 rfl rfl)
theorem dX2_ticketsText_35 : decode cX2_ticketsText 35 = .ok (.ifCond .ne 8, 3) := dk_154 0 8 (dk_at dksX2_ticketsText_1 13 rfl rfl)
theorem dX2_ticketsText_38 : decode cX2_ticketsText 38 = .ok (.ldc 255, 2) := dk_18 255 (dk_at dksX2_ticketsText_1 16 rfl rfl)
theorem dX2_ticketsText_40 : decode cX2_ticketsText 40 = .ok (.goto 6, 3) := dk_167 0 6 (dk_at dksX2_ticketsText_1 18 rfl rfl)
theorem dX2_ticketsText_43 : decode cX2_ticketsText 43 = .ok (.ldc_w 257, 3) := dk_19 1 1 (dk_at dksX2_ticketsText_1 21 rfl rfl)
theorem dX2_ticketsText_46 : decode cX2_ticketsText 46 = .ok (.invokevirtual 259, 3) := dk_182 1 3 (dk_at dksX2_ticketsText_2 0 rfl rfl)
theorem dX2_ticketsText_49 : decode cX2_ticketsText 49 = .ok (.aload_n 2, 1) := dk_44 (dk_at dksX2_ticketsText_2 3 rfl rfl)
theorem dX2_ticketsText_50 : decode cX2_ticketsText 50 = .ok (.iload_n 3, 1) := dk_29 (dk_at dksX2_ticketsText_2 4 rfl rfl)
theorem dX2_ticketsText_51 : decode cX2_ticketsText 51 = .ok (.invokeinterface 263 2, 5) := by decide +kernel
theorem dX2_ticketsText_56 : decode cX2_ticketsText 56 = .ok (.checkcast 99, 3) := dk_192 0 99 (dk_at dksX2_ticketsText_2 10 rfl rfl)
theorem dX2_ticketsText_59 : decode cX2_ticketsText 59 = .ok (.getfield 115, 3) := dk_180 0 115 (dk_at dksX2_ticketsText_2 13 rfl rfl)
theorem dX2_ticketsText_62 : decode cX2_ticketsText 62 = .ok (.invokevirtual 265, 3) := dk_182 1 9 (dk_at dksX2_ticketsText_2 16 rfl rfl)
theorem dX2_ticketsText_65 : decode cX2_ticketsText 65 = .ok (.aload_n 0, 1) := dk_42 (dk_at dksX2_ticketsText_2 19 rfl rfl)
theorem dX2_ticketsText_66 : decode cX2_ticketsText 66 = .ok (.aload_n 2, 1) := dk_44 (dk_at dksX2_ticketsText_2 20 rfl rfl)
theorem dX2_ticketsText_67 : decode cX2_ticketsText 67 = .ok (.iload_n 3, 1) := dk_29 (dk_at dksX2_ticketsText_2 21 rfl rfl)
theorem dX2_ticketsText_68 : decode cX2_ticketsText 68 = .ok (.invokeinterface 263 2, 5) := by decide +kernel
theorem dX2_ticketsText_73 : decode cX2_ticketsText 73 = .ok (.checkcast 99, 3) := dk_192 0 99 (dk_at dksX2_ticketsText_3 5 rfl rfl)
theorem dX2_ticketsText_76 : decode cX2_ticketsText 76 = .ok (.invokevirtual 152, 3) := dk_182 0 152 (dk_at dksX2_ticketsText_3 8 rfl rfl)
theorem dX2_ticketsText_79 : decode cX2_ticketsText 79 = .ok (.ifCond .eq 8, 3) := dk_153 0 8 (dk_at dksX2_ticketsText_3 11 rfl rfl)
theorem dX2_ticketsText_82 : decode cX2_ticketsText 82 = .ok (.ldc 255, 2) := dk_18 255 (dk_at dksX2_ticketsText_3 14 rfl rfl)
theorem dX2_ticketsText_84 : decode cX2_ticketsText 84 = .ok (.goto 6, 3) := dk_167 0 6 (dk_at dksX2_ticketsText_3 16 rfl rfl)
theorem dX2_ticketsText_87 : decode cX2_ticketsText 87 = .ok (.ldc_w 268, 3) := dk_19 1 12 (dk_at dksX2_ticketsText_3 19 rfl rfl)
theorem dX2_ticketsText_90 : decode cX2_ticketsText 90 = .ok (.invokevirtual 259, 3) := dk_182 1 3 (dk_at dksX2_ticketsText_4 0 rfl rfl)
theorem dX2_ticketsText_93 : decode cX2_ticketsText 93 = .ok (.pop, 1) := dk_87 (dk_at dksX2_ticketsText_4 3 rfl rfl)
theorem dX2_ticketsText_94 : decode cX2_ticketsText 94 = .ok (.iinc 3 1, 3) := dk_132 3 1 (dk_at dksX2_ticketsText_4 4 rfl rfl)
theorem dX2_ticketsText_97 : decode cX2_ticketsText 97 = .ok (.goto (-79), 3) := dk_167 255 177 (dk_at dksX2_ticketsText_4 7 rfl rfl)
theorem dX2_ticketsText_100 : decode cX2_ticketsText 100 = .ok (.aload_n 1, 1) := dk_43 (dk_at dksX2_ticketsText_4 10 rfl rfl)
theorem dX2_ticketsText_101 : decode cX2_ticketsText 101 = .ok (.invokevirtual 270, 3) := dk_182 1 14 (dk_at dksX2_ticketsText_4 11 rfl rfl)
theorem dX2_ticketsText_104 : decode cX2_ticketsText 104 = .ok (.areturn, 1) := dk_176 (dk_at dksX2_ticketsText_4 14 rfl rfl)
abbrev cX1_renderTickets : ByteArray := prog_1_method_61_code
def yX1_renderTickets : MethodName := ⟨RX1, "renderTickets", "()I"⟩
def dkwX1_renderTickets_0 : List UInt8 := [42, 42, 180, 0, 66, 182, 1, 115, 182, 1, 111, 172]
abbrev dktX1_renderTickets_0 : List UInt8 := dkwX1_renderTickets_0 ++ []
theorem dksX1_renderTickets_0 : cX1_renderTickets.data.toList.drop 0 = dktX1_renderTickets_0 := by decide +kernel
theorem dX1_renderTickets_0 : decode cX1_renderTickets 0 = .ok (.aload_n 0, 1) := dk_42 (dk_at dksX1_renderTickets_0 0 rfl rfl)
theorem dX1_renderTickets_1 : decode cX1_renderTickets 1 = .ok (.aload_n 0, 1) := dk_42 (dk_at dksX1_renderTickets_0 1 rfl rfl)
theorem dX1_renderTickets_2 : decode cX1_renderTickets 2 = .ok (.getfield 66, 3) := dk_180 0 66 (dk_at dksX1_renderTickets_0 2 rfl rfl)
theorem dX1_renderTickets_5 : decode cX1_renderTickets 5 = .ok (.invokevirtual 371, 3) := dk_182 1 115 (dk_at dksX1_renderTickets_0 5 rfl rfl)
theorem dX1_renderTickets_8 : decode cX1_renderTickets 8 = .ok (.invokevirtual 367, 3) := dk_182 1 111 (dk_at dksX1_renderTickets_0 8 rfl rfl)
theorem dX1_renderTickets_11 : decode cX1_renderTickets 11 = .ok (.ireturn, 1) := dk_172 (dk_at dksX1_renderTickets_0 11 rfl rfl)
abbrev cX1_save : ByteArray := prog_1_method_71_code
def yX1_save : MethodName := ⟨RX1, "save", "()I"⟩
def dkwX1_save_0 : List UInt8 := [42, 42, 180, 0, 66, 181, 1, 180, 42, 182, 0, 190, 172]
abbrev dktX1_save_0 : List UInt8 := dkwX1_save_0 ++ []
theorem dksX1_save_0 : cX1_save.data.toList.drop 0 = dktX1_save_0 := by decide +kernel
theorem dX1_save_0 : decode cX1_save 0 = .ok (.aload_n 0, 1) := dk_42 (dk_at dksX1_save_0 0 rfl rfl)
theorem dX1_save_1 : decode cX1_save 1 = .ok (.aload_n 0, 1) := dk_42 (dk_at dksX1_save_0 1 rfl rfl)
theorem dX1_save_2 : decode cX1_save 2 = .ok (.getfield 66, 3) := dk_180 0 66 (dk_at dksX1_save_0 2 rfl rfl)
theorem dX1_save_5 : decode cX1_save 5 = .ok (.putfield 436, 3) := dk_181 1 180 (dk_at dksX1_save_0 5 rfl rfl)
theorem dX1_save_8 : decode cX1_save 8 = .ok (.aload_n 0, 1) := dk_42 (dk_at dksX1_save_0 8 rfl rfl)
theorem dX1_save_9 : decode cX1_save 9 = .ok (.invokevirtual 190, 3) := dk_182 0 190 (dk_at dksX1_save_0 9 rfl rfl)
theorem dX1_save_12 : decode cX1_save 12 = .ok (.ireturn, 1) := dk_172 (dk_at dksX1_save_0 12 rfl rfl)
abbrev cX1_servedTotal : ByteArray := prog_1_method_49_code
def yX1_servedTotal : MethodName := ⟨RX1, "servedTotal", "()I"⟩
def dkwX1_servedTotal_0 : List UInt8 := [42, 180, 0, 66, 180, 1, 72, 172]
abbrev dktX1_servedTotal_0 : List UInt8 := dkwX1_servedTotal_0 ++ []
theorem dksX1_servedTotal_0 : cX1_servedTotal.data.toList.drop 0 = dktX1_servedTotal_0 := by decide +kernel
theorem dX1_servedTotal_0 : decode cX1_servedTotal 0 = .ok (.aload_n 0, 1) := dk_42 (dk_at dksX1_servedTotal_0 0 rfl rfl)
theorem dX1_servedTotal_1 : decode cX1_servedTotal 1 = .ok (.getfield 66, 3) := dk_180 0 66 (dk_at dksX1_servedTotal_0 1 rfl rfl)
theorem dX1_servedTotal_4 : decode cX1_servedTotal 4 = .ok (.getfield 328, 3) := dk_180 1 72 (dk_at dksX1_servedTotal_0 4 rfl rfl)
theorem dX1_servedTotal_7 : decode cX1_servedTotal 7 = .ok (.ireturn, 1) := dk_172 (dk_at dksX1_servedTotal_0 7 rfl rfl)
abbrev cX2_staleCount : ByteArray := prog_14_method_10_code
def yX2_staleCount : MethodName := ⟨RX2, "staleCount", "()I"⟩
def dkwX2_staleCount_0 : List UInt8 := [42, 180, 0, 70, 42, 180, 0, 12, 182, 0, 160, 100, 172]
abbrev dktX2_staleCount_0 : List UInt8 := dkwX2_staleCount_0 ++ []
theorem dksX2_staleCount_0 : cX2_staleCount.data.toList.drop 0 = dktX2_staleCount_0 := by decide +kernel
theorem dX2_staleCount_0 : decode cX2_staleCount 0 = .ok (.aload_n 0, 1) := dk_42 (dk_at dksX2_staleCount_0 0 rfl rfl)
theorem dX2_staleCount_1 : decode cX2_staleCount 1 = .ok (.getfield 70, 3) := dk_180 0 70 (dk_at dksX2_staleCount_0 1 rfl rfl)
theorem dX2_staleCount_4 : decode cX2_staleCount 4 = .ok (.aload_n 0, 1) := dk_42 (dk_at dksX2_staleCount_0 4 rfl rfl)
theorem dX2_staleCount_5 : decode cX2_staleCount 5 = .ok (.getfield 12, 3) := dk_180 0 12 (dk_at dksX2_staleCount_0 5 rfl rfl)
theorem dX2_staleCount_8 : decode cX2_staleCount 8 = .ok (.invokevirtual 160, 3) := dk_182 0 160 (dk_at dksX2_staleCount_0 8 rfl rfl)
theorem dX2_staleCount_11 : decode cX2_staleCount 11 = .ok (.isub, 1) := dk_100 (dk_at dksX2_staleCount_0 11 rfl rfl)
theorem dX2_staleCount_12 : decode cX2_staleCount 12 = .ok (.ireturn, 1) := dk_172 (dk_at dksX2_staleCount_0 12 rfl rfl)
abbrev cX1_staleCount : ByteArray := prog_1_method_33_code
def yX1_staleCount : MethodName := ⟨RX1, "staleCount", "()I"⟩
def dkwX1_staleCount_0 : List UInt8 := [42, 180, 0, 66, 182, 0, 240, 172]
abbrev dktX1_staleCount_0 : List UInt8 := dkwX1_staleCount_0 ++ []
theorem dksX1_staleCount_0 : cX1_staleCount.data.toList.drop 0 = dktX1_staleCount_0 := by decide +kernel
theorem dX1_staleCount_0 : decode cX1_staleCount 0 = .ok (.aload_n 0, 1) := dk_42 (dk_at dksX1_staleCount_0 0 rfl rfl)
theorem dX1_staleCount_1 : decode cX1_staleCount 1 = .ok (.getfield 66, 3) := dk_180 0 66 (dk_at dksX1_staleCount_0 1 rfl rfl)
theorem dX1_staleCount_4 : decode cX1_staleCount 4 = .ok (.invokevirtual 240, 3) := dk_182 0 240 (dk_at dksX1_staleCount_0 4 rfl rfl)
theorem dX1_staleCount_7 : decode cX1_staleCount 7 = .ok (.ireturn, 1) := dk_172 (dk_at dksX1_staleCount_0 7 rfl rfl)
abbrev cX1_thrownTotal : ByteArray := prog_1_method_53_code
def yX1_thrownTotal : MethodName := ⟨RX1, "thrownTotal", "()I"⟩
def dkwX1_thrownTotal_0 : List UInt8 := [42, 180, 0, 66, 180, 1, 84, 172]
abbrev dktX1_thrownTotal_0 : List UInt8 := dkwX1_thrownTotal_0 ++ []
theorem dksX1_thrownTotal_0 : cX1_thrownTotal.data.toList.drop 0 = dktX1_thrownTotal_0 := by decide +kernel
theorem dX1_thrownTotal_0 : decode cX1_thrownTotal 0 = .ok (.aload_n 0, 1) := dk_42 (dk_at dksX1_thrownTotal_0 0 rfl rfl)
theorem dX1_thrownTotal_1 : decode cX1_thrownTotal 1 = .ok (.getfield 66, 3) := dk_180 0 66 (dk_at dksX1_thrownTotal_0 1 rfl rfl)
theorem dX1_thrownTotal_4 : decode cX1_thrownTotal 4 = .ok (.getfield 340, 3) := dk_180 1 84 (dk_at dksX1_thrownTotal_0 4 rfl rfl)
theorem dX1_thrownTotal_7 : decode cX1_thrownTotal 7 = .ok (.ireturn, 1) := dk_172 (dk_at dksX1_thrownTotal_0 7 rfl rfl)
abbrev cX1_ticketCount : ByteArray := prog_1_method_32_code
def yX1_ticketCount : MethodName := ⟨RX1, "ticketCount", "()I"⟩
def dkwX1_ticketCount_0 : List UInt8 := [42, 180, 0, 66, 180, 0, 238, 172]
abbrev dktX1_ticketCount_0 : List UInt8 := dkwX1_ticketCount_0 ++ []
theorem dksX1_ticketCount_0 : cX1_ticketCount.data.toList.drop 0 = dktX1_ticketCount_0 := by decide +kernel
theorem dX1_ticketCount_0 : decode cX1_ticketCount 0 = .ok (.aload_n 0, 1) := dk_42 (dk_at dksX1_ticketCount_0 0 rfl rfl)
theorem dX1_ticketCount_1 : decode cX1_ticketCount 1 = .ok (.getfield 66, 3) := dk_180 0 66 (dk_at dksX1_ticketCount_0 1 rfl rfl)
theorem dX1_ticketCount_4 : decode cX1_ticketCount 4 = .ok (.getfield 238, 3) := dk_180 0 238 (dk_at dksX1_ticketCount_0 4 rfl rfl)
theorem dX1_ticketCount_7 : decode cX1_ticketCount 7 = .ok (.ireturn, 1) := dk_172 (dk_at dksX1_ticketCount_0 7 rfl rfl)
abbrev cX1_ticketsByAccounts : ByteArray := prog_1_method_54_code
def yX1_ticketsByAccounts : MethodName := ⟨RX1, "ticketsByAccounts", "()I"⟩
def dkwX1_ticketsByAccounts_0 : List UInt8 := [42, 180, 0, 66, 182, 1, 87, 172]
abbrev dktX1_ticketsByAccounts_0 : List UInt8 := dkwX1_ticketsByAccounts_0 ++ []
theorem dksX1_ticketsByAccounts_0 : cX1_ticketsByAccounts.data.toList.drop 0 = dktX1_ticketsByAccounts_0 := by decide +kernel
theorem dX1_ticketsByAccounts_0 : decode cX1_ticketsByAccounts 0 = .ok (.aload_n 0, 1) := dk_42 (dk_at dksX1_ticketsByAccounts_0 0 rfl rfl)
theorem dX1_ticketsByAccounts_1 : decode cX1_ticketsByAccounts 1 = .ok (.getfield 66, 3) := dk_180 0 66 (dk_at dksX1_ticketsByAccounts_0 1 rfl rfl)
theorem dX1_ticketsByAccounts_4 : decode cX1_ticketsByAccounts 4 = .ok (.invokevirtual 343, 3) := dk_182 1 87 (dk_at dksX1_ticketsByAccounts_0 4 rfl rfl)
theorem dX1_ticketsByAccounts_7 : decode cX1_ticketsByAccounts 7 = .ok (.ireturn, 1) := dk_172 (dk_at dksX1_ticketsByAccounts_0 7 rfl rfl)
abbrev cX1_addLion : ByteArray := prog_1_method_7_code
def yX1_addLion : MethodName := ⟨RX1, "addLion", "(III)I"⟩
def dkwX1_addLion_0 : List UInt8 := [42, 18, 127, 6, 188, 10, 89, 3, 27, 79, 89, 4, 28, 79, 89, 5, 29, 79, 182, 0, 129, 172]
abbrev dktX1_addLion_0 : List UInt8 := dkwX1_addLion_0 ++ []
theorem dksX1_addLion_0 : cX1_addLion.data.toList.drop 0 = dktX1_addLion_0 := by decide +kernel
theorem dX1_addLion_0 : decode cX1_addLion 0 = .ok (.aload_n 0, 1) := dk_42 (dk_at dksX1_addLion_0 0 rfl rfl)
theorem dX1_addLion_1 : decode cX1_addLion 1 = .ok (.ldc 127, 2) := dk_18 127 (dk_at dksX1_addLion_0 1 rfl rfl)
theorem dX1_addLion_3 : decode cX1_addLion 3 = .ok (.iconst 3, 1) := dk_6 (dk_at dksX1_addLion_0 3 rfl rfl)
theorem dX1_addLion_4 : decode cX1_addLion 4 = .ok (.newarray .int, 2) := dk_188_10 (dk_at dksX1_addLion_0 4 rfl rfl)
theorem dX1_addLion_6 : decode cX1_addLion 6 = .ok (.dup, 1) := dk_89 (dk_at dksX1_addLion_0 6 rfl rfl)
theorem dX1_addLion_7 : decode cX1_addLion 7 = .ok (.iconst 0, 1) := dk_3 (dk_at dksX1_addLion_0 7 rfl rfl)
theorem dX1_addLion_8 : decode cX1_addLion 8 = .ok (.iload_n 1, 1) := dk_27 (dk_at dksX1_addLion_0 8 rfl rfl)
theorem dX1_addLion_9 : decode cX1_addLion 9 = .ok (.iastore, 1) := dk_79 (dk_at dksX1_addLion_0 9 rfl rfl)
theorem dX1_addLion_10 : decode cX1_addLion 10 = .ok (.dup, 1) := dk_89 (dk_at dksX1_addLion_0 10 rfl rfl)
theorem dX1_addLion_11 : decode cX1_addLion 11 = .ok (.iconst 1, 1) := dk_4 (dk_at dksX1_addLion_0 11 rfl rfl)
theorem dX1_addLion_12 : decode cX1_addLion 12 = .ok (.iload_n 2, 1) := dk_28 (dk_at dksX1_addLion_0 12 rfl rfl)
theorem dX1_addLion_13 : decode cX1_addLion 13 = .ok (.iastore, 1) := dk_79 (dk_at dksX1_addLion_0 13 rfl rfl)
theorem dX1_addLion_14 : decode cX1_addLion 14 = .ok (.dup, 1) := dk_89 (dk_at dksX1_addLion_0 14 rfl rfl)
theorem dX1_addLion_15 : decode cX1_addLion 15 = .ok (.iconst 2, 1) := dk_5 (dk_at dksX1_addLion_0 15 rfl rfl)
theorem dX1_addLion_16 : decode cX1_addLion 16 = .ok (.iload_n 3, 1) := dk_29 (dk_at dksX1_addLion_0 16 rfl rfl)
theorem dX1_addLion_17 : decode cX1_addLion 17 = .ok (.iastore, 1) := dk_79 (dk_at dksX1_addLion_0 17 rfl rfl)
theorem dX1_addLion_18 : decode cX1_addLion 18 = .ok (.invokevirtual 129, 3) := dk_182 0 129 (dk_at dksX1_addLion_0 18 rfl rfl)
theorem dX1_addLion_21 : decode cX1_addLion 21 = .ok (.ireturn, 1) := dk_172 (dk_at dksX1_addLion_0 21 rfl rfl)
abbrev cX0_addLion : ByteArray := method_3_code
def yX0_addLion : MethodName := ⟨RX0, "addLion", "(LLionGate;III[J)I"⟩
def dkwX0_addLion_1 : List UInt8 := [172]
abbrev dktX0_addLion_1 : List UInt8 := dkwX0_addLion_1 ++ []
def dkwX0_addLion_0 : List UInt8 := [25, 4, 3, 42, 27, 28, 29, 182, 0, 7, 133, 80, 167, 0, 11, 58, 5, 4, 172, 58, 5, 5, 172, 3]
abbrev dktX0_addLion_0 : List UInt8 := dkwX0_addLion_0 ++ dktX0_addLion_1
theorem dksX0_addLion_0 : cX0_addLion.data.toList.drop 0 = dktX0_addLion_0 := by decide +kernel
theorem dksX0_addLion_1 : cX0_addLion.data.toList.drop 24 = dktX0_addLion_1 := dk_seg dksX0_addLion_0 24 rfl rfl
theorem dX0_addLion_0 : decode cX0_addLion 0 = .ok (.aload 4, 2) := dk_25 4 (dk_at dksX0_addLion_0 0 rfl rfl)
theorem dX0_addLion_2 : decode cX0_addLion 2 = .ok (.iconst 0, 1) := dk_3 (dk_at dksX0_addLion_0 2 rfl rfl)
theorem dX0_addLion_3 : decode cX0_addLion 3 = .ok (.aload_n 0, 1) := dk_42 (dk_at dksX0_addLion_0 3 rfl rfl)
theorem dX0_addLion_4 : decode cX0_addLion 4 = .ok (.iload_n 1, 1) := dk_27 (dk_at dksX0_addLion_0 4 rfl rfl)
theorem dX0_addLion_5 : decode cX0_addLion 5 = .ok (.iload_n 2, 1) := dk_28 (dk_at dksX0_addLion_0 5 rfl rfl)
theorem dX0_addLion_6 : decode cX0_addLion 6 = .ok (.iload_n 3, 1) := dk_29 (dk_at dksX0_addLion_0 6 rfl rfl)
theorem dX0_addLion_7 : decode cX0_addLion 7 = .ok (.invokevirtual 7, 3) := dk_182 0 7 (dk_at dksX0_addLion_0 7 rfl rfl)
theorem dX0_addLion_10 : decode cX0_addLion 10 = .ok (.i2l, 1) := dk_133 (dk_at dksX0_addLion_0 10 rfl rfl)
theorem dX0_addLion_11 : decode cX0_addLion 11 = .ok (.lastore, 1) := dk_80 (dk_at dksX0_addLion_0 11 rfl rfl)
theorem dX0_addLion_12 : decode cX0_addLion 12 = .ok (.goto 11, 3) := dk_167 0 11 (dk_at dksX0_addLion_0 12 rfl rfl)
theorem dX0_addLion_15 : decode cX0_addLion 15 = .ok (.astore 5, 2) := dk_58 5 (dk_at dksX0_addLion_0 15 rfl rfl)
theorem dX0_addLion_17 : decode cX0_addLion 17 = .ok (.iconst 1, 1) := dk_4 (dk_at dksX0_addLion_0 17 rfl rfl)
theorem dX0_addLion_18 : decode cX0_addLion 18 = .ok (.ireturn, 1) := dk_172 (dk_at dksX0_addLion_0 18 rfl rfl)
theorem dX0_addLion_19 : decode cX0_addLion 19 = .ok (.astore 5, 2) := dk_58 5 (dk_at dksX0_addLion_0 19 rfl rfl)
theorem dX0_addLion_21 : decode cX0_addLion 21 = .ok (.iconst 2, 1) := dk_5 (dk_at dksX0_addLion_0 21 rfl rfl)
theorem dX0_addLion_22 : decode cX0_addLion 22 = .ok (.ireturn, 1) := dk_172 (dk_at dksX0_addLion_0 22 rfl rfl)
theorem dX0_addLion_23 : decode cX0_addLion 23 = .ok (.iconst 0, 1) := dk_3 (dk_at dksX0_addLion_0 23 rfl rfl)
theorem dX0_addLion_24 : decode cX0_addLion 24 = .ok (.ireturn, 1) := dk_172 (dk_at dksX0_addLion_1 0 rfl rfl)
abbrev cX1_checkElement : ByteArray := prog_1_method_18_code
def yX1_checkElement : MethodName := ⟨RX1, "checkElement", "(Z)V"⟩
def dkwX1_checkElement_0 : List UInt8 := [26, 154, 0, 11, 187, 0, 155, 89, 183, 0, 157, 191, 177]
abbrev dktX1_checkElement_0 : List UInt8 := dkwX1_checkElement_0 ++ []
theorem dksX1_checkElement_0 : cX1_checkElement.data.toList.drop 0 = dktX1_checkElement_0 := by decide +kernel
theorem dX1_checkElement_0 : decode cX1_checkElement 0 = .ok (.iload_n 0, 1) := dk_26 (dk_at dksX1_checkElement_0 0 rfl rfl)
theorem dX1_checkElement_1 : decode cX1_checkElement 1 = .ok (.ifCond .ne 11, 3) := dk_154 0 11 (dk_at dksX1_checkElement_0 1 rfl rfl)
theorem dX1_checkElement_4 : decode cX1_checkElement 4 = .ok (.new 155, 3) := dk_187 0 155 (dk_at dksX1_checkElement_0 4 rfl rfl)
theorem dX1_checkElement_7 : decode cX1_checkElement 7 = .ok (.dup, 1) := dk_89 (dk_at dksX1_checkElement_0 7 rfl rfl)
theorem dX1_checkElement_8 : decode cX1_checkElement 8 = .ok (.invokespecial 157, 3) := dk_183 0 157 (dk_at dksX1_checkElement_0 8 rfl rfl)
theorem dX1_checkElement_11 : decode cX1_checkElement 11 = .ok (.athrow, 1) := dk_191 (dk_at dksX1_checkElement_0 11 rfl rfl)
theorem dX1_checkElement_12 : decode cX1_checkElement 12 = .ok (.return_, 1) := dk_177 (dk_at dksX1_checkElement_0 12 rfl rfl)
abbrev cX1_lionWith : ByteArray := prog_1_method_22_code
def yX1_lionWith : MethodName := ⟨RX1, "lionWith", "(I)LLionGate$Lion;"⟩
def dkwX1_lionWith_1 : List UInt8 := [182, 0, 182, 192, 0, 187, 176]
abbrev dktX1_lionWith_1 : List UInt8 := dkwX1_lionWith_1 ++ []
def dkwX1_lionWith_0 : List UInt8 := [42, 180, 0, 66, 27, 182, 0, 168, 184, 0, 164, 42, 180, 0, 66, 180, 0, 172, 27, 184, 0, 176]
abbrev dktX1_lionWith_0 : List UInt8 := dkwX1_lionWith_0 ++ dktX1_lionWith_1
theorem dksX1_lionWith_0 : cX1_lionWith.data.toList.drop 0 = dktX1_lionWith_0 := by decide +kernel
theorem dksX1_lionWith_1 : cX1_lionWith.data.toList.drop 22 = dktX1_lionWith_1 := dk_seg dksX1_lionWith_0 22 rfl rfl
theorem dX1_lionWith_0 : decode cX1_lionWith 0 = .ok (.aload_n 0, 1) := dk_42 (dk_at dksX1_lionWith_0 0 rfl rfl)
theorem dX1_lionWith_1 : decode cX1_lionWith 1 = .ok (.getfield 66, 3) := dk_180 0 66 (dk_at dksX1_lionWith_0 1 rfl rfl)
theorem dX1_lionWith_4 : decode cX1_lionWith 4 = .ok (.iload_n 1, 1) := dk_27 (dk_at dksX1_lionWith_0 4 rfl rfl)
theorem dX1_lionWith_5 : decode cX1_lionWith 5 = .ok (.invokevirtual 168, 3) := dk_182 0 168 (dk_at dksX1_lionWith_0 5 rfl rfl)
theorem dX1_lionWith_8 : decode cX1_lionWith 8 = .ok (.invokestatic 164, 3) := dk_184 0 164 (dk_at dksX1_lionWith_0 8 rfl rfl)
theorem dX1_lionWith_11 : decode cX1_lionWith 11 = .ok (.aload_n 0, 1) := dk_42 (dk_at dksX1_lionWith_0 11 rfl rfl)
theorem dX1_lionWith_12 : decode cX1_lionWith 12 = .ok (.getfield 66, 3) := dk_180 0 66 (dk_at dksX1_lionWith_0 12 rfl rfl)
theorem dX1_lionWith_15 : decode cX1_lionWith 15 = .ok (.getfield 172, 3) := dk_180 0 172 (dk_at dksX1_lionWith_0 15 rfl rfl)
theorem dX1_lionWith_18 : decode cX1_lionWith 18 = .ok (.iload_n 1, 1) := dk_27 (dk_at dksX1_lionWith_0 18 rfl rfl)
theorem dX1_lionWith_19 : decode cX1_lionWith 19 = .ok (.invokestatic 176, 3) := dk_184 0 176 (dk_at dksX1_lionWith_0 19 rfl rfl)
theorem dX1_lionWith_22 : decode cX1_lionWith 22 = .ok (.invokevirtual 182, 3) := dk_182 0 182 (dk_at dksX1_lionWith_1 0 rfl rfl)
theorem dX1_lionWith_25 : decode cX1_lionWith 25 = .ok (.checkcast 187, 3) := dk_192 0 187 (dk_at dksX1_lionWith_1 3 rfl rfl)
theorem dX1_lionWith_28 : decode cX1_lionWith 28 = .ok (.areturn, 1) := dk_176 (dk_at dksX1_lionWith_1 6 rfl rfl)
abbrev cX1_deadlineOf : ByteArray := prog_1_method_27_code
def yX1_deadlineOf : MethodName := ⟨RX1, "deadlineOf", "(I)I"⟩
def dkwX1_deadlineOf_0 : List UInt8 := [42, 27, 182, 0, 208, 180, 0, 218, 172]
abbrev dktX1_deadlineOf_0 : List UInt8 := dkwX1_deadlineOf_0 ++ []
theorem dksX1_deadlineOf_0 : cX1_deadlineOf.data.toList.drop 0 = dktX1_deadlineOf_0 := by decide +kernel
theorem dX1_deadlineOf_0 : decode cX1_deadlineOf 0 = .ok (.aload_n 0, 1) := dk_42 (dk_at dksX1_deadlineOf_0 0 rfl rfl)
theorem dX1_deadlineOf_1 : decode cX1_deadlineOf 1 = .ok (.iload_n 1, 1) := dk_27 (dk_at dksX1_deadlineOf_0 1 rfl rfl)
theorem dX1_deadlineOf_2 : decode cX1_deadlineOf 2 = .ok (.invokevirtual 208, 3) := dk_182 0 208 (dk_at dksX1_deadlineOf_0 2 rfl rfl)
theorem dX1_deadlineOf_5 : decode cX1_deadlineOf 5 = .ok (.getfield 218, 3) := dk_180 0 218 (dk_at dksX1_deadlineOf_0 5 rfl rfl)
theorem dX1_deadlineOf_8 : decode cX1_deadlineOf 8 = .ok (.ireturn, 1) := dk_172 (dk_at dksX1_deadlineOf_0 8 rfl rfl)
abbrev cX0_deadlineOf : ByteArray := method_14_code
def yX0_deadlineOf : MethodName := ⟨RX0, "deadlineOf", "(LLionGate;I[J)I"⟩
def dkwX0_deadlineOf_0 : List UInt8 := [44, 3, 42, 27, 182, 0, 56, 133, 80, 167, 0, 6, 78, 4, 172, 3, 172]
abbrev dktX0_deadlineOf_0 : List UInt8 := dkwX0_deadlineOf_0 ++ []
theorem dksX0_deadlineOf_0 : cX0_deadlineOf.data.toList.drop 0 = dktX0_deadlineOf_0 := by decide +kernel
theorem dX0_deadlineOf_0 : decode cX0_deadlineOf 0 = .ok (.aload_n 2, 1) := dk_44 (dk_at dksX0_deadlineOf_0 0 rfl rfl)
theorem dX0_deadlineOf_1 : decode cX0_deadlineOf 1 = .ok (.iconst 0, 1) := dk_3 (dk_at dksX0_deadlineOf_0 1 rfl rfl)
theorem dX0_deadlineOf_2 : decode cX0_deadlineOf 2 = .ok (.aload_n 0, 1) := dk_42 (dk_at dksX0_deadlineOf_0 2 rfl rfl)
theorem dX0_deadlineOf_3 : decode cX0_deadlineOf 3 = .ok (.iload_n 1, 1) := dk_27 (dk_at dksX0_deadlineOf_0 3 rfl rfl)
theorem dX0_deadlineOf_4 : decode cX0_deadlineOf 4 = .ok (.invokevirtual 56, 3) := dk_182 0 56 (dk_at dksX0_deadlineOf_0 4 rfl rfl)
theorem dX0_deadlineOf_7 : decode cX0_deadlineOf 7 = .ok (.i2l, 1) := dk_133 (dk_at dksX0_deadlineOf_0 7 rfl rfl)
theorem dX0_deadlineOf_8 : decode cX0_deadlineOf 8 = .ok (.lastore, 1) := dk_80 (dk_at dksX0_deadlineOf_0 8 rfl rfl)
theorem dX0_deadlineOf_9 : decode cX0_deadlineOf 9 = .ok (.goto 6, 3) := dk_167 0 6 (dk_at dksX0_deadlineOf_0 9 rfl rfl)
theorem dX0_deadlineOf_12 : decode cX0_deadlineOf 12 = .ok (.astore_n 3, 1) := dk_78 (dk_at dksX0_deadlineOf_0 12 rfl rfl)
theorem dX0_deadlineOf_13 : decode cX0_deadlineOf 13 = .ok (.iconst 1, 1) := dk_4 (dk_at dksX0_deadlineOf_0 13 rfl rfl)
theorem dX0_deadlineOf_14 : decode cX0_deadlineOf 14 = .ok (.ireturn, 1) := dk_172 (dk_at dksX0_deadlineOf_0 14 rfl rfl)
theorem dX0_deadlineOf_15 : decode cX0_deadlineOf 15 = .ok (.iconst 0, 1) := dk_3 (dk_at dksX0_deadlineOf_0 15 rfl rfl)
theorem dX0_deadlineOf_16 : decode cX0_deadlineOf 16 = .ok (.ireturn, 1) := dk_172 (dk_at dksX0_deadlineOf_0 16 rfl rfl)
abbrev cX1_dismissKeeper : ByteArray := prog_1_method_14_code
def yX1_dismissKeeper : MethodName := ⟨RX1, "dismissKeeper", "(I)I"⟩
def dkwX1_dismissKeeper_0 : List UInt8 := [42, 18, 145, 4, 188, 10, 89, 3, 27, 79, 182, 0, 129, 172]
abbrev dktX1_dismissKeeper_0 : List UInt8 := dkwX1_dismissKeeper_0 ++ []
theorem dksX1_dismissKeeper_0 : cX1_dismissKeeper.data.toList.drop 0 = dktX1_dismissKeeper_0 := by decide +kernel
theorem dX1_dismissKeeper_0 : decode cX1_dismissKeeper 0 = .ok (.aload_n 0, 1) := dk_42 (dk_at dksX1_dismissKeeper_0 0 rfl rfl)
theorem dX1_dismissKeeper_1 : decode cX1_dismissKeeper 1 = .ok (.ldc 145, 2) := dk_18 145 (dk_at dksX1_dismissKeeper_0 1 rfl rfl)
theorem dX1_dismissKeeper_3 : decode cX1_dismissKeeper 3 = .ok (.iconst 1, 1) := dk_4 (dk_at dksX1_dismissKeeper_0 3 rfl rfl)
theorem dX1_dismissKeeper_4 : decode cX1_dismissKeeper 4 = .ok (.newarray .int, 2) := dk_188_10 (dk_at dksX1_dismissKeeper_0 4 rfl rfl)
theorem dX1_dismissKeeper_6 : decode cX1_dismissKeeper 6 = .ok (.dup, 1) := dk_89 (dk_at dksX1_dismissKeeper_0 6 rfl rfl)
theorem dX1_dismissKeeper_7 : decode cX1_dismissKeeper 7 = .ok (.iconst 0, 1) := dk_3 (dk_at dksX1_dismissKeeper_0 7 rfl rfl)
theorem dX1_dismissKeeper_8 : decode cX1_dismissKeeper 8 = .ok (.iload_n 1, 1) := dk_27 (dk_at dksX1_dismissKeeper_0 8 rfl rfl)
theorem dX1_dismissKeeper_9 : decode cX1_dismissKeeper 9 = .ok (.iastore, 1) := dk_79 (dk_at dksX1_dismissKeeper_0 9 rfl rfl)
theorem dX1_dismissKeeper_10 : decode cX1_dismissKeeper 10 = .ok (.invokevirtual 129, 3) := dk_182 0 129 (dk_at dksX1_dismissKeeper_0 10 rfl rfl)
theorem dX1_dismissKeeper_13 : decode cX1_dismissKeeper 13 = .ok (.ireturn, 1) := dk_172 (dk_at dksX1_dismissKeeper_0 13 rfl rfl)
abbrev cX0_dismissKeeper : ByteArray := method_9_code
def yX0_dismissKeeper : MethodName := ⟨RX0, "dismissKeeper", "(LLionGate;I[J)I"⟩
def dkwX0_dismissKeeper_0 : List UInt8 := [44, 3, 42, 27, 182, 0, 39, 133, 80, 167, 0, 6, 78, 4, 172, 3, 172]
abbrev dktX0_dismissKeeper_0 : List UInt8 := dkwX0_dismissKeeper_0 ++ []
theorem dksX0_dismissKeeper_0 : cX0_dismissKeeper.data.toList.drop 0 = dktX0_dismissKeeper_0 := by decide +kernel
theorem dX0_dismissKeeper_0 : decode cX0_dismissKeeper 0 = .ok (.aload_n 2, 1) := dk_44 (dk_at dksX0_dismissKeeper_0 0 rfl rfl)
theorem dX0_dismissKeeper_1 : decode cX0_dismissKeeper 1 = .ok (.iconst 0, 1) := dk_3 (dk_at dksX0_dismissKeeper_0 1 rfl rfl)
theorem dX0_dismissKeeper_2 : decode cX0_dismissKeeper 2 = .ok (.aload_n 0, 1) := dk_42 (dk_at dksX0_dismissKeeper_0 2 rfl rfl)
theorem dX0_dismissKeeper_3 : decode cX0_dismissKeeper 3 = .ok (.iload_n 1, 1) := dk_27 (dk_at dksX0_dismissKeeper_0 3 rfl rfl)
theorem dX0_dismissKeeper_4 : decode cX0_dismissKeeper 4 = .ok (.invokevirtual 39, 3) := dk_182 0 39 (dk_at dksX0_dismissKeeper_0 4 rfl rfl)
theorem dX0_dismissKeeper_7 : decode cX0_dismissKeeper 7 = .ok (.i2l, 1) := dk_133 (dk_at dksX0_dismissKeeper_0 7 rfl rfl)
theorem dX0_dismissKeeper_8 : decode cX0_dismissKeeper 8 = .ok (.lastore, 1) := dk_80 (dk_at dksX0_dismissKeeper_0 8 rfl rfl)
theorem dX0_dismissKeeper_9 : decode cX0_dismissKeeper 9 = .ok (.goto 6, 3) := dk_167 0 6 (dk_at dksX0_dismissKeeper_0 9 rfl rfl)
theorem dX0_dismissKeeper_12 : decode cX0_dismissKeeper 12 = .ok (.astore_n 3, 1) := dk_78 (dk_at dksX0_dismissKeeper_0 12 rfl rfl)
theorem dX0_dismissKeeper_13 : decode cX0_dismissKeeper 13 = .ok (.iconst 1, 1) := dk_4 (dk_at dksX0_dismissKeeper_0 13 rfl rfl)
theorem dX0_dismissKeeper_14 : decode cX0_dismissKeeper 14 = .ok (.ireturn, 1) := dk_172 (dk_at dksX0_dismissKeeper_0 14 rfl rfl)
theorem dX0_dismissKeeper_15 : decode cX0_dismissKeeper 15 = .ok (.iconst 0, 1) := dk_3 (dk_at dksX0_dismissKeeper_0 15 rfl rfl)
theorem dX0_dismissKeeper_16 : decode cX0_dismissKeeper 16 = .ok (.ireturn, 1) := dk_172 (dk_at dksX0_dismissKeeper_0 16 rfl rfl)
abbrev cX1_checkIndex : ByteArray := prog_1_method_16_code
def yX1_checkIndex : MethodName := ⟨RX1, "checkIndex", "(Z)V"⟩
def dkwX1_checkIndex_0 : List UInt8 := [26, 154, 0, 11, 187, 0, 149, 89, 183, 0, 151, 191, 177]
abbrev dktX1_checkIndex_0 : List UInt8 := dkwX1_checkIndex_0 ++ []
theorem dksX1_checkIndex_0 : cX1_checkIndex.data.toList.drop 0 = dktX1_checkIndex_0 := by decide +kernel
theorem dX1_checkIndex_0 : decode cX1_checkIndex 0 = .ok (.iload_n 0, 1) := dk_26 (dk_at dksX1_checkIndex_0 0 rfl rfl)
theorem dX1_checkIndex_1 : decode cX1_checkIndex 1 = .ok (.ifCond .ne 11, 3) := dk_154 0 11 (dk_at dksX1_checkIndex_0 1 rfl rfl)
theorem dX1_checkIndex_4 : decode cX1_checkIndex 4 = .ok (.new 149, 3) := dk_187 0 149 (dk_at dksX1_checkIndex_0 4 rfl rfl)
theorem dX1_checkIndex_7 : decode cX1_checkIndex 7 = .ok (.dup, 1) := dk_89 (dk_at dksX1_checkIndex_0 7 rfl rfl)
theorem dX1_checkIndex_8 : decode cX1_checkIndex 8 = .ok (.invokespecial 151, 3) := dk_183 0 151 (dk_at dksX1_checkIndex_0 8 rfl rfl)
theorem dX1_checkIndex_11 : decode cX1_checkIndex 11 = .ok (.athrow, 1) := dk_191 (dk_at dksX1_checkIndex_0 11 rfl rfl)
theorem dX1_checkIndex_12 : decode cX1_checkIndex 12 = .ok (.return_, 1) := dk_177 (dk_at dksX1_checkIndex_0 12 rfl rfl)
abbrev cX3_get : ByteArray := prog_10_method_5_code
def yX3_get : MethodName := ⟨RX3, "get", "(I)LLionGate$Keeper;"⟩
def dkwX3_get_0 : List UInt8 := [42, 180, 0, 12, 27, 185, 0, 49, 2, 0, 192, 0, 35, 176]
abbrev dktX3_get_0 : List UInt8 := dkwX3_get_0 ++ []
theorem dksX3_get_0 : cX3_get.data.toList.drop 0 = dktX3_get_0 := by decide +kernel
theorem dX3_get_0 : decode cX3_get 0 = .ok (.aload_n 0, 1) := dk_42 (dk_at dksX3_get_0 0 rfl rfl)
theorem dX3_get_1 : decode cX3_get 1 = .ok (.getfield 12, 3) := dk_180 0 12 (dk_at dksX3_get_0 1 rfl rfl)
theorem dX3_get_4 : decode cX3_get 4 = .ok (.iload_n 1, 1) := dk_27 (dk_at dksX3_get_0 4 rfl rfl)
theorem dX3_get_5 : decode cX3_get 5 = .ok (.invokeinterface 49 2, 5) := by decide +kernel
theorem dX3_get_10 : decode cX3_get 10 = .ok (.checkcast 35, 3) := dk_192 0 35 (dk_at dksX3_get_0 10 rfl rfl)
theorem dX3_get_13 : decode cX3_get 13 = .ok (.areturn, 1) := dk_176 (dk_at dksX3_get_0 13 rfl rfl)
abbrev cX1_keeperWith : ByteArray := prog_1_method_40_code
def yX1_keeperWith : MethodName := ⟨RX1, "keeperWith", "(I)LLionGate$Keeper;"⟩
def dkwX1_keeperWith_1 : List UInt8 := [182, 1, 28, 176]
abbrev dktX1_keeperWith_1 : List UInt8 := dkwX1_keeperWith_1 ++ []
def dkwX1_keeperWith_0 : List UInt8 := [42, 180, 0, 66, 180, 1, 16, 27, 182, 1, 20, 184, 1, 25, 42, 180, 0, 66, 180, 1, 16, 27]
abbrev dktX1_keeperWith_0 : List UInt8 := dkwX1_keeperWith_0 ++ dktX1_keeperWith_1
theorem dksX1_keeperWith_0 : cX1_keeperWith.data.toList.drop 0 = dktX1_keeperWith_0 := by decide +kernel
theorem dksX1_keeperWith_1 : cX1_keeperWith.data.toList.drop 22 = dktX1_keeperWith_1 := dk_seg dksX1_keeperWith_0 22 rfl rfl
theorem dX1_keeperWith_0 : decode cX1_keeperWith 0 = .ok (.aload_n 0, 1) := dk_42 (dk_at dksX1_keeperWith_0 0 rfl rfl)
theorem dX1_keeperWith_1 : decode cX1_keeperWith 1 = .ok (.getfield 66, 3) := dk_180 0 66 (dk_at dksX1_keeperWith_0 1 rfl rfl)
theorem dX1_keeperWith_4 : decode cX1_keeperWith 4 = .ok (.getfield 272, 3) := dk_180 1 16 (dk_at dksX1_keeperWith_0 4 rfl rfl)
theorem dX1_keeperWith_7 : decode cX1_keeperWith 7 = .ok (.iload_n 1, 1) := dk_27 (dk_at dksX1_keeperWith_0 7 rfl rfl)
theorem dX1_keeperWith_8 : decode cX1_keeperWith 8 = .ok (.invokevirtual 276, 3) := dk_182 1 20 (dk_at dksX1_keeperWith_0 8 rfl rfl)
theorem dX1_keeperWith_11 : decode cX1_keeperWith 11 = .ok (.invokestatic 281, 3) := dk_184 1 25 (dk_at dksX1_keeperWith_0 11 rfl rfl)
theorem dX1_keeperWith_14 : decode cX1_keeperWith 14 = .ok (.aload_n 0, 1) := dk_42 (dk_at dksX1_keeperWith_0 14 rfl rfl)
theorem dX1_keeperWith_15 : decode cX1_keeperWith 15 = .ok (.getfield 66, 3) := dk_180 0 66 (dk_at dksX1_keeperWith_0 15 rfl rfl)
theorem dX1_keeperWith_18 : decode cX1_keeperWith 18 = .ok (.getfield 272, 3) := dk_180 1 16 (dk_at dksX1_keeperWith_0 18 rfl rfl)
theorem dX1_keeperWith_21 : decode cX1_keeperWith 21 = .ok (.iload_n 1, 1) := dk_27 (dk_at dksX1_keeperWith_0 21 rfl rfl)
theorem dX1_keeperWith_22 : decode cX1_keeperWith 22 = .ok (.invokevirtual 284, 3) := dk_182 1 28 (dk_at dksX1_keeperWith_1 0 rfl rfl)
theorem dX1_keeperWith_25 : decode cX1_keeperWith 25 = .ok (.areturn, 1) := dk_176 (dk_at dksX1_keeperWith_1 3 rfl rfl)
abbrev cX1_endOf : ByteArray := prog_1_method_43_code
def yX1_endOf : MethodName := ⟨RX1, "endOf", "(I)I"⟩
def dkwX1_endOf_0 : List UInt8 := [42, 27, 182, 1, 34, 180, 1, 42, 172]
abbrev dktX1_endOf_0 : List UInt8 := dkwX1_endOf_0 ++ []
theorem dksX1_endOf_0 : cX1_endOf.data.toList.drop 0 = dktX1_endOf_0 := by decide +kernel
theorem dX1_endOf_0 : decode cX1_endOf 0 = .ok (.aload_n 0, 1) := dk_42 (dk_at dksX1_endOf_0 0 rfl rfl)
theorem dX1_endOf_1 : decode cX1_endOf 1 = .ok (.iload_n 1, 1) := dk_27 (dk_at dksX1_endOf_0 1 rfl rfl)
theorem dX1_endOf_2 : decode cX1_endOf 2 = .ok (.invokevirtual 290, 3) := dk_182 1 34 (dk_at dksX1_endOf_0 2 rfl rfl)
theorem dX1_endOf_5 : decode cX1_endOf 5 = .ok (.getfield 298, 3) := dk_180 1 42 (dk_at dksX1_endOf_0 5 rfl rfl)
theorem dX1_endOf_8 : decode cX1_endOf 8 = .ok (.ireturn, 1) := dk_172 (dk_at dksX1_endOf_0 8 rfl rfl)
abbrev cX0_endOf : ByteArray := method_22_code
def yX0_endOf : MethodName := ⟨RX0, "endOf", "(LLionGate;I[J)I"⟩
def dkwX0_endOf_0 : List UInt8 := [44, 3, 42, 27, 182, 0, 81, 133, 80, 167, 0, 6, 78, 4, 172, 3, 172]
abbrev dktX0_endOf_0 : List UInt8 := dkwX0_endOf_0 ++ []
theorem dksX0_endOf_0 : cX0_endOf.data.toList.drop 0 = dktX0_endOf_0 := by decide +kernel
theorem dX0_endOf_0 : decode cX0_endOf 0 = .ok (.aload_n 2, 1) := dk_44 (dk_at dksX0_endOf_0 0 rfl rfl)
theorem dX0_endOf_1 : decode cX0_endOf 1 = .ok (.iconst 0, 1) := dk_3 (dk_at dksX0_endOf_0 1 rfl rfl)
theorem dX0_endOf_2 : decode cX0_endOf 2 = .ok (.aload_n 0, 1) := dk_42 (dk_at dksX0_endOf_0 2 rfl rfl)
theorem dX0_endOf_3 : decode cX0_endOf 3 = .ok (.iload_n 1, 1) := dk_27 (dk_at dksX0_endOf_0 3 rfl rfl)
theorem dX0_endOf_4 : decode cX0_endOf 4 = .ok (.invokevirtual 81, 3) := dk_182 0 81 (dk_at dksX0_endOf_0 4 rfl rfl)
theorem dX0_endOf_7 : decode cX0_endOf 7 = .ok (.i2l, 1) := dk_133 (dk_at dksX0_endOf_0 7 rfl rfl)
theorem dX0_endOf_8 : decode cX0_endOf 8 = .ok (.lastore, 1) := dk_80 (dk_at dksX0_endOf_0 8 rfl rfl)
theorem dX0_endOf_9 : decode cX0_endOf 9 = .ok (.goto 6, 3) := dk_167 0 6 (dk_at dksX0_endOf_0 9 rfl rfl)
theorem dX0_endOf_12 : decode cX0_endOf 12 = .ok (.astore_n 3, 1) := dk_78 (dk_at dksX0_endOf_0 12 rfl rfl)
theorem dX0_endOf_13 : decode cX0_endOf 13 = .ok (.iconst 1, 1) := dk_4 (dk_at dksX0_endOf_0 13 rfl rfl)
theorem dX0_endOf_14 : decode cX0_endOf 14 = .ok (.ireturn, 1) := dk_172 (dk_at dksX0_endOf_0 14 rfl rfl)
theorem dX0_endOf_15 : decode cX0_endOf 15 = .ok (.iconst 0, 1) := dk_3 (dk_at dksX0_endOf_0 15 rfl rfl)
theorem dX0_endOf_16 : decode cX0_endOf 16 = .ok (.ireturn, 1) := dk_172 (dk_at dksX0_endOf_0 16 rfl rfl)
abbrev cX1_found : ByteArray := prog_1_method_21_code
def yX1_found : MethodName := ⟨RX1, "found", "(I)I"⟩
def dkwX1_found_0 : List UInt8 := [26, 2, 159, 0, 7, 4, 167, 0, 4, 3, 184, 0, 164, 26, 172]
abbrev dktX1_found_0 : List UInt8 := dkwX1_found_0 ++ []
theorem dksX1_found_0 : cX1_found.data.toList.drop 0 = dktX1_found_0 := by decide +kernel
theorem dX1_found_0 : decode cX1_found 0 = .ok (.iload_n 0, 1) := dk_26 (dk_at dksX1_found_0 0 rfl rfl)
theorem dX1_found_1 : decode cX1_found 1 = .ok (.iconst (-1), 1) := dk_2 (dk_at dksX1_found_0 1 rfl rfl)
theorem dX1_found_2 : decode cX1_found 2 = .ok (.if_icmp .eq 7, 3) := dk_159 0 7 (dk_at dksX1_found_0 2 rfl rfl)
theorem dX1_found_5 : decode cX1_found 5 = .ok (.iconst 1, 1) := dk_4 (dk_at dksX1_found_0 5 rfl rfl)
theorem dX1_found_6 : decode cX1_found 6 = .ok (.goto 4, 3) := dk_167 0 4 (dk_at dksX1_found_0 6 rfl rfl)
theorem dX1_found_9 : decode cX1_found 9 = .ok (.iconst 0, 1) := dk_3 (dk_at dksX1_found_0 9 rfl rfl)
theorem dX1_found_10 : decode cX1_found 10 = .ok (.invokestatic 164, 3) := dk_184 0 164 (dk_at dksX1_found_0 10 rfl rfl)
theorem dX1_found_13 : decode cX1_found 13 = .ok (.iload_n 0, 1) := dk_26 (dk_at dksX1_found_0 13 rfl rfl)
theorem dX1_found_14 : decode cX1_found 14 = .ok (.ireturn, 1) := dk_172 (dk_at dksX1_found_0 14 rfl rfl)
abbrev cX1_errorPosition : ByteArray := prog_1_method_67_code
def yX1_errorPosition : MethodName := ⟨RX1, "errorPosition", "()I"⟩
def dkwX1_errorPosition_0 : List UInt8 := [42, 180, 0, 86, 184, 0, 228, 172]
abbrev dktX1_errorPosition_0 : List UInt8 := dkwX1_errorPosition_0 ++ []
theorem dksX1_errorPosition_0 : cX1_errorPosition.data.toList.drop 0 = dktX1_errorPosition_0 := by decide +kernel
theorem dX1_errorPosition_0 : decode cX1_errorPosition 0 = .ok (.aload_n 0, 1) := dk_42 (dk_at dksX1_errorPosition_0 0 rfl rfl)
theorem dX1_errorPosition_1 : decode cX1_errorPosition 1 = .ok (.getfield 86, 3) := dk_180 0 86 (dk_at dksX1_errorPosition_0 1 rfl rfl)
theorem dX1_errorPosition_4 : decode cX1_errorPosition 4 = .ok (.invokestatic 228, 3) := dk_184 0 228 (dk_at dksX1_errorPosition_0 4 rfl rfl)
theorem dX1_errorPosition_7 : decode cX1_errorPosition 7 = .ok (.ireturn, 1) := dk_172 (dk_at dksX1_errorPosition_0 7 rfl rfl)
abbrev cX0_errorPosition : ByteArray := method_33_code
def yX0_errorPosition : MethodName := ⟨RX0, "errorPosition", "(LLionGate;[J)I"⟩
def dkwX0_errorPosition_0 : List UInt8 := [43, 3, 42, 182, 0, 121, 133, 80, 167, 0, 6, 77, 4, 172, 3, 172]
abbrev dktX0_errorPosition_0 : List UInt8 := dkwX0_errorPosition_0 ++ []
theorem dksX0_errorPosition_0 : cX0_errorPosition.data.toList.drop 0 = dktX0_errorPosition_0 := by decide +kernel
theorem dX0_errorPosition_0 : decode cX0_errorPosition 0 = .ok (.aload_n 1, 1) := dk_43 (dk_at dksX0_errorPosition_0 0 rfl rfl)
theorem dX0_errorPosition_1 : decode cX0_errorPosition 1 = .ok (.iconst 0, 1) := dk_3 (dk_at dksX0_errorPosition_0 1 rfl rfl)
theorem dX0_errorPosition_2 : decode cX0_errorPosition 2 = .ok (.aload_n 0, 1) := dk_42 (dk_at dksX0_errorPosition_0 2 rfl rfl)
theorem dX0_errorPosition_3 : decode cX0_errorPosition 3 = .ok (.invokevirtual 121, 3) := dk_182 0 121 (dk_at dksX0_errorPosition_0 3 rfl rfl)
theorem dX0_errorPosition_6 : decode cX0_errorPosition 6 = .ok (.i2l, 1) := dk_133 (dk_at dksX0_errorPosition_0 6 rfl rfl)
theorem dX0_errorPosition_7 : decode cX0_errorPosition 7 = .ok (.lastore, 1) := dk_80 (dk_at dksX0_errorPosition_0 7 rfl rfl)
theorem dX0_errorPosition_8 : decode cX0_errorPosition 8 = .ok (.goto 6, 3) := dk_167 0 6 (dk_at dksX0_errorPosition_0 8 rfl rfl)
theorem dX0_errorPosition_11 : decode cX0_errorPosition 11 = .ok (.astore_n 2, 1) := dk_77 (dk_at dksX0_errorPosition_0 11 rfl rfl)
theorem dX0_errorPosition_12 : decode cX0_errorPosition 12 = .ok (.iconst 1, 1) := dk_4 (dk_at dksX0_errorPosition_0 12 rfl rfl)
theorem dX0_errorPosition_13 : decode cX0_errorPosition 13 = .ok (.ireturn, 1) := dk_172 (dk_at dksX0_errorPosition_0 13 rfl rfl)
theorem dX0_errorPosition_14 : decode cX0_errorPosition 14 = .ok (.iconst 0, 1) := dk_3 (dk_at dksX0_errorPosition_0 14 rfl rfl)
theorem dX0_errorPosition_15 : decode cX0_errorPosition 15 = .ok (.ireturn, 1) := dk_172 (dk_at dksX0_errorPosition_0 15 rfl rfl)
abbrev cX1_failedCommand : ByteArray := prog_1_method_68_code
def yX1_failedCommand : MethodName := ⟨RX1, "failedCommand", "()I"⟩
def dkwX1_failedCommand_0 : List UInt8 := [42, 180, 0, 90, 184, 0, 228, 172]
abbrev dktX1_failedCommand_0 : List UInt8 := dkwX1_failedCommand_0 ++ []
theorem dksX1_failedCommand_0 : cX1_failedCommand.data.toList.drop 0 = dktX1_failedCommand_0 := by decide +kernel
theorem dX1_failedCommand_0 : decode cX1_failedCommand 0 = .ok (.aload_n 0, 1) := dk_42 (dk_at dksX1_failedCommand_0 0 rfl rfl)
theorem dX1_failedCommand_1 : decode cX1_failedCommand 1 = .ok (.getfield 90, 3) := dk_180 0 90 (dk_at dksX1_failedCommand_0 1 rfl rfl)
theorem dX1_failedCommand_4 : decode cX1_failedCommand 4 = .ok (.invokestatic 228, 3) := dk_184 0 228 (dk_at dksX1_failedCommand_0 4 rfl rfl)
theorem dX1_failedCommand_7 : decode cX1_failedCommand 7 = .ok (.ireturn, 1) := dk_172 (dk_at dksX1_failedCommand_0 7 rfl rfl)
abbrev cX0_failedCommand : ByteArray := method_34_code
def yX0_failedCommand : MethodName := ⟨RX0, "failedCommand", "(LLionGate;[J)I"⟩
def dkwX0_failedCommand_0 : List UInt8 := [43, 3, 42, 182, 0, 124, 133, 80, 167, 0, 6, 77, 4, 172, 3, 172]
abbrev dktX0_failedCommand_0 : List UInt8 := dkwX0_failedCommand_0 ++ []
theorem dksX0_failedCommand_0 : cX0_failedCommand.data.toList.drop 0 = dktX0_failedCommand_0 := by decide +kernel
theorem dX0_failedCommand_0 : decode cX0_failedCommand 0 = .ok (.aload_n 1, 1) := dk_43 (dk_at dksX0_failedCommand_0 0 rfl rfl)
theorem dX0_failedCommand_1 : decode cX0_failedCommand 1 = .ok (.iconst 0, 1) := dk_3 (dk_at dksX0_failedCommand_0 1 rfl rfl)
theorem dX0_failedCommand_2 : decode cX0_failedCommand 2 = .ok (.aload_n 0, 1) := dk_42 (dk_at dksX0_failedCommand_0 2 rfl rfl)
theorem dX0_failedCommand_3 : decode cX0_failedCommand 3 = .ok (.invokevirtual 124, 3) := dk_182 0 124 (dk_at dksX0_failedCommand_0 3 rfl rfl)
theorem dX0_failedCommand_6 : decode cX0_failedCommand 6 = .ok (.i2l, 1) := dk_133 (dk_at dksX0_failedCommand_0 6 rfl rfl)
theorem dX0_failedCommand_7 : decode cX0_failedCommand 7 = .ok (.lastore, 1) := dk_80 (dk_at dksX0_failedCommand_0 7 rfl rfl)
theorem dX0_failedCommand_8 : decode cX0_failedCommand 8 = .ok (.goto 6, 3) := dk_167 0 6 (dk_at dksX0_failedCommand_0 8 rfl rfl)
theorem dX0_failedCommand_11 : decode cX0_failedCommand 11 = .ok (.astore_n 2, 1) := dk_77 (dk_at dksX0_failedCommand_0 11 rfl rfl)
theorem dX0_failedCommand_12 : decode cX0_failedCommand 12 = .ok (.iconst 1, 1) := dk_4 (dk_at dksX0_failedCommand_0 12 rfl rfl)
theorem dX0_failedCommand_13 : decode cX0_failedCommand 13 = .ok (.ireturn, 1) := dk_172 (dk_at dksX0_failedCommand_0 13 rfl rfl)
theorem dX0_failedCommand_14 : decode cX0_failedCommand 14 = .ok (.iconst 0, 1) := dk_3 (dk_at dksX0_failedCommand_0 14 rfl rfl)
theorem dX0_failedCommand_15 : decode cX0_failedCommand 15 = .ok (.ireturn, 1) := dk_172 (dk_at dksX0_failedCommand_0 15 rfl rfl)
abbrev cX1_failureKind : ByteArray := prog_1_method_69_code
def yX1_failureKind : MethodName := ⟨RX1, "failureKind", "()C"⟩
def dkwX1_failureKind_0 : List UInt8 := [42, 180, 0, 90, 184, 0, 228, 87, 42, 180, 1, 147, 172]
abbrev dktX1_failureKind_0 : List UInt8 := dkwX1_failureKind_0 ++ []
theorem dksX1_failureKind_0 : cX1_failureKind.data.toList.drop 0 = dktX1_failureKind_0 := by decide +kernel
theorem dX1_failureKind_0 : decode cX1_failureKind 0 = .ok (.aload_n 0, 1) := dk_42 (dk_at dksX1_failureKind_0 0 rfl rfl)
theorem dX1_failureKind_1 : decode cX1_failureKind 1 = .ok (.getfield 90, 3) := dk_180 0 90 (dk_at dksX1_failureKind_0 1 rfl rfl)
theorem dX1_failureKind_4 : decode cX1_failureKind 4 = .ok (.invokestatic 228, 3) := dk_184 0 228 (dk_at dksX1_failureKind_0 4 rfl rfl)
theorem dX1_failureKind_7 : decode cX1_failureKind 7 = .ok (.pop, 1) := dk_87 (dk_at dksX1_failureKind_0 7 rfl rfl)
theorem dX1_failureKind_8 : decode cX1_failureKind 8 = .ok (.aload_n 0, 1) := dk_42 (dk_at dksX1_failureKind_0 8 rfl rfl)
theorem dX1_failureKind_9 : decode cX1_failureKind 9 = .ok (.getfield 403, 3) := dk_180 1 147 (dk_at dksX1_failureKind_0 9 rfl rfl)
theorem dX1_failureKind_12 : decode cX1_failureKind 12 = .ok (.ireturn, 1) := dk_172 (dk_at dksX1_failureKind_0 12 rfl rfl)
abbrev cX0_failureKind : ByteArray := method_35_code
def yX0_failureKind : MethodName := ⟨RX0, "failureKind", "(LLionGate;[J)I"⟩
def dkwX0_failureKind_0 : List UInt8 := [43, 3, 42, 182, 0, 127, 133, 80, 167, 0, 6, 77, 4, 172, 3, 172]
abbrev dktX0_failureKind_0 : List UInt8 := dkwX0_failureKind_0 ++ []
theorem dksX0_failureKind_0 : cX0_failureKind.data.toList.drop 0 = dktX0_failureKind_0 := by decide +kernel
theorem dX0_failureKind_0 : decode cX0_failureKind 0 = .ok (.aload_n 1, 1) := dk_43 (dk_at dksX0_failureKind_0 0 rfl rfl)
theorem dX0_failureKind_1 : decode cX0_failureKind 1 = .ok (.iconst 0, 1) := dk_3 (dk_at dksX0_failureKind_0 1 rfl rfl)
theorem dX0_failureKind_2 : decode cX0_failureKind 2 = .ok (.aload_n 0, 1) := dk_42 (dk_at dksX0_failureKind_0 2 rfl rfl)
theorem dX0_failureKind_3 : decode cX0_failureKind 3 = .ok (.invokevirtual 127, 3) := dk_182 0 127 (dk_at dksX0_failureKind_0 3 rfl rfl)
theorem dX0_failureKind_6 : decode cX0_failureKind 6 = .ok (.i2l, 1) := dk_133 (dk_at dksX0_failureKind_0 6 rfl rfl)
theorem dX0_failureKind_7 : decode cX0_failureKind 7 = .ok (.lastore, 1) := dk_80 (dk_at dksX0_failureKind_0 7 rfl rfl)
theorem dX0_failureKind_8 : decode cX0_failureKind 8 = .ok (.goto 6, 3) := dk_167 0 6 (dk_at dksX0_failureKind_0 8 rfl rfl)
theorem dX0_failureKind_11 : decode cX0_failureKind 11 = .ok (.astore_n 2, 1) := dk_77 (dk_at dksX0_failureKind_0 11 rfl rfl)
theorem dX0_failureKind_12 : decode cX0_failureKind 12 = .ok (.iconst 1, 1) := dk_4 (dk_at dksX0_failureKind_0 12 rfl rfl)
theorem dX0_failureKind_13 : decode cX0_failureKind 13 = .ok (.ireturn, 1) := dk_172 (dk_at dksX0_failureKind_0 13 rfl rfl)
theorem dX0_failureKind_14 : decode cX0_failureKind 14 = .ok (.iconst 0, 1) := dk_3 (dk_at dksX0_failureKind_0 14 rfl rfl)
theorem dX0_failureKind_15 : decode cX0_failureKind 15 = .ok (.ireturn, 1) := dk_172 (dk_at dksX0_failureKind_0 15 rfl rfl)
abbrev cX1_checkSupport : ByteArray := prog_1_method_20_code
def yX1_checkSupport : MethodName := ⟨RX1, "checkSupport", "(Z)V"⟩
def dkwX1_checkSupport_0 : List UInt8 := [26, 154, 0, 11, 187, 0, 161, 89, 183, 0, 163, 191, 177]
abbrev dktX1_checkSupport_0 : List UInt8 := dkwX1_checkSupport_0 ++ []
theorem dksX1_checkSupport_0 : cX1_checkSupport.data.toList.drop 0 = dktX1_checkSupport_0 := by decide +kernel
theorem dX1_checkSupport_0 : decode cX1_checkSupport 0 = .ok (.iload_n 0, 1) := dk_26 (dk_at dksX1_checkSupport_0 0 rfl rfl)
theorem dX1_checkSupport_1 : decode cX1_checkSupport 1 = .ok (.ifCond .ne 11, 3) := dk_154 0 11 (dk_at dksX1_checkSupport_0 1 rfl rfl)
theorem dX1_checkSupport_4 : decode cX1_checkSupport 4 = .ok (.new 161, 3) := dk_187 0 161 (dk_at dksX1_checkSupport_0 4 rfl rfl)
theorem dX1_checkSupport_7 : decode cX1_checkSupport 7 = .ok (.dup, 1) := dk_89 (dk_at dksX1_checkSupport_0 7 rfl rfl)
theorem dX1_checkSupport_8 : decode cX1_checkSupport 8 = .ok (.invokespecial 163, 3) := dk_183 0 163 (dk_at dksX1_checkSupport_0 8 rfl rfl)
theorem dX1_checkSupport_11 : decode cX1_checkSupport 11 = .ok (.athrow, 1) := dk_191 (dk_at dksX1_checkSupport_0 11 rfl rfl)
theorem dX1_checkSupport_12 : decode cX1_checkSupport 12 = .ok (.return_, 1) := dk_177 (dk_at dksX1_checkSupport_0 12 rfl rfl)
abbrev cX1_checkArgument : ByteArray := prog_1_method_17_code
def yX1_checkArgument : MethodName := ⟨RX1, "checkArgument", "(Z)V"⟩
def dkwX1_checkArgument_0 : List UInt8 := [26, 154, 0, 11, 187, 0, 152, 89, 183, 0, 154, 191, 177]
abbrev dktX1_checkArgument_0 : List UInt8 := dkwX1_checkArgument_0 ++ []
theorem dksX1_checkArgument_0 : cX1_checkArgument.data.toList.drop 0 = dktX1_checkArgument_0 := by decide +kernel
theorem dX1_checkArgument_0 : decode cX1_checkArgument 0 = .ok (.iload_n 0, 1) := dk_26 (dk_at dksX1_checkArgument_0 0 rfl rfl)
theorem dX1_checkArgument_1 : decode cX1_checkArgument 1 = .ok (.ifCond .ne 11, 3) := dk_154 0 11 (dk_at dksX1_checkArgument_0 1 rfl rfl)
theorem dX1_checkArgument_4 : decode cX1_checkArgument 4 = .ok (.new 152, 3) := dk_187 0 152 (dk_at dksX1_checkArgument_0 4 rfl rfl)
theorem dX1_checkArgument_7 : decode cX1_checkArgument 7 = .ok (.dup, 1) := dk_89 (dk_at dksX1_checkArgument_0 7 rfl rfl)
theorem dX1_checkArgument_8 : decode cX1_checkArgument 8 = .ok (.invokespecial 154, 3) := dk_183 0 154 (dk_at dksX1_checkArgument_0 8 rfl rfl)
theorem dX1_checkArgument_11 : decode cX1_checkArgument 11 = .ok (.athrow, 1) := dk_191 (dk_at dksX1_checkArgument_0 11 rfl rfl)
theorem dX1_checkArgument_12 : decode cX1_checkArgument 12 = .ok (.return_, 1) := dk_177 (dk_at dksX1_checkArgument_0 12 rfl rfl)
abbrev cX3_isCovered : ByteArray := prog_10_method_8_code
def yX3_isCovered : MethodName := ⟨RX3, "isCovered", "(II)Z"⟩
def dkwX3_isCovered_1 : List UInt8 := [21, 5, 182, 0, 76, 153, 0, 7, 4, 167, 0, 4, 3, 54, 4, 132, 5, 1, 167, 255, 226, 21, 4, 172]
abbrev dktX3_isCovered_1 : List UInt8 := dkwX3_isCovered_1 ++ []
def dkwX3_isCovered_0 : List UInt8 := [42, 182, 0, 72, 78, 4, 54, 4, 27, 54, 5, 21, 5, 28, 162, 0, 30, 21, 4, 153, 0, 16, 45]
abbrev dktX3_isCovered_0 : List UInt8 := dkwX3_isCovered_0 ++ dktX3_isCovered_1
theorem dksX3_isCovered_0 : cX3_isCovered.data.toList.drop 0 = dktX3_isCovered_0 := by decide +kernel
theorem dksX3_isCovered_1 : cX3_isCovered.data.toList.drop 23 = dktX3_isCovered_1 := dk_seg dksX3_isCovered_0 23 rfl rfl
theorem dX3_isCovered_0 : decode cX3_isCovered 0 = .ok (.aload_n 0, 1) := dk_42 (dk_at dksX3_isCovered_0 0 rfl rfl)
theorem dX3_isCovered_1 : decode cX3_isCovered 1 = .ok (.invokevirtual 72, 3) := dk_182 0 72 (dk_at dksX3_isCovered_0 1 rfl rfl)
theorem dX3_isCovered_4 : decode cX3_isCovered 4 = .ok (.astore_n 3, 1) := dk_78 (dk_at dksX3_isCovered_0 4 rfl rfl)
theorem dX3_isCovered_5 : decode cX3_isCovered 5 = .ok (.iconst 1, 1) := dk_4 (dk_at dksX3_isCovered_0 5 rfl rfl)
theorem dX3_isCovered_6 : decode cX3_isCovered 6 = .ok (.istore 4, 2) := dk_54 4 (dk_at dksX3_isCovered_0 6 rfl rfl)
theorem dX3_isCovered_8 : decode cX3_isCovered 8 = .ok (.iload_n 1, 1) := dk_27 (dk_at dksX3_isCovered_0 8 rfl rfl)
theorem dX3_isCovered_9 : decode cX3_isCovered 9 = .ok (.istore 5, 2) := dk_54 5 (dk_at dksX3_isCovered_0 9 rfl rfl)
theorem dX3_isCovered_11 : decode cX3_isCovered 11 = .ok (.iload 5, 2) := dk_21 5 (dk_at dksX3_isCovered_0 11 rfl rfl)
theorem dX3_isCovered_13 : decode cX3_isCovered 13 = .ok (.iload_n 2, 1) := dk_28 (dk_at dksX3_isCovered_0 13 rfl rfl)
theorem dX3_isCovered_14 : decode cX3_isCovered 14 = .ok (.if_icmp .ge 30, 3) := dk_162 0 30 (dk_at dksX3_isCovered_0 14 rfl rfl)
theorem dX3_isCovered_17 : decode cX3_isCovered 17 = .ok (.iload 4, 2) := dk_21 4 (dk_at dksX3_isCovered_0 17 rfl rfl)
theorem dX3_isCovered_19 : decode cX3_isCovered 19 = .ok (.ifCond .eq 16, 3) := dk_153 0 16 (dk_at dksX3_isCovered_0 19 rfl rfl)
theorem dX3_isCovered_22 : decode cX3_isCovered 22 = .ok (.aload_n 3, 1) := dk_45 (dk_at dksX3_isCovered_0 22 rfl rfl)
theorem dX3_isCovered_23 : decode cX3_isCovered 23 = .ok (.iload 5, 2) := dk_21 5 (dk_at dksX3_isCovered_1 0 rfl rfl)
theorem dX3_isCovered_25 : decode cX3_isCovered 25 = .ok (.invokevirtual 76, 3) := dk_182 0 76 (dk_at dksX3_isCovered_1 2 rfl rfl)
theorem dX3_isCovered_28 : decode cX3_isCovered 28 = .ok (.ifCond .eq 7, 3) := dk_153 0 7 (dk_at dksX3_isCovered_1 5 rfl rfl)
theorem dX3_isCovered_31 : decode cX3_isCovered 31 = .ok (.iconst 1, 1) := dk_4 (dk_at dksX3_isCovered_1 8 rfl rfl)
theorem dX3_isCovered_32 : decode cX3_isCovered 32 = .ok (.goto 4, 3) := dk_167 0 4 (dk_at dksX3_isCovered_1 9 rfl rfl)
theorem dX3_isCovered_35 : decode cX3_isCovered 35 = .ok (.iconst 0, 1) := dk_3 (dk_at dksX3_isCovered_1 12 rfl rfl)
theorem dX3_isCovered_36 : decode cX3_isCovered 36 = .ok (.istore 4, 2) := dk_54 4 (dk_at dksX3_isCovered_1 13 rfl rfl)
theorem dX3_isCovered_38 : decode cX3_isCovered 38 = .ok (.iinc 5 1, 3) := dk_132 5 1 (dk_at dksX3_isCovered_1 15 rfl rfl)
theorem dX3_isCovered_41 : decode cX3_isCovered 41 = .ok (.goto (-30), 3) := dk_167 255 226 (dk_at dksX3_isCovered_1 18 rfl rfl)
theorem dX3_isCovered_44 : decode cX3_isCovered 44 = .ok (.iload 4, 2) := dk_21 4 (dk_at dksX3_isCovered_1 21 rfl rfl)
theorem dX3_isCovered_46 : decode cX3_isCovered 46 = .ok (.ireturn, 1) := dk_172 (dk_at dksX3_isCovered_1 23 rfl rfl)
abbrev cX1_isCovered : ByteArray := prog_1_method_45_code
def yX1_isCovered : MethodName := ⟨RX1, "isCovered", "(II)Z"⟩
def dkwX1_isCovered_0 : List UInt8 := [27, 28, 184, 1, 51, 184, 1, 45, 42, 180, 0, 66, 180, 1, 16, 27, 28, 182, 1, 55, 172]
abbrev dktX1_isCovered_0 : List UInt8 := dkwX1_isCovered_0 ++ []
theorem dksX1_isCovered_0 : cX1_isCovered.data.toList.drop 0 = dktX1_isCovered_0 := by decide +kernel
theorem dX1_isCovered_0 : decode cX1_isCovered 0 = .ok (.iload_n 1, 1) := dk_27 (dk_at dksX1_isCovered_0 0 rfl rfl)
theorem dX1_isCovered_1 : decode cX1_isCovered 1 = .ok (.iload_n 2, 1) := dk_28 (dk_at dksX1_isCovered_0 1 rfl rfl)
theorem dX1_isCovered_2 : decode cX1_isCovered 2 = .ok (.invokestatic 307, 3) := dk_184 1 51 (dk_at dksX1_isCovered_0 2 rfl rfl)
theorem dX1_isCovered_5 : decode cX1_isCovered 5 = .ok (.invokestatic 301, 3) := dk_184 1 45 (dk_at dksX1_isCovered_0 5 rfl rfl)
theorem dX1_isCovered_8 : decode cX1_isCovered 8 = .ok (.aload_n 0, 1) := dk_42 (dk_at dksX1_isCovered_0 8 rfl rfl)
theorem dX1_isCovered_9 : decode cX1_isCovered 9 = .ok (.getfield 66, 3) := dk_180 0 66 (dk_at dksX1_isCovered_0 9 rfl rfl)
theorem dX1_isCovered_12 : decode cX1_isCovered 12 = .ok (.getfield 272, 3) := dk_180 1 16 (dk_at dksX1_isCovered_0 12 rfl rfl)
theorem dX1_isCovered_15 : decode cX1_isCovered 15 = .ok (.iload_n 1, 1) := dk_27 (dk_at dksX1_isCovered_0 15 rfl rfl)
theorem dX1_isCovered_16 : decode cX1_isCovered 16 = .ok (.iload_n 2, 1) := dk_28 (dk_at dksX1_isCovered_0 16 rfl rfl)
theorem dX1_isCovered_17 : decode cX1_isCovered 17 = .ok (.invokevirtual 311, 3) := dk_182 1 55 (dk_at dksX1_isCovered_0 17 rfl rfl)
theorem dX1_isCovered_20 : decode cX1_isCovered 20 = .ok (.ireturn, 1) := dk_172 (dk_at dksX1_isCovered_0 20 rfl rfl)
abbrev cX1_fewestKeepers : ByteArray := prog_1_method_46_code
def yX1_fewestKeepers : MethodName := ⟨RX1, "fewestKeepers", "(II)I"⟩
def dkwX1_fewestKeepers_0 : List UInt8 := [42, 27, 28, 182, 1, 58, 184, 1, 59, 42, 180, 0, 66, 180, 1, 16, 27, 28, 182, 1, 62, 172]
abbrev dktX1_fewestKeepers_0 : List UInt8 := dkwX1_fewestKeepers_0 ++ []
theorem dksX1_fewestKeepers_0 : cX1_fewestKeepers.data.toList.drop 0 = dktX1_fewestKeepers_0 := by decide +kernel
theorem dX1_fewestKeepers_0 : decode cX1_fewestKeepers 0 = .ok (.aload_n 0, 1) := dk_42 (dk_at dksX1_fewestKeepers_0 0 rfl rfl)
theorem dX1_fewestKeepers_1 : decode cX1_fewestKeepers 1 = .ok (.iload_n 1, 1) := dk_27 (dk_at dksX1_fewestKeepers_0 1 rfl rfl)
theorem dX1_fewestKeepers_2 : decode cX1_fewestKeepers 2 = .ok (.iload_n 2, 1) := dk_28 (dk_at dksX1_fewestKeepers_0 2 rfl rfl)
theorem dX1_fewestKeepers_3 : decode cX1_fewestKeepers 3 = .ok (.invokevirtual 314, 3) := dk_182 1 58 (dk_at dksX1_fewestKeepers_0 3 rfl rfl)
theorem dX1_fewestKeepers_6 : decode cX1_fewestKeepers 6 = .ok (.invokestatic 315, 3) := dk_184 1 59 (dk_at dksX1_fewestKeepers_0 6 rfl rfl)
theorem dX1_fewestKeepers_9 : decode cX1_fewestKeepers 9 = .ok (.aload_n 0, 1) := dk_42 (dk_at dksX1_fewestKeepers_0 9 rfl rfl)
theorem dX1_fewestKeepers_10 : decode cX1_fewestKeepers 10 = .ok (.getfield 66, 3) := dk_180 0 66 (dk_at dksX1_fewestKeepers_0 10 rfl rfl)
theorem dX1_fewestKeepers_13 : decode cX1_fewestKeepers 13 = .ok (.getfield 272, 3) := dk_180 1 16 (dk_at dksX1_fewestKeepers_0 13 rfl rfl)
theorem dX1_fewestKeepers_16 : decode cX1_fewestKeepers 16 = .ok (.iload_n 1, 1) := dk_27 (dk_at dksX1_fewestKeepers_0 16 rfl rfl)
theorem dX1_fewestKeepers_17 : decode cX1_fewestKeepers 17 = .ok (.iload_n 2, 1) := dk_28 (dk_at dksX1_fewestKeepers_0 17 rfl rfl)
theorem dX1_fewestKeepers_18 : decode cX1_fewestKeepers 18 = .ok (.invokevirtual 318, 3) := dk_182 1 62 (dk_at dksX1_fewestKeepers_0 18 rfl rfl)
theorem dX1_fewestKeepers_21 : decode cX1_fewestKeepers 21 = .ok (.ireturn, 1) := dk_172 (dk_at dksX1_fewestKeepers_0 21 rfl rfl)
abbrev cX0_fewestKeepers : ByteArray := method_25_code
def yX0_fewestKeepers : MethodName := ⟨RX0, "fewestKeepers", "(LLionGate;II[J)I"⟩
def dkwX0_fewestKeepers_0 : List UInt8 := [45, 3, 42, 27, 28, 182, 0, 91, 133, 80, 167, 0, 11, 58, 4, 4, 172, 58, 4, 5, 172, 3, 172]
abbrev dktX0_fewestKeepers_0 : List UInt8 := dkwX0_fewestKeepers_0 ++ []
theorem dksX0_fewestKeepers_0 : cX0_fewestKeepers.data.toList.drop 0 = dktX0_fewestKeepers_0 := by decide +kernel
theorem dX0_fewestKeepers_0 : decode cX0_fewestKeepers 0 = .ok (.aload_n 3, 1) := dk_45 (dk_at dksX0_fewestKeepers_0 0 rfl rfl)
theorem dX0_fewestKeepers_1 : decode cX0_fewestKeepers 1 = .ok (.iconst 0, 1) := dk_3 (dk_at dksX0_fewestKeepers_0 1 rfl rfl)
theorem dX0_fewestKeepers_2 : decode cX0_fewestKeepers 2 = .ok (.aload_n 0, 1) := dk_42 (dk_at dksX0_fewestKeepers_0 2 rfl rfl)
theorem dX0_fewestKeepers_3 : decode cX0_fewestKeepers 3 = .ok (.iload_n 1, 1) := dk_27 (dk_at dksX0_fewestKeepers_0 3 rfl rfl)
theorem dX0_fewestKeepers_4 : decode cX0_fewestKeepers 4 = .ok (.iload_n 2, 1) := dk_28 (dk_at dksX0_fewestKeepers_0 4 rfl rfl)
theorem dX0_fewestKeepers_5 : decode cX0_fewestKeepers 5 = .ok (.invokevirtual 91, 3) := dk_182 0 91 (dk_at dksX0_fewestKeepers_0 5 rfl rfl)
theorem dX0_fewestKeepers_8 : decode cX0_fewestKeepers 8 = .ok (.i2l, 1) := dk_133 (dk_at dksX0_fewestKeepers_0 8 rfl rfl)
theorem dX0_fewestKeepers_9 : decode cX0_fewestKeepers 9 = .ok (.lastore, 1) := dk_80 (dk_at dksX0_fewestKeepers_0 9 rfl rfl)
theorem dX0_fewestKeepers_10 : decode cX0_fewestKeepers 10 = .ok (.goto 11, 3) := dk_167 0 11 (dk_at dksX0_fewestKeepers_0 10 rfl rfl)
theorem dX0_fewestKeepers_13 : decode cX0_fewestKeepers 13 = .ok (.astore 4, 2) := dk_58 4 (dk_at dksX0_fewestKeepers_0 13 rfl rfl)
theorem dX0_fewestKeepers_15 : decode cX0_fewestKeepers 15 = .ok (.iconst 1, 1) := dk_4 (dk_at dksX0_fewestKeepers_0 15 rfl rfl)
theorem dX0_fewestKeepers_16 : decode cX0_fewestKeepers 16 = .ok (.ireturn, 1) := dk_172 (dk_at dksX0_fewestKeepers_0 16 rfl rfl)
theorem dX0_fewestKeepers_17 : decode cX0_fewestKeepers 17 = .ok (.astore 4, 2) := dk_58 4 (dk_at dksX0_fewestKeepers_0 17 rfl rfl)
theorem dX0_fewestKeepers_19 : decode cX0_fewestKeepers 19 = .ok (.iconst 2, 1) := dk_5 (dk_at dksX0_fewestKeepers_0 19 rfl rfl)
theorem dX0_fewestKeepers_20 : decode cX0_fewestKeepers 20 = .ok (.ireturn, 1) := dk_172 (dk_at dksX0_fewestKeepers_0 20 rfl rfl)
theorem dX0_fewestKeepers_21 : decode cX0_fewestKeepers 21 = .ok (.iconst 0, 1) := dk_3 (dk_at dksX0_fewestKeepers_0 21 rfl rfl)
theorem dX0_fewestKeepers_22 : decode cX0_fewestKeepers 22 = .ok (.ireturn, 1) := dk_172 (dk_at dksX0_fewestKeepers_0 22 rfl rfl)
abbrev cX1_fewestKeepersBySets : ByteArray := prog_1_method_47_code
def yX1_fewestKeepersBySets : MethodName := ⟨RX1, "fewestKeepersBySets", "(II)I"⟩
def dkwX1_fewestKeepersBySets_0 : List UInt8 := [42, 27, 28, 182, 1, 58, 184, 1, 59, 42, 180, 0, 66, 180, 1, 16, 27, 28, 182, 1, 66, 172]
abbrev dktX1_fewestKeepersBySets_0 : List UInt8 := dkwX1_fewestKeepersBySets_0 ++ []
theorem dksX1_fewestKeepersBySets_0 : cX1_fewestKeepersBySets.data.toList.drop 0 = dktX1_fewestKeepersBySets_0 := by decide +kernel
theorem dX1_fewestKeepersBySets_0 : decode cX1_fewestKeepersBySets 0 = .ok (.aload_n 0, 1) := dk_42 (dk_at dksX1_fewestKeepersBySets_0 0 rfl rfl)
theorem dX1_fewestKeepersBySets_1 : decode cX1_fewestKeepersBySets 1 = .ok (.iload_n 1, 1) := dk_27 (dk_at dksX1_fewestKeepersBySets_0 1 rfl rfl)
theorem dX1_fewestKeepersBySets_2 : decode cX1_fewestKeepersBySets 2 = .ok (.iload_n 2, 1) := dk_28 (dk_at dksX1_fewestKeepersBySets_0 2 rfl rfl)
theorem dX1_fewestKeepersBySets_3 : decode cX1_fewestKeepersBySets 3 = .ok (.invokevirtual 314, 3) := dk_182 1 58 (dk_at dksX1_fewestKeepersBySets_0 3 rfl rfl)
theorem dX1_fewestKeepersBySets_6 : decode cX1_fewestKeepersBySets 6 = .ok (.invokestatic 315, 3) := dk_184 1 59 (dk_at dksX1_fewestKeepersBySets_0 6 rfl rfl)
theorem dX1_fewestKeepersBySets_9 : decode cX1_fewestKeepersBySets 9 = .ok (.aload_n 0, 1) := dk_42 (dk_at dksX1_fewestKeepersBySets_0 9 rfl rfl)
theorem dX1_fewestKeepersBySets_10 : decode cX1_fewestKeepersBySets 10 = .ok (.getfield 66, 3) := dk_180 0 66 (dk_at dksX1_fewestKeepersBySets_0 10 rfl rfl)
theorem dX1_fewestKeepersBySets_13 : decode cX1_fewestKeepersBySets 13 = .ok (.getfield 272, 3) := dk_180 1 16 (dk_at dksX1_fewestKeepersBySets_0 13 rfl rfl)
theorem dX1_fewestKeepersBySets_16 : decode cX1_fewestKeepersBySets 16 = .ok (.iload_n 1, 1) := dk_27 (dk_at dksX1_fewestKeepersBySets_0 16 rfl rfl)
theorem dX1_fewestKeepersBySets_17 : decode cX1_fewestKeepersBySets 17 = .ok (.iload_n 2, 1) := dk_28 (dk_at dksX1_fewestKeepersBySets_0 17 rfl rfl)
theorem dX1_fewestKeepersBySets_18 : decode cX1_fewestKeepersBySets 18 = .ok (.invokevirtual 322, 3) := dk_182 1 66 (dk_at dksX1_fewestKeepersBySets_0 18 rfl rfl)
theorem dX1_fewestKeepersBySets_21 : decode cX1_fewestKeepersBySets 21 = .ok (.ireturn, 1) := dk_172 (dk_at dksX1_fewestKeepersBySets_0 21 rfl rfl)
abbrev cX0_fewestKeepersBySets : ByteArray := method_26_code
def yX0_fewestKeepersBySets : MethodName := ⟨RX0, "fewestKeepersBySets", "(LLionGate;II[J)I"⟩
def dkwX0_fewestKeepersBySets_0 : List UInt8 := [45, 3, 42, 27, 28, 182, 0, 94, 133, 80, 167, 0, 11, 58, 4, 4, 172, 58, 4, 5, 172, 3, 172]
abbrev dktX0_fewestKeepersBySets_0 : List UInt8 := dkwX0_fewestKeepersBySets_0 ++ []
theorem dksX0_fewestKeepersBySets_0 : cX0_fewestKeepersBySets.data.toList.drop 0 = dktX0_fewestKeepersBySets_0 := by decide +kernel
theorem dX0_fewestKeepersBySets_0 : decode cX0_fewestKeepersBySets 0 = .ok (.aload_n 3, 1) := dk_45 (dk_at dksX0_fewestKeepersBySets_0 0 rfl rfl)
theorem dX0_fewestKeepersBySets_1 : decode cX0_fewestKeepersBySets 1 = .ok (.iconst 0, 1) := dk_3 (dk_at dksX0_fewestKeepersBySets_0 1 rfl rfl)
theorem dX0_fewestKeepersBySets_2 : decode cX0_fewestKeepersBySets 2 = .ok (.aload_n 0, 1) := dk_42 (dk_at dksX0_fewestKeepersBySets_0 2 rfl rfl)
theorem dX0_fewestKeepersBySets_3 : decode cX0_fewestKeepersBySets 3 = .ok (.iload_n 1, 1) := dk_27 (dk_at dksX0_fewestKeepersBySets_0 3 rfl rfl)
theorem dX0_fewestKeepersBySets_4 : decode cX0_fewestKeepersBySets 4 = .ok (.iload_n 2, 1) := dk_28 (dk_at dksX0_fewestKeepersBySets_0 4 rfl rfl)
theorem dX0_fewestKeepersBySets_5 : decode cX0_fewestKeepersBySets 5 = .ok (.invokevirtual 94, 3) := dk_182 0 94 (dk_at dksX0_fewestKeepersBySets_0 5 rfl rfl)
theorem dX0_fewestKeepersBySets_8 : decode cX0_fewestKeepersBySets 8 = .ok (.i2l, 1) := dk_133 (dk_at dksX0_fewestKeepersBySets_0 8 rfl rfl)
theorem dX0_fewestKeepersBySets_9 : decode cX0_fewestKeepersBySets 9 = .ok (.lastore, 1) := dk_80 (dk_at dksX0_fewestKeepersBySets_0 9 rfl rfl)
theorem dX0_fewestKeepersBySets_10 : decode cX0_fewestKeepersBySets 10 = .ok (.goto 11, 3) := dk_167 0 11 (dk_at dksX0_fewestKeepersBySets_0 10 rfl rfl)
theorem dX0_fewestKeepersBySets_13 : decode cX0_fewestKeepersBySets 13 = .ok (.astore 4, 2) := dk_58 4 (dk_at dksX0_fewestKeepersBySets_0 13 rfl rfl)
theorem dX0_fewestKeepersBySets_15 : decode cX0_fewestKeepersBySets 15 = .ok (.iconst 1, 1) := dk_4 (dk_at dksX0_fewestKeepersBySets_0 15 rfl rfl)
theorem dX0_fewestKeepersBySets_16 : decode cX0_fewestKeepersBySets 16 = .ok (.ireturn, 1) := dk_172 (dk_at dksX0_fewestKeepersBySets_0 16 rfl rfl)
theorem dX0_fewestKeepersBySets_17 : decode cX0_fewestKeepersBySets 17 = .ok (.astore 4, 2) := dk_58 4 (dk_at dksX0_fewestKeepersBySets_0 17 rfl rfl)
theorem dX0_fewestKeepersBySets_19 : decode cX0_fewestKeepersBySets 19 = .ok (.iconst 2, 1) := dk_5 (dk_at dksX0_fewestKeepersBySets_0 19 rfl rfl)
theorem dX0_fewestKeepersBySets_20 : decode cX0_fewestKeepersBySets 20 = .ok (.ireturn, 1) := dk_172 (dk_at dksX0_fewestKeepersBySets_0 20 rfl rfl)
theorem dX0_fewestKeepersBySets_21 : decode cX0_fewestKeepersBySets 21 = .ok (.iconst 0, 1) := dk_3 (dk_at dksX0_fewestKeepersBySets_0 21 rfl rfl)
theorem dX0_fewestKeepersBySets_22 : decode cX0_fewestKeepersBySets 22 = .ok (.ireturn, 1) := dk_172 (dk_at dksX0_fewestKeepersBySets_0 22 rfl rfl)
abbrev cX1_hireKeeper : ByteArray := prog_1_method_13_code
def yX1_hireKeeper : MethodName := ⟨RX1, "hireKeeper", "(II)I"⟩
def dkwX1_hireKeeper_0 : List UInt8 := [42, 18, 143, 5, 188, 10, 89, 3, 27, 79, 89, 4, 28, 79, 182, 0, 129, 172]
abbrev dktX1_hireKeeper_0 : List UInt8 := dkwX1_hireKeeper_0 ++ []
theorem dksX1_hireKeeper_0 : cX1_hireKeeper.data.toList.drop 0 = dktX1_hireKeeper_0 := by decide +kernel
theorem dX1_hireKeeper_0 : decode cX1_hireKeeper 0 = .ok (.aload_n 0, 1) := dk_42 (dk_at dksX1_hireKeeper_0 0 rfl rfl)
theorem dX1_hireKeeper_1 : decode cX1_hireKeeper 1 = .ok (.ldc 143, 2) := dk_18 143 (dk_at dksX1_hireKeeper_0 1 rfl rfl)
theorem dX1_hireKeeper_3 : decode cX1_hireKeeper 3 = .ok (.iconst 2, 1) := dk_5 (dk_at dksX1_hireKeeper_0 3 rfl rfl)
theorem dX1_hireKeeper_4 : decode cX1_hireKeeper 4 = .ok (.newarray .int, 2) := dk_188_10 (dk_at dksX1_hireKeeper_0 4 rfl rfl)
theorem dX1_hireKeeper_6 : decode cX1_hireKeeper 6 = .ok (.dup, 1) := dk_89 (dk_at dksX1_hireKeeper_0 6 rfl rfl)
theorem dX1_hireKeeper_7 : decode cX1_hireKeeper 7 = .ok (.iconst 0, 1) := dk_3 (dk_at dksX1_hireKeeper_0 7 rfl rfl)
theorem dX1_hireKeeper_8 : decode cX1_hireKeeper 8 = .ok (.iload_n 1, 1) := dk_27 (dk_at dksX1_hireKeeper_0 8 rfl rfl)
theorem dX1_hireKeeper_9 : decode cX1_hireKeeper 9 = .ok (.iastore, 1) := dk_79 (dk_at dksX1_hireKeeper_0 9 rfl rfl)
theorem dX1_hireKeeper_10 : decode cX1_hireKeeper 10 = .ok (.dup, 1) := dk_89 (dk_at dksX1_hireKeeper_0 10 rfl rfl)
theorem dX1_hireKeeper_11 : decode cX1_hireKeeper 11 = .ok (.iconst 1, 1) := dk_4 (dk_at dksX1_hireKeeper_0 11 rfl rfl)
theorem dX1_hireKeeper_12 : decode cX1_hireKeeper 12 = .ok (.iload_n 2, 1) := dk_28 (dk_at dksX1_hireKeeper_0 12 rfl rfl)
theorem dX1_hireKeeper_13 : decode cX1_hireKeeper 13 = .ok (.iastore, 1) := dk_79 (dk_at dksX1_hireKeeper_0 13 rfl rfl)
theorem dX1_hireKeeper_14 : decode cX1_hireKeeper 14 = .ok (.invokevirtual 129, 3) := dk_182 0 129 (dk_at dksX1_hireKeeper_0 14 rfl rfl)
theorem dX1_hireKeeper_17 : decode cX1_hireKeeper 17 = .ok (.ireturn, 1) := dk_172 (dk_at dksX1_hireKeeper_0 17 rfl rfl)
abbrev cX0_hireKeeper : ByteArray := method_8_code
def yX0_hireKeeper : MethodName := ⟨RX0, "hireKeeper", "(LLionGate;II[J)I"⟩
def dkwX0_hireKeeper_0 : List UInt8 := [45, 3, 42, 27, 28, 182, 0, 36, 133, 80, 167, 0, 11, 58, 4, 4, 172, 58, 4, 5, 172, 3, 172]
abbrev dktX0_hireKeeper_0 : List UInt8 := dkwX0_hireKeeper_0 ++ []
theorem dksX0_hireKeeper_0 : cX0_hireKeeper.data.toList.drop 0 = dktX0_hireKeeper_0 := by decide +kernel
theorem dX0_hireKeeper_0 : decode cX0_hireKeeper 0 = .ok (.aload_n 3, 1) := dk_45 (dk_at dksX0_hireKeeper_0 0 rfl rfl)
theorem dX0_hireKeeper_1 : decode cX0_hireKeeper 1 = .ok (.iconst 0, 1) := dk_3 (dk_at dksX0_hireKeeper_0 1 rfl rfl)
theorem dX0_hireKeeper_2 : decode cX0_hireKeeper 2 = .ok (.aload_n 0, 1) := dk_42 (dk_at dksX0_hireKeeper_0 2 rfl rfl)
theorem dX0_hireKeeper_3 : decode cX0_hireKeeper 3 = .ok (.iload_n 1, 1) := dk_27 (dk_at dksX0_hireKeeper_0 3 rfl rfl)
theorem dX0_hireKeeper_4 : decode cX0_hireKeeper 4 = .ok (.iload_n 2, 1) := dk_28 (dk_at dksX0_hireKeeper_0 4 rfl rfl)
theorem dX0_hireKeeper_5 : decode cX0_hireKeeper 5 = .ok (.invokevirtual 36, 3) := dk_182 0 36 (dk_at dksX0_hireKeeper_0 5 rfl rfl)
theorem dX0_hireKeeper_8 : decode cX0_hireKeeper 8 = .ok (.i2l, 1) := dk_133 (dk_at dksX0_hireKeeper_0 8 rfl rfl)
theorem dX0_hireKeeper_9 : decode cX0_hireKeeper 9 = .ok (.lastore, 1) := dk_80 (dk_at dksX0_hireKeeper_0 9 rfl rfl)
theorem dX0_hireKeeper_10 : decode cX0_hireKeeper 10 = .ok (.goto 11, 3) := dk_167 0 11 (dk_at dksX0_hireKeeper_0 10 rfl rfl)
theorem dX0_hireKeeper_13 : decode cX0_hireKeeper 13 = .ok (.astore 4, 2) := dk_58 4 (dk_at dksX0_hireKeeper_0 13 rfl rfl)
theorem dX0_hireKeeper_15 : decode cX0_hireKeeper 15 = .ok (.iconst 1, 1) := dk_4 (dk_at dksX0_hireKeeper_0 15 rfl rfl)
theorem dX0_hireKeeper_16 : decode cX0_hireKeeper 16 = .ok (.ireturn, 1) := dk_172 (dk_at dksX0_hireKeeper_0 16 rfl rfl)
theorem dX0_hireKeeper_17 : decode cX0_hireKeeper 17 = .ok (.astore 4, 2) := dk_58 4 (dk_at dksX0_hireKeeper_0 17 rfl rfl)
theorem dX0_hireKeeper_19 : decode cX0_hireKeeper 19 = .ok (.iconst 2, 1) := dk_5 (dk_at dksX0_hireKeeper_0 19 rfl rfl)
theorem dX0_hireKeeper_20 : decode cX0_hireKeeper 20 = .ok (.ireturn, 1) := dk_172 (dk_at dksX0_hireKeeper_0 20 rfl rfl)
theorem dX0_hireKeeper_21 : decode cX0_hireKeeper 21 = .ok (.iconst 0, 1) := dk_3 (dk_at dksX0_hireKeeper_0 21 rfl rfl)
theorem dX0_hireKeeper_22 : decode cX0_hireKeeper 22 = .ok (.ireturn, 1) := dk_172 (dk_at dksX0_hireKeeper_0 22 rfl rfl)
abbrev cX1_hungerOf : ByteArray := prog_1_method_25_code
def yX1_hungerOf : MethodName := ⟨RX1, "hungerOf", "(I)I"⟩
def dkwX1_hungerOf_0 : List UInt8 := [42, 27, 182, 0, 208, 182, 0, 212, 172]
abbrev dktX1_hungerOf_0 : List UInt8 := dkwX1_hungerOf_0 ++ []
theorem dksX1_hungerOf_0 : cX1_hungerOf.data.toList.drop 0 = dktX1_hungerOf_0 := by decide +kernel
theorem dX1_hungerOf_0 : decode cX1_hungerOf 0 = .ok (.aload_n 0, 1) := dk_42 (dk_at dksX1_hungerOf_0 0 rfl rfl)
theorem dX1_hungerOf_1 : decode cX1_hungerOf 1 = .ok (.iload_n 1, 1) := dk_27 (dk_at dksX1_hungerOf_0 1 rfl rfl)
theorem dX1_hungerOf_2 : decode cX1_hungerOf 2 = .ok (.invokevirtual 208, 3) := dk_182 0 208 (dk_at dksX1_hungerOf_0 2 rfl rfl)
theorem dX1_hungerOf_5 : decode cX1_hungerOf 5 = .ok (.invokevirtual 212, 3) := dk_182 0 212 (dk_at dksX1_hungerOf_0 5 rfl rfl)
theorem dX1_hungerOf_8 : decode cX1_hungerOf 8 = .ok (.ireturn, 1) := dk_172 (dk_at dksX1_hungerOf_0 8 rfl rfl)
abbrev cX0_hungerOf : ByteArray := method_12_code
def yX0_hungerOf : MethodName := ⟨RX0, "hungerOf", "(LLionGate;I[J)I"⟩
def dkwX0_hungerOf_0 : List UInt8 := [44, 3, 42, 27, 182, 0, 50, 133, 80, 167, 0, 6, 78, 4, 172, 3, 172]
abbrev dktX0_hungerOf_0 : List UInt8 := dkwX0_hungerOf_0 ++ []
theorem dksX0_hungerOf_0 : cX0_hungerOf.data.toList.drop 0 = dktX0_hungerOf_0 := by decide +kernel
theorem dX0_hungerOf_0 : decode cX0_hungerOf 0 = .ok (.aload_n 2, 1) := dk_44 (dk_at dksX0_hungerOf_0 0 rfl rfl)
theorem dX0_hungerOf_1 : decode cX0_hungerOf 1 = .ok (.iconst 0, 1) := dk_3 (dk_at dksX0_hungerOf_0 1 rfl rfl)
theorem dX0_hungerOf_2 : decode cX0_hungerOf 2 = .ok (.aload_n 0, 1) := dk_42 (dk_at dksX0_hungerOf_0 2 rfl rfl)
theorem dX0_hungerOf_3 : decode cX0_hungerOf 3 = .ok (.iload_n 1, 1) := dk_27 (dk_at dksX0_hungerOf_0 3 rfl rfl)
theorem dX0_hungerOf_4 : decode cX0_hungerOf 4 = .ok (.invokevirtual 50, 3) := dk_182 0 50 (dk_at dksX0_hungerOf_0 4 rfl rfl)
theorem dX0_hungerOf_7 : decode cX0_hungerOf 7 = .ok (.i2l, 1) := dk_133 (dk_at dksX0_hungerOf_0 7 rfl rfl)
theorem dX0_hungerOf_8 : decode cX0_hungerOf 8 = .ok (.lastore, 1) := dk_80 (dk_at dksX0_hungerOf_0 8 rfl rfl)
theorem dX0_hungerOf_9 : decode cX0_hungerOf 9 = .ok (.goto 6, 3) := dk_167 0 6 (dk_at dksX0_hungerOf_0 9 rfl rfl)
theorem dX0_hungerOf_12 : decode cX0_hungerOf 12 = .ok (.astore_n 3, 1) := dk_78 (dk_at dksX0_hungerOf_0 12 rfl rfl)
theorem dX0_hungerOf_13 : decode cX0_hungerOf 13 = .ok (.iconst 1, 1) := dk_4 (dk_at dksX0_hungerOf_0 13 rfl rfl)
theorem dX0_hungerOf_14 : decode cX0_hungerOf 14 = .ok (.ireturn, 1) := dk_172 (dk_at dksX0_hungerOf_0 14 rfl rfl)
theorem dX0_hungerOf_15 : decode cX0_hungerOf 15 = .ok (.iconst 0, 1) := dk_3 (dk_at dksX0_hungerOf_0 15 rfl rfl)
theorem dX0_hungerOf_16 : decode cX0_hungerOf 16 = .ok (.ireturn, 1) := dk_172 (dk_at dksX0_hungerOf_0 16 rfl rfl)
abbrev cX1_hungriest : ByteArray := prog_1_method_29_code
def yX1_hungriest : MethodName := ⟨RX1, "hungriest", "()I"⟩
def dkwX1_hungriest_0 : List UInt8 := [42, 180, 0, 66, 182, 0, 225, 184, 0, 228, 172]
abbrev dktX1_hungriest_0 : List UInt8 := dkwX1_hungriest_0 ++ []
theorem dksX1_hungriest_0 : cX1_hungriest.data.toList.drop 0 = dktX1_hungriest_0 := by decide +kernel
theorem dX1_hungriest_0 : decode cX1_hungriest 0 = .ok (.aload_n 0, 1) := dk_42 (dk_at dksX1_hungriest_0 0 rfl rfl)
theorem dX1_hungriest_1 : decode cX1_hungriest 1 = .ok (.getfield 66, 3) := dk_180 0 66 (dk_at dksX1_hungriest_0 1 rfl rfl)
theorem dX1_hungriest_4 : decode cX1_hungriest 4 = .ok (.invokevirtual 225, 3) := dk_182 0 225 (dk_at dksX1_hungriest_0 4 rfl rfl)
theorem dX1_hungriest_7 : decode cX1_hungriest 7 = .ok (.invokestatic 228, 3) := dk_184 0 228 (dk_at dksX1_hungriest_0 7 rfl rfl)
theorem dX1_hungriest_10 : decode cX1_hungriest 10 = .ok (.ireturn, 1) := dk_172 (dk_at dksX1_hungriest_0 10 rfl rfl)
abbrev cX0_hungriest : ByteArray := method_16_code
def yX0_hungriest : MethodName := ⟨RX0, "hungriest", "(LLionGate;[J)I"⟩
def dkwX0_hungriest_0 : List UInt8 := [43, 3, 42, 182, 0, 62, 133, 80, 167, 0, 6, 77, 4, 172, 3, 172]
abbrev dktX0_hungriest_0 : List UInt8 := dkwX0_hungriest_0 ++ []
theorem dksX0_hungriest_0 : cX0_hungriest.data.toList.drop 0 = dktX0_hungriest_0 := by decide +kernel
theorem dX0_hungriest_0 : decode cX0_hungriest 0 = .ok (.aload_n 1, 1) := dk_43 (dk_at dksX0_hungriest_0 0 rfl rfl)
theorem dX0_hungriest_1 : decode cX0_hungriest 1 = .ok (.iconst 0, 1) := dk_3 (dk_at dksX0_hungriest_0 1 rfl rfl)
theorem dX0_hungriest_2 : decode cX0_hungriest 2 = .ok (.aload_n 0, 1) := dk_42 (dk_at dksX0_hungriest_0 2 rfl rfl)
theorem dX0_hungriest_3 : decode cX0_hungriest 3 = .ok (.invokevirtual 62, 3) := dk_182 0 62 (dk_at dksX0_hungriest_0 3 rfl rfl)
theorem dX0_hungriest_6 : decode cX0_hungriest 6 = .ok (.i2l, 1) := dk_133 (dk_at dksX0_hungriest_0 6 rfl rfl)
theorem dX0_hungriest_7 : decode cX0_hungriest 7 = .ok (.lastore, 1) := dk_80 (dk_at dksX0_hungriest_0 7 rfl rfl)
theorem dX0_hungriest_8 : decode cX0_hungriest 8 = .ok (.goto 6, 3) := dk_167 0 6 (dk_at dksX0_hungriest_0 8 rfl rfl)
theorem dX0_hungriest_11 : decode cX0_hungriest 11 = .ok (.astore_n 2, 1) := dk_77 (dk_at dksX0_hungriest_0 11 rfl rfl)
theorem dX0_hungriest_12 : decode cX0_hungriest 12 = .ok (.iconst 1, 1) := dk_4 (dk_at dksX0_hungriest_0 12 rfl rfl)
theorem dX0_hungriest_13 : decode cX0_hungriest 13 = .ok (.ireturn, 1) := dk_172 (dk_at dksX0_hungriest_0 13 rfl rfl)
theorem dX0_hungriest_14 : decode cX0_hungriest 14 = .ok (.iconst 0, 1) := dk_3 (dk_at dksX0_hungriest_0 14 rfl rfl)
theorem dX0_hungriest_15 : decode cX0_hungriest 15 = .ok (.ireturn, 1) := dk_172 (dk_at dksX0_hungriest_0 15 rfl rfl)
abbrev cX1_hungriestByLooking : ByteArray := prog_1_method_30_code
def yX1_hungriestByLooking : MethodName := ⟨RX1, "hungriestByLooking", "()I"⟩
def dkwX1_hungriestByLooking_0 : List UInt8 := [42, 180, 0, 66, 182, 0, 232, 184, 0, 228, 172]
abbrev dktX1_hungriestByLooking_0 : List UInt8 := dkwX1_hungriestByLooking_0 ++ []
theorem dksX1_hungriestByLooking_0 : cX1_hungriestByLooking.data.toList.drop 0 = dktX1_hungriestByLooking_0 := by decide +kernel
theorem dX1_hungriestByLooking_0 : decode cX1_hungriestByLooking 0 = .ok (.aload_n 0, 1) := dk_42 (dk_at dksX1_hungriestByLooking_0 0 rfl rfl)
theorem dX1_hungriestByLooking_1 : decode cX1_hungriestByLooking 1 = .ok (.getfield 66, 3) := dk_180 0 66 (dk_at dksX1_hungriestByLooking_0 1 rfl rfl)
theorem dX1_hungriestByLooking_4 : decode cX1_hungriestByLooking 4 = .ok (.invokevirtual 232, 3) := dk_182 0 232 (dk_at dksX1_hungriestByLooking_0 4 rfl rfl)
theorem dX1_hungriestByLooking_7 : decode cX1_hungriestByLooking 7 = .ok (.invokestatic 228, 3) := dk_184 0 228 (dk_at dksX1_hungriestByLooking_0 7 rfl rfl)
theorem dX1_hungriestByLooking_10 : decode cX1_hungriestByLooking 10 = .ok (.ireturn, 1) := dk_172 (dk_at dksX1_hungriestByLooking_0 10 rfl rfl)
