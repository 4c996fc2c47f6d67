set_option maxRecDepth 100000
abbrev cJ2_init : ByteArray := prog_49_method_1_code
def yJ2_init : MethodName := ⟨RJ2, "<init>", "()V"⟩
theorem dJ2_init_0 : decode cJ2_init 0 = .ok (.aload_n 0, 1) := by decide +kernel
theorem dJ2_init_1 : decode cJ2_init 1 = .ok (.invokespecial 1, 3) := by decide +kernel
theorem dJ2_init_4 : decode cJ2_init 4 = .ok (.return_, 1) := by decide +kernel
abbrev cJ3_init : ByteArray := prog_50_method_1_code
def yJ3_init : MethodName := ⟨RJ3, "<init>", "()V"⟩
def dkwJ3_init_0 : List UInt8 := [42, 183, 0, 1, 42, 3, 181, 0, 7, 177]
abbrev dktJ3_init_0 : List UInt8 := dkwJ3_init_0 ++ []
theorem dksJ3_init_0 : cJ3_init.data.toList.drop 0 = dktJ3_init_0 := by decide +kernel
theorem dJ3_init_0 : decode cJ3_init 0 = .ok (.aload_n 0, 1) := dk_42 (dk_at dksJ3_init_0 0 rfl rfl)
theorem dJ3_init_1 : decode cJ3_init 1 = .ok (.invokespecial 1, 3) := dk_183 0 1 (dk_at dksJ3_init_0 1 rfl rfl)
theorem dJ3_init_4 : decode cJ3_init 4 = .ok (.aload_n 0, 1) := dk_42 (dk_at dksJ3_init_0 4 rfl rfl)
theorem dJ3_init_5 : decode cJ3_init 5 = .ok (.iconst 0, 1) := dk_3 (dk_at dksJ3_init_0 5 rfl rfl)
theorem dJ3_init_6 : decode cJ3_init 6 = .ok (.putfield 7, 3) := dk_181 0 7 (dk_at dksJ3_init_0 6 rfl rfl)
theorem dJ3_init_9 : decode cJ3_init 9 = .ok (.return_, 1) := dk_177 (dk_at dksJ3_init_0 9 rfl rfl)
abbrev cJ4_init : ByteArray := prog_59_method_2_code
def yJ4_init : MethodName := ⟨RJ4, "<init>", "()V"⟩
def dkwJ4_init_0 : List UInt8 := [42, 183, 0, 1, 42, 178, 0, 39, 181, 0, 9, 177]
abbrev dktJ4_init_0 : List UInt8 := dkwJ4_init_0 ++ []
theorem dksJ4_init_0 : cJ4_init.data.toList.drop 0 = dktJ4_init_0 := by decide +kernel
theorem dJ4_init_0 : decode cJ4_init 0 = .ok (.aload_n 0, 1) := dk_42 (dk_at dksJ4_init_0 0 rfl rfl)
theorem dJ4_init_1 : decode cJ4_init 1 = .ok (.invokespecial 1, 3) := dk_183 0 1 (dk_at dksJ4_init_0 1 rfl rfl)
theorem dJ4_init_4 : decode cJ4_init 4 = .ok (.aload_n 0, 1) := dk_42 (dk_at dksJ4_init_0 4 rfl rfl)
theorem dJ4_init_5 : decode cJ4_init 5 = .ok (.getstatic 39, 3) := dk_178 0 39 (dk_at dksJ4_init_0 5 rfl rfl)
theorem dJ4_init_8 : decode cJ4_init 8 = .ok (.putfield 9, 3) := dk_181 0 9 (dk_at dksJ4_init_0 8 rfl rfl)
theorem dJ4_init_11 : decode cJ4_init 11 = .ok (.return_, 1) := dk_177 (dk_at dksJ4_init_0 11 rfl rfl)
abbrev cX3_init : ByteArray := prog_10_method_1_code
def yX3_init : MethodName := ⟨RX3, "<init>", "()V"⟩
def dkwX3_init_0 : List UInt8 := [42, 183, 0, 3, 42, 187, 0, 9, 89, 183, 0, 11, 181, 0, 12, 177]
abbrev dktX3_init_0 : List UInt8 := dkwX3_init_0 ++ []
theorem dksX3_init_0 : cX3_init.data.toList.drop 0 = dktX3_init_0 := by decide +kernel
theorem dX3_init_0 : decode cX3_init 0 = .ok (.aload_n 0, 1) := dk_42 (dk_at dksX3_init_0 0 rfl rfl)
theorem dX3_init_1 : decode cX3_init 1 = .ok (.invokespecial 3, 3) := dk_183 0 3 (dk_at dksX3_init_0 1 rfl rfl)
theorem dX3_init_4 : decode cX3_init 4 = .ok (.aload_n 0, 1) := dk_42 (dk_at dksX3_init_0 4 rfl rfl)
theorem dX3_init_5 : decode cX3_init 5 = .ok (.new 9, 3) := dk_187 0 9 (dk_at dksX3_init_0 5 rfl rfl)
theorem dX3_init_8 : decode cX3_init 8 = .ok (.dup, 1) := dk_89 (dk_at dksX3_init_0 8 rfl rfl)
theorem dX3_init_9 : decode cX3_init 9 = .ok (.invokespecial 11, 3) := dk_183 0 11 (dk_at dksX3_init_0 9 rfl rfl)
theorem dX3_init_12 : decode cX3_init 12 = .ok (.putfield 12, 3) := dk_181 0 12 (dk_at dksX3_init_0 12 rfl rfl)
theorem dX3_init_15 : decode cX3_init 15 = .ok (.return_, 1) := dk_177 (dk_at dksX3_init_0 15 rfl rfl)
abbrev cJ0_init : ByteArray := prog_53_method_1_code
def yJ0_init : MethodName := ⟨RJ0, "<init>", "()V"⟩
theorem dJ0_init_0 : decode cJ0_init 0 = .ok (.aload_n 0, 1) := by decide +kernel
theorem dJ0_init_1 : decode cJ0_init 1 = .ok (.invokespecial 1, 3) := by decide +kernel
theorem dJ0_init_4 : decode cJ0_init 4 = .ok (.return_, 1) := by decide +kernel
abbrev cJ1_init : ByteArray := prog_96_method_1_code
def yJ1_init : MethodName := ⟨RJ1, "<init>", "()V"⟩
def dkwJ1_init_0 : List UInt8 := [42, 183, 0, 1, 42, 3, 181, 0, 7, 42, 3, 181, 0, 13, 42, 1, 181, 0, 16, 177]
abbrev dktJ1_init_0 : List UInt8 := dkwJ1_init_0 ++ []
theorem dksJ1_init_0 : cJ1_init.data.toList.drop 0 = dktJ1_init_0 := by decide +kernel
theorem dJ1_init_0 : decode cJ1_init 0 = .ok (.aload_n 0, 1) := dk_42 (dk_at dksJ1_init_0 0 rfl rfl)
theorem dJ1_init_1 : decode cJ1_init 1 = .ok (.invokespecial 1, 3) := dk_183 0 1 (dk_at dksJ1_init_0 1 rfl rfl)
theorem dJ1_init_4 : decode cJ1_init 4 = .ok (.aload_n 0, 1) := dk_42 (dk_at dksJ1_init_0 4 rfl rfl)
theorem dJ1_init_5 : decode cJ1_init 5 = .ok (.iconst 0, 1) := dk_3 (dk_at dksJ1_init_0 5 rfl rfl)
theorem dJ1_init_6 : decode cJ1_init 6 = .ok (.putfield 7, 3) := dk_181 0 7 (dk_at dksJ1_init_0 6 rfl rfl)
theorem dJ1_init_9 : decode cJ1_init 9 = .ok (.aload_n 0, 1) := dk_42 (dk_at dksJ1_init_0 9 rfl rfl)
theorem dJ1_init_10 : decode cJ1_init 10 = .ok (.iconst 0, 1) := dk_3 (dk_at dksJ1_init_0 10 rfl rfl)
theorem dJ1_init_11 : decode cJ1_init 11 = .ok (.putfield 13, 3) := dk_181 0 13 (dk_at dksJ1_init_0 11 rfl rfl)
theorem dJ1_init_14 : decode cJ1_init 14 = .ok (.aload_n 0, 1) := dk_42 (dk_at dksJ1_init_0 14 rfl rfl)
theorem dJ1_init_15 : decode cJ1_init 15 = .ok (.aconst_null, 1) := dk_1 (dk_at dksJ1_init_0 15 rfl rfl)
theorem dJ1_init_16 : decode cJ1_init 16 = .ok (.putfield 16, 3) := dk_181 0 16 (dk_at dksJ1_init_0 16 rfl rfl)
theorem dJ1_init_19 : decode cJ1_init 19 = .ok (.return_, 1) := dk_177 (dk_at dksJ1_init_0 19 rfl rfl)
abbrev cX2_init : ByteArray := prog_14_method_1_code
def yX2_init : MethodName := ⟨RX2, "<init>", "()V"⟩
def dkwX2_init_1 : List UInt8 := [181, 0, 21, 177]
abbrev dktX2_init_1 : List UInt8 := dkwX2_init_1 ++ []
def dkwX2_init_0 : List UInt8 := [42, 183, 0, 3, 42, 187, 0, 9, 89, 183, 0, 11, 181, 0, 12, 42, 187, 0, 18, 89, 183, 0, 20]
abbrev dktX2_init_0 : List UInt8 := dkwX2_init_0 ++ dktX2_init_1
theorem dksX2_init_0 : cX2_init.data.toList.drop 0 = dktX2_init_0 := by decide +kernel
theorem dksX2_init_1 : cX2_init.data.toList.drop 23 = dktX2_init_1 := dk_seg dksX2_init_0 23 rfl rfl
theorem dX2_init_0 : decode cX2_init 0 = .ok (.aload_n 0, 1) := dk_42 (dk_at dksX2_init_0 0 rfl rfl)
theorem dX2_init_1 : decode cX2_init 1 = .ok (.invokespecial 3, 3) := dk_183 0 3 (dk_at dksX2_init_0 1 rfl rfl)
theorem dX2_init_4 : decode cX2_init 4 = .ok (.aload_n 0, 1) := dk_42 (dk_at dksX2_init_0 4 rfl rfl)
theorem dX2_init_5 : decode cX2_init 5 = .ok (.new 9, 3) := dk_187 0 9 (dk_at dksX2_init_0 5 rfl rfl)
theorem dX2_init_8 : decode cX2_init 8 = .ok (.dup, 1) := dk_89 (dk_at dksX2_init_0 8 rfl rfl)
theorem dX2_init_9 : decode cX2_init 9 = .ok (.invokespecial 11, 3) := dk_183 0 11 (dk_at dksX2_init_0 9 rfl rfl)
theorem dX2_init_12 : decode cX2_init 12 = .ok (.putfield 12, 3) := dk_181 0 12 (dk_at dksX2_init_0 12 rfl rfl)
theorem dX2_init_15 : decode cX2_init 15 = .ok (.aload_n 0, 1) := dk_42 (dk_at dksX2_init_0 15 rfl rfl)
theorem dX2_init_16 : decode cX2_init 16 = .ok (.new 18, 3) := dk_187 0 18 (dk_at dksX2_init_0 16 rfl rfl)
theorem dX2_init_19 : decode cX2_init 19 = .ok (.dup, 1) := dk_89 (dk_at dksX2_init_0 19 rfl rfl)
theorem dX2_init_20 : decode cX2_init 20 = .ok (.invokespecial 20, 3) := dk_183 0 20 (dk_at dksX2_init_0 20 rfl rfl)
theorem dX2_init_23 : decode cX2_init 23 = .ok (.putfield 21, 3) := dk_181 0 21 (dk_at dksX2_init_1 0 rfl rfl)
theorem dX2_init_26 : decode cX2_init 26 = .ok (.return_, 1) := dk_177 (dk_at dksX2_init_1 3 rfl rfl)
abbrev cJ7_init : ByteArray := prog_20_method_2_code
def yJ7_init : MethodName := ⟨RJ7, "<init>", "(I)V"⟩
def dkwJ7_init_1 : List UInt8 := [167, 0, 16, 42, 27, 184, 0, 26, 181, 0, 15, 42, 4, 181, 0, 22, 177]
abbrev dktJ7_init_1 : List UInt8 := dkwJ7_init_1 ++ []
def dkwJ7_init_0 : List UInt8 := [42, 183, 0, 3, 178, 0, 18, 153, 0, 18, 42, 27, 188, 8, 181, 0, 15, 42, 3, 181, 0, 22]
abbrev dktJ7_init_0 : List UInt8 := dkwJ7_init_0 ++ dktJ7_init_1
theorem dksJ7_init_0 : cJ7_init.data.toList.drop 0 = dktJ7_init_0 := by decide +kernel
theorem dksJ7_init_1 : cJ7_init.data.toList.drop 22 = dktJ7_init_1 := dk_seg dksJ7_init_0 22 rfl rfl
theorem dJ7_init_0 : decode cJ7_init 0 = .ok (.aload_n 0, 1) := dk_42 (dk_at dksJ7_init_0 0 rfl rfl)
theorem dJ7_init_1 : decode cJ7_init 1 = .ok (.invokespecial 3, 3) := dk_183 0 3 (dk_at dksJ7_init_0 1 rfl rfl)
theorem dJ7_init_4 : decode cJ7_init 4 = .ok (.getstatic 18, 3) := dk_178 0 18 (dk_at dksJ7_init_0 4 rfl rfl)
theorem dJ7_init_7 : decode cJ7_init 7 = .ok (.ifCond .eq 18, 3) := dk_153 0 18 (dk_at dksJ7_init_0 7 rfl rfl)
theorem dJ7_init_10 : decode cJ7_init 10 = .ok (.aload_n 0, 1) := dk_42 (dk_at dksJ7_init_0 10 rfl rfl)
theorem dJ7_init_11 : decode cJ7_init 11 = .ok (.iload_n 1, 1) := dk_27 (dk_at dksJ7_init_0 11 rfl rfl)
theorem dJ7_init_12 : decode cJ7_init 12 = .ok (.newarray .byte, 2) := dk_188_8 (dk_at dksJ7_init_0 12 rfl rfl)
theorem dJ7_init_14 : decode cJ7_init 14 = .ok (.putfield 15, 3) := dk_181 0 15 (dk_at dksJ7_init_0 14 rfl rfl)
theorem dJ7_init_17 : decode cJ7_init 17 = .ok (.aload_n 0, 1) := dk_42 (dk_at dksJ7_init_0 17 rfl rfl)
theorem dJ7_init_18 : decode cJ7_init 18 = .ok (.iconst 0, 1) := dk_3 (dk_at dksJ7_init_0 18 rfl rfl)
theorem dJ7_init_19 : decode cJ7_init 19 = .ok (.putfield 22, 3) := dk_181 0 22 (dk_at dksJ7_init_0 19 rfl rfl)
theorem dJ7_init_22 : decode cJ7_init 22 = .ok (.goto 16, 3) := dk_167 0 16 (dk_at dksJ7_init_1 0 rfl rfl)
theorem dJ7_init_25 : decode cJ7_init 25 = .ok (.aload_n 0, 1) := dk_42 (dk_at dksJ7_init_1 3 rfl rfl)
theorem dJ7_init_26 : decode cJ7_init 26 = .ok (.iload_n 1, 1) := dk_27 (dk_at dksJ7_init_1 4 rfl rfl)
theorem dJ7_init_27 : decode cJ7_init 27 = .ok (.invokestatic 26, 3) := dk_184 0 26 (dk_at dksJ7_init_1 5 rfl rfl)
theorem dJ7_init_38 : decode cJ7_init 38 = .ok (.return_, 1) := dk_177 (dk_at dksJ7_init_1 16 rfl rfl)
abbrev cJ8_init : ByteArray := prog_39_method_1_code
def yJ8_init : MethodName := ⟨RJ8, "<init>", "()V"⟩
def dkwJ8_init_0 : List UInt8 := [42, 16, 16, 183, 0, 1, 177]
abbrev dktJ8_init_0 : List UInt8 := dkwJ8_init_0 ++ []
theorem dksJ8_init_0 : cJ8_init.data.toList.drop 0 = dktJ8_init_0 := by decide +kernel
theorem dJ8_init_0 : decode cJ8_init 0 = .ok (.aload_n 0, 1) := dk_42 (dk_at dksJ8_init_0 0 rfl rfl)
theorem dJ8_init_1 : decode cJ8_init 1 = .ok (.bipush 16, 2) := dk_16 16 (dk_at dksJ8_init_0 1 rfl rfl)
theorem dJ8_init_3 : decode cJ8_init 3 = .ok (.invokespecial 1, 3) := dk_183 0 1 (dk_at dksJ8_init_0 3 rfl rfl)
theorem dJ8_init_6 : decode cJ8_init 6 = .ok (.return_, 1) := dk_177 (dk_at dksJ8_init_0 6 rfl rfl)
abbrev cJ5_init : ByteArray := prog_55_method_1_code
def yJ5_init : MethodName := ⟨RJ5, "<init>", "()V"⟩
theorem dJ5_init_0 : decode cJ5_init 0 = .ok (.aload_n 0, 1) := by decide +kernel
theorem dJ5_init_1 : decode cJ5_init 1 = .ok (.invokespecial 1, 3) := by decide +kernel
theorem dJ5_init_4 : decode cJ5_init 4 = .ok (.return_, 1) := by decide +kernel
abbrev cJ6_init : ByteArray := prog_75_method_1_code
def yJ6_init : MethodName := ⟨RJ6, "<init>", "()V"⟩
def dkwJ6_init_0 : List UInt8 := [42, 183, 0, 1, 42, 3, 181, 0, 7, 177]
abbrev dktJ6_init_0 : List UInt8 := dkwJ6_init_0 ++ []
theorem dksJ6_init_0 : cJ6_init.data.toList.drop 0 = dktJ6_init_0 := by decide +kernel
theorem dJ6_init_0 : decode cJ6_init 0 = .ok (.aload_n 0, 1) := dk_42 (dk_at dksJ6_init_0 0 rfl rfl)
theorem dJ6_init_1 : decode cJ6_init 1 = .ok (.invokespecial 1, 3) := dk_183 0 1 (dk_at dksJ6_init_0 1 rfl rfl)
theorem dJ6_init_4 : decode cJ6_init 4 = .ok (.aload_n 0, 1) := dk_42 (dk_at dksJ6_init_0 4 rfl rfl)
theorem dJ6_init_5 : decode cJ6_init 5 = .ok (.iconst 0, 1) := dk_3 (dk_at dksJ6_init_0 5 rfl rfl)
theorem dJ6_init_6 : decode cJ6_init 6 = .ok (.putfield 7, 3) := dk_181 0 7 (dk_at dksJ6_init_0 6 rfl rfl)
theorem dJ6_init_9 : decode cJ6_init 9 = .ok (.return_, 1) := dk_177 (dk_at dksJ6_init_0 9 rfl rfl)
abbrev cX1_init : ByteArray := prog_1_method_4_code
def yX1_init : MethodName := ⟨RX1, "<init>", "()V"⟩
def dkwX1_init_2 : List UInt8 := [42, 18, 93, 181, 0, 95, 177]
abbrev dktX1_init_2 : List UInt8 := dkwX1_init_2 ++ []
def dkwX1_init_1 : List UInt8 := [181, 0, 75, 42, 187, 0, 79, 89, 183, 0, 81, 181, 0, 82, 42, 2, 181, 0, 86, 42, 2, 181, 0, 90]
abbrev dktX1_init_1 : List UInt8 := dkwX1_init_1 ++ dktX1_init_2
def dkwX1_init_0 : List UInt8 := [42, 183, 0, 60, 42, 187, 0, 63, 89, 183, 0, 65, 181, 0, 66, 42, 187, 0, 72, 89, 183, 0, 74]
abbrev dktX1_init_0 : List UInt8 := dkwX1_init_0 ++ dktX1_init_1
theorem dksX1_init_0 : cX1_init.data.toList.drop 0 = dktX1_init_0 := by decide +kernel
theorem dksX1_init_1 : cX1_init.data.toList.drop 23 = dktX1_init_1 := dk_seg dksX1_init_0 23 rfl rfl
theorem dksX1_init_2 : cX1_init.data.toList.drop 47 = dktX1_init_2 := dk_seg dksX1_init_1 24 rfl rfl
theorem dX1_init_0 : decode cX1_init 0 = .ok (.aload_n 0, 1) := dk_42 (dk_at dksX1_init_0 0 rfl rfl)
theorem dX1_init_1 : decode cX1_init 1 = .ok (.invokespecial 60, 3) := dk_183 0 60 (dk_at dksX1_init_0 1 rfl rfl)
theorem dX1_init_4 : decode cX1_init 4 = .ok (.aload_n 0, 1) := dk_42 (dk_at dksX1_init_0 4 rfl rfl)
theorem dX1_init_5 : decode cX1_init 5 = .ok (.new 63, 3) := dk_187 0 63 (dk_at dksX1_init_0 5 rfl rfl)
theorem dX1_init_8 : decode cX1_init 8 = .ok (.dup, 1) := dk_89 (dk_at dksX1_init_0 8 rfl rfl)
theorem dX1_init_9 : decode cX1_init 9 = .ok (.invokespecial 65, 3) := dk_183 0 65 (dk_at dksX1_init_0 9 rfl rfl)
theorem dX1_init_12 : decode cX1_init 12 = .ok (.putfield 66, 3) := dk_181 0 66 (dk_at dksX1_init_0 12 rfl rfl)
theorem dX1_init_15 : decode cX1_init 15 = .ok (.aload_n 0, 1) := dk_42 (dk_at dksX1_init_0 15 rfl rfl)
theorem dX1_init_16 : decode cX1_init 16 = .ok (.new 72, 3) := dk_187 0 72 (dk_at dksX1_init_0 16 rfl rfl)
theorem dX1_init_19 : decode cX1_init 19 = .ok (.dup, 1) := dk_89 (dk_at dksX1_init_0 19 rfl rfl)
theorem dX1_init_20 : decode cX1_init 20 = .ok (.invokespecial 74, 3) := dk_183 0 74 (dk_at dksX1_init_0 20 rfl rfl)
theorem dX1_init_23 : decode cX1_init 23 = .ok (.putfield 75, 3) := dk_181 0 75 (dk_at dksX1_init_1 0 rfl rfl)
theorem dX1_init_26 : decode cX1_init 26 = .ok (.aload_n 0, 1) := dk_42 (dk_at dksX1_init_1 3 rfl rfl)
theorem dX1_init_27 : decode cX1_init 27 = .ok (.new 79, 3) := dk_187 0 79 (dk_at dksX1_init_1 4 rfl rfl)
theorem dX1_init_30 : decode cX1_init 30 = .ok (.dup, 1) := dk_89 (dk_at dksX1_init_1 7 rfl rfl)
theorem dX1_init_31 : decode cX1_init 31 = .ok (.invokespecial 81, 3) := dk_183 0 81 (dk_at dksX1_init_1 8 rfl rfl)
theorem dX1_init_34 : decode cX1_init 34 = .ok (.putfield 82, 3) := dk_181 0 82 (dk_at dksX1_init_1 11 rfl rfl)
theorem dX1_init_37 : decode cX1_init 37 = .ok (.aload_n 0, 1) := dk_42 (dk_at dksX1_init_1 14 rfl rfl)
theorem dX1_init_38 : decode cX1_init 38 = .ok (.iconst (-1), 1) := dk_2 (dk_at dksX1_init_1 15 rfl rfl)
theorem dX1_init_39 : decode cX1_init 39 = .ok (.putfield 86, 3) := dk_181 0 86 (dk_at dksX1_init_1 16 rfl rfl)
theorem dX1_init_42 : decode cX1_init 42 = .ok (.aload_n 0, 1) := dk_42 (dk_at dksX1_init_1 19 rfl rfl)
theorem dX1_init_43 : decode cX1_init 43 = .ok (.iconst (-1), 1) := dk_2 (dk_at dksX1_init_1 20 rfl rfl)
theorem dX1_init_44 : decode cX1_init 44 = .ok (.putfield 90, 3) := dk_181 0 90 (dk_at dksX1_init_1 21 rfl rfl)
theorem dX1_init_47 : decode cX1_init 47 = .ok (.aload_n 0, 1) := dk_42 (dk_at dksX1_init_2 0 rfl rfl)
theorem dX1_init_48 : decode cX1_init 48 = .ok (.ldc 93, 2) := dk_18 93 (dk_at dksX1_init_2 1 rfl rfl)
theorem dX1_init_50 : decode cX1_init 50 = .ok (.putfield 95, 3) := dk_181 0 95 (dk_at dksX1_init_2 3 rfl rfl)
theorem dX1_init_53 : decode cX1_init 53 = .ok (.return_, 1) := dk_177 (dk_at dksX1_init_2 6 rfl rfl)
abbrev cJ4_elementData : ByteArray := prog_59_method_18_code
def yJ4_elementData : MethodName := ⟨RJ4, "elementData", "(I)Ljava/lang/Object;"⟩
def dkwJ4_elementData_0 : List UInt8 := [42, 180, 0, 9, 27, 50, 176]
abbrev dktJ4_elementData_0 : List UInt8 := dkwJ4_elementData_0 ++ []
theorem dksJ4_elementData_0 : cJ4_elementData.data.toList.drop 0 = dktJ4_elementData_0 := by decide +kernel
theorem dJ4_elementData_0 : decode cJ4_elementData 0 = .ok (.aload_n 0, 1) := dk_42 (dk_at dksJ4_elementData_0 0 rfl rfl)
theorem dJ4_elementData_1 : decode cJ4_elementData 1 = .ok (.getfield 9, 3) := dk_180 0 9 (dk_at dksJ4_elementData_0 1 rfl rfl)
theorem dJ4_elementData_4 : decode cJ4_elementData 4 = .ok (.iload_n 1, 1) := dk_27 (dk_at dksJ4_elementData_0 4 rfl rfl)
theorem dJ4_elementData_5 : decode cJ4_elementData 5 = .ok (.aaload, 1) := dk_50 (dk_at dksJ4_elementData_0 5 rfl rfl)
theorem dJ4_elementData_6 : decode cJ4_elementData 6 = .ok (.areturn, 1) := dk_176 (dk_at dksJ4_elementData_0 6 rfl rfl)
abbrev cJ24_checkIndex : ByteArray := prog_110_method_11_code
def yJ24_checkIndex : MethodName := ⟨RJ24, "checkIndex", "(IILjava/util/function/BiFunction;)I"⟩
def dkwJ24_checkIndex_0 : List UInt8 := [26, 155, 0, 8, 26, 27, 161, 0, 10, 44, 26, 27, 184, 0, 95, 191, 26, 172]
abbrev dktJ24_checkIndex_0 : List UInt8 := dkwJ24_checkIndex_0 ++ []
theorem dksJ24_checkIndex_0 : cJ24_checkIndex.data.toList.drop 0 = dktJ24_checkIndex_0 := by decide +kernel
theorem dJ24_checkIndex_0 : decode cJ24_checkIndex 0 = .ok (.iload_n 0, 1) := dk_26 (dk_at dksJ24_checkIndex_0 0 rfl rfl)
theorem dJ24_checkIndex_1 : decode cJ24_checkIndex 1 = .ok (.ifCond .lt 8, 3) := dk_155 0 8 (dk_at dksJ24_checkIndex_0 1 rfl rfl)
theorem dJ24_checkIndex_4 : decode cJ24_checkIndex 4 = .ok (.iload_n 0, 1) := dk_26 (dk_at dksJ24_checkIndex_0 4 rfl rfl)
theorem dJ24_checkIndex_5 : decode cJ24_checkIndex 5 = .ok (.iload_n 1, 1) := dk_27 (dk_at dksJ24_checkIndex_0 5 rfl rfl)
theorem dJ24_checkIndex_6 : decode cJ24_checkIndex 6 = .ok (.if_icmp .lt 10, 3) := dk_161 0 10 (dk_at dksJ24_checkIndex_0 6 rfl rfl)
theorem dJ24_checkIndex_9 : decode cJ24_checkIndex 9 = .ok (.aload_n 2, 1) := dk_44 (dk_at dksJ24_checkIndex_0 9 rfl rfl)
theorem dJ24_checkIndex_10 : decode cJ24_checkIndex 10 = .ok (.iload_n 0, 1) := dk_26 (dk_at dksJ24_checkIndex_0 10 rfl rfl)
theorem dJ24_checkIndex_11 : decode cJ24_checkIndex 11 = .ok (.iload_n 1, 1) := dk_27 (dk_at dksJ24_checkIndex_0 11 rfl rfl)
theorem dJ24_checkIndex_12 : decode cJ24_checkIndex 12 = .ok (.invokestatic 95, 3) := dk_184 0 95 (dk_at dksJ24_checkIndex_0 12 rfl rfl)
theorem dJ24_checkIndex_16 : decode cJ24_checkIndex 16 = .ok (.iload_n 0, 1) := dk_26 (dk_at dksJ24_checkIndex_0 16 rfl rfl)
theorem dJ24_checkIndex_17 : decode cJ24_checkIndex 17 = .ok (.ireturn, 1) := dk_172 (dk_at dksJ24_checkIndex_0 17 rfl rfl)
abbrev cJ37_checkIndex : ByteArray := prog_85_method_17_code
def yJ37_checkIndex : MethodName := ⟨RJ37, "checkIndex", "(II)I"⟩
def dkwJ37_checkIndex_0 : List UInt8 := [26, 27, 1, 184, 0, 105, 172]
abbrev dktJ37_checkIndex_0 : List UInt8 := dkwJ37_checkIndex_0 ++ []
theorem dksJ37_checkIndex_0 : cJ37_checkIndex.data.toList.drop 0 = dktJ37_checkIndex_0 := by decide +kernel
theorem dJ37_checkIndex_0 : decode cJ37_checkIndex 0 = .ok (.iload_n 0, 1) := dk_26 (dk_at dksJ37_checkIndex_0 0 rfl rfl)
theorem dJ37_checkIndex_1 : decode cJ37_checkIndex 1 = .ok (.iload_n 1, 1) := dk_27 (dk_at dksJ37_checkIndex_0 1 rfl rfl)
theorem dJ37_checkIndex_2 : decode cJ37_checkIndex 2 = .ok (.aconst_null, 1) := dk_1 (dk_at dksJ37_checkIndex_0 2 rfl rfl)
theorem dJ37_checkIndex_3 : decode cJ37_checkIndex 3 = .ok (.invokestatic 105, 3) := dk_184 0 105 (dk_at dksJ37_checkIndex_0 3 rfl rfl)
theorem dJ37_checkIndex_6 : decode cJ37_checkIndex 6 = .ok (.ireturn, 1) := dk_172 (dk_at dksJ37_checkIndex_0 6 rfl rfl)
abbrev cJ4_get : ByteArray := prog_59_method_20_code
def yJ4_get : MethodName := ⟨RJ4, "get", "(I)Ljava/lang/Object;"⟩
def dkwJ4_get_0 : List UInt8 := [27, 42, 180, 0, 48, 184, 0, 118, 87, 42, 27, 182, 0, 123, 176]
abbrev dktJ4_get_0 : List UInt8 := dkwJ4_get_0 ++ []
theorem dksJ4_get_0 : cJ4_get.data.toList.drop 0 = dktJ4_get_0 := by decide +kernel
theorem dJ4_get_0 : decode cJ4_get 0 = .ok (.iload_n 1, 1) := dk_27 (dk_at dksJ4_get_0 0 rfl rfl)
theorem dJ4_get_1 : decode cJ4_get 1 = .ok (.aload_n 0, 1) := dk_42 (dk_at dksJ4_get_0 1 rfl rfl)
theorem dJ4_get_2 : decode cJ4_get 2 = .ok (.getfield 48, 3) := dk_180 0 48 (dk_at dksJ4_get_0 2 rfl rfl)
theorem dJ4_get_5 : decode cJ4_get 5 = .ok (.invokestatic 118, 3) := dk_184 0 118 (dk_at dksJ4_get_0 5 rfl rfl)
theorem dJ4_get_8 : decode cJ4_get 8 = .ok (.pop, 1) := dk_87 (dk_at dksJ4_get_0 8 rfl rfl)
theorem dJ4_get_9 : decode cJ4_get 9 = .ok (.aload_n 0, 1) := dk_42 (dk_at dksJ4_get_0 9 rfl rfl)
theorem dJ4_get_10 : decode cJ4_get 10 = .ok (.iload_n 1, 1) := dk_27 (dk_at dksJ4_get_0 10 rfl rfl)
theorem dJ4_get_11 : decode cJ4_get 11 = .ok (.invokevirtual 123, 3) := dk_182 0 123 (dk_at dksJ4_get_0 11 rfl rfl)
theorem dJ4_get_14 : decode cJ4_get 14 = .ok (.areturn, 1) := dk_176 (dk_at dksJ4_get_0 14 rfl rfl)
abbrev cJ4_size : ByteArray := prog_59_method_8_code
def yJ4_size : MethodName := ⟨RJ4, "size", "()I"⟩
theorem dJ4_size_0 : decode cJ4_size 0 = .ok (.aload_n 0, 1) := by decide +kernel
theorem dJ4_size_1 : decode cJ4_size 1 = .ok (.getfield 48, 3) := by decide +kernel
theorem dJ4_size_4 : decode cJ4_size 4 = .ok (.ireturn, 1) := by decide +kernel
abbrev cX12_isInTime : ByteArray := prog_8_method_2_code
def yX12_isInTime : MethodName := ⟨RX12, "isInTime", "(I)Z"⟩
def dkwX12_isInTime_4 : List UInt8 := [167, 255, 178, 29, 172]
abbrev dktX12_isInTime_4 : List UInt8 := dkwX12_isInTime_4 ++ []
def dkwX12_isInTime_3 : List UInt8 := [185, 0, 47, 2, 0, 192, 0, 39, 180, 0, 62, 163, 0, 7, 4, 167, 0, 4, 3, 62, 132, 4, 1]
abbrev dktX12_isInTime_3 : List UInt8 := dkwX12_isInTime_3 ++ dktX12_isInTime_4
def dkwX12_isInTime_2 : List UInt8 := [185, 0, 47, 2, 0, 192, 0, 39, 180, 0, 59, 96, 61, 28, 42, 180, 0, 10, 21, 4]
abbrev dktX12_isInTime_2 : List UInt8 := dkwX12_isInTime_2 ++ dktX12_isInTime_3
def dkwX12_isInTime_1 : List UInt8 := [29, 153, 0, 66, 27, 21, 4, 122, 4, 126, 4, 160, 0, 50, 28, 42, 180, 0, 10, 21, 4]
abbrev dktX12_isInTime_1 : List UInt8 := dkwX12_isInTime_1 ++ dktX12_isInTime_2
def dkwX12_isInTime_0 : List UInt8 := [42, 180, 0, 16, 61, 4, 62, 3, 54, 4, 21, 4, 42, 180, 0, 10, 185, 0, 41, 1, 0, 162, 0, 70]
abbrev dktX12_isInTime_0 : List UInt8 := dkwX12_isInTime_0 ++ dktX12_isInTime_1
theorem dksX12_isInTime_0 : cX12_isInTime.data.toList.drop 0 = dktX12_isInTime_0 := by decide +kernel
theorem dksX12_isInTime_1 : cX12_isInTime.data.toList.drop 24 = dktX12_isInTime_1 := dk_seg dksX12_isInTime_0 24 rfl rfl
theorem dksX12_isInTime_2 : cX12_isInTime.data.toList.drop 45 = dktX12_isInTime_2 := dk_seg dksX12_isInTime_1 21 rfl rfl
theorem dksX12_isInTime_3 : cX12_isInTime.data.toList.drop 65 = dktX12_isInTime_3 := dk_seg dksX12_isInTime_2 20 rfl rfl
theorem dksX12_isInTime_4 : cX12_isInTime.data.toList.drop 88 = dktX12_isInTime_4 := dk_seg dksX12_isInTime_3 23 rfl rfl
theorem dX12_isInTime_0 : decode cX12_isInTime 0 = .ok (.aload_n 0, 1) := dk_42 (dk_at dksX12_isInTime_0 0 rfl rfl)
theorem dX12_isInTime_1 : decode cX12_isInTime 1 = .ok (.getfield 16, 3) := dk_180 0 16 (dk_at dksX12_isInTime_0 1 rfl rfl)
theorem dX12_isInTime_4 : decode cX12_isInTime 4 = .ok (.istore_n 2, 1) := dk_61 (dk_at dksX12_isInTime_0 4 rfl rfl)
theorem dX12_isInTime_5 : decode cX12_isInTime 5 = .ok (.iconst 1, 1) := dk_4 (dk_at dksX12_isInTime_0 5 rfl rfl)
theorem dX12_isInTime_6 : decode cX12_isInTime 6 = .ok (.istore_n 3, 1) := dk_62 (dk_at dksX12_isInTime_0 6 rfl rfl)
theorem dX12_isInTime_7 : decode cX12_isInTime 7 = .ok (.iconst 0, 1) := dk_3 (dk_at dksX12_isInTime_0 7 rfl rfl)
theorem dX12_isInTime_8 : decode cX12_isInTime 8 = .ok (.istore 4, 2) := dk_54 4 (dk_at dksX12_isInTime_0 8 rfl rfl)
theorem dX12_isInTime_10 : decode cX12_isInTime 10 = .ok (.iload 4, 2) := dk_21 4 (dk_at dksX12_isInTime_0 10 rfl rfl)
theorem dX12_isInTime_12 : decode cX12_isInTime 12 = .ok (.aload_n 0, 1) := dk_42 (dk_at dksX12_isInTime_0 12 rfl rfl)
theorem dX12_isInTime_13 : decode cX12_isInTime 13 = .ok (.getfield 10, 3) := dk_180 0 10 (dk_at dksX12_isInTime_0 13 rfl rfl)
theorem dX12_isInTime_16 : decode cX12_isInTime 16 = .ok (.invokeinterface 41 1, 5) := by decide +kernel
theorem dX12_isInTime_21 : decode cX12_isInTime 21 = .ok (.if_icmp .ge 70, 3) := dk_162 0 70 (dk_at dksX12_isInTime_0 21 rfl rfl)
theorem dX12_isInTime_24 : decode cX12_isInTime 24 = .ok (.iload_n 3, 1) := dk_29 (dk_at dksX12_isInTime_1 0 rfl rfl)
theorem dX12_isInTime_25 : decode cX12_isInTime 25 = .ok (.ifCond .eq 66, 3) := dk_153 0 66 (dk_at dksX12_isInTime_1 1 rfl rfl)
theorem dX12_isInTime_28 : decode cX12_isInTime 28 = .ok (.iload_n 1, 1) := dk_27 (dk_at dksX12_isInTime_1 4 rfl rfl)
theorem dX12_isInTime_29 : decode cX12_isInTime 29 = .ok (.iload 4, 2) := dk_21 4 (dk_at dksX12_isInTime_1 5 rfl rfl)
theorem dX12_isInTime_31 : decode cX12_isInTime 31 = .ok (.ishr, 1) := dk_122 (dk_at dksX12_isInTime_1 7 rfl rfl)
theorem dX12_isInTime_32 : decode cX12_isInTime 32 = .ok (.iconst 1, 1) := dk_4 (dk_at dksX12_isInTime_1 8 rfl rfl)
theorem dX12_isInTime_33 : decode cX12_isInTime 33 = .ok (.iand, 1) := dk_126 (dk_at dksX12_isInTime_1 9 rfl rfl)
theorem dX12_isInTime_34 : decode cX12_isInTime 34 = .ok (.iconst 1, 1) := dk_4 (dk_at dksX12_isInTime_1 10 rfl rfl)
theorem dX12_isInTime_35 : decode cX12_isInTime 35 = .ok (.if_icmp .ne 50, 3) := dk_160 0 50 (dk_at dksX12_isInTime_1 11 rfl rfl)
theorem dX12_isInTime_38 : decode cX12_isInTime 38 = .ok (.iload_n 2, 1) := dk_28 (dk_at dksX12_isInTime_1 14 rfl rfl)
theorem dX12_isInTime_39 : decode cX12_isInTime 39 = .ok (.aload_n 0, 1) := dk_42 (dk_at dksX12_isInTime_1 15 rfl rfl)
theorem dX12_isInTime_40 : decode cX12_isInTime 40 = .ok (.getfield 10, 3) := dk_180 0 10 (dk_at dksX12_isInTime_1 16 rfl rfl)
theorem dX12_isInTime_43 : decode cX12_isInTime 43 = .ok (.iload 4, 2) := dk_21 4 (dk_at dksX12_isInTime_1 19 rfl rfl)
theorem dX12_isInTime_45 : decode cX12_isInTime 45 = .ok (.invokeinterface 47 2, 5) := by decide +kernel
theorem dX12_isInTime_50 : decode cX12_isInTime 50 = .ok (.checkcast 39, 3) := dk_192 0 39 (dk_at dksX12_isInTime_2 5 rfl rfl)
theorem dX12_isInTime_53 : decode cX12_isInTime 53 = .ok (.getfield 59, 3) := dk_180 0 59 (dk_at dksX12_isInTime_2 8 rfl rfl)
theorem dX12_isInTime_56 : decode cX12_isInTime 56 = .ok (.iadd, 1) := dk_96 (dk_at dksX12_isInTime_2 11 rfl rfl)
theorem dX12_isInTime_57 : decode cX12_isInTime 57 = .ok (.istore_n 2, 1) := dk_61 (dk_at dksX12_isInTime_2 12 rfl rfl)
theorem dX12_isInTime_58 : decode cX12_isInTime 58 = .ok (.iload_n 2, 1) := dk_28 (dk_at dksX12_isInTime_2 13 rfl rfl)
theorem dX12_isInTime_59 : decode cX12_isInTime 59 = .ok (.aload_n 0, 1) := dk_42 (dk_at dksX12_isInTime_2 14 rfl rfl)
theorem dX12_isInTime_60 : decode cX12_isInTime 60 = .ok (.getfield 10, 3) := dk_180 0 10 (dk_at dksX12_isInTime_2 15 rfl rfl)
theorem dX12_isInTime_63 : decode cX12_isInTime 63 = .ok (.iload 4, 2) := dk_21 4 (dk_at dksX12_isInTime_2 18 rfl rfl)
theorem dX12_isInTime_65 : decode cX12_isInTime 65 = .ok (.invokeinterface 47 2, 5) := by decide +kernel
theorem dX12_isInTime_70 : decode cX12_isInTime 70 = .ok (.checkcast 39, 3) := dk_192 0 39 (dk_at dksX12_isInTime_3 5 rfl rfl)
theorem dX12_isInTime_73 : decode cX12_isInTime 73 = .ok (.getfield 62, 3) := dk_180 0 62 (dk_at dksX12_isInTime_3 8 rfl rfl)
theorem dX12_isInTime_76 : decode cX12_isInTime 76 = .ok (.if_icmp .gt 7, 3) := dk_163 0 7 (dk_at dksX12_isInTime_3 11 rfl rfl)
theorem dX12_isInTime_79 : decode cX12_isInTime 79 = .ok (.iconst 1, 1) := dk_4 (dk_at dksX12_isInTime_3 14 rfl rfl)
theorem dX12_isInTime_80 : decode cX12_isInTime 80 = .ok (.goto 4, 3) := dk_167 0 4 (dk_at dksX12_isInTime_3 15 rfl rfl)
theorem dX12_isInTime_83 : decode cX12_isInTime 83 = .ok (.iconst 0, 1) := dk_3 (dk_at dksX12_isInTime_3 18 rfl rfl)
theorem dX12_isInTime_84 : decode cX12_isInTime 84 = .ok (.istore_n 3, 1) := dk_62 (dk_at dksX12_isInTime_3 19 rfl rfl)
theorem dX12_isInTime_85 : decode cX12_isInTime 85 = .ok (.iinc 4 1, 3) := dk_132 4 1 (dk_at dksX12_isInTime_3 20 rfl rfl)
theorem dX12_isInTime_88 : decode cX12_isInTime 88 = .ok (.goto (-78), 3) := dk_167 255 178 (dk_at dksX12_isInTime_4 0 rfl rfl)
theorem dX12_isInTime_91 : decode cX12_isInTime 91 = .ok (.iload_n 3, 1) := dk_29 (dk_at dksX12_isInTime_4 3 rfl rfl)
theorem dX12_isInTime_92 : decode cX12_isInTime 92 = .ok (.ireturn, 1) := dk_172 (dk_at dksX12_isInTime_4 4 rfl rfl)
abbrev cX12_areAllInTime : ByteArray := prog_8_method_3_code
def yX12_areAllInTime : MethodName := ⟨RX12, "areAllInTime", "()Z"⟩
def dkwX12_areAllInTime_0 : List UInt8 := [42, 4, 42, 180, 0, 10, 185, 0, 41, 1, 0, 120, 4, 100, 182, 0, 65, 172]
abbrev dktX12_areAllInTime_0 : List UInt8 := dkwX12_areAllInTime_0 ++ []
theorem dksX12_areAllInTime_0 : cX12_areAllInTime.data.toList.drop 0 = dktX12_areAllInTime_0 := by decide +kernel
theorem dX12_areAllInTime_0 : decode cX12_areAllInTime 0 = .ok (.aload_n 0, 1) := dk_42 (dk_at dksX12_areAllInTime_0 0 rfl rfl)
theorem dX12_areAllInTime_1 : decode cX12_areAllInTime 1 = .ok (.iconst 1, 1) := dk_4 (dk_at dksX12_areAllInTime_0 1 rfl rfl)
theorem dX12_areAllInTime_2 : decode cX12_areAllInTime 2 = .ok (.aload_n 0, 1) := dk_42 (dk_at dksX12_areAllInTime_0 2 rfl rfl)
theorem dX12_areAllInTime_3 : decode cX12_areAllInTime 3 = .ok (.getfield 10, 3) := dk_180 0 10 (dk_at dksX12_areAllInTime_0 3 rfl rfl)
theorem dX12_areAllInTime_6 : decode cX12_areAllInTime 6 = .ok (.invokeinterface 41 1, 5) := by decide +kernel
theorem dX12_areAllInTime_11 : decode cX12_areAllInTime 11 = .ok (.ishl, 1) := dk_120 (dk_at dksX12_areAllInTime_0 11 rfl rfl)
theorem dX12_areAllInTime_12 : decode cX12_areAllInTime 12 = .ok (.iconst 1, 1) := dk_4 (dk_at dksX12_areAllInTime_0 12 rfl rfl)
theorem dX12_areAllInTime_13 : decode cX12_areAllInTime 13 = .ok (.isub, 1) := dk_100 (dk_at dksX12_areAllInTime_0 13 rfl rfl)
theorem dX12_areAllInTime_14 : decode cX12_areAllInTime 14 = .ok (.invokevirtual 65, 3) := dk_182 0 65 (dk_at dksX12_areAllInTime_0 14 rfl rfl)
theorem dX12_areAllInTime_17 : decode cX12_areAllInTime 17 = .ok (.ireturn, 1) := dk_172 (dk_at dksX12_areAllInTime_0 17 rfl rfl)
abbrev cX13_init : ByteArray := prog_2_method_1_code
def yX13_init : MethodName := ⟨RX13, "<init>", "()V"⟩
theorem dX13_init_0 : decode cX13_init 0 = .ok (.aload_n 0, 1) := by decide +kernel
theorem dX13_init_1 : decode cX13_init 1 = .ok (.invokespecial 1, 3) := by decide +kernel
theorem dX13_init_4 : decode cX13_init 4 = .ok (.return_, 1) := by decide +kernel
abbrev cX13_compare_2 : ByteArray := prog_2_method_2_code
def yX13_compare_2 : MethodName := ⟨RX13, "compare", "(LLionGate$Lion;LLionGate$Lion;)I"⟩
def dkwX13_compare_2_1 : List UInt8 := [180, 0, 7, 44, 180, 0, 7, 100, 172]
abbrev dktX13_compare_2_1 : List UInt8 := dkwX13_compare_2_1 ++ []
def dkwX13_compare_2_0 : List UInt8 := [43, 180, 0, 7, 44, 180, 0, 7, 160, 0, 15, 43, 180, 0, 13, 44, 180, 0, 13, 100, 167, 0, 12, 43]
abbrev dktX13_compare_2_0 : List UInt8 := dkwX13_compare_2_0 ++ dktX13_compare_2_1
theorem dksX13_compare_2_0 : cX13_compare_2.data.toList.drop 0 = dktX13_compare_2_0 := by decide +kernel
theorem dksX13_compare_2_1 : cX13_compare_2.data.toList.drop 24 = dktX13_compare_2_1 := dk_seg dksX13_compare_2_0 24 rfl rfl
theorem dX13_compare_2_0 : decode cX13_compare_2 0 = .ok (.aload_n 1, 1) := dk_43 (dk_at dksX13_compare_2_0 0 rfl rfl)
theorem dX13_compare_2_1 : decode cX13_compare_2 1 = .ok (.getfield 7, 3) := dk_180 0 7 (dk_at dksX13_compare_2_0 1 rfl rfl)
theorem dX13_compare_2_4 : decode cX13_compare_2 4 = .ok (.aload_n 2, 1) := dk_44 (dk_at dksX13_compare_2_0 4 rfl rfl)
theorem dX13_compare_2_5 : decode cX13_compare_2 5 = .ok (.getfield 7, 3) := dk_180 0 7 (dk_at dksX13_compare_2_0 5 rfl rfl)
theorem dX13_compare_2_8 : decode cX13_compare_2 8 = .ok (.if_icmp .ne 15, 3) := dk_160 0 15 (dk_at dksX13_compare_2_0 8 rfl rfl)
theorem dX13_compare_2_11 : decode cX13_compare_2 11 = .ok (.aload_n 1, 1) := dk_43 (dk_at dksX13_compare_2_0 11 rfl rfl)
theorem dX13_compare_2_12 : decode cX13_compare_2 12 = .ok (.getfield 13, 3) := dk_180 0 13 (dk_at dksX13_compare_2_0 12 rfl rfl)
theorem dX13_compare_2_15 : decode cX13_compare_2 15 = .ok (.aload_n 2, 1) := dk_44 (dk_at dksX13_compare_2_0 15 rfl rfl)
theorem dX13_compare_2_16 : decode cX13_compare_2 16 = .ok (.getfield 13, 3) := dk_180 0 13 (dk_at dksX13_compare_2_0 16 rfl rfl)
theorem dX13_compare_2_19 : decode cX13_compare_2 19 = .ok (.isub, 1) := dk_100 (dk_at dksX13_compare_2_0 19 rfl rfl)
theorem dX13_compare_2_20 : decode cX13_compare_2 20 = .ok (.goto 12, 3) := dk_167 0 12 (dk_at dksX13_compare_2_0 20 rfl rfl)
theorem dX13_compare_2_23 : decode cX13_compare_2 23 = .ok (.aload_n 1, 1) := dk_43 (dk_at dksX13_compare_2_0 23 rfl rfl)
theorem dX13_compare_2_24 : decode cX13_compare_2 24 = .ok (.getfield 7, 3) := dk_180 0 7 (dk_at dksX13_compare_2_1 0 rfl rfl)
theorem dX13_compare_2_27 : decode cX13_compare_2 27 = .ok (.aload_n 2, 1) := dk_44 (dk_at dksX13_compare_2_1 3 rfl rfl)
theorem dX13_compare_2_28 : decode cX13_compare_2 28 = .ok (.getfield 7, 3) := dk_180 0 7 (dk_at dksX13_compare_2_1 4 rfl rfl)
theorem dX13_compare_2_31 : decode cX13_compare_2 31 = .ok (.isub, 1) := dk_100 (dk_at dksX13_compare_2_1 7 rfl rfl)
theorem dX13_compare_2_32 : decode cX13_compare_2 32 = .ok (.ireturn, 1) := dk_172 (dk_at dksX13_compare_2_1 8 rfl rfl)
abbrev cJ23_copyOf_3 : ByteArray := prog_62_method_120_code
def yJ23_copyOf_3 : MethodName := ⟨RJ23, "copyOf", "([Ljava/lang/Object;ILjava/lang/Class;)[Ljava/lang/Object;"⟩
def dkwJ23_copyOf_3_1 : List UInt8 := [78, 42, 3, 45, 3, 42, 190, 27, 184, 1, 48, 184, 0, 150, 45, 176]
abbrev dktJ23_copyOf_3_1 : List UInt8 := dkwJ23_copyOf_3_1 ++ []
def dkwJ23_copyOf_3_0 : List UInt8 := [44, 18, 110, 166, 0, 10, 27, 189, 0, 2, 167, 0, 14, 44, 182, 0, 90, 27, 184, 0, 95, 192, 0, 110]
abbrev dktJ23_copyOf_3_0 : List UInt8 := dkwJ23_copyOf_3_0 ++ dktJ23_copyOf_3_1
theorem dksJ23_copyOf_3_0 : cJ23_copyOf_3.data.toList.drop 0 = dktJ23_copyOf_3_0 := by decide +kernel
theorem dksJ23_copyOf_3_1 : cJ23_copyOf_3.data.toList.drop 24 = dktJ23_copyOf_3_1 := dk_seg dksJ23_copyOf_3_0 24 rfl rfl
theorem dJ23_copyOf_3_0 : decode cJ23_copyOf_3 0 = .ok (.aload_n 2, 1) := dk_44 (dk_at dksJ23_copyOf_3_0 0 rfl rfl)
theorem dJ23_copyOf_3_1 : decode cJ23_copyOf_3 1 = .ok (.ldc 110, 2) := dk_18 110 (dk_at dksJ23_copyOf_3_0 1 rfl rfl)
theorem dJ23_copyOf_3_3 : decode cJ23_copyOf_3 3 = .ok (.if_acmp .ne 10, 3) := dk_166 0 10 (dk_at dksJ23_copyOf_3_0 3 rfl rfl)
theorem dJ23_copyOf_3_6 : decode cJ23_copyOf_3 6 = .ok (.iload_n 1, 1) := dk_27 (dk_at dksJ23_copyOf_3_0 6 rfl rfl)
theorem dJ23_copyOf_3_7 : decode cJ23_copyOf_3 7 = .ok (.anewarray 2, 3) := dk_189 0 2 (dk_at dksJ23_copyOf_3_0 7 rfl rfl)
theorem dJ23_copyOf_3_10 : decode cJ23_copyOf_3 10 = .ok (.goto 14, 3) := dk_167 0 14 (dk_at dksJ23_copyOf_3_0 10 rfl rfl)
theorem dJ23_copyOf_3_13 : decode cJ23_copyOf_3 13 = .ok (.aload_n 2, 1) := dk_44 (dk_at dksJ23_copyOf_3_0 13 rfl rfl)
theorem dJ23_copyOf_3_14 : decode cJ23_copyOf_3 14 = .ok (.invokevirtual 90, 3) := dk_182 0 90 (dk_at dksJ23_copyOf_3_0 14 rfl rfl)
theorem dJ23_copyOf_3_24 : decode cJ23_copyOf_3 24 = .ok (.astore_n 3, 1) := dk_78 (dk_at dksJ23_copyOf_3_1 0 rfl rfl)
theorem dJ23_copyOf_3_25 : decode cJ23_copyOf_3 25 = .ok (.aload_n 0, 1) := dk_42 (dk_at dksJ23_copyOf_3_1 1 rfl rfl)
theorem dJ23_copyOf_3_26 : decode cJ23_copyOf_3 26 = .ok (.iconst 0, 1) := dk_3 (dk_at dksJ23_copyOf_3_1 2 rfl rfl)
theorem dJ23_copyOf_3_27 : decode cJ23_copyOf_3 27 = .ok (.aload_n 3, 1) := dk_45 (dk_at dksJ23_copyOf_3_1 3 rfl rfl)
theorem dJ23_copyOf_3_28 : decode cJ23_copyOf_3 28 = .ok (.iconst 0, 1) := dk_3 (dk_at dksJ23_copyOf_3_1 4 rfl rfl)
theorem dJ23_copyOf_3_29 : decode cJ23_copyOf_3 29 = .ok (.aload_n 0, 1) := dk_42 (dk_at dksJ23_copyOf_3_1 5 rfl rfl)
theorem dJ23_copyOf_3_30 : decode cJ23_copyOf_3 30 = .ok (.arraylength, 1) := dk_190 (dk_at dksJ23_copyOf_3_1 6 rfl rfl)
theorem dJ23_copyOf_3_31 : decode cJ23_copyOf_3 31 = .ok (.iload_n 1, 1) := dk_27 (dk_at dksJ23_copyOf_3_1 7 rfl rfl)
theorem dJ23_copyOf_3_32 : decode cJ23_copyOf_3 32 = .ok (.invokestatic 304, 3) := dk_184 1 48 (dk_at dksJ23_copyOf_3_1 8 rfl rfl)
theorem dJ23_copyOf_3_35 : decode cJ23_copyOf_3 35 = .ok (.invokestatic 150, 3) := dk_184 0 150 (dk_at dksJ23_copyOf_3_1 11 rfl rfl)
theorem dJ23_copyOf_3_38 : decode cJ23_copyOf_3 38 = .ok (.aload_n 3, 1) := dk_45 (dk_at dksJ23_copyOf_3_1 14 rfl rfl)
theorem dJ23_copyOf_3_39 : decode cJ23_copyOf_3 39 = .ok (.areturn, 1) := dk_176 (dk_at dksJ23_copyOf_3_1 15 rfl rfl)
abbrev cJ23_copyOf_2 : ByteArray := prog_62_method_119_code
def yJ23_copyOf_2 : MethodName := ⟨RJ23, "copyOf", "([Ljava/lang/Object;I)[Ljava/lang/Object;"⟩
def dkwJ23_copyOf_2_0 : List UInt8 := [42, 27, 42, 182, 0, 86, 184, 1, 44, 176]
abbrev dktJ23_copyOf_2_0 : List UInt8 := dkwJ23_copyOf_2_0 ++ []
theorem dksJ23_copyOf_2_0 : cJ23_copyOf_2.data.toList.drop 0 = dktJ23_copyOf_2_0 := by decide +kernel
theorem dJ23_copyOf_2_0 : decode cJ23_copyOf_2 0 = .ok (.aload_n 0, 1) := dk_42 (dk_at dksJ23_copyOf_2_0 0 rfl rfl)
theorem dJ23_copyOf_2_1 : decode cJ23_copyOf_2 1 = .ok (.iload_n 1, 1) := dk_27 (dk_at dksJ23_copyOf_2_0 1 rfl rfl)
theorem dJ23_copyOf_2_2 : decode cJ23_copyOf_2 2 = .ok (.aload_n 0, 1) := dk_42 (dk_at dksJ23_copyOf_2_0 2 rfl rfl)
theorem dJ23_copyOf_2_3 : decode cJ23_copyOf_2 3 = .ok (.invokevirtual 86, 3) := dk_182 0 86 (dk_at dksJ23_copyOf_2_0 3 rfl rfl)
theorem dJ23_copyOf_2_6 : decode cJ23_copyOf_2 6 = .ok (.invokestatic 300, 3) := dk_184 1 44 (dk_at dksJ23_copyOf_2_0 6 rfl rfl)
theorem dJ23_copyOf_2_9 : decode cJ23_copyOf_2 9 = .ok (.areturn, 1) := dk_176 (dk_at dksJ23_copyOf_2_0 9 rfl rfl)
abbrev cJ21_newLength : ByteArray := prog_109_method_27_code
def yJ21_newLength : MethodName := ⟨RJ21, "newLength", "(III)I"⟩
def dkwJ21_newLength_1 : List UInt8 := [184, 0, 201, 172]
abbrev dktJ21_newLength_1 : List UInt8 := dkwJ21_newLength_1 ++ []
def dkwJ21_newLength_0 : List UInt8 := [26, 27, 28, 184, 0, 194, 96, 62, 3, 29, 162, 0, 11, 29, 18, 200, 163, 0, 5, 29, 172, 26, 27]
abbrev dktJ21_newLength_0 : List UInt8 := dkwJ21_newLength_0 ++ dktJ21_newLength_1
theorem dksJ21_newLength_0 : cJ21_newLength.data.toList.drop 0 = dktJ21_newLength_0 := by decide +kernel
theorem dksJ21_newLength_1 : cJ21_newLength.data.toList.drop 23 = dktJ21_newLength_1 := dk_seg dksJ21_newLength_0 23 rfl rfl
theorem dJ21_newLength_0 : decode cJ21_newLength 0 = .ok (.iload_n 0, 1) := dk_26 (dk_at dksJ21_newLength_0 0 rfl rfl)
theorem dJ21_newLength_1 : decode cJ21_newLength 1 = .ok (.iload_n 1, 1) := dk_27 (dk_at dksJ21_newLength_0 1 rfl rfl)
theorem dJ21_newLength_2 : decode cJ21_newLength 2 = .ok (.iload_n 2, 1) := dk_28 (dk_at dksJ21_newLength_0 2 rfl rfl)
theorem dJ21_newLength_3 : decode cJ21_newLength 3 = .ok (.invokestatic 194, 3) := dk_184 0 194 (dk_at dksJ21_newLength_0 3 rfl rfl)
theorem dJ21_newLength_6 : decode cJ21_newLength 6 = .ok (.iadd, 1) := dk_96 (dk_at dksJ21_newLength_0 6 rfl rfl)
theorem dJ21_newLength_7 : decode cJ21_newLength 7 = .ok (.istore_n 3, 1) := dk_62 (dk_at dksJ21_newLength_0 7 rfl rfl)
theorem dJ21_newLength_8 : decode cJ21_newLength 8 = .ok (.iconst 0, 1) := dk_3 (dk_at dksJ21_newLength_0 8 rfl rfl)
theorem dJ21_newLength_9 : decode cJ21_newLength 9 = .ok (.iload_n 3, 1) := dk_29 (dk_at dksJ21_newLength_0 9 rfl rfl)
theorem dJ21_newLength_10 : decode cJ21_newLength 10 = .ok (.if_icmp .ge 11, 3) := dk_162 0 11 (dk_at dksJ21_newLength_0 10 rfl rfl)
theorem dJ21_newLength_13 : decode cJ21_newLength 13 = .ok (.iload_n 3, 1) := dk_29 (dk_at dksJ21_newLength_0 13 rfl rfl)
theorem dJ21_newLength_14 : decode cJ21_newLength 14 = .ok (.ldc 200, 2) := dk_18 200 (dk_at dksJ21_newLength_0 14 rfl rfl)
theorem dJ21_newLength_16 : decode cJ21_newLength 16 = .ok (.if_icmp .gt 5, 3) := dk_163 0 5 (dk_at dksJ21_newLength_0 16 rfl rfl)
theorem dJ21_newLength_19 : decode cJ21_newLength 19 = .ok (.iload_n 3, 1) := dk_29 (dk_at dksJ21_newLength_0 19 rfl rfl)
theorem dJ21_newLength_20 : decode cJ21_newLength 20 = .ok (.ireturn, 1) := dk_172 (dk_at dksJ21_newLength_0 20 rfl rfl)
theorem dJ21_newLength_21 : decode cJ21_newLength 21 = .ok (.iload_n 0, 1) := dk_26 (dk_at dksJ21_newLength_0 21 rfl rfl)
theorem dJ21_newLength_22 : decode cJ21_newLength 22 = .ok (.iload_n 1, 1) := dk_27 (dk_at dksJ21_newLength_0 22 rfl rfl)
theorem dJ21_newLength_23 : decode cJ21_newLength 23 = .ok (.invokestatic 201, 3) := dk_184 0 201 (dk_at dksJ21_newLength_1 0 rfl rfl)
abbrev cJ4_grow_2 : ByteArray := prog_59_method_6_code
def yJ4_grow_2 : MethodName := ⟨RJ4, "grow", "(I)[Ljava/lang/Object;"⟩
def dkwJ4_grow_2_2 : List UInt8 := [27, 184, 0, 79, 189, 0, 7, 90, 181, 0, 9, 176]
abbrev dktJ4_grow_2_2 : List UInt8 := dkwJ4_grow_2_2 ++ []
def dkwJ4_grow_2_1 : List UInt8 := [28, 4, 122, 184, 0, 73, 62, 42, 42, 180, 0, 9, 29, 184, 0, 66, 90, 181, 0, 9, 176, 42, 16, 10]
abbrev dktJ4_grow_2_1 : List UInt8 := dkwJ4_grow_2_1 ++ dktJ4_grow_2_2
def dkwJ4_grow_2_0 : List UInt8 := [42, 180, 0, 9, 190, 61, 28, 157, 0, 13, 42, 180, 0, 9, 178, 0, 39, 165, 0, 28, 28, 27, 28, 100]
abbrev dktJ4_grow_2_0 : List UInt8 := dkwJ4_grow_2_0 ++ dktJ4_grow_2_1
theorem dksJ4_grow_2_0 : cJ4_grow_2.data.toList.drop 0 = dktJ4_grow_2_0 := by decide +kernel
theorem dksJ4_grow_2_1 : cJ4_grow_2.data.toList.drop 24 = dktJ4_grow_2_1 := dk_seg dksJ4_grow_2_0 24 rfl rfl
theorem dksJ4_grow_2_2 : cJ4_grow_2.data.toList.drop 48 = dktJ4_grow_2_2 := dk_seg dksJ4_grow_2_1 24 rfl rfl
theorem dJ4_grow_2_0 : decode cJ4_grow_2 0 = .ok (.aload_n 0, 1) := dk_42 (dk_at dksJ4_grow_2_0 0 rfl rfl)
theorem dJ4_grow_2_1 : decode cJ4_grow_2 1 = .ok (.getfield 9, 3) := dk_180 0 9 (dk_at dksJ4_grow_2_0 1 rfl rfl)
theorem dJ4_grow_2_4 : decode cJ4_grow_2 4 = .ok (.arraylength, 1) := dk_190 (dk_at dksJ4_grow_2_0 4 rfl rfl)
theorem dJ4_grow_2_5 : decode cJ4_grow_2 5 = .ok (.istore_n 2, 1) := dk_61 (dk_at dksJ4_grow_2_0 5 rfl rfl)
theorem dJ4_grow_2_6 : decode cJ4_grow_2 6 = .ok (.iload_n 2, 1) := dk_28 (dk_at dksJ4_grow_2_0 6 rfl rfl)
theorem dJ4_grow_2_7 : decode cJ4_grow_2 7 = .ok (.ifCond .gt 13, 3) := dk_157 0 13 (dk_at dksJ4_grow_2_0 7 rfl rfl)
theorem dJ4_grow_2_10 : decode cJ4_grow_2 10 = .ok (.aload_n 0, 1) := dk_42 (dk_at dksJ4_grow_2_0 10 rfl rfl)
theorem dJ4_grow_2_11 : decode cJ4_grow_2 11 = .ok (.getfield 9, 3) := dk_180 0 9 (dk_at dksJ4_grow_2_0 11 rfl rfl)
theorem dJ4_grow_2_14 : decode cJ4_grow_2 14 = .ok (.getstatic 39, 3) := dk_178 0 39 (dk_at dksJ4_grow_2_0 14 rfl rfl)
theorem dJ4_grow_2_17 : decode cJ4_grow_2 17 = .ok (.if_acmp .eq 28, 3) := dk_165 0 28 (dk_at dksJ4_grow_2_0 17 rfl rfl)
theorem dJ4_grow_2_20 : decode cJ4_grow_2 20 = .ok (.iload_n 2, 1) := dk_28 (dk_at dksJ4_grow_2_0 20 rfl rfl)
theorem dJ4_grow_2_21 : decode cJ4_grow_2 21 = .ok (.iload_n 1, 1) := dk_27 (dk_at dksJ4_grow_2_0 21 rfl rfl)
theorem dJ4_grow_2_22 : decode cJ4_grow_2 22 = .ok (.iload_n 2, 1) := dk_28 (dk_at dksJ4_grow_2_0 22 rfl rfl)
theorem dJ4_grow_2_23 : decode cJ4_grow_2 23 = .ok (.isub, 1) := dk_100 (dk_at dksJ4_grow_2_0 23 rfl rfl)
theorem dJ4_grow_2_24 : decode cJ4_grow_2 24 = .ok (.iload_n 2, 1) := dk_28 (dk_at dksJ4_grow_2_1 0 rfl rfl)
theorem dJ4_grow_2_25 : decode cJ4_grow_2 25 = .ok (.iconst 1, 1) := dk_4 (dk_at dksJ4_grow_2_1 1 rfl rfl)
theorem dJ4_grow_2_26 : decode cJ4_grow_2 26 = .ok (.ishr, 1) := dk_122 (dk_at dksJ4_grow_2_1 2 rfl rfl)
theorem dJ4_grow_2_27 : decode cJ4_grow_2 27 = .ok (.invokestatic 73, 3) := dk_184 0 73 (dk_at dksJ4_grow_2_1 3 rfl rfl)
theorem dJ4_grow_2_30 : decode cJ4_grow_2 30 = .ok (.istore_n 3, 1) := dk_62 (dk_at dksJ4_grow_2_1 6 rfl rfl)
theorem dJ4_grow_2_31 : decode cJ4_grow_2 31 = .ok (.aload_n 0, 1) := dk_42 (dk_at dksJ4_grow_2_1 7 rfl rfl)
theorem dJ4_grow_2_32 : decode cJ4_grow_2 32 = .ok (.aload_n 0, 1) := dk_42 (dk_at dksJ4_grow_2_1 8 rfl rfl)
theorem dJ4_grow_2_33 : decode cJ4_grow_2 33 = .ok (.getfield 9, 3) := dk_180 0 9 (dk_at dksJ4_grow_2_1 9 rfl rfl)
theorem dJ4_grow_2_36 : decode cJ4_grow_2 36 = .ok (.iload_n 3, 1) := dk_29 (dk_at dksJ4_grow_2_1 12 rfl rfl)
theorem dJ4_grow_2_37 : decode cJ4_grow_2 37 = .ok (.invokestatic 66, 3) := dk_184 0 66 (dk_at dksJ4_grow_2_1 13 rfl rfl)
theorem dJ4_grow_2_40 : decode cJ4_grow_2 40 = .ok (.dup_x1, 1) := dk_90 (dk_at dksJ4_grow_2_1 16 rfl rfl)
theorem dJ4_grow_2_41 : decode cJ4_grow_2 41 = .ok (.putfield 9, 3) := dk_181 0 9 (dk_at dksJ4_grow_2_1 17 rfl rfl)
theorem dJ4_grow_2_44 : decode cJ4_grow_2 44 = .ok (.areturn, 1) := dk_176 (dk_at dksJ4_grow_2_1 20 rfl rfl)
theorem dJ4_grow_2_45 : decode cJ4_grow_2 45 = .ok (.aload_n 0, 1) := dk_42 (dk_at dksJ4_grow_2_1 21 rfl rfl)
theorem dJ4_grow_2_46 : decode cJ4_grow_2 46 = .ok (.bipush 10, 2) := dk_16 10 (dk_at dksJ4_grow_2_1 22 rfl rfl)
theorem dJ4_grow_2_48 : decode cJ4_grow_2 48 = .ok (.iload_n 1, 1) := dk_27 (dk_at dksJ4_grow_2_2 0 rfl rfl)
theorem dJ4_grow_2_49 : decode cJ4_grow_2 49 = .ok (.invokestatic 79, 3) := dk_184 0 79 (dk_at dksJ4_grow_2_2 1 rfl rfl)
theorem dJ4_grow_2_52 : decode cJ4_grow_2 52 = .ok (.anewarray 7, 3) := dk_189 0 7 (dk_at dksJ4_grow_2_2 4 rfl rfl)
theorem dJ4_grow_2_55 : decode cJ4_grow_2 55 = .ok (.dup_x1, 1) := dk_90 (dk_at dksJ4_grow_2_2 7 rfl rfl)
theorem dJ4_grow_2_56 : decode cJ4_grow_2 56 = .ok (.putfield 9, 3) := dk_181 0 9 (dk_at dksJ4_grow_2_2 8 rfl rfl)
theorem dJ4_grow_2_59 : decode cJ4_grow_2 59 = .ok (.areturn, 1) := dk_176 (dk_at dksJ4_grow_2_2 11 rfl rfl)
abbrev cJ4_grow : ByteArray := prog_59_method_7_code
def yJ4_grow : MethodName := ⟨RJ4, "grow", "()[Ljava/lang/Object;"⟩
def dkwJ4_grow_0 : List UInt8 := [42, 42, 180, 0, 48, 4, 96, 182, 0, 69, 176]
abbrev dktJ4_grow_0 : List UInt8 := dkwJ4_grow_0 ++ []
theorem dksJ4_grow_0 : cJ4_grow.data.toList.drop 0 = dktJ4_grow_0 := by decide +kernel
theorem dJ4_grow_0 : decode cJ4_grow 0 = .ok (.aload_n 0, 1) := dk_42 (dk_at dksJ4_grow_0 0 rfl rfl)
theorem dJ4_grow_1 : decode cJ4_grow 1 = .ok (.aload_n 0, 1) := dk_42 (dk_at dksJ4_grow_0 1 rfl rfl)
theorem dJ4_grow_2 : decode cJ4_grow 2 = .ok (.getfield 48, 3) := dk_180 0 48 (dk_at dksJ4_grow_0 2 rfl rfl)
theorem dJ4_grow_5 : decode cJ4_grow 5 = .ok (.iconst 1, 1) := dk_4 (dk_at dksJ4_grow_0 5 rfl rfl)
theorem dJ4_grow_6 : decode cJ4_grow 6 = .ok (.iadd, 1) := dk_96 (dk_at dksJ4_grow_0 6 rfl rfl)
theorem dJ4_grow_7 : decode cJ4_grow 7 = .ok (.invokevirtual 69, 3) := dk_182 0 69 (dk_at dksJ4_grow_0 7 rfl rfl)
theorem dJ4_grow_10 : decode cJ4_grow 10 = .ok (.areturn, 1) := dk_176 (dk_at dksJ4_grow_0 10 rfl rfl)
abbrev cJ4_rangeCheckForAdd : ByteArray := prog_59_method_45_code
def yJ4_rangeCheckForAdd : MethodName := ⟨RJ4, "rangeCheckForAdd", "(I)V"⟩
def dkwJ4_rangeCheckForAdd_1 : List UInt8 := [191, 177]
abbrev dktJ4_rangeCheckForAdd_1 : List UInt8 := dkwJ4_rangeCheckForAdd_1 ++ []
def dkwJ4_rangeCheckForAdd_0 : List UInt8 := [27, 42, 180, 0, 48, 163, 0, 7, 27, 156, 0, 16, 187, 0, 187, 89, 42, 27, 182, 0, 198, 183, 0, 193]
abbrev dktJ4_rangeCheckForAdd_0 : List UInt8 := dkwJ4_rangeCheckForAdd_0 ++ dktJ4_rangeCheckForAdd_1
theorem dksJ4_rangeCheckForAdd_0 : cJ4_rangeCheckForAdd.data.toList.drop 0 = dktJ4_rangeCheckForAdd_0 := by decide +kernel
theorem dksJ4_rangeCheckForAdd_1 : cJ4_rangeCheckForAdd.data.toList.drop 24 = dktJ4_rangeCheckForAdd_1 := dk_seg dksJ4_rangeCheckForAdd_0 24 rfl rfl
theorem dJ4_rangeCheckForAdd_0 : decode cJ4_rangeCheckForAdd 0 = .ok (.iload_n 1, 1) := dk_27 (dk_at dksJ4_rangeCheckForAdd_0 0 rfl rfl)
theorem dJ4_rangeCheckForAdd_1 : decode cJ4_rangeCheckForAdd 1 = .ok (.aload_n 0, 1) := dk_42 (dk_at dksJ4_rangeCheckForAdd_0 1 rfl rfl)
theorem dJ4_rangeCheckForAdd_2 : decode cJ4_rangeCheckForAdd 2 = .ok (.getfield 48, 3) := dk_180 0 48 (dk_at dksJ4_rangeCheckForAdd_0 2 rfl rfl)
theorem dJ4_rangeCheckForAdd_5 : decode cJ4_rangeCheckForAdd 5 = .ok (.if_icmp .gt 7, 3) := dk_163 0 7 (dk_at dksJ4_rangeCheckForAdd_0 5 rfl rfl)
theorem dJ4_rangeCheckForAdd_8 : decode cJ4_rangeCheckForAdd 8 = .ok (.iload_n 1, 1) := dk_27 (dk_at dksJ4_rangeCheckForAdd_0 8 rfl rfl)
theorem dJ4_rangeCheckForAdd_9 : decode cJ4_rangeCheckForAdd 9 = .ok (.ifCond .ge 16, 3) := dk_156 0 16 (dk_at dksJ4_rangeCheckForAdd_0 9 rfl rfl)
theorem dJ4_rangeCheckForAdd_12 : decode cJ4_rangeCheckForAdd 12 = .ok (.new 187, 3) := dk_187 0 187 (dk_at dksJ4_rangeCheckForAdd_0 12 rfl rfl)
theorem dJ4_rangeCheckForAdd_25 : decode cJ4_rangeCheckForAdd 25 = .ok (.return_, 1) := dk_177 (dk_at dksJ4_rangeCheckForAdd_1 1 rfl rfl)
abbrev cJ4_add_3 : ByteArray := prog_59_method_26_code
def yJ4_add_3 : MethodName := ⟨RJ4, "add", "(ILjava/lang/Object;)V"⟩
def dkwJ4_add_3_2 : List UInt8 := [29, 27, 100, 184, 0, 112, 25, 4, 27, 44, 83, 42, 29, 4, 96, 181, 0, 48, 177]
abbrev dktJ4_add_3_2 : List UInt8 := dkwJ4_add_3_2 ++ []
def dkwJ4_add_3_1 : List UInt8 := [180, 0, 9, 89, 58, 4, 190, 160, 0, 9, 42, 182, 0, 129, 58, 4, 25, 4, 27, 25, 4, 27, 4, 96]
abbrev dktJ4_add_3_1 : List UInt8 := dkwJ4_add_3_1 ++ dktJ4_add_3_2
def dkwJ4_add_3_0 : List UInt8 := [42, 27, 182, 0, 135, 42, 89, 180, 0, 63, 4, 96, 181, 0, 63, 42, 180, 0, 48, 89, 62, 42]
abbrev dktJ4_add_3_0 : List UInt8 := dkwJ4_add_3_0 ++ dktJ4_add_3_1
theorem dksJ4_add_3_0 : cJ4_add_3.data.toList.drop 0 = dktJ4_add_3_0 := by decide +kernel
theorem dksJ4_add_3_1 : cJ4_add_3.data.toList.drop 22 = dktJ4_add_3_1 := dk_seg dksJ4_add_3_0 22 rfl rfl
theorem dksJ4_add_3_2 : cJ4_add_3.data.toList.drop 46 = dktJ4_add_3_2 := dk_seg dksJ4_add_3_1 24 rfl rfl
theorem dJ4_add_3_0 : decode cJ4_add_3 0 = .ok (.aload_n 0, 1) := dk_42 (dk_at dksJ4_add_3_0 0 rfl rfl)
theorem dJ4_add_3_1 : decode cJ4_add_3 1 = .ok (.iload_n 1, 1) := dk_27 (dk_at dksJ4_add_3_0 1 rfl rfl)
theorem dJ4_add_3_2 : decode cJ4_add_3 2 = .ok (.invokevirtual 135, 3) := dk_182 0 135 (dk_at dksJ4_add_3_0 2 rfl rfl)
theorem dJ4_add_3_5 : decode cJ4_add_3 5 = .ok (.aload_n 0, 1) := dk_42 (dk_at dksJ4_add_3_0 5 rfl rfl)
theorem dJ4_add_3_6 : decode cJ4_add_3 6 = .ok (.dup, 1) := dk_89 (dk_at dksJ4_add_3_0 6 rfl rfl)
theorem dJ4_add_3_7 : decode cJ4_add_3 7 = .ok (.getfield 63, 3) := dk_180 0 63 (dk_at dksJ4_add_3_0 7 rfl rfl)
theorem dJ4_add_3_10 : decode cJ4_add_3 10 = .ok (.iconst 1, 1) := dk_4 (dk_at dksJ4_add_3_0 10 rfl rfl)
theorem dJ4_add_3_11 : decode cJ4_add_3 11 = .ok (.iadd, 1) := dk_96 (dk_at dksJ4_add_3_0 11 rfl rfl)
theorem dJ4_add_3_12 : decode cJ4_add_3 12 = .ok (.putfield 63, 3) := dk_181 0 63 (dk_at dksJ4_add_3_0 12 rfl rfl)
theorem dJ4_add_3_15 : decode cJ4_add_3 15 = .ok (.aload_n 0, 1) := dk_42 (dk_at dksJ4_add_3_0 15 rfl rfl)
theorem dJ4_add_3_16 : decode cJ4_add_3 16 = .ok (.getfield 48, 3) := dk_180 0 48 (dk_at dksJ4_add_3_0 16 rfl rfl)
theorem dJ4_add_3_19 : decode cJ4_add_3 19 = .ok (.dup, 1) := dk_89 (dk_at dksJ4_add_3_0 19 rfl rfl)
theorem dJ4_add_3_20 : decode cJ4_add_3 20 = .ok (.istore_n 3, 1) := dk_62 (dk_at dksJ4_add_3_0 20 rfl rfl)
theorem dJ4_add_3_21 : decode cJ4_add_3 21 = .ok (.aload_n 0, 1) := dk_42 (dk_at dksJ4_add_3_0 21 rfl rfl)
theorem dJ4_add_3_22 : decode cJ4_add_3 22 = .ok (.getfield 9, 3) := dk_180 0 9 (dk_at dksJ4_add_3_1 0 rfl rfl)
theorem dJ4_add_3_25 : decode cJ4_add_3 25 = .ok (.dup, 1) := dk_89 (dk_at dksJ4_add_3_1 3 rfl rfl)
theorem dJ4_add_3_26 : decode cJ4_add_3 26 = .ok (.astore 4, 2) := dk_58 4 (dk_at dksJ4_add_3_1 4 rfl rfl)
theorem dJ4_add_3_28 : decode cJ4_add_3 28 = .ok (.arraylength, 1) := dk_190 (dk_at dksJ4_add_3_1 6 rfl rfl)
theorem dJ4_add_3_29 : decode cJ4_add_3 29 = .ok (.if_icmp .ne 9, 3) := dk_160 0 9 (dk_at dksJ4_add_3_1 7 rfl rfl)
theorem dJ4_add_3_32 : decode cJ4_add_3 32 = .ok (.aload_n 0, 1) := dk_42 (dk_at dksJ4_add_3_1 10 rfl rfl)
theorem dJ4_add_3_33 : decode cJ4_add_3 33 = .ok (.invokevirtual 129, 3) := dk_182 0 129 (dk_at dksJ4_add_3_1 11 rfl rfl)
theorem dJ4_add_3_36 : decode cJ4_add_3 36 = .ok (.astore 4, 2) := dk_58 4 (dk_at dksJ4_add_3_1 14 rfl rfl)
theorem dJ4_add_3_38 : decode cJ4_add_3 38 = .ok (.aload 4, 2) := dk_25 4 (dk_at dksJ4_add_3_1 16 rfl rfl)
theorem dJ4_add_3_40 : decode cJ4_add_3 40 = .ok (.iload_n 1, 1) := dk_27 (dk_at dksJ4_add_3_1 18 rfl rfl)
theorem dJ4_add_3_41 : decode cJ4_add_3 41 = .ok (.aload 4, 2) := dk_25 4 (dk_at dksJ4_add_3_1 19 rfl rfl)
theorem dJ4_add_3_43 : decode cJ4_add_3 43 = .ok (.iload_n 1, 1) := dk_27 (dk_at dksJ4_add_3_1 21 rfl rfl)
theorem dJ4_add_3_44 : decode cJ4_add_3 44 = .ok (.iconst 1, 1) := dk_4 (dk_at dksJ4_add_3_1 22 rfl rfl)
theorem dJ4_add_3_45 : decode cJ4_add_3 45 = .ok (.iadd, 1) := dk_96 (dk_at dksJ4_add_3_1 23 rfl rfl)
theorem dJ4_add_3_46 : decode cJ4_add_3 46 = .ok (.iload_n 3, 1) := dk_29 (dk_at dksJ4_add_3_2 0 rfl rfl)
theorem dJ4_add_3_47 : decode cJ4_add_3 47 = .ok (.iload_n 1, 1) := dk_27 (dk_at dksJ4_add_3_2 1 rfl rfl)
theorem dJ4_add_3_48 : decode cJ4_add_3 48 = .ok (.isub, 1) := dk_100 (dk_at dksJ4_add_3_2 2 rfl rfl)
theorem dJ4_add_3_49 : decode cJ4_add_3 49 = .ok (.invokestatic 112, 3) := dk_184 0 112 (dk_at dksJ4_add_3_2 3 rfl rfl)
theorem dJ4_add_3_52 : decode cJ4_add_3 52 = .ok (.aload 4, 2) := dk_25 4 (dk_at dksJ4_add_3_2 6 rfl rfl)
theorem dJ4_add_3_54 : decode cJ4_add_3 54 = .ok (.iload_n 1, 1) := dk_27 (dk_at dksJ4_add_3_2 8 rfl rfl)
theorem dJ4_add_3_55 : decode cJ4_add_3 55 = .ok (.aload_n 2, 1) := dk_44 (dk_at dksJ4_add_3_2 9 rfl rfl)
theorem dJ4_add_3_56 : decode cJ4_add_3 56 = .ok (.aastore, 1) := dk_83 (dk_at dksJ4_add_3_2 10 rfl rfl)
theorem dJ4_add_3_57 : decode cJ4_add_3 57 = .ok (.aload_n 0, 1) := dk_42 (dk_at dksJ4_add_3_2 11 rfl rfl)
theorem dJ4_add_3_58 : decode cJ4_add_3 58 = .ok (.iload_n 3, 1) := dk_29 (dk_at dksJ4_add_3_2 12 rfl rfl)
theorem dJ4_add_3_59 : decode cJ4_add_3 59 = .ok (.iconst 1, 1) := dk_4 (dk_at dksJ4_add_3_2 13 rfl rfl)
theorem dJ4_add_3_60 : decode cJ4_add_3 60 = .ok (.iadd, 1) := dk_96 (dk_at dksJ4_add_3_2 14 rfl rfl)
theorem dJ4_add_3_61 : decode cJ4_add_3 61 = .ok (.putfield 48, 3) := dk_181 0 48 (dk_at dksJ4_add_3_2 15 rfl rfl)
theorem dJ4_add_3_64 : decode cJ4_add_3 64 = .ok (.return_, 1) := dk_177 (dk_at dksJ4_add_3_2 18 rfl rfl)
abbrev cJ33_hasNext : ByteArray := prog_103_method_2_code
def yJ33_hasNext : MethodName := ⟨RJ33, "hasNext", "()Z"⟩
def dkwJ33_hasNext_0 : List UInt8 := [42, 180, 0, 26, 198, 0, 7, 4, 167, 0, 4, 3, 172]
abbrev dktJ33_hasNext_0 : List UInt8 := dkwJ33_hasNext_0 ++ []
theorem dksJ33_hasNext_0 : cJ33_hasNext.data.toList.drop 0 = dktJ33_hasNext_0 := by decide +kernel
theorem dJ33_hasNext_0 : decode cJ33_hasNext 0 = .ok (.aload_n 0, 1) := dk_42 (dk_at dksJ33_hasNext_0 0 rfl rfl)
theorem dJ33_hasNext_1 : decode cJ33_hasNext 1 = .ok (.getfield 26, 3) := dk_180 0 26 (dk_at dksJ33_hasNext_0 1 rfl rfl)
theorem dJ33_hasNext_4 : decode cJ33_hasNext 4 = .ok (.ifnull 7, 3) := dk_198 0 7 (dk_at dksJ33_hasNext_0 4 rfl rfl)
theorem dJ33_hasNext_7 : decode cJ33_hasNext 7 = .ok (.iconst 1, 1) := dk_4 (dk_at dksJ33_hasNext_0 7 rfl rfl)
theorem dJ33_hasNext_8 : decode cJ33_hasNext 8 = .ok (.goto 4, 3) := dk_167 0 4 (dk_at dksJ33_hasNext_0 8 rfl rfl)
theorem dJ33_hasNext_11 : decode cJ33_hasNext 11 = .ok (.iconst 0, 1) := dk_3 (dk_at dksJ33_hasNext_0 11 rfl rfl)
theorem dJ33_hasNext_12 : decode cJ33_hasNext 12 = .ok (.ireturn, 1) := dk_172 (dk_at dksJ33_hasNext_0 12 rfl rfl)
abbrev cJ1_successor : ByteArray := prog_96_method_74_code
def yJ1_successor : MethodName := ⟨RJ1, "successor", "(Ljava/util/TreeMap$Entry;)Ljava/util/TreeMap$Entry;"⟩
def dkwJ1_successor_2 : List UInt8 := [44, 43, 180, 0, 114, 166, 0, 13, 43, 77, 43, 180, 0, 124, 76, 167, 255, 237, 43, 176]
abbrev dktJ1_successor_2 : List UInt8 := dkwJ1_successor_2 ++ []
def dkwJ1_successor_1 : List UInt8 := [198, 0, 11, 43, 180, 0, 111, 76, 167, 255, 244, 43, 176, 42, 180, 0, 124, 76, 42, 77, 43, 198, 0, 21]
abbrev dktJ1_successor_1 : List UInt8 := dkwJ1_successor_1 ++ dktJ1_successor_2
def dkwJ1_successor_0 : List UInt8 := [42, 199, 0, 5, 1, 176, 42, 180, 0, 114, 198, 0, 25, 42, 180, 0, 114, 76, 43, 180, 0, 111]
abbrev dktJ1_successor_0 : List UInt8 := dkwJ1_successor_0 ++ dktJ1_successor_1
theorem dksJ1_successor_0 : cJ1_successor.data.toList.drop 0 = dktJ1_successor_0 := by decide +kernel
theorem dksJ1_successor_1 : cJ1_successor.data.toList.drop 22 = dktJ1_successor_1 := dk_seg dksJ1_successor_0 22 rfl rfl
theorem dksJ1_successor_2 : cJ1_successor.data.toList.drop 46 = dktJ1_successor_2 := dk_seg dksJ1_successor_1 24 rfl rfl
theorem dJ1_successor_0 : decode cJ1_successor 0 = .ok (.aload_n 0, 1) := dk_42 (dk_at dksJ1_successor_0 0 rfl rfl)
theorem dJ1_successor_1 : decode cJ1_successor 1 = .ok (.ifnonnull 5, 3) := dk_199 0 5 (dk_at dksJ1_successor_0 1 rfl rfl)
theorem dJ1_successor_4 : decode cJ1_successor 4 = .ok (.aconst_null, 1) := dk_1 (dk_at dksJ1_successor_0 4 rfl rfl)
theorem dJ1_successor_5 : decode cJ1_successor 5 = .ok (.areturn, 1) := dk_176 (dk_at dksJ1_successor_0 5 rfl rfl)
theorem dJ1_successor_6 : decode cJ1_successor 6 = .ok (.aload_n 0, 1) := dk_42 (dk_at dksJ1_successor_0 6 rfl rfl)
theorem dJ1_successor_7 : decode cJ1_successor 7 = .ok (.getfield 114, 3) := dk_180 0 114 (dk_at dksJ1_successor_0 7 rfl rfl)
theorem dJ1_successor_10 : decode cJ1_successor 10 = .ok (.ifnull 25, 3) := dk_198 0 25 (dk_at dksJ1_successor_0 10 rfl rfl)
theorem dJ1_successor_13 : decode cJ1_successor 13 = .ok (.aload_n 0, 1) := dk_42 (dk_at dksJ1_successor_0 13 rfl rfl)
theorem dJ1_successor_14 : decode cJ1_successor 14 = .ok (.getfield 114, 3) := dk_180 0 114 (dk_at dksJ1_successor_0 14 rfl rfl)
theorem dJ1_successor_17 : decode cJ1_successor 17 = .ok (.astore_n 1, 1) := dk_76 (dk_at dksJ1_successor_0 17 rfl rfl)
theorem dJ1_successor_18 : decode cJ1_successor 18 = .ok (.aload_n 1, 1) := dk_43 (dk_at dksJ1_successor_0 18 rfl rfl)
theorem dJ1_successor_19 : decode cJ1_successor 19 = .ok (.getfield 111, 3) := dk_180 0 111 (dk_at dksJ1_successor_0 19 rfl rfl)
theorem dJ1_successor_22 : decode cJ1_successor 22 = .ok (.ifnull 11, 3) := dk_198 0 11 (dk_at dksJ1_successor_1 0 rfl rfl)
theorem dJ1_successor_25 : decode cJ1_successor 25 = .ok (.aload_n 1, 1) := dk_43 (dk_at dksJ1_successor_1 3 rfl rfl)
theorem dJ1_successor_26 : decode cJ1_successor 26 = .ok (.getfield 111, 3) := dk_180 0 111 (dk_at dksJ1_successor_1 4 rfl rfl)
theorem dJ1_successor_29 : decode cJ1_successor 29 = .ok (.astore_n 1, 1) := dk_76 (dk_at dksJ1_successor_1 7 rfl rfl)
theorem dJ1_successor_30 : decode cJ1_successor 30 = .ok (.goto (-12), 3) := dk_167 255 244 (dk_at dksJ1_successor_1 8 rfl rfl)
theorem dJ1_successor_33 : decode cJ1_successor 33 = .ok (.aload_n 1, 1) := dk_43 (dk_at dksJ1_successor_1 11 rfl rfl)
theorem dJ1_successor_34 : decode cJ1_successor 34 = .ok (.areturn, 1) := dk_176 (dk_at dksJ1_successor_1 12 rfl rfl)
theorem dJ1_successor_35 : decode cJ1_successor 35 = .ok (.aload_n 0, 1) := dk_42 (dk_at dksJ1_successor_1 13 rfl rfl)
theorem dJ1_successor_36 : decode cJ1_successor 36 = .ok (.getfield 124, 3) := dk_180 0 124 (dk_at dksJ1_successor_1 14 rfl rfl)
theorem dJ1_successor_39 : decode cJ1_successor 39 = .ok (.astore_n 1, 1) := dk_76 (dk_at dksJ1_successor_1 17 rfl rfl)
theorem dJ1_successor_40 : decode cJ1_successor 40 = .ok (.aload_n 0, 1) := dk_42 (dk_at dksJ1_successor_1 18 rfl rfl)
theorem dJ1_successor_41 : decode cJ1_successor 41 = .ok (.astore_n 2, 1) := dk_77 (dk_at dksJ1_successor_1 19 rfl rfl)
theorem dJ1_successor_42 : decode cJ1_successor 42 = .ok (.aload_n 1, 1) := dk_43 (dk_at dksJ1_successor_1 20 rfl rfl)
theorem dJ1_successor_43 : decode cJ1_successor 43 = .ok (.ifnull 21, 3) := dk_198 0 21 (dk_at dksJ1_successor_1 21 rfl rfl)
theorem dJ1_successor_46 : decode cJ1_successor 46 = .ok (.aload_n 2, 1) := dk_44 (dk_at dksJ1_successor_2 0 rfl rfl)
theorem dJ1_successor_47 : decode cJ1_successor 47 = .ok (.aload_n 1, 1) := dk_43 (dk_at dksJ1_successor_2 1 rfl rfl)
theorem dJ1_successor_48 : decode cJ1_successor 48 = .ok (.getfield 114, 3) := dk_180 0 114 (dk_at dksJ1_successor_2 2 rfl rfl)
theorem dJ1_successor_51 : decode cJ1_successor 51 = .ok (.if_acmp .ne 13, 3) := dk_166 0 13 (dk_at dksJ1_successor_2 5 rfl rfl)
theorem dJ1_successor_54 : decode cJ1_successor 54 = .ok (.aload_n 1, 1) := dk_43 (dk_at dksJ1_successor_2 8 rfl rfl)
theorem dJ1_successor_55 : decode cJ1_successor 55 = .ok (.astore_n 2, 1) := dk_77 (dk_at dksJ1_successor_2 9 rfl rfl)
theorem dJ1_successor_56 : decode cJ1_successor 56 = .ok (.aload_n 1, 1) := dk_43 (dk_at dksJ1_successor_2 10 rfl rfl)
theorem dJ1_successor_57 : decode cJ1_successor 57 = .ok (.getfield 124, 3) := dk_180 0 124 (dk_at dksJ1_successor_2 11 rfl rfl)
theorem dJ1_successor_60 : decode cJ1_successor 60 = .ok (.astore_n 1, 1) := dk_76 (dk_at dksJ1_successor_2 14 rfl rfl)
theorem dJ1_successor_61 : decode cJ1_successor 61 = .ok (.goto (-19), 3) := dk_167 255 237 (dk_at dksJ1_successor_2 15 rfl rfl)
theorem dJ1_successor_64 : decode cJ1_successor 64 = .ok (.aload_n 1, 1) := dk_43 (dk_at dksJ1_successor_2 18 rfl rfl)
theorem dJ1_successor_65 : decode cJ1_successor 65 = .ok (.areturn, 1) := dk_176 (dk_at dksJ1_successor_2 19 rfl rfl)
abbrev cJ33_nextEntry : ByteArray := prog_103_method_3_code
def yJ33_nextEntry : MethodName := ⟨RJ33, "nextEntry", "()Ljava/util/TreeMap$Entry;"⟩
def dkwJ33_nextEntry_2 : List UInt8 := [43, 181, 0, 22, 43, 176]
abbrev dktJ33_nextEntry_2 : List UInt8 := dkwJ33_nextEntry_2 ++ []
def dkwJ33_nextEntry_1 : List UInt8 := [42, 180, 0, 19, 159, 0, 11, 187, 0, 32, 89, 183, 0, 34, 191, 42, 43, 184, 0, 35, 181, 0, 26, 42]
abbrev dktJ33_nextEntry_1 : List UInt8 := dkwJ33_nextEntry_1 ++ dktJ33_nextEntry_2
def dkwJ33_nextEntry_0 : List UInt8 := [42, 180, 0, 26, 76, 43, 199, 0, 11, 187, 0, 29, 89, 183, 0, 31, 191, 42, 180, 0, 1, 180, 0, 13]
abbrev dktJ33_nextEntry_0 : List UInt8 := dkwJ33_nextEntry_0 ++ dktJ33_nextEntry_1
theorem dksJ33_nextEntry_0 : cJ33_nextEntry.data.toList.drop 0 = dktJ33_nextEntry_0 := by decide +kernel
theorem dksJ33_nextEntry_1 : cJ33_nextEntry.data.toList.drop 24 = dktJ33_nextEntry_1 := dk_seg dksJ33_nextEntry_0 24 rfl rfl
theorem dksJ33_nextEntry_2 : cJ33_nextEntry.data.toList.drop 48 = dktJ33_nextEntry_2 := dk_seg dksJ33_nextEntry_1 24 rfl rfl
theorem dJ33_nextEntry_0 : decode cJ33_nextEntry 0 = .ok (.aload_n 0, 1) := dk_42 (dk_at dksJ33_nextEntry_0 0 rfl rfl)
theorem dJ33_nextEntry_1 : decode cJ33_nextEntry 1 = .ok (.getfield 26, 3) := dk_180 0 26 (dk_at dksJ33_nextEntry_0 1 rfl rfl)
theorem dJ33_nextEntry_4 : decode cJ33_nextEntry 4 = .ok (.astore_n 1, 1) := dk_76 (dk_at dksJ33_nextEntry_0 4 rfl rfl)
theorem dJ33_nextEntry_5 : decode cJ33_nextEntry 5 = .ok (.aload_n 1, 1) := dk_43 (dk_at dksJ33_nextEntry_0 5 rfl rfl)
theorem dJ33_nextEntry_6 : decode cJ33_nextEntry 6 = .ok (.ifnonnull 11, 3) := dk_199 0 11 (dk_at dksJ33_nextEntry_0 6 rfl rfl)
theorem dJ33_nextEntry_9 : decode cJ33_nextEntry 9 = .ok (.new 29, 3) := dk_187 0 29 (dk_at dksJ33_nextEntry_0 9 rfl rfl)
theorem dJ33_nextEntry_17 : decode cJ33_nextEntry 17 = .ok (.aload_n 0, 1) := dk_42 (dk_at dksJ33_nextEntry_0 17 rfl rfl)
theorem dJ33_nextEntry_18 : decode cJ33_nextEntry 18 = .ok (.getfield 1, 3) := dk_180 0 1 (dk_at dksJ33_nextEntry_0 18 rfl rfl)
theorem dJ33_nextEntry_21 : decode cJ33_nextEntry 21 = .ok (.getfield 13, 3) := dk_180 0 13 (dk_at dksJ33_nextEntry_0 21 rfl rfl)
theorem dJ33_nextEntry_24 : decode cJ33_nextEntry 24 = .ok (.aload_n 0, 1) := dk_42 (dk_at dksJ33_nextEntry_1 0 rfl rfl)
theorem dJ33_nextEntry_25 : decode cJ33_nextEntry 25 = .ok (.getfield 19, 3) := dk_180 0 19 (dk_at dksJ33_nextEntry_1 1 rfl rfl)
theorem dJ33_nextEntry_28 : decode cJ33_nextEntry 28 = .ok (.if_icmp .eq 11, 3) := dk_159 0 11 (dk_at dksJ33_nextEntry_1 4 rfl rfl)
theorem dJ33_nextEntry_31 : decode cJ33_nextEntry 31 = .ok (.new 32, 3) := dk_187 0 32 (dk_at dksJ33_nextEntry_1 7 rfl rfl)
theorem dJ33_nextEntry_39 : decode cJ33_nextEntry 39 = .ok (.aload_n 0, 1) := dk_42 (dk_at dksJ33_nextEntry_1 15 rfl rfl)
theorem dJ33_nextEntry_40 : decode cJ33_nextEntry 40 = .ok (.aload_n 1, 1) := dk_43 (dk_at dksJ33_nextEntry_1 16 rfl rfl)
theorem dJ33_nextEntry_41 : decode cJ33_nextEntry 41 = .ok (.invokestatic 35, 3) := dk_184 0 35 (dk_at dksJ33_nextEntry_1 17 rfl rfl)
theorem dJ33_nextEntry_44 : decode cJ33_nextEntry 44 = .ok (.putfield 26, 3) := dk_181 0 26 (dk_at dksJ33_nextEntry_1 20 rfl rfl)
theorem dJ33_nextEntry_47 : decode cJ33_nextEntry 47 = .ok (.aload_n 0, 1) := dk_42 (dk_at dksJ33_nextEntry_1 23 rfl rfl)
theorem dJ33_nextEntry_48 : decode cJ33_nextEntry 48 = .ok (.aload_n 1, 1) := dk_43 (dk_at dksJ33_nextEntry_2 0 rfl rfl)
theorem dJ33_nextEntry_49 : decode cJ33_nextEntry 49 = .ok (.putfield 22, 3) := dk_181 0 22 (dk_at dksJ33_nextEntry_2 1 rfl rfl)
theorem dJ33_nextEntry_52 : decode cJ33_nextEntry 52 = .ok (.aload_n 1, 1) := dk_43 (dk_at dksJ33_nextEntry_2 4 rfl rfl)
theorem dJ33_nextEntry_53 : decode cJ33_nextEntry 53 = .ok (.areturn, 1) := dk_176 (dk_at dksJ33_nextEntry_2 5 rfl rfl)
abbrev cJ36_next : ByteArray := prog_104_method_2_code
def yJ36_next : MethodName := ⟨RJ36, "next", "()Ljava/lang/Object;"⟩
def dkwJ36_next_0 : List UInt8 := [42, 182, 0, 7, 180, 0, 13, 176]
abbrev dktJ36_next_0 : List UInt8 := dkwJ36_next_0 ++ []
theorem dksJ36_next_0 : cJ36_next.data.toList.drop 0 = dktJ36_next_0 := by decide +kernel
theorem dJ36_next_0 : decode cJ36_next 0 = .ok (.aload_n 0, 1) := dk_42 (dk_at dksJ36_next_0 0 rfl rfl)
theorem dJ36_next_1 : decode cJ36_next 1 = .ok (.invokevirtual 7, 3) := dk_182 0 7 (dk_at dksJ36_next_0 1 rfl rfl)
theorem dJ36_next_4 : decode cJ36_next 4 = .ok (.getfield 13, 3) := dk_180 0 13 (dk_at dksJ36_next_0 4 rfl rfl)
theorem dJ36_next_7 : decode cJ36_next 7 = .ok (.areturn, 1) := dk_176 (dk_at dksJ36_next_0 7 rfl rfl)
abbrev cJ1_getFirstEntry : ByteArray := prog_96_method_72_code
def yJ1_getFirstEntry : MethodName := ⟨RJ1, "getFirstEntry", "()Ljava/util/TreeMap$Entry;"⟩
def dkwJ1_getFirstEntry_1 : List UInt8 := [43, 176]
abbrev dktJ1_getFirstEntry_1 : List UInt8 := dkwJ1_getFirstEntry_1 ++ []
def dkwJ1_getFirstEntry_0 : List UInt8 := [42, 180, 0, 101, 76, 43, 198, 0, 18, 43, 180, 0, 111, 198, 0, 11, 43, 180, 0, 111, 76, 167, 255, 244]
abbrev dktJ1_getFirstEntry_0 : List UInt8 := dkwJ1_getFirstEntry_0 ++ dktJ1_getFirstEntry_1
theorem dksJ1_getFirstEntry_0 : cJ1_getFirstEntry.data.toList.drop 0 = dktJ1_getFirstEntry_0 := by decide +kernel
theorem dksJ1_getFirstEntry_1 : cJ1_getFirstEntry.data.toList.drop 24 = dktJ1_getFirstEntry_1 := dk_seg dksJ1_getFirstEntry_0 24 rfl rfl
theorem dJ1_getFirstEntry_0 : decode cJ1_getFirstEntry 0 = .ok (.aload_n 0, 1) := dk_42 (dk_at dksJ1_getFirstEntry_0 0 rfl rfl)
theorem dJ1_getFirstEntry_1 : decode cJ1_getFirstEntry 1 = .ok (.getfield 101, 3) := dk_180 0 101 (dk_at dksJ1_getFirstEntry_0 1 rfl rfl)
theorem dJ1_getFirstEntry_4 : decode cJ1_getFirstEntry 4 = .ok (.astore_n 1, 1) := dk_76 (dk_at dksJ1_getFirstEntry_0 4 rfl rfl)
theorem dJ1_getFirstEntry_5 : decode cJ1_getFirstEntry 5 = .ok (.aload_n 1, 1) := dk_43 (dk_at dksJ1_getFirstEntry_0 5 rfl rfl)
theorem dJ1_getFirstEntry_6 : decode cJ1_getFirstEntry 6 = .ok (.ifnull 18, 3) := dk_198 0 18 (dk_at dksJ1_getFirstEntry_0 6 rfl rfl)
theorem dJ1_getFirstEntry_9 : decode cJ1_getFirstEntry 9 = .ok (.aload_n 1, 1) := dk_43 (dk_at dksJ1_getFirstEntry_0 9 rfl rfl)
theorem dJ1_getFirstEntry_10 : decode cJ1_getFirstEntry 10 = .ok (.getfield 111, 3) := dk_180 0 111 (dk_at dksJ1_getFirstEntry_0 10 rfl rfl)
theorem dJ1_getFirstEntry_13 : decode cJ1_getFirstEntry 13 = .ok (.ifnull 11, 3) := dk_198 0 11 (dk_at dksJ1_getFirstEntry_0 13 rfl rfl)
theorem dJ1_getFirstEntry_16 : decode cJ1_getFirstEntry 16 = .ok (.aload_n 1, 1) := dk_43 (dk_at dksJ1_getFirstEntry_0 16 rfl rfl)
theorem dJ1_getFirstEntry_17 : decode cJ1_getFirstEntry 17 = .ok (.getfield 111, 3) := dk_180 0 111 (dk_at dksJ1_getFirstEntry_0 17 rfl rfl)
theorem dJ1_getFirstEntry_20 : decode cJ1_getFirstEntry 20 = .ok (.astore_n 1, 1) := dk_76 (dk_at dksJ1_getFirstEntry_0 20 rfl rfl)
theorem dJ1_getFirstEntry_21 : decode cJ1_getFirstEntry 21 = .ok (.goto (-12), 3) := dk_167 255 244 (dk_at dksJ1_getFirstEntry_0 21 rfl rfl)
theorem dJ1_getFirstEntry_24 : decode cJ1_getFirstEntry 24 = .ok (.aload_n 1, 1) := dk_43 (dk_at dksJ1_getFirstEntry_1 0 rfl rfl)
theorem dJ1_getFirstEntry_25 : decode cJ1_getFirstEntry 25 = .ok (.areturn, 1) := dk_176 (dk_at dksJ1_getFirstEntry_1 1 rfl rfl)
abbrev cJ33_init : ByteArray := prog_103_method_1_code
def yJ33_init : MethodName := ⟨RJ33, "<init>", "(Ljava/util/TreeMap;Ljava/util/TreeMap$Entry;)V"⟩
def dkwJ33_init_1 : List UInt8 := [181, 0, 26, 177]
abbrev dktJ33_init_1 : List UInt8 := dkwJ33_init_1 ++ []
def dkwJ33_init_0 : List UInt8 := [42, 43, 181, 0, 1, 42, 183, 0, 7, 42, 43, 180, 0, 13, 181, 0, 19, 42, 1, 181, 0, 22, 42, 44]
abbrev dktJ33_init_0 : List UInt8 := dkwJ33_init_0 ++ dktJ33_init_1
theorem dksJ33_init_0 : cJ33_init.data.toList.drop 0 = dktJ33_init_0 := by decide +kernel
theorem dksJ33_init_1 : cJ33_init.data.toList.drop 24 = dktJ33_init_1 := dk_seg dksJ33_init_0 24 rfl rfl
theorem dJ33_init_0 : decode cJ33_init 0 = .ok (.aload_n 0, 1) := dk_42 (dk_at dksJ33_init_0 0 rfl rfl)
theorem dJ33_init_1 : decode cJ33_init 1 = .ok (.aload_n 1, 1) := dk_43 (dk_at dksJ33_init_0 1 rfl rfl)
theorem dJ33_init_2 : decode cJ33_init 2 = .ok (.putfield 1, 3) := dk_181 0 1 (dk_at dksJ33_init_0 2 rfl rfl)
theorem dJ33_init_5 : decode cJ33_init 5 = .ok (.aload_n 0, 1) := dk_42 (dk_at dksJ33_init_0 5 rfl rfl)
theorem dJ33_init_6 : decode cJ33_init 6 = .ok (.invokespecial 7, 3) := dk_183 0 7 (dk_at dksJ33_init_0 6 rfl rfl)
theorem dJ33_init_9 : decode cJ33_init 9 = .ok (.aload_n 0, 1) := dk_42 (dk_at dksJ33_init_0 9 rfl rfl)
theorem dJ33_init_10 : decode cJ33_init 10 = .ok (.aload_n 1, 1) := dk_43 (dk_at dksJ33_init_0 10 rfl rfl)
theorem dJ33_init_11 : decode cJ33_init 11 = .ok (.getfield 13, 3) := dk_180 0 13 (dk_at dksJ33_init_0 11 rfl rfl)
theorem dJ33_init_14 : decode cJ33_init 14 = .ok (.putfield 19, 3) := dk_181 0 19 (dk_at dksJ33_init_0 14 rfl rfl)
theorem dJ33_init_17 : decode cJ33_init 17 = .ok (.aload_n 0, 1) := dk_42 (dk_at dksJ33_init_0 17 rfl rfl)
theorem dJ33_init_18 : decode cJ33_init 18 = .ok (.aconst_null, 1) := dk_1 (dk_at dksJ33_init_0 18 rfl rfl)
theorem dJ33_init_19 : decode cJ33_init 19 = .ok (.putfield 22, 3) := dk_181 0 22 (dk_at dksJ33_init_0 19 rfl rfl)
theorem dJ33_init_22 : decode cJ33_init 22 = .ok (.aload_n 0, 1) := dk_42 (dk_at dksJ33_init_0 22 rfl rfl)
theorem dJ33_init_23 : decode cJ33_init 23 = .ok (.aload_n 2, 1) := dk_44 (dk_at dksJ33_init_0 23 rfl rfl)
theorem dJ33_init_24 : decode cJ33_init 24 = .ok (.putfield 26, 3) := dk_181 0 26 (dk_at dksJ33_init_1 0 rfl rfl)
theorem dJ33_init_27 : decode cJ33_init 27 = .ok (.return_, 1) := dk_177 (dk_at dksJ33_init_1 3 rfl rfl)
abbrev cJ36_init : ByteArray := prog_104_method_1_code
def yJ36_init : MethodName := ⟨RJ36, "<init>", "(Ljava/util/TreeMap;Ljava/util/TreeMap$Entry;)V"⟩
def dkwJ36_init_0 : List UInt8 := [42, 43, 44, 183, 0, 1, 177]
abbrev dktJ36_init_0 : List UInt8 := dkwJ36_init_0 ++ []
theorem dksJ36_init_0 : cJ36_init.data.toList.drop 0 = dktJ36_init_0 := by decide +kernel
theorem dJ36_init_0 : decode cJ36_init 0 = .ok (.aload_n 0, 1) := dk_42 (dk_at dksJ36_init_0 0 rfl rfl)
theorem dJ36_init_1 : decode cJ36_init 1 = .ok (.aload_n 1, 1) := dk_43 (dk_at dksJ36_init_0 1 rfl rfl)
theorem dJ36_init_2 : decode cJ36_init 2 = .ok (.aload_n 2, 1) := dk_44 (dk_at dksJ36_init_0 2 rfl rfl)
theorem dJ36_init_3 : decode cJ36_init 3 = .ok (.invokespecial 1, 3) := dk_183 0 1 (dk_at dksJ36_init_0 3 rfl rfl)
theorem dJ36_init_6 : decode cJ36_init 6 = .ok (.return_, 1) := dk_177 (dk_at dksJ36_init_0 6 rfl rfl)
abbrev cJ11_iterator : ByteArray := prog_105_method_2_code
def yJ11_iterator : MethodName := ⟨RJ11, "iterator", "()Ljava/util/Iterator;"⟩
def dkwJ11_iterator_0 : List UInt8 := [187, 0, 13, 89, 42, 180, 0, 1, 42, 180, 0, 1, 182, 0, 15, 183, 0, 21, 176]
abbrev dktJ11_iterator_0 : List UInt8 := dkwJ11_iterator_0 ++ []
theorem dksJ11_iterator_0 : cJ11_iterator.data.toList.drop 0 = dktJ11_iterator_0 := by decide +kernel
theorem dJ11_iterator_0 : decode cJ11_iterator 0 = .ok (.new 13, 3) := dk_187 0 13 (dk_at dksJ11_iterator_0 0 rfl rfl)
theorem dJ11_iterator_3 : decode cJ11_iterator 3 = .ok (.dup, 1) := dk_89 (dk_at dksJ11_iterator_0 3 rfl rfl)
theorem dJ11_iterator_4 : decode cJ11_iterator 4 = .ok (.aload_n 0, 1) := dk_42 (dk_at dksJ11_iterator_0 4 rfl rfl)
theorem dJ11_iterator_5 : decode cJ11_iterator 5 = .ok (.getfield 1, 3) := dk_180 0 1 (dk_at dksJ11_iterator_0 5 rfl rfl)
theorem dJ11_iterator_8 : decode cJ11_iterator 8 = .ok (.aload_n 0, 1) := dk_42 (dk_at dksJ11_iterator_0 8 rfl rfl)
theorem dJ11_iterator_9 : decode cJ11_iterator 9 = .ok (.getfield 1, 3) := dk_180 0 1 (dk_at dksJ11_iterator_0 9 rfl rfl)
theorem dJ11_iterator_12 : decode cJ11_iterator 12 = .ok (.invokevirtual 15, 3) := dk_182 0 15 (dk_at dksJ11_iterator_0 12 rfl rfl)
theorem dJ11_iterator_15 : decode cJ11_iterator 15 = .ok (.invokespecial 21, 3) := dk_183 0 21 (dk_at dksJ11_iterator_0 15 rfl rfl)
theorem dJ11_iterator_18 : decode cJ11_iterator 18 = .ok (.areturn, 1) := dk_176 (dk_at dksJ11_iterator_0 18 rfl rfl)
abbrev cX12_init : ByteArray := prog_8_method_1_code
def yX12_init : MethodName := ⟨RX12, "<init>", "(Ljava/lang/Iterable;I)V"⟩
def dkwX12_init_5 : List UInt8 := [185, 0, 55, 3, 0, 167, 255, 174, 177]
abbrev dktX12_init_5 : List UInt8 := dkwX12_init_5 ++ []
def dkwX12_init_4 : List UInt8 := [182, 0, 51, 158, 0, 9, 132, 6, 255, 167, 255, 223, 42, 180, 0, 10, 21, 6, 25, 5]
abbrev dktX12_init_4 : List UInt8 := dkwX12_init_4 ++ dktX12_init_5
def dkwX12_init_3 : List UInt8 := [158, 0, 34, 45, 42, 180, 0, 10, 21, 6, 4, 100, 185, 0, 47, 2, 0, 192, 0, 39, 25, 5]
abbrev dktX12_init_3 : List UInt8 := dkwX12_init_3 ++ dktX12_init_4
def dkwX12_init_2 : List UInt8 := [185, 0, 35, 1, 0, 192, 0, 39, 58, 5, 42, 180, 0, 10, 185, 0, 41, 1, 0, 54, 6, 21, 6]
abbrev dktX12_init_2 : List UInt8 := dkwX12_init_2 ++ dktX12_init_3
def dkwX12_init_1 : List UInt8 := [183, 0, 22, 78, 43, 185, 0, 23, 1, 0, 58, 4, 25, 4, 185, 0, 29, 1, 0, 153, 0, 78, 25, 4]
abbrev dktX12_init_1 : List UInt8 := dkwX12_init_1 ++ dktX12_init_2
def dkwX12_init_0 : List UInt8 := [42, 183, 0, 1, 42, 187, 0, 7, 89, 183, 0, 9, 181, 0, 10, 42, 28, 181, 0, 16, 187, 0, 20, 89]
abbrev dktX12_init_0 : List UInt8 := dkwX12_init_0 ++ dktX12_init_1
theorem dksX12_init_0 : cX12_init.data.toList.drop 0 = dktX12_init_0 := by decide +kernel
theorem dksX12_init_1 : cX12_init.data.toList.drop 24 = dktX12_init_1 := dk_seg dksX12_init_0 24 rfl rfl
theorem dksX12_init_2 : cX12_init.data.toList.drop 48 = dktX12_init_2 := dk_seg dksX12_init_1 24 rfl rfl
theorem dksX12_init_3 : cX12_init.data.toList.drop 71 = dktX12_init_3 := dk_seg dksX12_init_2 23 rfl rfl
theorem dksX12_init_4 : cX12_init.data.toList.drop 93 = dktX12_init_4 := dk_seg dksX12_init_3 22 rfl rfl
theorem dksX12_init_5 : cX12_init.data.toList.drop 113 = dktX12_init_5 := dk_seg dksX12_init_4 20 rfl rfl
theorem dX12_init_0 : decode cX12_init 0 = .ok (.aload_n 0, 1) := dk_42 (dk_at dksX12_init_0 0 rfl rfl)
theorem dX12_init_1 : decode cX12_init 1 = .ok (.invokespecial 1, 3) := dk_183 0 1 (dk_at dksX12_init_0 1 rfl rfl)
theorem dX12_init_4 : decode cX12_init 4 = .ok (.aload_n 0, 1) := dk_42 (dk_at dksX12_init_0 4 rfl rfl)
theorem dX12_init_5 : decode cX12_init 5 = .ok (.new 7, 3) := dk_187 0 7 (dk_at dksX12_init_0 5 rfl rfl)
theorem dX12_init_8 : decode cX12_init 8 = .ok (.dup, 1) := dk_89 (dk_at dksX12_init_0 8 rfl rfl)
theorem dX12_init_9 : decode cX12_init 9 = .ok (.invokespecial 9, 3) := dk_183 0 9 (dk_at dksX12_init_0 9 rfl rfl)
theorem dX12_init_12 : decode cX12_init 12 = .ok (.putfield 10, 3) := dk_181 0 10 (dk_at dksX12_init_0 12 rfl rfl)
theorem dX12_init_15 : decode cX12_init 15 = .ok (.aload_n 0, 1) := dk_42 (dk_at dksX12_init_0 15 rfl rfl)
theorem dX12_init_16 : decode cX12_init 16 = .ok (.iload_n 2, 1) := dk_28 (dk_at dksX12_init_0 16 rfl rfl)
theorem dX12_init_17 : decode cX12_init 17 = .ok (.putfield 16, 3) := dk_181 0 16 (dk_at dksX12_init_0 17 rfl rfl)
theorem dX12_init_20 : decode cX12_init 20 = .ok (.new 20, 3) := dk_187 0 20 (dk_at dksX12_init_0 20 rfl rfl)
theorem dX12_init_23 : decode cX12_init 23 = .ok (.dup, 1) := dk_89 (dk_at dksX12_init_0 23 rfl rfl)
theorem dX12_init_24 : decode cX12_init 24 = .ok (.invokespecial 22, 3) := dk_183 0 22 (dk_at dksX12_init_1 0 rfl rfl)
theorem dX12_init_27 : decode cX12_init 27 = .ok (.astore_n 3, 1) := dk_78 (dk_at dksX12_init_1 3 rfl rfl)
theorem dX12_init_28 : decode cX12_init 28 = .ok (.aload_n 1, 1) := dk_43 (dk_at dksX12_init_1 4 rfl rfl)
theorem dX12_init_29 : decode cX12_init 29 = .ok (.invokeinterface 23 1, 5) := by decide +kernel
theorem dX12_init_34 : decode cX12_init 34 = .ok (.astore 4, 2) := dk_58 4 (dk_at dksX12_init_1 10 rfl rfl)
theorem dX12_init_36 : decode cX12_init 36 = .ok (.aload 4, 2) := dk_25 4 (dk_at dksX12_init_1 12 rfl rfl)
theorem dX12_init_38 : decode cX12_init 38 = .ok (.invokeinterface 29 1, 5) := by decide +kernel
theorem dX12_init_43 : decode cX12_init 43 = .ok (.ifCond .eq 78, 3) := dk_153 0 78 (dk_at dksX12_init_1 19 rfl rfl)
theorem dX12_init_46 : decode cX12_init 46 = .ok (.aload 4, 2) := dk_25 4 (dk_at dksX12_init_1 22 rfl rfl)
theorem dX12_init_48 : decode cX12_init 48 = .ok (.invokeinterface 35 1, 5) := by decide +kernel
theorem dX12_init_53 : decode cX12_init 53 = .ok (.checkcast 39, 3) := dk_192 0 39 (dk_at dksX12_init_2 5 rfl rfl)
theorem dX12_init_56 : decode cX12_init 56 = .ok (.astore 5, 2) := dk_58 5 (dk_at dksX12_init_2 8 rfl rfl)
theorem dX12_init_58 : decode cX12_init 58 = .ok (.aload_n 0, 1) := dk_42 (dk_at dksX12_init_2 10 rfl rfl)
theorem dX12_init_59 : decode cX12_init 59 = .ok (.getfield 10, 3) := dk_180 0 10 (dk_at dksX12_init_2 11 rfl rfl)
theorem dX12_init_62 : decode cX12_init 62 = .ok (.invokeinterface 41 1, 5) := by decide +kernel
theorem dX12_init_67 : decode cX12_init 67 = .ok (.istore 6, 2) := dk_54 6 (dk_at dksX12_init_2 19 rfl rfl)
theorem dX12_init_69 : decode cX12_init 69 = .ok (.iload 6, 2) := dk_21 6 (dk_at dksX12_init_2 21 rfl rfl)
theorem dX12_init_71 : decode cX12_init 71 = .ok (.ifCond .le 34, 3) := dk_158 0 34 (dk_at dksX12_init_3 0 rfl rfl)
theorem dX12_init_74 : decode cX12_init 74 = .ok (.aload_n 3, 1) := dk_45 (dk_at dksX12_init_3 3 rfl rfl)
theorem dX12_init_75 : decode cX12_init 75 = .ok (.aload_n 0, 1) := dk_42 (dk_at dksX12_init_3 4 rfl rfl)
theorem dX12_init_76 : decode cX12_init 76 = .ok (.getfield 10, 3) := dk_180 0 10 (dk_at dksX12_init_3 5 rfl rfl)
theorem dX12_init_79 : decode cX12_init 79 = .ok (.iload 6, 2) := dk_21 6 (dk_at dksX12_init_3 8 rfl rfl)
theorem dX12_init_81 : decode cX12_init 81 = .ok (.iconst 1, 1) := dk_4 (dk_at dksX12_init_3 10 rfl rfl)
theorem dX12_init_82 : decode cX12_init 82 = .ok (.isub, 1) := dk_100 (dk_at dksX12_init_3 11 rfl rfl)
theorem dX12_init_83 : decode cX12_init 83 = .ok (.invokeinterface 47 2, 5) := by decide +kernel
theorem dX12_init_88 : decode cX12_init 88 = .ok (.checkcast 39, 3) := dk_192 0 39 (dk_at dksX12_init_3 17 rfl rfl)
theorem dX12_init_91 : decode cX12_init 91 = .ok (.aload 5, 2) := dk_25 5 (dk_at dksX12_init_3 20 rfl rfl)
theorem dX12_init_93 : decode cX12_init 93 = .ok (.invokevirtual 51, 3) := dk_182 0 51 (dk_at dksX12_init_4 0 rfl rfl)
theorem dX12_init_96 : decode cX12_init 96 = .ok (.ifCond .le 9, 3) := dk_158 0 9 (dk_at dksX12_init_4 3 rfl rfl)
theorem dX12_init_99 : decode cX12_init 99 = .ok (.iinc 6 (-1), 3) := dk_132 6 255 (dk_at dksX12_init_4 6 rfl rfl)
theorem dX12_init_102 : decode cX12_init 102 = .ok (.goto (-33), 3) := dk_167 255 223 (dk_at dksX12_init_4 9 rfl rfl)
theorem dX12_init_105 : decode cX12_init 105 = .ok (.aload_n 0, 1) := dk_42 (dk_at dksX12_init_4 12 rfl rfl)
theorem dX12_init_106 : decode cX12_init 106 = .ok (.getfield 10, 3) := dk_180 0 10 (dk_at dksX12_init_4 13 rfl rfl)
theorem dX12_init_109 : decode cX12_init 109 = .ok (.iload 6, 2) := dk_21 6 (dk_at dksX12_init_4 16 rfl rfl)
theorem dX12_init_111 : decode cX12_init 111 = .ok (.aload 5, 2) := dk_25 5 (dk_at dksX12_init_4 18 rfl rfl)
theorem dX12_init_113 : decode cX12_init 113 = .ok (.invokeinterface 55 3, 5) := by decide +kernel
theorem dX12_init_118 : decode cX12_init 118 = .ok (.goto (-82), 3) := dk_167 255 174 (dk_at dksX12_init_5 5 rfl rfl)
theorem dX12_init_121 : decode cX12_init 121 = .ok (.return_, 1) := dk_177 (dk_at dksX12_init_5 8 rfl rfl)
abbrev cJ11_init : ByteArray := prog_105_method_1_code
def yJ11_init : MethodName := ⟨RJ11, "<init>", "(Ljava/util/TreeMap;)V"⟩
def dkwJ11_init_0 : List UInt8 := [42, 43, 181, 0, 1, 42, 183, 0, 7, 177]
abbrev dktJ11_init_0 : List UInt8 := dkwJ11_init_0 ++ []
theorem dksJ11_init_0 : cJ11_init.data.toList.drop 0 = dktJ11_init_0 := by decide +kernel
theorem dJ11_init_0 : decode cJ11_init 0 = .ok (.aload_n 0, 1) := dk_42 (dk_at dksJ11_init_0 0 rfl rfl)
theorem dJ11_init_1 : decode cJ11_init 1 = .ok (.aload_n 1, 1) := dk_43 (dk_at dksJ11_init_0 1 rfl rfl)
theorem dJ11_init_2 : decode cJ11_init 2 = .ok (.putfield 1, 3) := dk_181 0 1 (dk_at dksJ11_init_0 2 rfl rfl)
theorem dJ11_init_5 : decode cJ11_init 5 = .ok (.aload_n 0, 1) := dk_42 (dk_at dksJ11_init_0 5 rfl rfl)
theorem dJ11_init_6 : decode cJ11_init 6 = .ok (.invokespecial 7, 3) := dk_183 0 7 (dk_at dksJ11_init_0 6 rfl rfl)
theorem dJ11_init_9 : decode cJ11_init 9 = .ok (.return_, 1) := dk_177 (dk_at dksJ11_init_0 9 rfl rfl)
abbrev cJ1_values : ByteArray := prog_96_method_52_code
def yJ1_values : MethodName := ⟨RJ1, "values", "()Ljava/util/Collection;"⟩
def dkwJ1_values_1 : List UInt8 := [176]
abbrev dktJ1_values_1 : List UInt8 := dkwJ1_values_1 ++ []
def dkwJ1_values_0 : List UInt8 := [42, 180, 0, 233, 76, 43, 199, 0, 17, 187, 0, 237, 89, 42, 183, 0, 239, 76, 42, 43, 181, 0, 233, 43]
abbrev dktJ1_values_0 : List UInt8 := dkwJ1_values_0 ++ dktJ1_values_1
theorem dksJ1_values_0 : cJ1_values.data.toList.drop 0 = dktJ1_values_0 := by decide +kernel
theorem dksJ1_values_1 : cJ1_values.data.toList.drop 24 = dktJ1_values_1 := dk_seg dksJ1_values_0 24 rfl rfl
theorem dJ1_values_0 : decode cJ1_values 0 = .ok (.aload_n 0, 1) := dk_42 (dk_at dksJ1_values_0 0 rfl rfl)
theorem dJ1_values_1 : decode cJ1_values 1 = .ok (.getfield 233, 3) := dk_180 0 233 (dk_at dksJ1_values_0 1 rfl rfl)
theorem dJ1_values_4 : decode cJ1_values 4 = .ok (.astore_n 1, 1) := dk_76 (dk_at dksJ1_values_0 4 rfl rfl)
theorem dJ1_values_5 : decode cJ1_values 5 = .ok (.aload_n 1, 1) := dk_43 (dk_at dksJ1_values_0 5 rfl rfl)
theorem dJ1_values_6 : decode cJ1_values 6 = .ok (.ifnonnull 17, 3) := dk_199 0 17 (dk_at dksJ1_values_0 6 rfl rfl)
theorem dJ1_values_9 : decode cJ1_values 9 = .ok (.new 237, 3) := dk_187 0 237 (dk_at dksJ1_values_0 9 rfl rfl)
theorem dJ1_values_12 : decode cJ1_values 12 = .ok (.dup, 1) := dk_89 (dk_at dksJ1_values_0 12 rfl rfl)
theorem dJ1_values_13 : decode cJ1_values 13 = .ok (.aload_n 0, 1) := dk_42 (dk_at dksJ1_values_0 13 rfl rfl)
theorem dJ1_values_14 : decode cJ1_values 14 = .ok (.invokespecial 239, 3) := dk_183 0 239 (dk_at dksJ1_values_0 14 rfl rfl)
theorem dJ1_values_17 : decode cJ1_values 17 = .ok (.astore_n 1, 1) := dk_76 (dk_at dksJ1_values_0 17 rfl rfl)
theorem dJ1_values_18 : decode cJ1_values 18 = .ok (.aload_n 0, 1) := dk_42 (dk_at dksJ1_values_0 18 rfl rfl)
theorem dJ1_values_19 : decode cJ1_values 19 = .ok (.aload_n 1, 1) := dk_43 (dk_at dksJ1_values_0 19 rfl rfl)
theorem dJ1_values_20 : decode cJ1_values 20 = .ok (.putfield 233, 3) := dk_181 0 233 (dk_at dksJ1_values_0 20 rfl rfl)
theorem dJ1_values_23 : decode cJ1_values 23 = .ok (.aload_n 1, 1) := dk_43 (dk_at dksJ1_values_0 23 rfl rfl)
theorem dJ1_values_24 : decode cJ1_values 24 = .ok (.areturn, 1) := dk_176 (dk_at dksJ1_values_1 0 rfl rfl)
abbrev cX2_feeding : ByteArray := prog_14_method_23_code
def yX2_feeding : MethodName := ⟨RX2, "feeding", "()LLionGate$Feeding;"⟩
def dkwX2_feeding_0 : List UInt8 := [187, 0, 246, 89, 42, 180, 0, 12, 182, 0, 26, 42, 180, 0, 82, 183, 0, 248, 176]
abbrev dktX2_feeding_0 : List UInt8 := dkwX2_feeding_0 ++ []
theorem dksX2_feeding_0 : cX2_feeding.data.toList.drop 0 = dktX2_feeding_0 := by decide +kernel
theorem dX2_feeding_0 : decode cX2_feeding 0 = .ok (.new 246, 3) := dk_187 0 246 (dk_at dksX2_feeding_0 0 rfl rfl)
theorem dX2_feeding_3 : decode cX2_feeding 3 = .ok (.dup, 1) := dk_89 (dk_at dksX2_feeding_0 3 rfl rfl)
theorem dX2_feeding_4 : decode cX2_feeding 4 = .ok (.aload_n 0, 1) := dk_42 (dk_at dksX2_feeding_0 4 rfl rfl)
theorem dX2_feeding_5 : decode cX2_feeding 5 = .ok (.getfield 12, 3) := dk_180 0 12 (dk_at dksX2_feeding_0 5 rfl rfl)
theorem dX2_feeding_8 : decode cX2_feeding 8 = .ok (.invokevirtual 26, 3) := dk_182 0 26 (dk_at dksX2_feeding_0 8 rfl rfl)
theorem dX2_feeding_11 : decode cX2_feeding 11 = .ok (.aload_n 0, 1) := dk_42 (dk_at dksX2_feeding_0 11 rfl rfl)
theorem dX2_feeding_12 : decode cX2_feeding 12 = .ok (.getfield 82, 3) := dk_180 0 82 (dk_at dksX2_feeding_0 12 rfl rfl)
theorem dX2_feeding_15 : decode cX2_feeding 15 = .ok (.invokespecial 248, 3) := dk_183 0 248 (dk_at dksX2_feeding_0 15 rfl rfl)
theorem dX2_feeding_18 : decode cX2_feeding 18 = .ok (.areturn, 1) := dk_176 (dk_at dksX2_feeding_0 18 rfl rfl)
abbrev cX1_areAllInTime : ByteArray := prog_1_method_37_code
def yX1_areAllInTime : MethodName := ⟨RX1, "areAllInTime", "()Z"⟩
def dkwX1_areAllInTime_0 : List UInt8 := [42, 180, 0, 66, 182, 1, 1, 182, 1, 5, 172]
abbrev dktX1_areAllInTime_0 : List UInt8 := dkwX1_areAllInTime_0 ++ []
theorem dksX1_areAllInTime_0 : cX1_areAllInTime.data.toList.drop 0 = dktX1_areAllInTime_0 := by decide +kernel
theorem dX1_areAllInTime_0 : decode cX1_areAllInTime 0 = .ok (.aload_n 0, 1) := dk_42 (dk_at dksX1_areAllInTime_0 0 rfl rfl)
theorem dX1_areAllInTime_1 : decode cX1_areAllInTime 1 = .ok (.getfield 66, 3) := dk_180 0 66 (dk_at dksX1_areAllInTime_0 1 rfl rfl)
theorem dX1_areAllInTime_4 : decode cX1_areAllInTime 4 = .ok (.invokevirtual 257, 3) := dk_182 1 1 (dk_at dksX1_areAllInTime_0 4 rfl rfl)
theorem dX1_areAllInTime_7 : decode cX1_areAllInTime 7 = .ok (.invokevirtual 261, 3) := dk_182 1 5 (dk_at dksX1_areAllInTime_0 7 rfl rfl)
theorem dX1_areAllInTime_10 : decode cX1_areAllInTime 10 = .ok (.ireturn, 1) := dk_172 (dk_at dksX1_areAllInTime_0 10 rfl rfl)
abbrev cX1_drawnTotal : ByteArray := prog_1_method_52_code
def yX1_drawnTotal : MethodName := ⟨RX1, "drawnTotal", "()I"⟩
def dkwX1_drawnTotal_0 : List UInt8 := [42, 180, 0, 66, 180, 1, 81, 172]
abbrev dktX1_drawnTotal_0 : List UInt8 := dkwX1_drawnTotal_0 ++ []
theorem dksX1_drawnTotal_0 : cX1_drawnTotal.data.toList.drop 0 = dktX1_drawnTotal_0 := by decide +kernel
theorem dX1_drawnTotal_0 : decode cX1_drawnTotal 0 = .ok (.aload_n 0, 1) := dk_42 (dk_at dksX1_drawnTotal_0 0 rfl rfl)
theorem dX1_drawnTotal_1 : decode cX1_drawnTotal 1 = .ok (.getfield 66, 3) := dk_180 0 66 (dk_at dksX1_drawnTotal_0 1 rfl rfl)
theorem dX1_drawnTotal_4 : decode cX1_drawnTotal 4 = .ok (.getfield 337, 3) := dk_180 1 81 (dk_at dksX1_drawnTotal_0 4 rfl rfl)
theorem dX1_drawnTotal_7 : decode cX1_drawnTotal 7 = .ok (.ireturn, 1) := dk_172 (dk_at dksX1_drawnTotal_0 7 rfl rfl)
abbrev cX1_hour : ByteArray := prog_1_method_48_code
def yX1_hour : MethodName := ⟨RX1, "hour", "()I"⟩
def dkwX1_hour_0 : List UInt8 := [42, 180, 0, 66, 180, 1, 69, 172]
abbrev dktX1_hour_0 : List UInt8 := dkwX1_hour_0 ++ []
theorem dksX1_hour_0 : cX1_hour.data.toList.drop 0 = dktX1_hour_0 := by decide +kernel
theorem dX1_hour_0 : decode cX1_hour 0 = .ok (.aload_n 0, 1) := dk_42 (dk_at dksX1_hour_0 0 rfl rfl)
theorem dX1_hour_1 : decode cX1_hour 1 = .ok (.getfield 66, 3) := dk_180 0 66 (dk_at dksX1_hour_0 1 rfl rfl)
theorem dX1_hour_4 : decode cX1_hour 4 = .ok (.getfield 325, 3) := dk_180 1 69 (dk_at dksX1_hour_0 4 rfl rfl)
theorem dX1_hour_7 : decode cX1_hour 7 = .ok (.ireturn, 1) := dk_172 (dk_at dksX1_hour_0 7 rfl rfl)
abbrev cX14_init : ByteArray := prog_3_method_1_code
def yX14_init : MethodName := ⟨RX14, "<init>", "()V"⟩
theorem dX14_init_0 : decode cX14_init 0 = .ok (.aload_n 0, 1) := by decide +kernel
theorem dX14_init_1 : decode cX14_init 1 = .ok (.invokespecial 1, 3) := by decide +kernel
theorem dX14_init_4 : decode cX14_init 4 = .ok (.return_, 1) := by decide +kernel
abbrev cJ14_init : ByteArray := prog_60_method_1_code
def yJ14_init : MethodName := ⟨RJ14, "<init>", "(Ljava/util/ArrayList;)V"⟩
def dkwJ14_init_1 : List UInt8 := [181, 0, 22, 177]
abbrev dktJ14_init_1 : List UInt8 := dkwJ14_init_1 ++ []
def dkwJ14_init_0 : List UInt8 := [42, 43, 181, 0, 1, 42, 183, 0, 7, 42, 2, 181, 0, 13, 42, 42, 180, 0, 1, 180, 0, 17]
abbrev dktJ14_init_0 : List UInt8 := dkwJ14_init_0 ++ dktJ14_init_1
theorem dksJ14_init_0 : cJ14_init.data.toList.drop 0 = dktJ14_init_0 := by decide +kernel
theorem dksJ14_init_1 : cJ14_init.data.toList.drop 22 = dktJ14_init_1 := dk_seg dksJ14_init_0 22 rfl rfl
theorem dJ14_init_0 : decode cJ14_init 0 = .ok (.aload_n 0, 1) := dk_42 (dk_at dksJ14_init_0 0 rfl rfl)
theorem dJ14_init_1 : decode cJ14_init 1 = .ok (.aload_n 1, 1) := dk_43 (dk_at dksJ14_init_0 1 rfl rfl)
theorem dJ14_init_2 : decode cJ14_init 2 = .ok (.putfield 1, 3) := dk_181 0 1 (dk_at dksJ14_init_0 2 rfl rfl)
theorem dJ14_init_5 : decode cJ14_init 5 = .ok (.aload_n 0, 1) := dk_42 (dk_at dksJ14_init_0 5 rfl rfl)
theorem dJ14_init_6 : decode cJ14_init 6 = .ok (.invokespecial 7, 3) := dk_183 0 7 (dk_at dksJ14_init_0 6 rfl rfl)
theorem dJ14_init_9 : decode cJ14_init 9 = .ok (.aload_n 0, 1) := dk_42 (dk_at dksJ14_init_0 9 rfl rfl)
theorem dJ14_init_10 : decode cJ14_init 10 = .ok (.iconst (-1), 1) := dk_2 (dk_at dksJ14_init_0 10 rfl rfl)
theorem dJ14_init_11 : decode cJ14_init 11 = .ok (.putfield 13, 3) := dk_181 0 13 (dk_at dksJ14_init_0 11 rfl rfl)
theorem dJ14_init_14 : decode cJ14_init 14 = .ok (.aload_n 0, 1) := dk_42 (dk_at dksJ14_init_0 14 rfl rfl)
theorem dJ14_init_15 : decode cJ14_init 15 = .ok (.aload_n 0, 1) := dk_42 (dk_at dksJ14_init_0 15 rfl rfl)
theorem dJ14_init_16 : decode cJ14_init 16 = .ok (.getfield 1, 3) := dk_180 0 1 (dk_at dksJ14_init_0 16 rfl rfl)
theorem dJ14_init_19 : decode cJ14_init 19 = .ok (.getfield 17, 3) := dk_180 0 17 (dk_at dksJ14_init_0 19 rfl rfl)
theorem dJ14_init_22 : decode cJ14_init 22 = .ok (.putfield 22, 3) := dk_181 0 22 (dk_at dksJ14_init_1 0 rfl rfl)
theorem dJ14_init_25 : decode cJ14_init 25 = .ok (.return_, 1) := dk_177 (dk_at dksJ14_init_1 3 rfl rfl)
abbrev cJ4_iterator : ByteArray := prog_59_method_55_code
def yJ4_iterator : MethodName := ⟨RJ4, "iterator", "()Ljava/util/Iterator;"⟩
def dkwJ4_iterator_0 : List UInt8 := [187, 1, 11, 89, 42, 183, 1, 13, 176]
abbrev dktJ4_iterator_0 : List UInt8 := dkwJ4_iterator_0 ++ []
theorem dksJ4_iterator_0 : cJ4_iterator.data.toList.drop 0 = dktJ4_iterator_0 := by decide +kernel
theorem dJ4_iterator_0 : decode cJ4_iterator 0 = .ok (.new 267, 3) := dk_187 1 11 (dk_at dksJ4_iterator_0 0 rfl rfl)
theorem dJ4_iterator_3 : decode cJ4_iterator 3 = .ok (.dup, 1) := dk_89 (dk_at dksJ4_iterator_0 3 rfl rfl)
theorem dJ4_iterator_4 : decode cJ4_iterator 4 = .ok (.aload_n 0, 1) := dk_42 (dk_at dksJ4_iterator_0 4 rfl rfl)
theorem dJ4_iterator_5 : decode cJ4_iterator 5 = .ok (.invokespecial 269, 3) := dk_183 1 13 (dk_at dksJ4_iterator_0 5 rfl rfl)
theorem dJ4_iterator_8 : decode cJ4_iterator 8 = .ok (.areturn, 1) := dk_176 (dk_at dksJ4_iterator_0 8 rfl rfl)
abbrev cJ14_hasNext : ByteArray := prog_60_method_2_code
def yJ14_hasNext : MethodName := ⟨RJ14, "hasNext", "()Z"⟩
def dkwJ14_hasNext_0 : List UInt8 := [42, 180, 0, 25, 42, 180, 0, 1, 180, 0, 28, 159, 0, 7, 4, 167, 0, 4, 3, 172]
abbrev dktJ14_hasNext_0 : List UInt8 := dkwJ14_hasNext_0 ++ []
theorem dksJ14_hasNext_0 : cJ14_hasNext.data.toList.drop 0 = dktJ14_hasNext_0 := by decide +kernel
theorem dJ14_hasNext_0 : decode cJ14_hasNext 0 = .ok (.aload_n 0, 1) := dk_42 (dk_at dksJ14_hasNext_0 0 rfl rfl)
theorem dJ14_hasNext_1 : decode cJ14_hasNext 1 = .ok (.getfield 25, 3) := dk_180 0 25 (dk_at dksJ14_hasNext_0 1 rfl rfl)
theorem dJ14_hasNext_4 : decode cJ14_hasNext 4 = .ok (.aload_n 0, 1) := dk_42 (dk_at dksJ14_hasNext_0 4 rfl rfl)
theorem dJ14_hasNext_5 : decode cJ14_hasNext 5 = .ok (.getfield 1, 3) := dk_180 0 1 (dk_at dksJ14_hasNext_0 5 rfl rfl)
theorem dJ14_hasNext_8 : decode cJ14_hasNext 8 = .ok (.getfield 28, 3) := dk_180 0 28 (dk_at dksJ14_hasNext_0 8 rfl rfl)
theorem dJ14_hasNext_11 : decode cJ14_hasNext 11 = .ok (.if_icmp .eq 7, 3) := dk_159 0 7 (dk_at dksJ14_hasNext_0 11 rfl rfl)
theorem dJ14_hasNext_14 : decode cJ14_hasNext 14 = .ok (.iconst 1, 1) := dk_4 (dk_at dksJ14_hasNext_0 14 rfl rfl)
theorem dJ14_hasNext_15 : decode cJ14_hasNext 15 = .ok (.goto 4, 3) := dk_167 0 4 (dk_at dksJ14_hasNext_0 15 rfl rfl)
theorem dJ14_hasNext_18 : decode cJ14_hasNext 18 = .ok (.iconst 0, 1) := dk_3 (dk_at dksJ14_hasNext_0 18 rfl rfl)
theorem dJ14_hasNext_19 : decode cJ14_hasNext 19 = .ok (.ireturn, 1) := dk_172 (dk_at dksJ14_hasNext_0 19 rfl rfl)
abbrev cJ14_checkForComodification : ByteArray := prog_60_method_6_code
def yJ14_checkForComodification : MethodName := ⟨RJ14, "checkForComodification", "()V"⟩
def dkwJ14_checkForComodification_0 : List UInt8 := [42, 180, 0, 1, 180, 0, 17, 42, 180, 0, 22, 159, 0, 11, 187, 0, 41, 89, 183, 0, 43, 191, 177]
abbrev dktJ14_checkForComodification_0 : List UInt8 := dkwJ14_checkForComodification_0 ++ []
theorem dksJ14_checkForComodification_0 : cJ14_checkForComodification.data.toList.drop 0 = dktJ14_checkForComodification_0 := by decide +kernel
theorem dJ14_checkForComodification_0 : decode cJ14_checkForComodification 0 = .ok (.aload_n 0, 1) := dk_42 (dk_at dksJ14_checkForComodification_0 0 rfl rfl)
theorem dJ14_checkForComodification_1 : decode cJ14_checkForComodification 1 = .ok (.getfield 1, 3) := dk_180 0 1 (dk_at dksJ14_checkForComodification_0 1 rfl rfl)
theorem dJ14_checkForComodification_4 : decode cJ14_checkForComodification 4 = .ok (.getfield 17, 3) := dk_180 0 17 (dk_at dksJ14_checkForComodification_0 4 rfl rfl)
theorem dJ14_checkForComodification_7 : decode cJ14_checkForComodification 7 = .ok (.aload_n 0, 1) := dk_42 (dk_at dksJ14_checkForComodification_0 7 rfl rfl)
theorem dJ14_checkForComodification_8 : decode cJ14_checkForComodification 8 = .ok (.getfield 22, 3) := dk_180 0 22 (dk_at dksJ14_checkForComodification_0 8 rfl rfl)
theorem dJ14_checkForComodification_11 : decode cJ14_checkForComodification 11 = .ok (.if_icmp .eq 11, 3) := dk_159 0 11 (dk_at dksJ14_checkForComodification_0 11 rfl rfl)
theorem dJ14_checkForComodification_14 : decode cJ14_checkForComodification 14 = .ok (.new 41, 3) := dk_187 0 41 (dk_at dksJ14_checkForComodification_0 14 rfl rfl)
theorem dJ14_checkForComodification_22 : decode cJ14_checkForComodification 22 = .ok (.return_, 1) := dk_177 (dk_at dksJ14_checkForComodification_0 22 rfl rfl)
abbrev cJ14_next : ByteArray := prog_60_method_3_code
def yJ14_next : MethodName := ⟨RJ14, "next", "()Ljava/lang/Object;"⟩
def dkwJ14_next_2 : List UInt8 := [183, 0, 43, 191, 42, 27, 4, 96, 181, 0, 25, 44, 42, 27, 90, 181, 0, 13, 50, 176]
abbrev dktJ14_next_2 : List UInt8 := dkwJ14_next_2 ++ []
def dkwJ14_next_1 : List UInt8 := [183, 0, 36, 191, 42, 180, 0, 1, 180, 0, 37, 77, 27, 44, 190, 161, 0, 11, 187, 0, 41, 89]
abbrev dktJ14_next_1 : List UInt8 := dkwJ14_next_1 ++ dktJ14_next_2
def dkwJ14_next_0 : List UInt8 := [42, 182, 0, 31, 42, 180, 0, 25, 60, 27, 42, 180, 0, 1, 180, 0, 28, 161, 0, 11, 187, 0, 34, 89]
abbrev dktJ14_next_0 : List UInt8 := dkwJ14_next_0 ++ dktJ14_next_1
theorem dksJ14_next_0 : cJ14_next.data.toList.drop 0 = dktJ14_next_0 := by decide +kernel
theorem dksJ14_next_1 : cJ14_next.data.toList.drop 24 = dktJ14_next_1 := dk_seg dksJ14_next_0 24 rfl rfl
theorem dksJ14_next_2 : cJ14_next.data.toList.drop 46 = dktJ14_next_2 := dk_seg dksJ14_next_1 22 rfl rfl
theorem dJ14_next_0 : decode cJ14_next 0 = .ok (.aload_n 0, 1) := dk_42 (dk_at dksJ14_next_0 0 rfl rfl)
theorem dJ14_next_1 : decode cJ14_next 1 = .ok (.invokevirtual 31, 3) := dk_182 0 31 (dk_at dksJ14_next_0 1 rfl rfl)
theorem dJ14_next_4 : decode cJ14_next 4 = .ok (.aload_n 0, 1) := dk_42 (dk_at dksJ14_next_0 4 rfl rfl)
theorem dJ14_next_5 : decode cJ14_next 5 = .ok (.getfield 25, 3) := dk_180 0 25 (dk_at dksJ14_next_0 5 rfl rfl)
theorem dJ14_next_8 : decode cJ14_next 8 = .ok (.istore_n 1, 1) := dk_60 (dk_at dksJ14_next_0 8 rfl rfl)
theorem dJ14_next_9 : decode cJ14_next 9 = .ok (.iload_n 1, 1) := dk_27 (dk_at dksJ14_next_0 9 rfl rfl)
theorem dJ14_next_10 : decode cJ14_next 10 = .ok (.aload_n 0, 1) := dk_42 (dk_at dksJ14_next_0 10 rfl rfl)
theorem dJ14_next_11 : decode cJ14_next 11 = .ok (.getfield 1, 3) := dk_180 0 1 (dk_at dksJ14_next_0 11 rfl rfl)
theorem dJ14_next_14 : decode cJ14_next 14 = .ok (.getfield 28, 3) := dk_180 0 28 (dk_at dksJ14_next_0 14 rfl rfl)
theorem dJ14_next_17 : decode cJ14_next 17 = .ok (.if_icmp .lt 11, 3) := dk_161 0 11 (dk_at dksJ14_next_0 17 rfl rfl)
theorem dJ14_next_20 : decode cJ14_next 20 = .ok (.new 34, 3) := dk_187 0 34 (dk_at dksJ14_next_0 20 rfl rfl)
theorem dJ14_next_28 : decode cJ14_next 28 = .ok (.aload_n 0, 1) := dk_42 (dk_at dksJ14_next_1 4 rfl rfl)
theorem dJ14_next_29 : decode cJ14_next 29 = .ok (.getfield 1, 3) := dk_180 0 1 (dk_at dksJ14_next_1 5 rfl rfl)
theorem dJ14_next_32 : decode cJ14_next 32 = .ok (.getfield 37, 3) := dk_180 0 37 (dk_at dksJ14_next_1 8 rfl rfl)
theorem dJ14_next_35 : decode cJ14_next 35 = .ok (.astore_n 2, 1) := dk_77 (dk_at dksJ14_next_1 11 rfl rfl)
theorem dJ14_next_36 : decode cJ14_next 36 = .ok (.iload_n 1, 1) := dk_27 (dk_at dksJ14_next_1 12 rfl rfl)
theorem dJ14_next_37 : decode cJ14_next 37 = .ok (.aload_n 2, 1) := dk_44 (dk_at dksJ14_next_1 13 rfl rfl)
theorem dJ14_next_38 : decode cJ14_next 38 = .ok (.arraylength, 1) := dk_190 (dk_at dksJ14_next_1 14 rfl rfl)
theorem dJ14_next_39 : decode cJ14_next 39 = .ok (.if_icmp .lt 11, 3) := dk_161 0 11 (dk_at dksJ14_next_1 15 rfl rfl)
theorem dJ14_next_42 : decode cJ14_next 42 = .ok (.new 41, 3) := dk_187 0 41 (dk_at dksJ14_next_1 18 rfl rfl)
theorem dJ14_next_50 : decode cJ14_next 50 = .ok (.aload_n 0, 1) := dk_42 (dk_at dksJ14_next_2 4 rfl rfl)
theorem dJ14_next_51 : decode cJ14_next 51 = .ok (.iload_n 1, 1) := dk_27 (dk_at dksJ14_next_2 5 rfl rfl)
theorem dJ14_next_52 : decode cJ14_next 52 = .ok (.iconst 1, 1) := dk_4 (dk_at dksJ14_next_2 6 rfl rfl)
theorem dJ14_next_53 : decode cJ14_next 53 = .ok (.iadd, 1) := dk_96 (dk_at dksJ14_next_2 7 rfl rfl)
theorem dJ14_next_54 : decode cJ14_next 54 = .ok (.putfield 25, 3) := dk_181 0 25 (dk_at dksJ14_next_2 8 rfl rfl)
theorem dJ14_next_57 : decode cJ14_next 57 = .ok (.aload_n 2, 1) := dk_44 (dk_at dksJ14_next_2 11 rfl rfl)
theorem dJ14_next_58 : decode cJ14_next 58 = .ok (.aload_n 0, 1) := dk_42 (dk_at dksJ14_next_2 12 rfl rfl)
theorem dJ14_next_59 : decode cJ14_next 59 = .ok (.iload_n 1, 1) := dk_27 (dk_at dksJ14_next_2 13 rfl rfl)
theorem dJ14_next_60 : decode cJ14_next 60 = .ok (.dup_x1, 1) := dk_90 (dk_at dksJ14_next_2 14 rfl rfl)
theorem dJ14_next_61 : decode cJ14_next 61 = .ok (.putfield 13, 3) := dk_181 0 13 (dk_at dksJ14_next_2 15 rfl rfl)
theorem dJ14_next_64 : decode cJ14_next 64 = .ok (.aaload, 1) := dk_50 (dk_at dksJ14_next_2 18 rfl rfl)
theorem dJ14_next_65 : decode cJ14_next 65 = .ok (.areturn, 1) := dk_176 (dk_at dksJ14_next_2 19 rfl rfl)
abbrev cJ46_init : ByteArray := prog_54_method_1_code
def yJ46_init : MethodName := ⟨RJ46, "<init>", "()V"⟩
theorem dJ46_init_0 : decode cJ46_init 0 = .ok (.aload_n 0, 1) := by decide +kernel
theorem dJ46_init_1 : decode cJ46_init 1 = .ok (.invokespecial 1, 3) := by decide +kernel
theorem dJ46_init_4 : decode cJ46_init 4 = .ok (.return_, 1) := by decide +kernel
abbrev cJ47_init_2 : ByteArray := prog_86_method_4_code
def yJ47_init_2 : MethodName := ⟨RJ47, "<init>", "(ILjava/util/Comparator;)V"⟩
def dkwJ47_init_2_1 : List UInt8 := [181, 0, 17, 42, 44, 181, 0, 21, 177]
abbrev dktJ47_init_2_1 : List UInt8 := dkwJ47_init_2_1 ++ []
def dkwJ47_init_2_0 : List UInt8 := [42, 183, 0, 7, 27, 4, 162, 0, 11, 187, 0, 12, 89, 183, 0, 14, 191, 42, 27, 189, 0, 15]
abbrev dktJ47_init_2_0 : List UInt8 := dkwJ47_init_2_0 ++ dktJ47_init_2_1
theorem dksJ47_init_2_0 : cJ47_init_2.data.toList.drop 0 = dktJ47_init_2_0 := by decide +kernel
theorem dksJ47_init_2_1 : cJ47_init_2.data.toList.drop 22 = dktJ47_init_2_1 := dk_seg dksJ47_init_2_0 22 rfl rfl
theorem dJ47_init_2_0 : decode cJ47_init_2 0 = .ok (.aload_n 0, 1) := dk_42 (dk_at dksJ47_init_2_0 0 rfl rfl)
theorem dJ47_init_2_1 : decode cJ47_init_2 1 = .ok (.invokespecial 7, 3) := dk_183 0 7 (dk_at dksJ47_init_2_0 1 rfl rfl)
theorem dJ47_init_2_4 : decode cJ47_init_2 4 = .ok (.iload_n 1, 1) := dk_27 (dk_at dksJ47_init_2_0 4 rfl rfl)
theorem dJ47_init_2_5 : decode cJ47_init_2 5 = .ok (.iconst 1, 1) := dk_4 (dk_at dksJ47_init_2_0 5 rfl rfl)
theorem dJ47_init_2_6 : decode cJ47_init_2 6 = .ok (.if_icmp .ge 11, 3) := dk_162 0 11 (dk_at dksJ47_init_2_0 6 rfl rfl)
theorem dJ47_init_2_9 : decode cJ47_init_2 9 = .ok (.new 12, 3) := dk_187 0 12 (dk_at dksJ47_init_2_0 9 rfl rfl)
theorem dJ47_init_2_17 : decode cJ47_init_2 17 = .ok (.aload_n 0, 1) := dk_42 (dk_at dksJ47_init_2_0 17 rfl rfl)
theorem dJ47_init_2_18 : decode cJ47_init_2 18 = .ok (.iload_n 1, 1) := dk_27 (dk_at dksJ47_init_2_0 18 rfl rfl)
theorem dJ47_init_2_19 : decode cJ47_init_2 19 = .ok (.anewarray 15, 3) := dk_189 0 15 (dk_at dksJ47_init_2_0 19 rfl rfl)
theorem dJ47_init_2_22 : decode cJ47_init_2 22 = .ok (.putfield 17, 3) := dk_181 0 17 (dk_at dksJ47_init_2_1 0 rfl rfl)
theorem dJ47_init_2_25 : decode cJ47_init_2 25 = .ok (.aload_n 0, 1) := dk_42 (dk_at dksJ47_init_2_1 3 rfl rfl)
theorem dJ47_init_2_26 : decode cJ47_init_2 26 = .ok (.aload_n 2, 1) := dk_44 (dk_at dksJ47_init_2_1 4 rfl rfl)
theorem dJ47_init_2_27 : decode cJ47_init_2 27 = .ok (.putfield 21, 3) := dk_181 0 21 (dk_at dksJ47_init_2_1 5 rfl rfl)
theorem dJ47_init_2_30 : decode cJ47_init_2 30 = .ok (.return_, 1) := dk_177 (dk_at dksJ47_init_2_1 8 rfl rfl)
abbrev cJ47_init : ByteArray := prog_86_method_3_code
def yJ47_init : MethodName := ⟨RJ47, "<init>", "(Ljava/util/Comparator;)V"⟩
def dkwJ47_init_0 : List UInt8 := [42, 16, 11, 43, 183, 0, 3, 177]
abbrev dktJ47_init_0 : List UInt8 := dkwJ47_init_0 ++ []
theorem dksJ47_init_0 : cJ47_init.data.toList.drop 0 = dktJ47_init_0 := by decide +kernel
theorem dJ47_init_0 : decode cJ47_init 0 = .ok (.aload_n 0, 1) := dk_42 (dk_at dksJ47_init_0 0 rfl rfl)
theorem dJ47_init_1 : decode cJ47_init 1 = .ok (.bipush 11, 2) := dk_16 11 (dk_at dksJ47_init_0 1 rfl rfl)
theorem dJ47_init_3 : decode cJ47_init 3 = .ok (.aload_n 1, 1) := dk_43 (dk_at dksJ47_init_0 3 rfl rfl)
theorem dJ47_init_4 : decode cJ47_init 4 = .ok (.invokespecial 3, 3) := dk_183 0 3 (dk_at dksJ47_init_0 4 rfl rfl)
theorem dJ47_init_7 : decode cJ47_init 7 = .ok (.return_, 1) := dk_177 (dk_at dksJ47_init_0 7 rfl rfl)
abbrev cJ47_grow : ByteArray := prog_86_method_12_code
def yJ47_grow : MethodName := ⟨RJ47, "grow", "(I)V"⟩
def dkwJ47_grow_1 : List UInt8 := [122, 184, 0, 80, 62, 42, 42, 180, 0, 17, 29, 184, 0, 86, 181, 0, 17, 177]
abbrev dktJ47_grow_1 : List UInt8 := dkwJ47_grow_1 ++ []
def dkwJ47_grow_0 : List UInt8 := [42, 180, 0, 17, 190, 61, 28, 27, 28, 100, 28, 16, 64, 162, 0, 9, 28, 5, 96, 167, 0, 6, 28, 4]
abbrev dktJ47_grow_0 : List UInt8 := dkwJ47_grow_0 ++ dktJ47_grow_1
theorem dksJ47_grow_0 : cJ47_grow.data.toList.drop 0 = dktJ47_grow_0 := by decide +kernel
theorem dksJ47_grow_1 : cJ47_grow.data.toList.drop 24 = dktJ47_grow_1 := dk_seg dksJ47_grow_0 24 rfl rfl
theorem dJ47_grow_0 : decode cJ47_grow 0 = .ok (.aload_n 0, 1) := dk_42 (dk_at dksJ47_grow_0 0 rfl rfl)
theorem dJ47_grow_1 : decode cJ47_grow 1 = .ok (.getfield 17, 3) := dk_180 0 17 (dk_at dksJ47_grow_0 1 rfl rfl)
theorem dJ47_grow_4 : decode cJ47_grow 4 = .ok (.arraylength, 1) := dk_190 (dk_at dksJ47_grow_0 4 rfl rfl)
theorem dJ47_grow_5 : decode cJ47_grow 5 = .ok (.istore_n 2, 1) := dk_61 (dk_at dksJ47_grow_0 5 rfl rfl)
theorem dJ47_grow_6 : decode cJ47_grow 6 = .ok (.iload_n 2, 1) := dk_28 (dk_at dksJ47_grow_0 6 rfl rfl)
theorem dJ47_grow_7 : decode cJ47_grow 7 = .ok (.iload_n 1, 1) := dk_27 (dk_at dksJ47_grow_0 7 rfl rfl)
theorem dJ47_grow_8 : decode cJ47_grow 8 = .ok (.iload_n 2, 1) := dk_28 (dk_at dksJ47_grow_0 8 rfl rfl)
theorem dJ47_grow_9 : decode cJ47_grow 9 = .ok (.isub, 1) := dk_100 (dk_at dksJ47_grow_0 9 rfl rfl)
theorem dJ47_grow_10 : decode cJ47_grow 10 = .ok (.iload_n 2, 1) := dk_28 (dk_at dksJ47_grow_0 10 rfl rfl)
theorem dJ47_grow_11 : decode cJ47_grow 11 = .ok (.bipush 64, 2) := dk_16 64 (dk_at dksJ47_grow_0 11 rfl rfl)
theorem dJ47_grow_13 : decode cJ47_grow 13 = .ok (.if_icmp .ge 9, 3) := dk_162 0 9 (dk_at dksJ47_grow_0 13 rfl rfl)
theorem dJ47_grow_16 : decode cJ47_grow 16 = .ok (.iload_n 2, 1) := dk_28 (dk_at dksJ47_grow_0 16 rfl rfl)
theorem dJ47_grow_17 : decode cJ47_grow 17 = .ok (.iconst 2, 1) := dk_5 (dk_at dksJ47_grow_0 17 rfl rfl)
theorem dJ47_grow_18 : decode cJ47_grow 18 = .ok (.iadd, 1) := dk_96 (dk_at dksJ47_grow_0 18 rfl rfl)
theorem dJ47_grow_19 : decode cJ47_grow 19 = .ok (.goto 6, 3) := dk_167 0 6 (dk_at dksJ47_grow_0 19 rfl rfl)
theorem dJ47_grow_22 : decode cJ47_grow 22 = .ok (.iload_n 2, 1) := dk_28 (dk_at dksJ47_grow_0 22 rfl rfl)
theorem dJ47_grow_23 : decode cJ47_grow 23 = .ok (.iconst 1, 1) := dk_4 (dk_at dksJ47_grow_0 23 rfl rfl)
theorem dJ47_grow_24 : decode cJ47_grow 24 = .ok (.ishr, 1) := dk_122 (dk_at dksJ47_grow_1 0 rfl rfl)
theorem dJ47_grow_25 : decode cJ47_grow 25 = .ok (.invokestatic 80, 3) := dk_184 0 80 (dk_at dksJ47_grow_1 1 rfl rfl)
theorem dJ47_grow_28 : decode cJ47_grow 28 = .ok (.istore_n 3, 1) := dk_62 (dk_at dksJ47_grow_1 4 rfl rfl)
theorem dJ47_grow_29 : decode cJ47_grow 29 = .ok (.aload_n 0, 1) := dk_42 (dk_at dksJ47_grow_1 5 rfl rfl)
theorem dJ47_grow_30 : decode cJ47_grow 30 = .ok (.aload_n 0, 1) := dk_42 (dk_at dksJ47_grow_1 6 rfl rfl)
theorem dJ47_grow_31 : decode cJ47_grow 31 = .ok (.getfield 17, 3) := dk_180 0 17 (dk_at dksJ47_grow_1 7 rfl rfl)
theorem dJ47_grow_34 : decode cJ47_grow 34 = .ok (.iload_n 3, 1) := dk_29 (dk_at dksJ47_grow_1 10 rfl rfl)
theorem dJ47_grow_35 : decode cJ47_grow 35 = .ok (.invokestatic 86, 3) := dk_184 0 86 (dk_at dksJ47_grow_1 11 rfl rfl)
theorem dJ47_grow_38 : decode cJ47_grow 38 = .ok (.putfield 17, 3) := dk_181 0 17 (dk_at dksJ47_grow_1 14 rfl rfl)
theorem dJ47_grow_41 : decode cJ47_grow 41 = .ok (.return_, 1) := dk_177 (dk_at dksJ47_grow_1 17 rfl rfl)
abbrev cX14_compare_2 : ByteArray := prog_3_method_2_code
def yX14_compare_2 : MethodName := ⟨RX14, "compare", "(LLionGate$Lion;LLionGate$Lion;)I"⟩
def dkwX14_compare_2_1 : List UInt8 := [180, 0, 7, 43, 180, 0, 7, 100, 172]
abbrev dktX14_compare_2_1 : List UInt8 := dkwX14_compare_2_1 ++ []
def dkwX14_compare_2_0 : List UInt8 := [43, 180, 0, 7, 44, 180, 0, 7, 160, 0, 15, 43, 180, 0, 13, 44, 180, 0, 13, 100, 167, 0, 12, 44]
abbrev dktX14_compare_2_0 : List UInt8 := dkwX14_compare_2_0 ++ dktX14_compare_2_1
theorem dksX14_compare_2_0 : cX14_compare_2.data.toList.drop 0 = dktX14_compare_2_0 := by decide +kernel
theorem dksX14_compare_2_1 : cX14_compare_2.data.toList.drop 24 = dktX14_compare_2_1 := dk_seg dksX14_compare_2_0 24 rfl rfl
theorem dX14_compare_2_0 : decode cX14_compare_2 0 = .ok (.aload_n 1, 1) := dk_43 (dk_at dksX14_compare_2_0 0 rfl rfl)
theorem dX14_compare_2_1 : decode cX14_compare_2 1 = .ok (.getfield 7, 3) := dk_180 0 7 (dk_at dksX14_compare_2_0 1 rfl rfl)
theorem dX14_compare_2_4 : decode cX14_compare_2 4 = .ok (.aload_n 2, 1) := dk_44 (dk_at dksX14_compare_2_0 4 rfl rfl)
theorem dX14_compare_2_5 : decode cX14_compare_2 5 = .ok (.getfield 7, 3) := dk_180 0 7 (dk_at dksX14_compare_2_0 5 rfl rfl)
theorem dX14_compare_2_8 : decode cX14_compare_2 8 = .ok (.if_icmp .ne 15, 3) := dk_160 0 15 (dk_at dksX14_compare_2_0 8 rfl rfl)
theorem dX14_compare_2_11 : decode cX14_compare_2 11 = .ok (.aload_n 1, 1) := dk_43 (dk_at dksX14_compare_2_0 11 rfl rfl)
theorem dX14_compare_2_12 : decode cX14_compare_2 12 = .ok (.getfield 13, 3) := dk_180 0 13 (dk_at dksX14_compare_2_0 12 rfl rfl)
theorem dX14_compare_2_15 : decode cX14_compare_2 15 = .ok (.aload_n 2, 1) := dk_44 (dk_at dksX14_compare_2_0 15 rfl rfl)
theorem dX14_compare_2_16 : decode cX14_compare_2 16 = .ok (.getfield 13, 3) := dk_180 0 13 (dk_at dksX14_compare_2_0 16 rfl rfl)
theorem dX14_compare_2_19 : decode cX14_compare_2 19 = .ok (.isub, 1) := dk_100 (dk_at dksX14_compare_2_0 19 rfl rfl)
theorem dX14_compare_2_20 : decode cX14_compare_2 20 = .ok (.goto 12, 3) := dk_167 0 12 (dk_at dksX14_compare_2_0 20 rfl rfl)
theorem dX14_compare_2_23 : decode cX14_compare_2 23 = .ok (.aload_n 2, 1) := dk_44 (dk_at dksX14_compare_2_0 23 rfl rfl)
theorem dX14_compare_2_24 : decode cX14_compare_2 24 = .ok (.getfield 7, 3) := dk_180 0 7 (dk_at dksX14_compare_2_1 0 rfl rfl)
theorem dX14_compare_2_27 : decode cX14_compare_2 27 = .ok (.aload_n 1, 1) := dk_43 (dk_at dksX14_compare_2_1 3 rfl rfl)
theorem dX14_compare_2_28 : decode cX14_compare_2 28 = .ok (.getfield 7, 3) := dk_180 0 7 (dk_at dksX14_compare_2_1 4 rfl rfl)
theorem dX14_compare_2_31 : decode cX14_compare_2 31 = .ok (.isub, 1) := dk_100 (dk_at dksX14_compare_2_1 7 rfl rfl)
theorem dX14_compare_2_32 : decode cX14_compare_2 32 = .ok (.ireturn, 1) := dk_172 (dk_at dksX14_compare_2_1 8 rfl rfl)
abbrev cX14_compare : ByteArray := prog_3_method_3_code
def yX14_compare : MethodName := ⟨RX14, "compare", "(Ljava/lang/Object;Ljava/lang/Object;)I"⟩
def dkwX14_compare_0 : List UInt8 := [42, 43, 192, 0, 8, 44, 192, 0, 8, 182, 0, 16, 172]
abbrev dktX14_compare_0 : List UInt8 := dkwX14_compare_0 ++ []
theorem dksX14_compare_0 : cX14_compare.data.toList.drop 0 = dktX14_compare_0 := by decide +kernel
theorem dX14_compare_0 : decode cX14_compare 0 = .ok (.aload_n 0, 1) := dk_42 (dk_at dksX14_compare_0 0 rfl rfl)
theorem dX14_compare_1 : decode cX14_compare 1 = .ok (.aload_n 1, 1) := dk_43 (dk_at dksX14_compare_0 1 rfl rfl)
theorem dX14_compare_2 : decode cX14_compare 2 = .ok (.checkcast 8, 3) := dk_192 0 8 (dk_at dksX14_compare_0 2 rfl rfl)
theorem dX14_compare_5 : decode cX14_compare 5 = .ok (.aload_n 2, 1) := dk_44 (dk_at dksX14_compare_0 5 rfl rfl)
theorem dX14_compare_6 : decode cX14_compare 6 = .ok (.checkcast 8, 3) := dk_192 0 8 (dk_at dksX14_compare_0 6 rfl rfl)
theorem dX14_compare_9 : decode cX14_compare 9 = .ok (.invokevirtual 16, 3) := dk_182 0 16 (dk_at dksX14_compare_0 9 rfl rfl)
theorem dX14_compare_12 : decode cX14_compare 12 = .ok (.ireturn, 1) := dk_172 (dk_at dksX14_compare_0 12 rfl rfl)
abbrev cJ47_siftUpUsingComparator : ByteArray := prog_86_method_29_code
def yJ47_siftUpUsingComparator : MethodName := ⟨RJ47, "siftUpUsingComparator", "(ILjava/lang/Object;[Ljava/lang/Object;Ljava/util/Comparator;)V"⟩
def dkwJ47_siftUpUsingComparator_2 : List UInt8 := [43, 83, 177]
abbrev dktJ47_siftUpUsingComparator_2 : List UInt8 := dkwJ47_siftUpUsingComparator_2 ++ []
def dkwJ47_siftUpUsingComparator_1 : List UInt8 := [185, 0, 149, 3, 0, 155, 0, 6, 167, 0, 14, 44, 26, 25, 5, 83, 21, 4, 59, 167, 255, 216, 44, 26]
abbrev dktJ47_siftUpUsingComparator_1 : List UInt8 := dkwJ47_siftUpUsingComparator_1 ++ dktJ47_siftUpUsingComparator_2
def dkwJ47_siftUpUsingComparator_0 : List UInt8 := [26, 158, 0, 42, 26, 4, 100, 4, 124, 54, 4, 44, 21, 4, 50, 58, 5, 45, 43, 25, 5]
abbrev dktJ47_siftUpUsingComparator_0 : List UInt8 := dkwJ47_siftUpUsingComparator_0 ++ dktJ47_siftUpUsingComparator_1
theorem dksJ47_siftUpUsingComparator_0 : cJ47_siftUpUsingComparator.data.toList.drop 0 = dktJ47_siftUpUsingComparator_0 := by decide +kernel
theorem dksJ47_siftUpUsingComparator_1 : cJ47_siftUpUsingComparator.data.toList.drop 21 = dktJ47_siftUpUsingComparator_1 := dk_seg dksJ47_siftUpUsingComparator_0 21 rfl rfl
theorem dksJ47_siftUpUsingComparator_2 : cJ47_siftUpUsingComparator.data.toList.drop 45 = dktJ47_siftUpUsingComparator_2 := dk_seg dksJ47_siftUpUsingComparator_1 24 rfl rfl
theorem dJ47_siftUpUsingComparator_0 : decode cJ47_siftUpUsingComparator 0 = .ok (.iload_n 0, 1) := dk_26 (dk_at dksJ47_siftUpUsingComparator_0 0 rfl rfl)
theorem dJ47_siftUpUsingComparator_1 : decode cJ47_siftUpUsingComparator 1 = .ok (.ifCond .le 42, 3) := dk_158 0 42 (dk_at dksJ47_siftUpUsingComparator_0 1 rfl rfl)
theorem dJ47_siftUpUsingComparator_4 : decode cJ47_siftUpUsingComparator 4 = .ok (.iload_n 0, 1) := dk_26 (dk_at dksJ47_siftUpUsingComparator_0 4 rfl rfl)
theorem dJ47_siftUpUsingComparator_5 : decode cJ47_siftUpUsingComparator 5 = .ok (.iconst 1, 1) := dk_4 (dk_at dksJ47_siftUpUsingComparator_0 5 rfl rfl)
theorem dJ47_siftUpUsingComparator_6 : decode cJ47_siftUpUsingComparator 6 = .ok (.isub, 1) := dk_100 (dk_at dksJ47_siftUpUsingComparator_0 6 rfl rfl)
theorem dJ47_siftUpUsingComparator_7 : decode cJ47_siftUpUsingComparator 7 = .ok (.iconst 1, 1) := dk_4 (dk_at dksJ47_siftUpUsingComparator_0 7 rfl rfl)
theorem dJ47_siftUpUsingComparator_8 : decode cJ47_siftUpUsingComparator 8 = .ok (.iushr, 1) := dk_124 (dk_at dksJ47_siftUpUsingComparator_0 8 rfl rfl)
theorem dJ47_siftUpUsingComparator_9 : decode cJ47_siftUpUsingComparator 9 = .ok (.istore 4, 2) := dk_54 4 (dk_at dksJ47_siftUpUsingComparator_0 9 rfl rfl)
theorem dJ47_siftUpUsingComparator_11 : decode cJ47_siftUpUsingComparator 11 = .ok (.aload_n 2, 1) := dk_44 (dk_at dksJ47_siftUpUsingComparator_0 11 rfl rfl)
theorem dJ47_siftUpUsingComparator_12 : decode cJ47_siftUpUsingComparator 12 = .ok (.iload 4, 2) := dk_21 4 (dk_at dksJ47_siftUpUsingComparator_0 12 rfl rfl)
theorem dJ47_siftUpUsingComparator_14 : decode cJ47_siftUpUsingComparator 14 = .ok (.aaload, 1) := dk_50 (dk_at dksJ47_siftUpUsingComparator_0 14 rfl rfl)
theorem dJ47_siftUpUsingComparator_15 : decode cJ47_siftUpUsingComparator 15 = .ok (.astore 5, 2) := dk_58 5 (dk_at dksJ47_siftUpUsingComparator_0 15 rfl rfl)
theorem dJ47_siftUpUsingComparator_17 : decode cJ47_siftUpUsingComparator 17 = .ok (.aload_n 3, 1) := dk_45 (dk_at dksJ47_siftUpUsingComparator_0 17 rfl rfl)
theorem dJ47_siftUpUsingComparator_18 : decode cJ47_siftUpUsingComparator 18 = .ok (.aload_n 1, 1) := dk_43 (dk_at dksJ47_siftUpUsingComparator_0 18 rfl rfl)
theorem dJ47_siftUpUsingComparator_19 : decode cJ47_siftUpUsingComparator 19 = .ok (.aload 5, 2) := dk_25 5 (dk_at dksJ47_siftUpUsingComparator_0 19 rfl rfl)
theorem dJ47_siftUpUsingComparator_21 : decode cJ47_siftUpUsingComparator 21 = .ok (.invokeinterface 149 3, 5) := by decide +kernel
theorem dJ47_siftUpUsingComparator_26 : decode cJ47_siftUpUsingComparator 26 = .ok (.ifCond .lt 6, 3) := dk_155 0 6 (dk_at dksJ47_siftUpUsingComparator_1 5 rfl rfl)
theorem dJ47_siftUpUsingComparator_29 : decode cJ47_siftUpUsingComparator 29 = .ok (.goto 14, 3) := dk_167 0 14 (dk_at dksJ47_siftUpUsingComparator_1 8 rfl rfl)
theorem dJ47_siftUpUsingComparator_32 : decode cJ47_siftUpUsingComparator 32 = .ok (.aload_n 2, 1) := dk_44 (dk_at dksJ47_siftUpUsingComparator_1 11 rfl rfl)
theorem dJ47_siftUpUsingComparator_33 : decode cJ47_siftUpUsingComparator 33 = .ok (.iload_n 0, 1) := dk_26 (dk_at dksJ47_siftUpUsingComparator_1 12 rfl rfl)
theorem dJ47_siftUpUsingComparator_34 : decode cJ47_siftUpUsingComparator 34 = .ok (.aload 5, 2) := dk_25 5 (dk_at dksJ47_siftUpUsingComparator_1 13 rfl rfl)
theorem dJ47_siftUpUsingComparator_36 : decode cJ47_siftUpUsingComparator 36 = .ok (.aastore, 1) := dk_83 (dk_at dksJ47_siftUpUsingComparator_1 15 rfl rfl)
theorem dJ47_siftUpUsingComparator_37 : decode cJ47_siftUpUsingComparator 37 = .ok (.iload 4, 2) := dk_21 4 (dk_at dksJ47_siftUpUsingComparator_1 16 rfl rfl)
theorem dJ47_siftUpUsingComparator_39 : decode cJ47_siftUpUsingComparator 39 = .ok (.istore_n 0, 1) := dk_59 (dk_at dksJ47_siftUpUsingComparator_1 18 rfl rfl)
theorem dJ47_siftUpUsingComparator_40 : decode cJ47_siftUpUsingComparator 40 = .ok (.goto (-40), 3) := dk_167 255 216 (dk_at dksJ47_siftUpUsingComparator_1 19 rfl rfl)
theorem dJ47_siftUpUsingComparator_43 : decode cJ47_siftUpUsingComparator 43 = .ok (.aload_n 2, 1) := dk_44 (dk_at dksJ47_siftUpUsingComparator_1 22 rfl rfl)
theorem dJ47_siftUpUsingComparator_44 : decode cJ47_siftUpUsingComparator 44 = .ok (.iload_n 0, 1) := dk_26 (dk_at dksJ47_siftUpUsingComparator_1 23 rfl rfl)
theorem dJ47_siftUpUsingComparator_45 : decode cJ47_siftUpUsingComparator 45 = .ok (.aload_n 1, 1) := dk_43 (dk_at dksJ47_siftUpUsingComparator_2 0 rfl rfl)
theorem dJ47_siftUpUsingComparator_46 : decode cJ47_siftUpUsingComparator 46 = .ok (.aastore, 1) := dk_83 (dk_at dksJ47_siftUpUsingComparator_2 1 rfl rfl)
theorem dJ47_siftUpUsingComparator_47 : decode cJ47_siftUpUsingComparator 47 = .ok (.return_, 1) := dk_177 (dk_at dksJ47_siftUpUsingComparator_2 2 rfl rfl)
abbrev cJ47_siftUp : ByteArray := prog_86_method_27_code
def yJ47_siftUp : MethodName := ⟨RJ47, "siftUp", "(ILjava/lang/Object;)V"⟩
def dkwJ47_siftUp_1 : List UInt8 := [44, 42, 180, 0, 17, 184, 0, 140, 177]
abbrev dktJ47_siftUp_1 : List UInt8 := dkwJ47_siftUp_1 ++ []
def dkwJ47_siftUp_0 : List UInt8 := [42, 180, 0, 21, 198, 0, 19, 27, 44, 42, 180, 0, 17, 42, 180, 0, 21, 184, 0, 136, 167, 0, 12, 27]
abbrev dktJ47_siftUp_0 : List UInt8 := dkwJ47_siftUp_0 ++ dktJ47_siftUp_1
theorem dksJ47_siftUp_0 : cJ47_siftUp.data.toList.drop 0 = dktJ47_siftUp_0 := by decide +kernel
theorem dksJ47_siftUp_1 : cJ47_siftUp.data.toList.drop 24 = dktJ47_siftUp_1 := dk_seg dksJ47_siftUp_0 24 rfl rfl
theorem dJ47_siftUp_0 : decode cJ47_siftUp 0 = .ok (.aload_n 0, 1) := dk_42 (dk_at dksJ47_siftUp_0 0 rfl rfl)
theorem dJ47_siftUp_1 : decode cJ47_siftUp 1 = .ok (.getfield 21, 3) := dk_180 0 21 (dk_at dksJ47_siftUp_0 1 rfl rfl)
theorem dJ47_siftUp_4 : decode cJ47_siftUp 4 = .ok (.ifnull 19, 3) := dk_198 0 19 (dk_at dksJ47_siftUp_0 4 rfl rfl)
theorem dJ47_siftUp_7 : decode cJ47_siftUp 7 = .ok (.iload_n 1, 1) := dk_27 (dk_at dksJ47_siftUp_0 7 rfl rfl)
theorem dJ47_siftUp_8 : decode cJ47_siftUp 8 = .ok (.aload_n 2, 1) := dk_44 (dk_at dksJ47_siftUp_0 8 rfl rfl)
theorem dJ47_siftUp_9 : decode cJ47_siftUp 9 = .ok (.aload_n 0, 1) := dk_42 (dk_at dksJ47_siftUp_0 9 rfl rfl)
theorem dJ47_siftUp_10 : decode cJ47_siftUp 10 = .ok (.getfield 17, 3) := dk_180 0 17 (dk_at dksJ47_siftUp_0 10 rfl rfl)
theorem dJ47_siftUp_13 : decode cJ47_siftUp 13 = .ok (.aload_n 0, 1) := dk_42 (dk_at dksJ47_siftUp_0 13 rfl rfl)
theorem dJ47_siftUp_14 : decode cJ47_siftUp 14 = .ok (.getfield 21, 3) := dk_180 0 21 (dk_at dksJ47_siftUp_0 14 rfl rfl)
theorem dJ47_siftUp_17 : decode cJ47_siftUp 17 = .ok (.invokestatic 136, 3) := dk_184 0 136 (dk_at dksJ47_siftUp_0 17 rfl rfl)
theorem dJ47_siftUp_20 : decode cJ47_siftUp 20 = .ok (.goto 12, 3) := dk_167 0 12 (dk_at dksJ47_siftUp_0 20 rfl rfl)
theorem dJ47_siftUp_23 : decode cJ47_siftUp 23 = .ok (.iload_n 1, 1) := dk_27 (dk_at dksJ47_siftUp_0 23 rfl rfl)
theorem dJ47_siftUp_24 : decode cJ47_siftUp 24 = .ok (.aload_n 2, 1) := dk_44 (dk_at dksJ47_siftUp_1 0 rfl rfl)
theorem dJ47_siftUp_25 : decode cJ47_siftUp 25 = .ok (.aload_n 0, 1) := dk_42 (dk_at dksJ47_siftUp_1 1 rfl rfl)
theorem dJ47_siftUp_26 : decode cJ47_siftUp 26 = .ok (.getfield 17, 3) := dk_180 0 17 (dk_at dksJ47_siftUp_1 2 rfl rfl)
theorem dJ47_siftUp_29 : decode cJ47_siftUp 29 = .ok (.invokestatic 140, 3) := dk_184 0 140 (dk_at dksJ47_siftUp_1 5 rfl rfl)
theorem dJ47_siftUp_32 : decode cJ47_siftUp 32 = .ok (.return_, 1) := dk_177 (dk_at dksJ47_siftUp_1 8 rfl rfl)
