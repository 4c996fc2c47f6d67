set_option maxRecDepth 100000
abbrev cX15_init : ByteArray := prog_13_method_1_code
def yX15_init : MethodName := ⟨RX15, "<init>", "(Ljava/lang/String;)V"⟩
def dkwX15_init_1 : List UInt8 := [184, 0, 25, 181, 0, 31, 42, 43, 181, 0, 37, 177]
abbrev dktX15_init_1 : List UInt8 := dkwX15_init_1 ++ []
def dkwX15_init_0 : List UInt8 := [42, 183, 0, 1, 42, 18, 7, 18, 9, 18, 11, 18, 13, 18, 15, 18, 17, 18, 19, 18, 21, 18, 23]
abbrev dktX15_init_0 : List UInt8 := dkwX15_init_0 ++ dktX15_init_1
theorem dksX15_init_0 : cX15_init.data.toList.drop 0 = dktX15_init_0 := by decide +kernel
theorem dksX15_init_1 : cX15_init.data.toList.drop 23 = dktX15_init_1 := dk_seg dksX15_init_0 23 rfl rfl
theorem dX15_init_0 : decode cX15_init 0 = .ok (.aload_n 0, 1) := dk_42 (dk_at dksX15_init_0 0 rfl rfl)
theorem dX15_init_1 : decode cX15_init 1 = .ok (.invokespecial 1, 3) := dk_183 0 1 (dk_at dksX15_init_0 1 rfl rfl)
theorem dX15_init_4 : decode cX15_init 4 = .ok (.aload_n 0, 1) := dk_42 (dk_at dksX15_init_0 4 rfl rfl)
theorem dX15_init_5 : decode cX15_init 5 = .ok (.ldc 7, 2) := dk_18 7 (dk_at dksX15_init_0 5 rfl rfl)
theorem dX15_init_7 : decode cX15_init 7 = .ok (.ldc 9, 2) := dk_18 9 (dk_at dksX15_init_0 7 rfl rfl)
theorem dX15_init_9 : decode cX15_init 9 = .ok (.ldc 11, 2) := dk_18 11 (dk_at dksX15_init_0 9 rfl rfl)
theorem dX15_init_11 : decode cX15_init 11 = .ok (.ldc 13, 2) := dk_18 13 (dk_at dksX15_init_0 11 rfl rfl)
theorem dX15_init_13 : decode cX15_init 13 = .ok (.ldc 15, 2) := dk_18 15 (dk_at dksX15_init_0 13 rfl rfl)
theorem dX15_init_15 : decode cX15_init 15 = .ok (.ldc 17, 2) := dk_18 17 (dk_at dksX15_init_0 15 rfl rfl)
theorem dX15_init_17 : decode cX15_init 17 = .ok (.ldc 19, 2) := dk_18 19 (dk_at dksX15_init_0 17 rfl rfl)
theorem dX15_init_19 : decode cX15_init 19 = .ok (.ldc 21, 2) := dk_18 21 (dk_at dksX15_init_0 19 rfl rfl)
theorem dX15_init_21 : decode cX15_init 21 = .ok (.ldc 23, 2) := dk_18 23 (dk_at dksX15_init_0 21 rfl rfl)
theorem dX15_init_23 : decode cX15_init 23 = .ok (.invokestatic 25, 3) := dk_184 0 25 (dk_at dksX15_init_1 0 rfl rfl)
theorem dX15_init_26 : decode cX15_init 26 = .ok (.putfield 31, 3) := dk_181 0 31 (dk_at dksX15_init_1 3 rfl rfl)
theorem dX15_init_29 : decode cX15_init 29 = .ok (.aload_n 0, 1) := dk_42 (dk_at dksX15_init_1 6 rfl rfl)
theorem dX15_init_30 : decode cX15_init 30 = .ok (.aload_n 1, 1) := dk_43 (dk_at dksX15_init_1 7 rfl rfl)
theorem dX15_init_31 : decode cX15_init 31 = .ok (.putfield 37, 3) := dk_181 0 37 (dk_at dksX15_init_1 8 rfl rfl)
theorem dX15_init_34 : decode cX15_init 34 = .ok (.return_, 1) := dk_177 (dk_at dksX15_init_1 11 rfl rfl)
abbrev cX15_current : ByteArray := prog_13_method_2_code
def yX15_current : MethodName := ⟨RX15, "current", "()C"⟩
def dkwX15_current_1 : List UInt8 := [182, 0, 51, 167, 0, 5, 16, 10, 172]
abbrev dktX15_current_1 : List UInt8 := dkwX15_current_1 ++ []
def dkwX15_current_0 : List UInt8 := [42, 180, 0, 41, 42, 180, 0, 37, 182, 0, 45, 162, 0, 17, 42, 180, 0, 37, 42, 180, 0, 41]
abbrev dktX15_current_0 : List UInt8 := dkwX15_current_0 ++ dktX15_current_1
theorem dksX15_current_0 : cX15_current.data.toList.drop 0 = dktX15_current_0 := by decide +kernel
theorem dksX15_current_1 : cX15_current.data.toList.drop 22 = dktX15_current_1 := dk_seg dksX15_current_0 22 rfl rfl
theorem dX15_current_0 : decode cX15_current 0 = .ok (.aload_n 0, 1) := dk_42 (dk_at dksX15_current_0 0 rfl rfl)
theorem dX15_current_1 : decode cX15_current 1 = .ok (.getfield 41, 3) := dk_180 0 41 (dk_at dksX15_current_0 1 rfl rfl)
theorem dX15_current_4 : decode cX15_current 4 = .ok (.aload_n 0, 1) := dk_42 (dk_at dksX15_current_0 4 rfl rfl)
theorem dX15_current_5 : decode cX15_current 5 = .ok (.getfield 37, 3) := dk_180 0 37 (dk_at dksX15_current_0 5 rfl rfl)
theorem dX15_current_8 : decode cX15_current 8 = .ok (.invokevirtual 45, 3) := dk_182 0 45 (dk_at dksX15_current_0 8 rfl rfl)
theorem dX15_current_11 : decode cX15_current 11 = .ok (.if_icmp .ge 17, 3) := dk_162 0 17 (dk_at dksX15_current_0 11 rfl rfl)
theorem dX15_current_14 : decode cX15_current 14 = .ok (.aload_n 0, 1) := dk_42 (dk_at dksX15_current_0 14 rfl rfl)
theorem dX15_current_15 : decode cX15_current 15 = .ok (.getfield 37, 3) := dk_180 0 37 (dk_at dksX15_current_0 15 rfl rfl)
theorem dX15_current_18 : decode cX15_current 18 = .ok (.aload_n 0, 1) := dk_42 (dk_at dksX15_current_0 18 rfl rfl)
theorem dX15_current_19 : decode cX15_current 19 = .ok (.getfield 41, 3) := dk_180 0 41 (dk_at dksX15_current_0 19 rfl rfl)
theorem dX15_current_22 : decode cX15_current 22 = .ok (.invokevirtual 51, 3) := dk_182 0 51 (dk_at dksX15_current_1 0 rfl rfl)
theorem dX15_current_25 : decode cX15_current 25 = .ok (.goto 5, 3) := dk_167 0 5 (dk_at dksX15_current_1 3 rfl rfl)
theorem dX15_current_28 : decode cX15_current 28 = .ok (.bipush 10, 2) := dk_16 10 (dk_at dksX15_current_1 6 rfl rfl)
theorem dX15_current_30 : decode cX15_current 30 = .ok (.ireturn, 1) := dk_172 (dk_at dksX15_current_1 8 rfl rfl)
abbrev cX15_isAtDigit : ByteArray := prog_13_method_5_code
def yX15_isAtDigit : MethodName := ⟨RX15, "isAtDigit", "()Z"⟩
def dkwX15_isAtDigit_0 : List UInt8 := [42, 182, 0, 60, 16, 48, 161, 0, 16, 42, 182, 0, 60, 16, 57, 163, 0, 7, 4, 167, 0, 4, 3, 172]
abbrev dktX15_isAtDigit_0 : List UInt8 := dkwX15_isAtDigit_0 ++ []
theorem dksX15_isAtDigit_0 : cX15_isAtDigit.data.toList.drop 0 = dktX15_isAtDigit_0 := by decide +kernel
theorem dX15_isAtDigit_0 : decode cX15_isAtDigit 0 = .ok (.aload_n 0, 1) := dk_42 (dk_at dksX15_isAtDigit_0 0 rfl rfl)
theorem dX15_isAtDigit_1 : decode cX15_isAtDigit 1 = .ok (.invokevirtual 60, 3) := dk_182 0 60 (dk_at dksX15_isAtDigit_0 1 rfl rfl)
theorem dX15_isAtDigit_4 : decode cX15_isAtDigit 4 = .ok (.bipush 48, 2) := dk_16 48 (dk_at dksX15_isAtDigit_0 4 rfl rfl)
theorem dX15_isAtDigit_6 : decode cX15_isAtDigit 6 = .ok (.if_icmp .lt 16, 3) := dk_161 0 16 (dk_at dksX15_isAtDigit_0 6 rfl rfl)
theorem dX15_isAtDigit_9 : decode cX15_isAtDigit 9 = .ok (.aload_n 0, 1) := dk_42 (dk_at dksX15_isAtDigit_0 9 rfl rfl)
theorem dX15_isAtDigit_10 : decode cX15_isAtDigit 10 = .ok (.invokevirtual 60, 3) := dk_182 0 60 (dk_at dksX15_isAtDigit_0 10 rfl rfl)
theorem dX15_isAtDigit_13 : decode cX15_isAtDigit 13 = .ok (.bipush 57, 2) := dk_16 57 (dk_at dksX15_isAtDigit_0 13 rfl rfl)
theorem dX15_isAtDigit_15 : decode cX15_isAtDigit 15 = .ok (.if_icmp .gt 7, 3) := dk_163 0 7 (dk_at dksX15_isAtDigit_0 15 rfl rfl)
theorem dX15_isAtDigit_18 : decode cX15_isAtDigit 18 = .ok (.iconst 1, 1) := dk_4 (dk_at dksX15_isAtDigit_0 18 rfl rfl)
theorem dX15_isAtDigit_19 : decode cX15_isAtDigit 19 = .ok (.goto 4, 3) := dk_167 0 4 (dk_at dksX15_isAtDigit_0 19 rfl rfl)
theorem dX15_isAtDigit_22 : decode cX15_isAtDigit 22 = .ok (.iconst 0, 1) := dk_3 (dk_at dksX15_isAtDigit_0 22 rfl rfl)
theorem dX15_isAtDigit_23 : decode cX15_isAtDigit 23 = .ok (.ireturn, 1) := dk_172 (dk_at dksX15_isAtDigit_0 23 rfl rfl)
abbrev cX16_init : ByteArray := prog_15_method_1_code
def yX16_init : MethodName := ⟨RX16, "<init>", "(I)V"⟩
def dkwX16_init_0 : List UInt8 := [42, 1, 183, 0, 1, 42, 27, 181, 0, 7, 177]
abbrev dktX16_init_0 : List UInt8 := dkwX16_init_0 ++ []
theorem dksX16_init_0 : cX16_init.data.toList.drop 0 = dktX16_init_0 := by decide +kernel
theorem dX16_init_0 : decode cX16_init 0 = .ok (.aload_n 0, 1) := dk_42 (dk_at dksX16_init_0 0 rfl rfl)
theorem dX16_init_1 : decode cX16_init 1 = .ok (.aconst_null, 1) := dk_1 (dk_at dksX16_init_0 1 rfl rfl)
theorem dX16_init_2 : decode cX16_init 2 = .ok (.invokespecial 1, 3) := dk_183 0 1 (dk_at dksX16_init_0 2 rfl rfl)
theorem dX16_init_5 : decode cX16_init 5 = .ok (.aload_n 0, 1) := dk_42 (dk_at dksX16_init_0 5 rfl rfl)
theorem dX16_init_6 : decode cX16_init 6 = .ok (.iload_n 1, 1) := dk_27 (dk_at dksX16_init_0 6 rfl rfl)
theorem dX16_init_7 : decode cX16_init 7 = .ok (.putfield 7, 3) := dk_181 0 7 (dk_at dksX16_init_0 7 rfl rfl)
theorem dX16_init_10 : decode cX16_init 10 = .ok (.return_, 1) := dk_177 (dk_at dksX16_init_0 10 rfl rfl)
abbrev cX15_require : ByteArray := prog_13_method_3_code
def yX15_require : MethodName := ⟨RX15, "require", "(Z)V"⟩
def dkwX15_require_0 : List UInt8 := [27, 154, 0, 15, 187, 0, 55, 89, 42, 180, 0, 41, 183, 0, 57, 191, 177]
abbrev dktX15_require_0 : List UInt8 := dkwX15_require_0 ++ []
theorem dksX15_require_0 : cX15_require.data.toList.drop 0 = dktX15_require_0 := by decide +kernel
theorem dX15_require_0 : decode cX15_require 0 = .ok (.iload_n 1, 1) := dk_27 (dk_at dksX15_require_0 0 rfl rfl)
theorem dX15_require_1 : decode cX15_require 1 = .ok (.ifCond .ne 15, 3) := dk_154 0 15 (dk_at dksX15_require_0 1 rfl rfl)
theorem dX15_require_4 : decode cX15_require 4 = .ok (.new 55, 3) := dk_187 0 55 (dk_at dksX15_require_0 4 rfl rfl)
theorem dX15_require_7 : decode cX15_require 7 = .ok (.dup, 1) := dk_89 (dk_at dksX15_require_0 7 rfl rfl)
theorem dX15_require_8 : decode cX15_require 8 = .ok (.aload_n 0, 1) := dk_42 (dk_at dksX15_require_0 8 rfl rfl)
theorem dX15_require_9 : decode cX15_require 9 = .ok (.getfield 41, 3) := dk_180 0 41 (dk_at dksX15_require_0 9 rfl rfl)
theorem dX15_require_12 : decode cX15_require 12 = .ok (.invokespecial 57, 3) := dk_183 0 57 (dk_at dksX15_require_0 12 rfl rfl)
theorem dX15_require_15 : decode cX15_require 15 = .ok (.athrow, 1) := dk_191 (dk_at dksX15_require_0 15 rfl rfl)
theorem dX15_require_16 : decode cX15_require 16 = .ok (.return_, 1) := dk_177 (dk_at dksX15_require_0 16 rfl rfl)
abbrev cX15_digit : ByteArray := prog_13_method_6_code
def yX15_digit : MethodName := ⟨RX15, "digit", "()I"⟩
def dkwX15_digit_1 : List UInt8 := [180, 0, 41, 4, 100, 182, 0, 51, 16, 48, 100, 172]
abbrev dktX15_digit_1 : List UInt8 := dkwX15_digit_1 ++ []
def dkwX15_digit_0 : List UInt8 := [42, 42, 182, 0, 68, 182, 0, 64, 42, 89, 180, 0, 41, 4, 96, 181, 0, 41, 42, 180, 0, 37, 42]
abbrev dktX15_digit_0 : List UInt8 := dkwX15_digit_0 ++ dktX15_digit_1
theorem dksX15_digit_0 : cX15_digit.data.toList.drop 0 = dktX15_digit_0 := by decide +kernel
theorem dksX15_digit_1 : cX15_digit.data.toList.drop 23 = dktX15_digit_1 := dk_seg dksX15_digit_0 23 rfl rfl
theorem dX15_digit_0 : decode cX15_digit 0 = .ok (.aload_n 0, 1) := dk_42 (dk_at dksX15_digit_0 0 rfl rfl)
theorem dX15_digit_1 : decode cX15_digit 1 = .ok (.aload_n 0, 1) := dk_42 (dk_at dksX15_digit_0 1 rfl rfl)
theorem dX15_digit_2 : decode cX15_digit 2 = .ok (.invokevirtual 68, 3) := dk_182 0 68 (dk_at dksX15_digit_0 2 rfl rfl)
theorem dX15_digit_5 : decode cX15_digit 5 = .ok (.invokevirtual 64, 3) := dk_182 0 64 (dk_at dksX15_digit_0 5 rfl rfl)
theorem dX15_digit_8 : decode cX15_digit 8 = .ok (.aload_n 0, 1) := dk_42 (dk_at dksX15_digit_0 8 rfl rfl)
theorem dX15_digit_9 : decode cX15_digit 9 = .ok (.dup, 1) := dk_89 (dk_at dksX15_digit_0 9 rfl rfl)
theorem dX15_digit_10 : decode cX15_digit 10 = .ok (.getfield 41, 3) := dk_180 0 41 (dk_at dksX15_digit_0 10 rfl rfl)
theorem dX15_digit_13 : decode cX15_digit 13 = .ok (.iconst 1, 1) := dk_4 (dk_at dksX15_digit_0 13 rfl rfl)
theorem dX15_digit_14 : decode cX15_digit 14 = .ok (.iadd, 1) := dk_96 (dk_at dksX15_digit_0 14 rfl rfl)
theorem dX15_digit_15 : decode cX15_digit 15 = .ok (.putfield 41, 3) := dk_181 0 41 (dk_at dksX15_digit_0 15 rfl rfl)
theorem dX15_digit_18 : decode cX15_digit 18 = .ok (.aload_n 0, 1) := dk_42 (dk_at dksX15_digit_0 18 rfl rfl)
theorem dX15_digit_19 : decode cX15_digit 19 = .ok (.getfield 37, 3) := dk_180 0 37 (dk_at dksX15_digit_0 19 rfl rfl)
theorem dX15_digit_22 : decode cX15_digit 22 = .ok (.aload_n 0, 1) := dk_42 (dk_at dksX15_digit_0 22 rfl rfl)
theorem dX15_digit_23 : decode cX15_digit 23 = .ok (.getfield 41, 3) := dk_180 0 41 (dk_at dksX15_digit_1 0 rfl rfl)
theorem dX15_digit_26 : decode cX15_digit 26 = .ok (.iconst 1, 1) := dk_4 (dk_at dksX15_digit_1 3 rfl rfl)
theorem dX15_digit_27 : decode cX15_digit 27 = .ok (.isub, 1) := dk_100 (dk_at dksX15_digit_1 4 rfl rfl)
theorem dX15_digit_28 : decode cX15_digit 28 = .ok (.invokevirtual 51, 3) := dk_182 0 51 (dk_at dksX15_digit_1 5 rfl rfl)
theorem dX15_digit_31 : decode cX15_digit 31 = .ok (.bipush 48, 2) := dk_16 48 (dk_at dksX15_digit_1 8 rfl rfl)
theorem dX15_digit_33 : decode cX15_digit 33 = .ok (.isub, 1) := dk_100 (dk_at dksX15_digit_1 10 rfl rfl)
theorem dX15_digit_34 : decode cX15_digit 34 = .ok (.ireturn, 1) := dk_172 (dk_at dksX15_digit_1 11 rfl rfl)
abbrev cX15_take : ByteArray := prog_13_method_4_code
def yX15_take : MethodName := ⟨RX15, "take", "(C)V"⟩
def dkwX15_take_1 : List UInt8 := [181, 0, 41, 177]
abbrev dktX15_take_1 : List UInt8 := dkwX15_take_1 ++ []
def dkwX15_take_0 : List UInt8 := [42, 42, 182, 0, 60, 27, 160, 0, 7, 4, 167, 0, 4, 3, 182, 0, 64, 42, 89, 180, 0, 41, 4, 96]
abbrev dktX15_take_0 : List UInt8 := dkwX15_take_0 ++ dktX15_take_1
theorem dksX15_take_0 : cX15_take.data.toList.drop 0 = dktX15_take_0 := by decide +kernel
theorem dksX15_take_1 : cX15_take.data.toList.drop 24 = dktX15_take_1 := dk_seg dksX15_take_0 24 rfl rfl
theorem dX15_take_0 : decode cX15_take 0 = .ok (.aload_n 0, 1) := dk_42 (dk_at dksX15_take_0 0 rfl rfl)
theorem dX15_take_1 : decode cX15_take 1 = .ok (.aload_n 0, 1) := dk_42 (dk_at dksX15_take_0 1 rfl rfl)
theorem dX15_take_2 : decode cX15_take 2 = .ok (.invokevirtual 60, 3) := dk_182 0 60 (dk_at dksX15_take_0 2 rfl rfl)
theorem dX15_take_5 : decode cX15_take 5 = .ok (.iload_n 1, 1) := dk_27 (dk_at dksX15_take_0 5 rfl rfl)
theorem dX15_take_6 : decode cX15_take 6 = .ok (.if_icmp .ne 7, 3) := dk_160 0 7 (dk_at dksX15_take_0 6 rfl rfl)
theorem dX15_take_9 : decode cX15_take 9 = .ok (.iconst 1, 1) := dk_4 (dk_at dksX15_take_0 9 rfl rfl)
theorem dX15_take_10 : decode cX15_take 10 = .ok (.goto 4, 3) := dk_167 0 4 (dk_at dksX15_take_0 10 rfl rfl)
theorem dX15_take_13 : decode cX15_take 13 = .ok (.iconst 0, 1) := dk_3 (dk_at dksX15_take_0 13 rfl rfl)
theorem dX15_take_14 : decode cX15_take 14 = .ok (.invokevirtual 64, 3) := dk_182 0 64 (dk_at dksX15_take_0 14 rfl rfl)
theorem dX15_take_17 : decode cX15_take 17 = .ok (.aload_n 0, 1) := dk_42 (dk_at dksX15_take_0 17 rfl rfl)
theorem dX15_take_18 : decode cX15_take 18 = .ok (.dup, 1) := dk_89 (dk_at dksX15_take_0 18 rfl rfl)
theorem dX15_take_19 : decode cX15_take 19 = .ok (.getfield 41, 3) := dk_180 0 41 (dk_at dksX15_take_0 19 rfl rfl)
theorem dX15_take_22 : decode cX15_take 22 = .ok (.iconst 1, 1) := dk_4 (dk_at dksX15_take_0 22 rfl rfl)
theorem dX15_take_23 : decode cX15_take 23 = .ok (.iadd, 1) := dk_96 (dk_at dksX15_take_0 23 rfl rfl)
theorem dX15_take_24 : decode cX15_take 24 = .ok (.putfield 41, 3) := dk_181 0 41 (dk_at dksX15_take_1 0 rfl rfl)
theorem dX15_take_27 : decode cX15_take 27 = .ok (.return_, 1) := dk_177 (dk_at dksX15_take_1 3 rfl rfl)
abbrev cX15_digitAfterSpace : ByteArray := prog_13_method_7_code
def yX15_digitAfterSpace : MethodName := ⟨RX15, "digitAfterSpace", "()I"⟩
def dkwX15_digitAfterSpace_0 : List UInt8 := [42, 16, 32, 182, 0, 72, 42, 182, 0, 76, 172]
abbrev dktX15_digitAfterSpace_0 : List UInt8 := dkwX15_digitAfterSpace_0 ++ []
theorem dksX15_digitAfterSpace_0 : cX15_digitAfterSpace.data.toList.drop 0 = dktX15_digitAfterSpace_0 := by decide +kernel
theorem dX15_digitAfterSpace_0 : decode cX15_digitAfterSpace 0 = .ok (.aload_n 0, 1) := dk_42 (dk_at dksX15_digitAfterSpace_0 0 rfl rfl)
theorem dX15_digitAfterSpace_1 : decode cX15_digitAfterSpace 1 = .ok (.bipush 32, 2) := dk_16 32 (dk_at dksX15_digitAfterSpace_0 1 rfl rfl)
theorem dX15_digitAfterSpace_3 : decode cX15_digitAfterSpace 3 = .ok (.invokevirtual 72, 3) := dk_182 0 72 (dk_at dksX15_digitAfterSpace_0 3 rfl rfl)
theorem dX15_digitAfterSpace_6 : decode cX15_digitAfterSpace 6 = .ok (.aload_n 0, 1) := dk_42 (dk_at dksX15_digitAfterSpace_0 6 rfl rfl)
theorem dX15_digitAfterSpace_7 : decode cX15_digitAfterSpace 7 = .ok (.invokevirtual 76, 3) := dk_182 0 76 (dk_at dksX15_digitAfterSpace_0 7 rfl rfl)
theorem dX15_digitAfterSpace_10 : decode cX15_digitAfterSpace 10 = .ok (.ireturn, 1) := dk_172 (dk_at dksX15_digitAfterSpace_0 10 rfl rfl)
abbrev cX15_numberAfter : ByteArray := prog_13_method_8_code
def yX15_numberAfter : MethodName := ⟨RX15, "numberAfter", "(C)I"⟩
def dkwX15_numberAfter_1 : List UInt8 := [16, 10, 28, 104, 42, 182, 0, 76, 96, 61, 132, 3, 1, 167, 255, 231, 28, 172]
abbrev dktX15_numberAfter_1 : List UInt8 := dkwX15_numberAfter_1 ++ []
def dkwX15_numberAfter_0 : List UInt8 := [42, 27, 182, 0, 72, 42, 182, 0, 76, 61, 4, 62, 29, 6, 162, 0, 26, 42, 182, 0, 68, 153, 0, 19]
abbrev dktX15_numberAfter_0 : List UInt8 := dkwX15_numberAfter_0 ++ dktX15_numberAfter_1
theorem dksX15_numberAfter_0 : cX15_numberAfter.data.toList.drop 0 = dktX15_numberAfter_0 := by decide +kernel
theorem dksX15_numberAfter_1 : cX15_numberAfter.data.toList.drop 24 = dktX15_numberAfter_1 := dk_seg dksX15_numberAfter_0 24 rfl rfl
theorem dX15_numberAfter_0 : decode cX15_numberAfter 0 = .ok (.aload_n 0, 1) := dk_42 (dk_at dksX15_numberAfter_0 0 rfl rfl)
theorem dX15_numberAfter_1 : decode cX15_numberAfter 1 = .ok (.iload_n 1, 1) := dk_27 (dk_at dksX15_numberAfter_0 1 rfl rfl)
theorem dX15_numberAfter_2 : decode cX15_numberAfter 2 = .ok (.invokevirtual 72, 3) := dk_182 0 72 (dk_at dksX15_numberAfter_0 2 rfl rfl)
theorem dX15_numberAfter_5 : decode cX15_numberAfter 5 = .ok (.aload_n 0, 1) := dk_42 (dk_at dksX15_numberAfter_0 5 rfl rfl)
theorem dX15_numberAfter_6 : decode cX15_numberAfter 6 = .ok (.invokevirtual 76, 3) := dk_182 0 76 (dk_at dksX15_numberAfter_0 6 rfl rfl)
theorem dX15_numberAfter_9 : decode cX15_numberAfter 9 = .ok (.istore_n 2, 1) := dk_61 (dk_at dksX15_numberAfter_0 9 rfl rfl)
theorem dX15_numberAfter_10 : decode cX15_numberAfter 10 = .ok (.iconst 1, 1) := dk_4 (dk_at dksX15_numberAfter_0 10 rfl rfl)
theorem dX15_numberAfter_11 : decode cX15_numberAfter 11 = .ok (.istore_n 3, 1) := dk_62 (dk_at dksX15_numberAfter_0 11 rfl rfl)
theorem dX15_numberAfter_12 : decode cX15_numberAfter 12 = .ok (.iload_n 3, 1) := dk_29 (dk_at dksX15_numberAfter_0 12 rfl rfl)
theorem dX15_numberAfter_13 : decode cX15_numberAfter 13 = .ok (.iconst 3, 1) := dk_6 (dk_at dksX15_numberAfter_0 13 rfl rfl)
theorem dX15_numberAfter_14 : decode cX15_numberAfter 14 = .ok (.if_icmp .ge 26, 3) := dk_162 0 26 (dk_at dksX15_numberAfter_0 14 rfl rfl)
theorem dX15_numberAfter_17 : decode cX15_numberAfter 17 = .ok (.aload_n 0, 1) := dk_42 (dk_at dksX15_numberAfter_0 17 rfl rfl)
theorem dX15_numberAfter_18 : decode cX15_numberAfter 18 = .ok (.invokevirtual 68, 3) := dk_182 0 68 (dk_at dksX15_numberAfter_0 18 rfl rfl)
theorem dX15_numberAfter_21 : decode cX15_numberAfter 21 = .ok (.ifCond .eq 19, 3) := dk_153 0 19 (dk_at dksX15_numberAfter_0 21 rfl rfl)
theorem dX15_numberAfter_24 : decode cX15_numberAfter 24 = .ok (.bipush 10, 2) := dk_16 10 (dk_at dksX15_numberAfter_1 0 rfl rfl)
theorem dX15_numberAfter_26 : decode cX15_numberAfter 26 = .ok (.iload_n 2, 1) := dk_28 (dk_at dksX15_numberAfter_1 2 rfl rfl)
theorem dX15_numberAfter_27 : decode cX15_numberAfter 27 = .ok (.imul, 1) := dk_104 (dk_at dksX15_numberAfter_1 3 rfl rfl)
theorem dX15_numberAfter_28 : decode cX15_numberAfter 28 = .ok (.aload_n 0, 1) := dk_42 (dk_at dksX15_numberAfter_1 4 rfl rfl)
theorem dX15_numberAfter_29 : decode cX15_numberAfter 29 = .ok (.invokevirtual 76, 3) := dk_182 0 76 (dk_at dksX15_numberAfter_1 5 rfl rfl)
theorem dX15_numberAfter_32 : decode cX15_numberAfter 32 = .ok (.iadd, 1) := dk_96 (dk_at dksX15_numberAfter_1 8 rfl rfl)
theorem dX15_numberAfter_33 : decode cX15_numberAfter 33 = .ok (.istore_n 2, 1) := dk_61 (dk_at dksX15_numberAfter_1 9 rfl rfl)
theorem dX15_numberAfter_34 : decode cX15_numberAfter 34 = .ok (.iinc 3 1, 3) := dk_132 3 1 (dk_at dksX15_numberAfter_1 10 rfl rfl)
theorem dX15_numberAfter_37 : decode cX15_numberAfter 37 = .ok (.goto (-25), 3) := dk_167 255 231 (dk_at dksX15_numberAfter_1 13 rfl rfl)
theorem dX15_numberAfter_40 : decode cX15_numberAfter 40 = .ok (.iload_n 2, 1) := dk_28 (dk_at dksX15_numberAfter_1 16 rfl rfl)
theorem dX15_numberAfter_41 : decode cX15_numberAfter 41 = .ok (.ireturn, 1) := dk_172 (dk_at dksX15_numberAfter_1 17 rfl rfl)
abbrev cJ7_charAt : ByteArray := prog_20_method_14_code
def yJ7_charAt : MethodName := ⟨RJ7, "charAt", "(I)C"⟩
def dkwJ7_charAt_1 : List UInt8 := [21, 4, 184, 0, 144, 28, 154, 0, 12, 45, 27, 51, 17, 0, 255, 126, 146, 172, 45, 27, 184, 0, 148, 172]
abbrev dktJ7_charAt_1 : List UInt8 := dkwJ7_charAt_1 ++ []
def dkwJ7_charAt_0 : List UInt8 := [42, 180, 0, 22, 61, 42, 180, 0, 15, 78, 42, 180, 0, 79, 45, 190, 28, 122, 184, 0, 138, 54, 4, 27]
abbrev dktJ7_charAt_0 : List UInt8 := dkwJ7_charAt_0 ++ dktJ7_charAt_1
theorem dksJ7_charAt_0 : cJ7_charAt.data.toList.drop 0 = dktJ7_charAt_0 := by decide +kernel
theorem dksJ7_charAt_1 : cJ7_charAt.data.toList.drop 24 = dktJ7_charAt_1 := dk_seg dksJ7_charAt_0 24 rfl rfl
theorem dJ7_charAt_0 : decode cJ7_charAt 0 = .ok (.aload_n 0, 1) := dk_42 (dk_at dksJ7_charAt_0 0 rfl rfl)
theorem dJ7_charAt_1 : decode cJ7_charAt 1 = .ok (.getfield 22, 3) := dk_180 0 22 (dk_at dksJ7_charAt_0 1 rfl rfl)
theorem dJ7_charAt_4 : decode cJ7_charAt 4 = .ok (.istore_n 2, 1) := dk_61 (dk_at dksJ7_charAt_0 4 rfl rfl)
theorem dJ7_charAt_5 : decode cJ7_charAt 5 = .ok (.aload_n 0, 1) := dk_42 (dk_at dksJ7_charAt_0 5 rfl rfl)
theorem dJ7_charAt_6 : decode cJ7_charAt 6 = .ok (.getfield 15, 3) := dk_180 0 15 (dk_at dksJ7_charAt_0 6 rfl rfl)
theorem dJ7_charAt_9 : decode cJ7_charAt 9 = .ok (.astore_n 3, 1) := dk_78 (dk_at dksJ7_charAt_0 9 rfl rfl)
theorem dJ7_charAt_10 : decode cJ7_charAt 10 = .ok (.aload_n 0, 1) := dk_42 (dk_at dksJ7_charAt_0 10 rfl rfl)
theorem dJ7_charAt_11 : decode cJ7_charAt 11 = .ok (.getfield 79, 3) := dk_180 0 79 (dk_at dksJ7_charAt_0 11 rfl rfl)
theorem dJ7_charAt_14 : decode cJ7_charAt 14 = .ok (.aload_n 3, 1) := dk_45 (dk_at dksJ7_charAt_0 14 rfl rfl)
theorem dJ7_charAt_15 : decode cJ7_charAt 15 = .ok (.arraylength, 1) := dk_190 (dk_at dksJ7_charAt_0 15 rfl rfl)
theorem dJ7_charAt_16 : decode cJ7_charAt 16 = .ok (.iload_n 2, 1) := dk_28 (dk_at dksJ7_charAt_0 16 rfl rfl)
theorem dJ7_charAt_17 : decode cJ7_charAt 17 = .ok (.ishr, 1) := dk_122 (dk_at dksJ7_charAt_0 17 rfl rfl)
theorem dJ7_charAt_18 : decode cJ7_charAt 18 = .ok (.invokestatic 138, 3) := dk_184 0 138 (dk_at dksJ7_charAt_0 18 rfl rfl)
theorem dJ7_charAt_21 : decode cJ7_charAt 21 = .ok (.istore 4, 2) := dk_54 4 (dk_at dksJ7_charAt_0 21 rfl rfl)
theorem dJ7_charAt_23 : decode cJ7_charAt 23 = .ok (.iload_n 1, 1) := dk_27 (dk_at dksJ7_charAt_0 23 rfl rfl)
theorem dJ7_charAt_24 : decode cJ7_charAt 24 = .ok (.iload 4, 2) := dk_21 4 (dk_at dksJ7_charAt_1 0 rfl rfl)
theorem dJ7_charAt_26 : decode cJ7_charAt 26 = .ok (.invokestatic 144, 3) := dk_184 0 144 (dk_at dksJ7_charAt_1 2 rfl rfl)
theorem dJ7_charAt_29 : decode cJ7_charAt 29 = .ok (.iload_n 2, 1) := dk_28 (dk_at dksJ7_charAt_1 5 rfl rfl)
theorem dJ7_charAt_30 : decode cJ7_charAt 30 = .ok (.ifCond .ne 12, 3) := dk_154 0 12 (dk_at dksJ7_charAt_1 6 rfl rfl)
theorem dJ7_charAt_33 : decode cJ7_charAt 33 = .ok (.aload_n 3, 1) := dk_45 (dk_at dksJ7_charAt_1 9 rfl rfl)
theorem dJ7_charAt_34 : decode cJ7_charAt 34 = .ok (.iload_n 1, 1) := dk_27 (dk_at dksJ7_charAt_1 10 rfl rfl)
theorem dJ7_charAt_35 : decode cJ7_charAt 35 = .ok (.baload, 1) := dk_51 (dk_at dksJ7_charAt_1 11 rfl rfl)
theorem dJ7_charAt_36 : decode cJ7_charAt 36 = .ok (.sipush 255, 3) := dk_17 0 255 (dk_at dksJ7_charAt_1 12 rfl rfl)
theorem dJ7_charAt_39 : decode cJ7_charAt 39 = .ok (.iand, 1) := dk_126 (dk_at dksJ7_charAt_1 15 rfl rfl)
theorem dJ7_charAt_40 : decode cJ7_charAt 40 = .ok (.i2c, 1) := dk_146 (dk_at dksJ7_charAt_1 16 rfl rfl)
theorem dJ7_charAt_41 : decode cJ7_charAt 41 = .ok (.ireturn, 1) := dk_172 (dk_at dksJ7_charAt_1 17 rfl rfl)
theorem dJ7_charAt_42 : decode cJ7_charAt 42 = .ok (.aload_n 3, 1) := dk_45 (dk_at dksJ7_charAt_1 18 rfl rfl)
theorem dJ7_charAt_43 : decode cJ7_charAt 43 = .ok (.iload_n 1, 1) := dk_27 (dk_at dksJ7_charAt_1 19 rfl rfl)
theorem dJ7_charAt_44 : decode cJ7_charAt 44 = .ok (.invokestatic 148, 3) := dk_184 0 148 (dk_at dksJ7_charAt_1 20 rfl rfl)
abbrev cJ8_charAt : ByteArray := prog_39_method_88_code
def yJ8_charAt : MethodName := ⟨RJ8, "charAt", "(I)C"⟩
def dkwJ8_charAt_0 : List UInt8 := [42, 27, 183, 1, 73, 172]
abbrev dktJ8_charAt_0 : List UInt8 := dkwJ8_charAt_0 ++ []
theorem dksJ8_charAt_0 : cJ8_charAt.data.toList.drop 0 = dktJ8_charAt_0 := by decide +kernel
theorem dJ8_charAt_0 : decode cJ8_charAt 0 = .ok (.aload_n 0, 1) := dk_42 (dk_at dksJ8_charAt_0 0 rfl rfl)
theorem dJ8_charAt_1 : decode cJ8_charAt 1 = .ok (.iload_n 1, 1) := dk_27 (dk_at dksJ8_charAt_0 1 rfl rfl)
theorem dJ8_charAt_2 : decode cJ8_charAt 2 = .ok (.invokespecial 329, 3) := dk_183 1 73 (dk_at dksJ8_charAt_0 2 rfl rfl)
theorem dJ8_charAt_5 : decode cJ8_charAt 5 = .ok (.ireturn, 1) := dk_172 (dk_at dksJ8_charAt_0 5 rfl rfl)
abbrev cX15_begins : ByteArray := prog_13_method_9_code
def yX15_begins : MethodName := ⟨RX15, "begins", "(Ljava/lang/String;Ljava/lang/StringBuilder;)Z"⟩
def dkwX15_begins_2 : List UInt8 := [3, 61, 132, 3, 1, 167, 255, 222, 28, 172]
abbrev dktX15_begins_2 : List UInt8 := dkwX15_begins_2 ++ []
def dkwX15_begins_1 : List UInt8 := [162, 0, 32, 28, 153, 0, 28, 42, 29, 182, 0, 51, 43, 29, 182, 0, 82, 160, 0, 7, 4, 167, 0, 4]
abbrev dktX15_begins_1 : List UInt8 := dkwX15_begins_1 ++ dktX15_begins_2
def dkwX15_begins_0 : List UInt8 := [43, 182, 0, 79, 42, 182, 0, 45, 163, 0, 7, 4, 167, 0, 4, 3, 61, 3, 62, 29, 43, 182, 0, 79]
abbrev dktX15_begins_0 : List UInt8 := dkwX15_begins_0 ++ dktX15_begins_1
theorem dksX15_begins_0 : cX15_begins.data.toList.drop 0 = dktX15_begins_0 := by decide +kernel
theorem dksX15_begins_1 : cX15_begins.data.toList.drop 24 = dktX15_begins_1 := dk_seg dksX15_begins_0 24 rfl rfl
theorem dksX15_begins_2 : cX15_begins.data.toList.drop 48 = dktX15_begins_2 := dk_seg dksX15_begins_1 24 rfl rfl
theorem dX15_begins_0 : decode cX15_begins 0 = .ok (.aload_n 1, 1) := dk_43 (dk_at dksX15_begins_0 0 rfl rfl)
theorem dX15_begins_1 : decode cX15_begins 1 = .ok (.invokevirtual 79, 3) := dk_182 0 79 (dk_at dksX15_begins_0 1 rfl rfl)
theorem dX15_begins_4 : decode cX15_begins 4 = .ok (.aload_n 0, 1) := dk_42 (dk_at dksX15_begins_0 4 rfl rfl)
theorem dX15_begins_5 : decode cX15_begins 5 = .ok (.invokevirtual 45, 3) := dk_182 0 45 (dk_at dksX15_begins_0 5 rfl rfl)
theorem dX15_begins_8 : decode cX15_begins 8 = .ok (.if_icmp .gt 7, 3) := dk_163 0 7 (dk_at dksX15_begins_0 8 rfl rfl)
theorem dX15_begins_11 : decode cX15_begins 11 = .ok (.iconst 1, 1) := dk_4 (dk_at dksX15_begins_0 11 rfl rfl)
theorem dX15_begins_12 : decode cX15_begins 12 = .ok (.goto 4, 3) := dk_167 0 4 (dk_at dksX15_begins_0 12 rfl rfl)
theorem dX15_begins_15 : decode cX15_begins 15 = .ok (.iconst 0, 1) := dk_3 (dk_at dksX15_begins_0 15 rfl rfl)
theorem dX15_begins_16 : decode cX15_begins 16 = .ok (.istore_n 2, 1) := dk_61 (dk_at dksX15_begins_0 16 rfl rfl)
theorem dX15_begins_17 : decode cX15_begins 17 = .ok (.iconst 0, 1) := dk_3 (dk_at dksX15_begins_0 17 rfl rfl)
theorem dX15_begins_18 : decode cX15_begins 18 = .ok (.istore_n 3, 1) := dk_62 (dk_at dksX15_begins_0 18 rfl rfl)
theorem dX15_begins_19 : decode cX15_begins 19 = .ok (.iload_n 3, 1) := dk_29 (dk_at dksX15_begins_0 19 rfl rfl)
theorem dX15_begins_20 : decode cX15_begins 20 = .ok (.aload_n 1, 1) := dk_43 (dk_at dksX15_begins_0 20 rfl rfl)
theorem dX15_begins_21 : decode cX15_begins 21 = .ok (.invokevirtual 79, 3) := dk_182 0 79 (dk_at dksX15_begins_0 21 rfl rfl)
theorem dX15_begins_24 : decode cX15_begins 24 = .ok (.if_icmp .ge 32, 3) := dk_162 0 32 (dk_at dksX15_begins_1 0 rfl rfl)
theorem dX15_begins_27 : decode cX15_begins 27 = .ok (.iload_n 2, 1) := dk_28 (dk_at dksX15_begins_1 3 rfl rfl)
theorem dX15_begins_28 : decode cX15_begins 28 = .ok (.ifCond .eq 28, 3) := dk_153 0 28 (dk_at dksX15_begins_1 4 rfl rfl)
theorem dX15_begins_31 : decode cX15_begins 31 = .ok (.aload_n 0, 1) := dk_42 (dk_at dksX15_begins_1 7 rfl rfl)
theorem dX15_begins_32 : decode cX15_begins 32 = .ok (.iload_n 3, 1) := dk_29 (dk_at dksX15_begins_1 8 rfl rfl)
theorem dX15_begins_33 : decode cX15_begins 33 = .ok (.invokevirtual 51, 3) := dk_182 0 51 (dk_at dksX15_begins_1 9 rfl rfl)
theorem dX15_begins_36 : decode cX15_begins 36 = .ok (.aload_n 1, 1) := dk_43 (dk_at dksX15_begins_1 12 rfl rfl)
theorem dX15_begins_37 : decode cX15_begins 37 = .ok (.iload_n 3, 1) := dk_29 (dk_at dksX15_begins_1 13 rfl rfl)
theorem dX15_begins_38 : decode cX15_begins 38 = .ok (.invokevirtual 82, 3) := dk_182 0 82 (dk_at dksX15_begins_1 14 rfl rfl)
theorem dX15_begins_41 : decode cX15_begins 41 = .ok (.if_icmp .ne 7, 3) := dk_160 0 7 (dk_at dksX15_begins_1 17 rfl rfl)
theorem dX15_begins_44 : decode cX15_begins 44 = .ok (.iconst 1, 1) := dk_4 (dk_at dksX15_begins_1 20 rfl rfl)
theorem dX15_begins_45 : decode cX15_begins 45 = .ok (.goto 4, 3) := dk_167 0 4 (dk_at dksX15_begins_1 21 rfl rfl)
theorem dX15_begins_48 : decode cX15_begins 48 = .ok (.iconst 0, 1) := dk_3 (dk_at dksX15_begins_2 0 rfl rfl)
theorem dX15_begins_49 : decode cX15_begins 49 = .ok (.istore_n 2, 1) := dk_61 (dk_at dksX15_begins_2 1 rfl rfl)
theorem dX15_begins_50 : decode cX15_begins 50 = .ok (.iinc 3 1, 3) := dk_132 3 1 (dk_at dksX15_begins_2 2 rfl rfl)
theorem dX15_begins_53 : decode cX15_begins 53 = .ok (.goto (-34), 3) := dk_167 255 222 (dk_at dksX15_begins_2 5 rfl rfl)
theorem dX15_begins_56 : decode cX15_begins 56 = .ok (.iload_n 2, 1) := dk_28 (dk_at dksX15_begins_2 8 rfl rfl)
theorem dX15_begins_57 : decode cX15_begins 57 = .ok (.ireturn, 1) := dk_172 (dk_at dksX15_begins_2 9 rfl rfl)
abbrev cJ15_init : ByteArray := prog_72_method_1_code
def yJ15_init : MethodName := ⟨RJ15, "<init>", "(Ljava/util/List;I)V"⟩
def dkwJ15_init_1 : List UInt8 := [177]
abbrev dktJ15_init_1 : List UInt8 := dkwJ15_init_1 ++ []
def dkwJ15_init_0 : List UInt8 := [42, 183, 0, 1, 42, 43, 181, 0, 7, 42, 28, 181, 0, 13, 42, 3, 181, 0, 17, 42, 3, 181, 0, 20]
abbrev dktJ15_init_0 : List UInt8 := dkwJ15_init_0 ++ dktJ15_init_1
theorem dksJ15_init_0 : cJ15_init.data.toList.drop 0 = dktJ15_init_0 := by decide +kernel
theorem dksJ15_init_1 : cJ15_init.data.toList.drop 24 = dktJ15_init_1 := dk_seg dksJ15_init_0 24 rfl rfl
theorem dJ15_init_0 : decode cJ15_init 0 = .ok (.aload_n 0, 1) := dk_42 (dk_at dksJ15_init_0 0 rfl rfl)
theorem dJ15_init_1 : decode cJ15_init 1 = .ok (.invokespecial 1, 3) := dk_183 0 1 (dk_at dksJ15_init_0 1 rfl rfl)
theorem dJ15_init_4 : decode cJ15_init 4 = .ok (.aload_n 0, 1) := dk_42 (dk_at dksJ15_init_0 4 rfl rfl)
theorem dJ15_init_5 : decode cJ15_init 5 = .ok (.aload_n 1, 1) := dk_43 (dk_at dksJ15_init_0 5 rfl rfl)
theorem dJ15_init_6 : decode cJ15_init 6 = .ok (.putfield 7, 3) := dk_181 0 7 (dk_at dksJ15_init_0 6 rfl rfl)
theorem dJ15_init_9 : decode cJ15_init 9 = .ok (.aload_n 0, 1) := dk_42 (dk_at dksJ15_init_0 9 rfl rfl)
theorem dJ15_init_10 : decode cJ15_init 10 = .ok (.iload_n 2, 1) := dk_28 (dk_at dksJ15_init_0 10 rfl rfl)
theorem dJ15_init_11 : decode cJ15_init 11 = .ok (.putfield 13, 3) := dk_181 0 13 (dk_at dksJ15_init_0 11 rfl rfl)
theorem dJ15_init_14 : decode cJ15_init 14 = .ok (.aload_n 0, 1) := dk_42 (dk_at dksJ15_init_0 14 rfl rfl)
theorem dJ15_init_15 : decode cJ15_init 15 = .ok (.iconst 0, 1) := dk_3 (dk_at dksJ15_init_0 15 rfl rfl)
theorem dJ15_init_16 : decode cJ15_init 16 = .ok (.putfield 17, 3) := dk_181 0 17 (dk_at dksJ15_init_0 16 rfl rfl)
theorem dJ15_init_19 : decode cJ15_init 19 = .ok (.aload_n 0, 1) := dk_42 (dk_at dksJ15_init_0 19 rfl rfl)
theorem dJ15_init_20 : decode cJ15_init 20 = .ok (.iconst 0, 1) := dk_3 (dk_at dksJ15_init_0 20 rfl rfl)
theorem dJ15_init_21 : decode cJ15_init 21 = .ok (.putfield 20, 3) := dk_181 0 20 (dk_at dksJ15_init_0 21 rfl rfl)
theorem dJ15_init_24 : decode cJ15_init 24 = .ok (.return_, 1) := dk_177 (dk_at dksJ15_init_1 0 rfl rfl)
abbrev cJ58_size : ByteArray := prog_73_method_3_code
def yJ58_size : MethodName := ⟨RJ58, "size", "()I"⟩
def dkwJ58_size_0 : List UInt8 := [42, 180, 0, 7, 190, 172]
abbrev dktJ58_size_0 : List UInt8 := dkwJ58_size_0 ++ []
theorem dksJ58_size_0 : cJ58_size.data.toList.drop 0 = dktJ58_size_0 := by decide +kernel
theorem dJ58_size_0 : decode cJ58_size 0 = .ok (.aload_n 0, 1) := dk_42 (dk_at dksJ58_size_0 0 rfl rfl)
theorem dJ58_size_1 : decode cJ58_size 1 = .ok (.getfield 7, 3) := dk_180 0 7 (dk_at dksJ58_size_0 1 rfl rfl)
theorem dJ58_size_4 : decode cJ58_size 4 = .ok (.arraylength, 1) := dk_190 (dk_at dksJ58_size_0 4 rfl rfl)
theorem dJ58_size_5 : decode cJ58_size 5 = .ok (.ireturn, 1) := dk_172 (dk_at dksJ58_size_0 5 rfl rfl)
abbrev cJ56_iterator : ByteArray := prog_70_method_10_code
def yJ56_iterator : MethodName := ⟨RJ56, "iterator", "()Ljava/util/Iterator;"⟩
def dkwJ56_iterator_0 : List UInt8 := [187, 0, 61, 89, 42, 42, 182, 0, 13, 183, 0, 63, 176]
abbrev dktJ56_iterator_0 : List UInt8 := dkwJ56_iterator_0 ++ []
theorem dksJ56_iterator_0 : cJ56_iterator.data.toList.drop 0 = dktJ56_iterator_0 := by decide +kernel
theorem dJ56_iterator_0 : decode cJ56_iterator 0 = .ok (.new 61, 3) := dk_187 0 61 (dk_at dksJ56_iterator_0 0 rfl rfl)
theorem dJ56_iterator_3 : decode cJ56_iterator 3 = .ok (.dup, 1) := dk_89 (dk_at dksJ56_iterator_0 3 rfl rfl)
theorem dJ56_iterator_4 : decode cJ56_iterator 4 = .ok (.aload_n 0, 1) := dk_42 (dk_at dksJ56_iterator_0 4 rfl rfl)
theorem dJ56_iterator_5 : decode cJ56_iterator 5 = .ok (.aload_n 0, 1) := dk_42 (dk_at dksJ56_iterator_0 5 rfl rfl)
theorem dJ56_iterator_6 : decode cJ56_iterator 6 = .ok (.invokevirtual 13, 3) := dk_182 0 13 (dk_at dksJ56_iterator_0 6 rfl rfl)
theorem dJ56_iterator_9 : decode cJ56_iterator 9 = .ok (.invokespecial 63, 3) := dk_183 0 63 (dk_at dksJ56_iterator_0 9 rfl rfl)
theorem dJ56_iterator_12 : decode cJ56_iterator 12 = .ok (.areturn, 1) := dk_176 (dk_at dksJ56_iterator_0 12 rfl rfl)
abbrev cJ15_hasNext : ByteArray := prog_72_method_3_code
def yJ15_hasNext : MethodName := ⟨RJ15, "hasNext", "()Z"⟩
def dkwJ15_hasNext_0 : List UInt8 := [42, 180, 0, 17, 42, 180, 0, 13, 159, 0, 7, 4, 167, 0, 4, 3, 172]
abbrev dktJ15_hasNext_0 : List UInt8 := dkwJ15_hasNext_0 ++ []
theorem dksJ15_hasNext_0 : cJ15_hasNext.data.toList.drop 0 = dktJ15_hasNext_0 := by decide +kernel
theorem dJ15_hasNext_0 : decode cJ15_hasNext 0 = .ok (.aload_n 0, 1) := dk_42 (dk_at dksJ15_hasNext_0 0 rfl rfl)
theorem dJ15_hasNext_1 : decode cJ15_hasNext 1 = .ok (.getfield 17, 3) := dk_180 0 17 (dk_at dksJ15_hasNext_0 1 rfl rfl)
theorem dJ15_hasNext_4 : decode cJ15_hasNext 4 = .ok (.aload_n 0, 1) := dk_42 (dk_at dksJ15_hasNext_0 4 rfl rfl)
theorem dJ15_hasNext_5 : decode cJ15_hasNext 5 = .ok (.getfield 13, 3) := dk_180 0 13 (dk_at dksJ15_hasNext_0 5 rfl rfl)
theorem dJ15_hasNext_8 : decode cJ15_hasNext 8 = .ok (.if_icmp .eq 7, 3) := dk_159 0 7 (dk_at dksJ15_hasNext_0 8 rfl rfl)
theorem dJ15_hasNext_11 : decode cJ15_hasNext 11 = .ok (.iconst 1, 1) := dk_4 (dk_at dksJ15_hasNext_0 11 rfl rfl)
theorem dJ15_hasNext_12 : decode cJ15_hasNext 12 = .ok (.goto 4, 3) := dk_167 0 4 (dk_at dksJ15_hasNext_0 12 rfl rfl)
theorem dJ15_hasNext_15 : decode cJ15_hasNext 15 = .ok (.iconst 0, 1) := dk_3 (dk_at dksJ15_hasNext_0 15 rfl rfl)
theorem dJ15_hasNext_16 : decode cJ15_hasNext 16 = .ok (.ireturn, 1) := dk_172 (dk_at dksJ15_hasNext_0 16 rfl rfl)
abbrev cJ58_get : ByteArray := prog_73_method_4_code
def yJ58_get : MethodName := ⟨RJ58, "get", "(I)Ljava/lang/Object;"⟩
def dkwJ58_get_0 : List UInt8 := [42, 180, 0, 7, 27, 50, 176]
abbrev dktJ58_get_0 : List UInt8 := dkwJ58_get_0 ++ []
theorem dksJ58_get_0 : cJ58_get.data.toList.drop 0 = dktJ58_get_0 := by decide +kernel
theorem dJ58_get_0 : decode cJ58_get 0 = .ok (.aload_n 0, 1) := dk_42 (dk_at dksJ58_get_0 0 rfl rfl)
theorem dJ58_get_1 : decode cJ58_get 1 = .ok (.getfield 7, 3) := dk_180 0 7 (dk_at dksJ58_get_0 1 rfl rfl)
theorem dJ58_get_4 : decode cJ58_get 4 = .ok (.iload_n 1, 1) := dk_27 (dk_at dksJ58_get_0 4 rfl rfl)
theorem dJ58_get_5 : decode cJ58_get 5 = .ok (.aaload, 1) := dk_50 (dk_at dksJ58_get_0 5 rfl rfl)
theorem dJ58_get_6 : decode cJ58_get 6 = .ok (.areturn, 1) := dk_176 (dk_at dksJ58_get_0 6 rfl rfl)
abbrev cJ15_next : ByteArray := prog_72_method_4_code
def yJ15_next : MethodName := ⟨RJ15, "next", "()Ljava/lang/Object;"⟩
def dkwJ15_next_1 : List UInt8 := [176, 76, 187, 0, 32, 89, 183, 0, 34, 191]
abbrev dktJ15_next_1 : List UInt8 := dkwJ15_next_1 ++ []
def dkwJ15_next_0 : List UInt8 := [42, 180, 0, 17, 60, 42, 180, 0, 7, 27, 185, 0, 24, 2, 0, 77, 42, 27, 4, 96, 181, 0, 17, 44]
abbrev dktJ15_next_0 : List UInt8 := dkwJ15_next_0 ++ dktJ15_next_1
theorem dksJ15_next_0 : cJ15_next.data.toList.drop 0 = dktJ15_next_0 := by decide +kernel
theorem dksJ15_next_1 : cJ15_next.data.toList.drop 24 = dktJ15_next_1 := dk_seg dksJ15_next_0 24 rfl rfl
theorem dJ15_next_0 : decode cJ15_next 0 = .ok (.aload_n 0, 1) := dk_42 (dk_at dksJ15_next_0 0 rfl rfl)
theorem dJ15_next_1 : decode cJ15_next 1 = .ok (.getfield 17, 3) := dk_180 0 17 (dk_at dksJ15_next_0 1 rfl rfl)
theorem dJ15_next_4 : decode cJ15_next 4 = .ok (.istore_n 1, 1) := dk_60 (dk_at dksJ15_next_0 4 rfl rfl)
theorem dJ15_next_5 : decode cJ15_next 5 = .ok (.aload_n 0, 1) := dk_42 (dk_at dksJ15_next_0 5 rfl rfl)
theorem dJ15_next_6 : decode cJ15_next 6 = .ok (.getfield 7, 3) := dk_180 0 7 (dk_at dksJ15_next_0 6 rfl rfl)
theorem dJ15_next_9 : decode cJ15_next 9 = .ok (.iload_n 1, 1) := dk_27 (dk_at dksJ15_next_0 9 rfl rfl)
theorem dJ15_next_10 : decode cJ15_next 10 = .ok (.invokeinterface 24 2, 5) := by decide +kernel
theorem dJ15_next_15 : decode cJ15_next 15 = .ok (.astore_n 2, 1) := dk_77 (dk_at dksJ15_next_0 15 rfl rfl)
theorem dJ15_next_16 : decode cJ15_next 16 = .ok (.aload_n 0, 1) := dk_42 (dk_at dksJ15_next_0 16 rfl rfl)
theorem dJ15_next_17 : decode cJ15_next 17 = .ok (.iload_n 1, 1) := dk_27 (dk_at dksJ15_next_0 17 rfl rfl)
theorem dJ15_next_18 : decode cJ15_next 18 = .ok (.iconst 1, 1) := dk_4 (dk_at dksJ15_next_0 18 rfl rfl)
theorem dJ15_next_19 : decode cJ15_next 19 = .ok (.iadd, 1) := dk_96 (dk_at dksJ15_next_0 19 rfl rfl)
theorem dJ15_next_20 : decode cJ15_next 20 = .ok (.putfield 17, 3) := dk_181 0 17 (dk_at dksJ15_next_0 20 rfl rfl)
theorem dJ15_next_23 : decode cJ15_next 23 = .ok (.aload_n 2, 1) := dk_44 (dk_at dksJ15_next_0 23 rfl rfl)
theorem dJ15_next_24 : decode cJ15_next 24 = .ok (.areturn, 1) := dk_176 (dk_at dksJ15_next_1 0 rfl rfl)
abbrev cX15_beginsOne : ByteArray := prog_13_method_10_code
def yX15_beginsOne : MethodName := ⟨RX15, "beginsOne", "(Ljava/lang/StringBuilder;)Z"⟩
def dkwX15_beginsOne_2 : List UInt8 := [167, 0, 4, 3, 61, 167, 255, 217, 28, 172]
abbrev dktX15_beginsOne_2 : List UInt8 := dkwX15_beginsOne_2 ++ []
def dkwX15_beginsOne_1 : List UInt8 := [185, 0, 92, 1, 0, 192, 0, 46, 58, 4, 28, 154, 0, 12, 25, 4, 43, 184, 0, 96, 153, 0, 7, 4]
abbrev dktX15_beginsOne_1 : List UInt8 := dkwX15_beginsOne_1 ++ dktX15_beginsOne_2
def dkwX15_beginsOne_0 : List UInt8 := [3, 61, 42, 180, 0, 31, 185, 0, 83, 1, 0, 78, 45, 185, 0, 87, 1, 0, 153, 0, 36, 45]
abbrev dktX15_beginsOne_0 : List UInt8 := dkwX15_beginsOne_0 ++ dktX15_beginsOne_1
theorem dksX15_beginsOne_0 : cX15_beginsOne.data.toList.drop 0 = dktX15_beginsOne_0 := by decide +kernel
theorem dksX15_beginsOne_1 : cX15_beginsOne.data.toList.drop 22 = dktX15_beginsOne_1 := dk_seg dksX15_beginsOne_0 22 rfl rfl
theorem dksX15_beginsOne_2 : cX15_beginsOne.data.toList.drop 46 = dktX15_beginsOne_2 := dk_seg dksX15_beginsOne_1 24 rfl rfl
theorem dX15_beginsOne_0 : decode cX15_beginsOne 0 = .ok (.iconst 0, 1) := dk_3 (dk_at dksX15_beginsOne_0 0 rfl rfl)
theorem dX15_beginsOne_1 : decode cX15_beginsOne 1 = .ok (.istore_n 2, 1) := dk_61 (dk_at dksX15_beginsOne_0 1 rfl rfl)
theorem dX15_beginsOne_2 : decode cX15_beginsOne 2 = .ok (.aload_n 0, 1) := dk_42 (dk_at dksX15_beginsOne_0 2 rfl rfl)
theorem dX15_beginsOne_3 : decode cX15_beginsOne 3 = .ok (.getfield 31, 3) := dk_180 0 31 (dk_at dksX15_beginsOne_0 3 rfl rfl)
theorem dX15_beginsOne_6 : decode cX15_beginsOne 6 = .ok (.invokeinterface 83 1, 5) := by decide +kernel
theorem dX15_beginsOne_11 : decode cX15_beginsOne 11 = .ok (.astore_n 3, 1) := dk_78 (dk_at dksX15_beginsOne_0 11 rfl rfl)
theorem dX15_beginsOne_12 : decode cX15_beginsOne 12 = .ok (.aload_n 3, 1) := dk_45 (dk_at dksX15_beginsOne_0 12 rfl rfl)
theorem dX15_beginsOne_13 : decode cX15_beginsOne 13 = .ok (.invokeinterface 87 1, 5) := by decide +kernel
theorem dX15_beginsOne_18 : decode cX15_beginsOne 18 = .ok (.ifCond .eq 36, 3) := dk_153 0 36 (dk_at dksX15_beginsOne_0 18 rfl rfl)
theorem dX15_beginsOne_21 : decode cX15_beginsOne 21 = .ok (.aload_n 3, 1) := dk_45 (dk_at dksX15_beginsOne_0 21 rfl rfl)
theorem dX15_beginsOne_22 : decode cX15_beginsOne 22 = .ok (.invokeinterface 92 1, 5) := by decide +kernel
theorem dX15_beginsOne_27 : decode cX15_beginsOne 27 = .ok (.checkcast 46, 3) := dk_192 0 46 (dk_at dksX15_beginsOne_1 5 rfl rfl)
theorem dX15_beginsOne_30 : decode cX15_beginsOne 30 = .ok (.astore 4, 2) := dk_58 4 (dk_at dksX15_beginsOne_1 8 rfl rfl)
theorem dX15_beginsOne_32 : decode cX15_beginsOne 32 = .ok (.iload_n 2, 1) := dk_28 (dk_at dksX15_beginsOne_1 10 rfl rfl)
theorem dX15_beginsOne_33 : decode cX15_beginsOne 33 = .ok (.ifCond .ne 12, 3) := dk_154 0 12 (dk_at dksX15_beginsOne_1 11 rfl rfl)
theorem dX15_beginsOne_36 : decode cX15_beginsOne 36 = .ok (.aload 4, 2) := dk_25 4 (dk_at dksX15_beginsOne_1 14 rfl rfl)
theorem dX15_beginsOne_38 : decode cX15_beginsOne 38 = .ok (.aload_n 1, 1) := dk_43 (dk_at dksX15_beginsOne_1 16 rfl rfl)
theorem dX15_beginsOne_39 : decode cX15_beginsOne 39 = .ok (.invokestatic 96, 3) := dk_184 0 96 (dk_at dksX15_beginsOne_1 17 rfl rfl)
theorem dX15_beginsOne_42 : decode cX15_beginsOne 42 = .ok (.ifCond .eq 7, 3) := dk_153 0 7 (dk_at dksX15_beginsOne_1 20 rfl rfl)
theorem dX15_beginsOne_45 : decode cX15_beginsOne 45 = .ok (.iconst 1, 1) := dk_4 (dk_at dksX15_beginsOne_1 23 rfl rfl)
theorem dX15_beginsOne_46 : decode cX15_beginsOne 46 = .ok (.goto 4, 3) := dk_167 0 4 (dk_at dksX15_beginsOne_2 0 rfl rfl)
theorem dX15_beginsOne_49 : decode cX15_beginsOne 49 = .ok (.iconst 0, 1) := dk_3 (dk_at dksX15_beginsOne_2 3 rfl rfl)
theorem dX15_beginsOne_50 : decode cX15_beginsOne 50 = .ok (.istore_n 2, 1) := dk_61 (dk_at dksX15_beginsOne_2 4 rfl rfl)
theorem dX15_beginsOne_51 : decode cX15_beginsOne 51 = .ok (.goto (-39), 3) := dk_167 255 217 (dk_at dksX15_beginsOne_2 5 rfl rfl)
theorem dX15_beginsOne_54 : decode cX15_beginsOne 54 = .ok (.iload_n 2, 1) := dk_28 (dk_at dksX15_beginsOne_2 8 rfl rfl)
theorem dX15_beginsOne_55 : decode cX15_beginsOne 55 = .ok (.ireturn, 1) := dk_172 (dk_at dksX15_beginsOne_2 9 rfl rfl)
abbrev cJ25_canEncode : ByteArray := prog_41_method_3_code
def yJ25_canEncode : MethodName := ⟨RJ25, "canEncode", "(C)Z"⟩
def dkwJ25_canEncode_0 : List UInt8 := [26, 17, 0, 255, 163, 0, 7, 4, 167, 0, 4, 3, 172]
abbrev dktJ25_canEncode_0 : List UInt8 := dkwJ25_canEncode_0 ++ []
theorem dksJ25_canEncode_0 : cJ25_canEncode.data.toList.drop 0 = dktJ25_canEncode_0 := by decide +kernel
theorem dJ25_canEncode_0 : decode cJ25_canEncode 0 = .ok (.iload_n 0, 1) := dk_26 (dk_at dksJ25_canEncode_0 0 rfl rfl)
theorem dJ25_canEncode_1 : decode cJ25_canEncode 1 = .ok (.sipush 255, 3) := dk_17 0 255 (dk_at dksJ25_canEncode_0 1 rfl rfl)
theorem dJ25_canEncode_4 : decode cJ25_canEncode 4 = .ok (.if_icmp .gt 7, 3) := dk_163 0 7 (dk_at dksJ25_canEncode_0 4 rfl rfl)
theorem dJ25_canEncode_7 : decode cJ25_canEncode 7 = .ok (.iconst 1, 1) := dk_4 (dk_at dksJ25_canEncode_0 7 rfl rfl)
theorem dJ25_canEncode_8 : decode cJ25_canEncode 8 = .ok (.goto 4, 3) := dk_167 0 4 (dk_at dksJ25_canEncode_0 8 rfl rfl)
theorem dJ25_canEncode_11 : decode cJ25_canEncode 11 = .ok (.iconst 0, 1) := dk_3 (dk_at dksJ25_canEncode_0 11 rfl rfl)
theorem dJ25_canEncode_12 : decode cJ25_canEncode 12 = .ok (.ireturn, 1) := dk_172 (dk_at dksJ25_canEncode_0 12 rfl rfl)
abbrev cJ7_append_3 : ByteArray := prog_20_method_31_code
def yJ7_append_3 : MethodName := ⟨RJ7, "append", "(C)Ljava/lang/AbstractStringBuilder;"⟩
def dkwJ7_append_3_3 : List UInt8 := [181, 0, 79, 27, 184, 0, 197, 42, 176]
abbrev dktJ7_append_3_3 : List UInt8 := dkwJ7_append_3_3 ++ []
def dkwJ7_append_3_2 : List UInt8 := [182, 0, 83, 153, 0, 7, 42, 182, 0, 195, 42, 180, 0, 15, 42, 89, 180, 0, 79, 90, 4, 96]
abbrev dktJ7_append_3_2 : List UInt8 := dkwJ7_append_3_2 ++ dktJ7_append_3_3
def dkwJ7_append_3_1 : List UInt8 := [42, 180, 0, 15, 42, 89, 180, 0, 79, 90, 4, 96, 181, 0, 79, 27, 145, 84, 167, 0, 33, 42]
abbrev dktJ7_append_3_1 : List UInt8 := dkwJ7_append_3_1 ++ dktJ7_append_3_2
def dkwJ7_append_3_0 : List UInt8 := [42, 42, 180, 0, 79, 4, 96, 182, 0, 100, 42, 182, 0, 83, 153, 0, 31, 27, 184, 0, 191, 153, 0, 24]
abbrev dktJ7_append_3_0 : List UInt8 := dkwJ7_append_3_0 ++ dktJ7_append_3_1
theorem dksJ7_append_3_0 : cJ7_append_3.data.toList.drop 0 = dktJ7_append_3_0 := by decide +kernel
theorem dksJ7_append_3_1 : cJ7_append_3.data.toList.drop 24 = dktJ7_append_3_1 := dk_seg dksJ7_append_3_0 24 rfl rfl
theorem dksJ7_append_3_2 : cJ7_append_3.data.toList.drop 46 = dktJ7_append_3_2 := dk_seg dksJ7_append_3_1 22 rfl rfl
theorem dksJ7_append_3_3 : cJ7_append_3.data.toList.drop 68 = dktJ7_append_3_3 := dk_seg dksJ7_append_3_2 22 rfl rfl
theorem dJ7_append_3_0 : decode cJ7_append_3 0 = .ok (.aload_n 0, 1) := dk_42 (dk_at dksJ7_append_3_0 0 rfl rfl)
theorem dJ7_append_3_1 : decode cJ7_append_3 1 = .ok (.aload_n 0, 1) := dk_42 (dk_at dksJ7_append_3_0 1 rfl rfl)
theorem dJ7_append_3_2 : decode cJ7_append_3 2 = .ok (.getfield 79, 3) := dk_180 0 79 (dk_at dksJ7_append_3_0 2 rfl rfl)
theorem dJ7_append_3_5 : decode cJ7_append_3 5 = .ok (.iconst 1, 1) := dk_4 (dk_at dksJ7_append_3_0 5 rfl rfl)
theorem dJ7_append_3_6 : decode cJ7_append_3 6 = .ok (.iadd, 1) := dk_96 (dk_at dksJ7_append_3_0 6 rfl rfl)
theorem dJ7_append_3_7 : decode cJ7_append_3 7 = .ok (.invokevirtual 100, 3) := dk_182 0 100 (dk_at dksJ7_append_3_0 7 rfl rfl)
theorem dJ7_append_3_10 : decode cJ7_append_3 10 = .ok (.aload_n 0, 1) := dk_42 (dk_at dksJ7_append_3_0 10 rfl rfl)
theorem dJ7_append_3_11 : decode cJ7_append_3 11 = .ok (.invokevirtual 83, 3) := dk_182 0 83 (dk_at dksJ7_append_3_0 11 rfl rfl)
theorem dJ7_append_3_14 : decode cJ7_append_3 14 = .ok (.ifCond .eq 31, 3) := dk_153 0 31 (dk_at dksJ7_append_3_0 14 rfl rfl)
theorem dJ7_append_3_17 : decode cJ7_append_3 17 = .ok (.iload_n 1, 1) := dk_27 (dk_at dksJ7_append_3_0 17 rfl rfl)
theorem dJ7_append_3_18 : decode cJ7_append_3 18 = .ok (.invokestatic 191, 3) := dk_184 0 191 (dk_at dksJ7_append_3_0 18 rfl rfl)
theorem dJ7_append_3_21 : decode cJ7_append_3 21 = .ok (.ifCond .eq 24, 3) := dk_153 0 24 (dk_at dksJ7_append_3_0 21 rfl rfl)
theorem dJ7_append_3_24 : decode cJ7_append_3 24 = .ok (.aload_n 0, 1) := dk_42 (dk_at dksJ7_append_3_1 0 rfl rfl)
theorem dJ7_append_3_25 : decode cJ7_append_3 25 = .ok (.getfield 15, 3) := dk_180 0 15 (dk_at dksJ7_append_3_1 1 rfl rfl)
theorem dJ7_append_3_28 : decode cJ7_append_3 28 = .ok (.aload_n 0, 1) := dk_42 (dk_at dksJ7_append_3_1 4 rfl rfl)
theorem dJ7_append_3_29 : decode cJ7_append_3 29 = .ok (.dup, 1) := dk_89 (dk_at dksJ7_append_3_1 5 rfl rfl)
theorem dJ7_append_3_30 : decode cJ7_append_3 30 = .ok (.getfield 79, 3) := dk_180 0 79 (dk_at dksJ7_append_3_1 6 rfl rfl)
theorem dJ7_append_3_33 : decode cJ7_append_3 33 = .ok (.dup_x1, 1) := dk_90 (dk_at dksJ7_append_3_1 9 rfl rfl)
theorem dJ7_append_3_34 : decode cJ7_append_3 34 = .ok (.iconst 1, 1) := dk_4 (dk_at dksJ7_append_3_1 10 rfl rfl)
theorem dJ7_append_3_35 : decode cJ7_append_3 35 = .ok (.iadd, 1) := dk_96 (dk_at dksJ7_append_3_1 11 rfl rfl)
theorem dJ7_append_3_36 : decode cJ7_append_3 36 = .ok (.putfield 79, 3) := dk_181 0 79 (dk_at dksJ7_append_3_1 12 rfl rfl)
theorem dJ7_append_3_39 : decode cJ7_append_3 39 = .ok (.iload_n 1, 1) := dk_27 (dk_at dksJ7_append_3_1 15 rfl rfl)
theorem dJ7_append_3_40 : decode cJ7_append_3 40 = .ok (.i2b, 1) := dk_145 (dk_at dksJ7_append_3_1 16 rfl rfl)
theorem dJ7_append_3_41 : decode cJ7_append_3 41 = .ok (.bastore, 1) := dk_84 (dk_at dksJ7_append_3_1 17 rfl rfl)
theorem dJ7_append_3_42 : decode cJ7_append_3 42 = .ok (.goto 33, 3) := dk_167 0 33 (dk_at dksJ7_append_3_1 18 rfl rfl)
theorem dJ7_append_3_45 : decode cJ7_append_3 45 = .ok (.aload_n 0, 1) := dk_42 (dk_at dksJ7_append_3_1 21 rfl rfl)
theorem dJ7_append_3_46 : decode cJ7_append_3 46 = .ok (.invokevirtual 83, 3) := dk_182 0 83 (dk_at dksJ7_append_3_2 0 rfl rfl)
theorem dJ7_append_3_49 : decode cJ7_append_3 49 = .ok (.ifCond .eq 7, 3) := dk_153 0 7 (dk_at dksJ7_append_3_2 3 rfl rfl)
theorem dJ7_append_3_52 : decode cJ7_append_3 52 = .ok (.aload_n 0, 1) := dk_42 (dk_at dksJ7_append_3_2 6 rfl rfl)
theorem dJ7_append_3_53 : decode cJ7_append_3 53 = .ok (.invokevirtual 195, 3) := dk_182 0 195 (dk_at dksJ7_append_3_2 7 rfl rfl)
theorem dJ7_append_3_56 : decode cJ7_append_3 56 = .ok (.aload_n 0, 1) := dk_42 (dk_at dksJ7_append_3_2 10 rfl rfl)
theorem dJ7_append_3_57 : decode cJ7_append_3 57 = .ok (.getfield 15, 3) := dk_180 0 15 (dk_at dksJ7_append_3_2 11 rfl rfl)
theorem dJ7_append_3_60 : decode cJ7_append_3 60 = .ok (.aload_n 0, 1) := dk_42 (dk_at dksJ7_append_3_2 14 rfl rfl)
theorem dJ7_append_3_61 : decode cJ7_append_3 61 = .ok (.dup, 1) := dk_89 (dk_at dksJ7_append_3_2 15 rfl rfl)
theorem dJ7_append_3_62 : decode cJ7_append_3 62 = .ok (.getfield 79, 3) := dk_180 0 79 (dk_at dksJ7_append_3_2 16 rfl rfl)
theorem dJ7_append_3_65 : decode cJ7_append_3 65 = .ok (.dup_x1, 1) := dk_90 (dk_at dksJ7_append_3_2 19 rfl rfl)
theorem dJ7_append_3_66 : decode cJ7_append_3 66 = .ok (.iconst 1, 1) := dk_4 (dk_at dksJ7_append_3_2 20 rfl rfl)
theorem dJ7_append_3_67 : decode cJ7_append_3 67 = .ok (.iadd, 1) := dk_96 (dk_at dksJ7_append_3_2 21 rfl rfl)
theorem dJ7_append_3_68 : decode cJ7_append_3 68 = .ok (.putfield 79, 3) := dk_181 0 79 (dk_at dksJ7_append_3_3 0 rfl rfl)
theorem dJ7_append_3_71 : decode cJ7_append_3 71 = .ok (.iload_n 1, 1) := dk_27 (dk_at dksJ7_append_3_3 3 rfl rfl)
theorem dJ7_append_3_72 : decode cJ7_append_3 72 = .ok (.invokestatic 197, 3) := dk_184 0 197 (dk_at dksJ7_append_3_3 4 rfl rfl)
theorem dJ7_append_3_75 : decode cJ7_append_3 75 = .ok (.aload_n 0, 1) := dk_42 (dk_at dksJ7_append_3_3 7 rfl rfl)
theorem dJ7_append_3_76 : decode cJ7_append_3 76 = .ok (.areturn, 1) := dk_176 (dk_at dksJ7_append_3_3 8 rfl rfl)
abbrev cJ8_append_3 : ByteArray := prog_39_method_14_code
def yJ8_append_3 : MethodName := ⟨RJ8, "append", "(C)Ljava/lang/StringBuilder;"⟩
def dkwJ8_append_3_0 : List UInt8 := [42, 27, 183, 0, 50, 87, 42, 176]
abbrev dktJ8_append_3_0 : List UInt8 := dkwJ8_append_3_0 ++ []
theorem dksJ8_append_3_0 : cJ8_append_3.data.toList.drop 0 = dktJ8_append_3_0 := by decide +kernel
theorem dJ8_append_3_0 : decode cJ8_append_3 0 = .ok (.aload_n 0, 1) := dk_42 (dk_at dksJ8_append_3_0 0 rfl rfl)
theorem dJ8_append_3_1 : decode cJ8_append_3 1 = .ok (.iload_n 1, 1) := dk_27 (dk_at dksJ8_append_3_0 1 rfl rfl)
theorem dJ8_append_3_2 : decode cJ8_append_3 2 = .ok (.invokespecial 50, 3) := dk_183 0 50 (dk_at dksJ8_append_3_0 2 rfl rfl)
theorem dJ8_append_3_5 : decode cJ8_append_3 5 = .ok (.pop, 1) := dk_87 (dk_at dksJ8_append_3_0 5 rfl rfl)
theorem dJ8_append_3_6 : decode cJ8_append_3 6 = .ok (.aload_n 0, 1) := dk_42 (dk_at dksJ8_append_3_0 6 rfl rfl)
theorem dJ8_append_3_7 : decode cJ8_append_3 7 = .ok (.areturn, 1) := dk_176 (dk_at dksJ8_append_3_0 7 rfl rfl)
abbrev cJ37_equals : ByteArray := prog_85_method_2_code
def yJ37_equals : MethodName := ⟨RJ37, "equals", "(Ljava/lang/Object;Ljava/lang/Object;)Z"⟩
def dkwJ37_equals_0 : List UInt8 := [42, 43, 165, 0, 15, 42, 198, 0, 15, 42, 43, 182, 0, 14, 153, 0, 7, 4, 167, 0, 4, 3, 172]
abbrev dktJ37_equals_0 : List UInt8 := dkwJ37_equals_0 ++ []
theorem dksJ37_equals_0 : cJ37_equals.data.toList.drop 0 = dktJ37_equals_0 := by decide +kernel
theorem dJ37_equals_0 : decode cJ37_equals 0 = .ok (.aload_n 0, 1) := dk_42 (dk_at dksJ37_equals_0 0 rfl rfl)
theorem dJ37_equals_1 : decode cJ37_equals 1 = .ok (.aload_n 1, 1) := dk_43 (dk_at dksJ37_equals_0 1 rfl rfl)
theorem dJ37_equals_2 : decode cJ37_equals 2 = .ok (.if_acmp .eq 15, 3) := dk_165 0 15 (dk_at dksJ37_equals_0 2 rfl rfl)
theorem dJ37_equals_5 : decode cJ37_equals 5 = .ok (.aload_n 0, 1) := dk_42 (dk_at dksJ37_equals_0 5 rfl rfl)
theorem dJ37_equals_6 : decode cJ37_equals 6 = .ok (.ifnull 15, 3) := dk_198 0 15 (dk_at dksJ37_equals_0 6 rfl rfl)
theorem dJ37_equals_9 : decode cJ37_equals 9 = .ok (.aload_n 0, 1) := dk_42 (dk_at dksJ37_equals_0 9 rfl rfl)
theorem dJ37_equals_10 : decode cJ37_equals 10 = .ok (.aload_n 1, 1) := dk_43 (dk_at dksJ37_equals_0 10 rfl rfl)
theorem dJ37_equals_11 : decode cJ37_equals 11 = .ok (.invokevirtual 14, 3) := dk_182 0 14 (dk_at dksJ37_equals_0 11 rfl rfl)
theorem dJ37_equals_14 : decode cJ37_equals 14 = .ok (.ifCond .eq 7, 3) := dk_153 0 7 (dk_at dksJ37_equals_0 14 rfl rfl)
theorem dJ37_equals_17 : decode cJ37_equals 17 = .ok (.iconst 1, 1) := dk_4 (dk_at dksJ37_equals_0 17 rfl rfl)
theorem dJ37_equals_18 : decode cJ37_equals 18 = .ok (.goto 4, 3) := dk_167 0 4 (dk_at dksJ37_equals_0 18 rfl rfl)
theorem dJ37_equals_21 : decode cJ37_equals 21 = .ok (.iconst 0, 1) := dk_3 (dk_at dksJ37_equals_0 21 rfl rfl)
theorem dJ37_equals_22 : decode cJ37_equals 22 = .ok (.ireturn, 1) := dk_172 (dk_at dksJ37_equals_0 22 rfl rfl)
abbrev cJ58_indexOf : ByteArray := prog_73_method_9_code
def yJ58_indexOf : MethodName := ⟨RJ58, "indexOf", "(Ljava/lang/Object;)I"⟩
def dkwJ58_indexOf_2 : List UInt8 := [167, 255, 235, 2, 172]
abbrev dktJ58_indexOf_2 : List UInt8 := dkwJ58_indexOf_2 ++ []
def dkwJ58_indexOf_1 : List UInt8 := [3, 62, 29, 44, 190, 162, 0, 21, 43, 44, 29, 50, 184, 0, 53, 153, 0, 5, 29, 172, 132, 3, 1]
abbrev dktJ58_indexOf_1 : List UInt8 := dkwJ58_indexOf_1 ++ dktJ58_indexOf_2
def dkwJ58_indexOf_0 : List UInt8 := [42, 180, 0, 13, 154, 0, 15, 43, 199, 0, 11, 187, 0, 50, 89, 183, 0, 52, 191, 42, 180, 0, 7, 77]
abbrev dktJ58_indexOf_0 : List UInt8 := dkwJ58_indexOf_0 ++ dktJ58_indexOf_1
theorem dksJ58_indexOf_0 : cJ58_indexOf.data.toList.drop 0 = dktJ58_indexOf_0 := by decide +kernel
theorem dksJ58_indexOf_1 : cJ58_indexOf.data.toList.drop 24 = dktJ58_indexOf_1 := dk_seg dksJ58_indexOf_0 24 rfl rfl
theorem dksJ58_indexOf_2 : cJ58_indexOf.data.toList.drop 47 = dktJ58_indexOf_2 := dk_seg dksJ58_indexOf_1 23 rfl rfl
theorem dJ58_indexOf_0 : decode cJ58_indexOf 0 = .ok (.aload_n 0, 1) := dk_42 (dk_at dksJ58_indexOf_0 0 rfl rfl)
theorem dJ58_indexOf_1 : decode cJ58_indexOf 1 = .ok (.getfield 13, 3) := dk_180 0 13 (dk_at dksJ58_indexOf_0 1 rfl rfl)
theorem dJ58_indexOf_4 : decode cJ58_indexOf 4 = .ok (.ifCond .ne 15, 3) := dk_154 0 15 (dk_at dksJ58_indexOf_0 4 rfl rfl)
theorem dJ58_indexOf_7 : decode cJ58_indexOf 7 = .ok (.aload_n 1, 1) := dk_43 (dk_at dksJ58_indexOf_0 7 rfl rfl)
theorem dJ58_indexOf_8 : decode cJ58_indexOf 8 = .ok (.ifnonnull 11, 3) := dk_199 0 11 (dk_at dksJ58_indexOf_0 8 rfl rfl)
theorem dJ58_indexOf_11 : decode cJ58_indexOf 11 = .ok (.new 50, 3) := dk_187 0 50 (dk_at dksJ58_indexOf_0 11 rfl rfl)
theorem dJ58_indexOf_19 : decode cJ58_indexOf 19 = .ok (.aload_n 0, 1) := dk_42 (dk_at dksJ58_indexOf_0 19 rfl rfl)
theorem dJ58_indexOf_20 : decode cJ58_indexOf 20 = .ok (.getfield 7, 3) := dk_180 0 7 (dk_at dksJ58_indexOf_0 20 rfl rfl)
theorem dJ58_indexOf_23 : decode cJ58_indexOf 23 = .ok (.astore_n 2, 1) := dk_77 (dk_at dksJ58_indexOf_0 23 rfl rfl)
theorem dJ58_indexOf_24 : decode cJ58_indexOf 24 = .ok (.iconst 0, 1) := dk_3 (dk_at dksJ58_indexOf_1 0 rfl rfl)
theorem dJ58_indexOf_25 : decode cJ58_indexOf 25 = .ok (.istore_n 3, 1) := dk_62 (dk_at dksJ58_indexOf_1 1 rfl rfl)
theorem dJ58_indexOf_26 : decode cJ58_indexOf 26 = .ok (.iload_n 3, 1) := dk_29 (dk_at dksJ58_indexOf_1 2 rfl rfl)
theorem dJ58_indexOf_27 : decode cJ58_indexOf 27 = .ok (.aload_n 2, 1) := dk_44 (dk_at dksJ58_indexOf_1 3 rfl rfl)
theorem dJ58_indexOf_28 : decode cJ58_indexOf 28 = .ok (.arraylength, 1) := dk_190 (dk_at dksJ58_indexOf_1 4 rfl rfl)
theorem dJ58_indexOf_29 : decode cJ58_indexOf 29 = .ok (.if_icmp .ge 21, 3) := dk_162 0 21 (dk_at dksJ58_indexOf_1 5 rfl rfl)
theorem dJ58_indexOf_32 : decode cJ58_indexOf 32 = .ok (.aload_n 1, 1) := dk_43 (dk_at dksJ58_indexOf_1 8 rfl rfl)
theorem dJ58_indexOf_33 : decode cJ58_indexOf 33 = .ok (.aload_n 2, 1) := dk_44 (dk_at dksJ58_indexOf_1 9 rfl rfl)
theorem dJ58_indexOf_34 : decode cJ58_indexOf 34 = .ok (.iload_n 3, 1) := dk_29 (dk_at dksJ58_indexOf_1 10 rfl rfl)
theorem dJ58_indexOf_35 : decode cJ58_indexOf 35 = .ok (.aaload, 1) := dk_50 (dk_at dksJ58_indexOf_1 11 rfl rfl)
theorem dJ58_indexOf_36 : decode cJ58_indexOf 36 = .ok (.invokestatic 53, 3) := dk_184 0 53 (dk_at dksJ58_indexOf_1 12 rfl rfl)
theorem dJ58_indexOf_39 : decode cJ58_indexOf 39 = .ok (.ifCond .eq 5, 3) := dk_153 0 5 (dk_at dksJ58_indexOf_1 15 rfl rfl)
theorem dJ58_indexOf_42 : decode cJ58_indexOf 42 = .ok (.iload_n 3, 1) := dk_29 (dk_at dksJ58_indexOf_1 18 rfl rfl)
theorem dJ58_indexOf_43 : decode cJ58_indexOf 43 = .ok (.ireturn, 1) := dk_172 (dk_at dksJ58_indexOf_1 19 rfl rfl)
theorem dJ58_indexOf_44 : decode cJ58_indexOf 44 = .ok (.iinc 3 1, 3) := dk_132 3 1 (dk_at dksJ58_indexOf_1 20 rfl rfl)
theorem dJ58_indexOf_47 : decode cJ58_indexOf 47 = .ok (.goto (-21), 3) := dk_167 255 235 (dk_at dksJ58_indexOf_2 0 rfl rfl)
theorem dJ58_indexOf_50 : decode cJ58_indexOf 50 = .ok (.iconst (-1), 1) := dk_2 (dk_at dksJ58_indexOf_2 3 rfl rfl)
theorem dJ58_indexOf_51 : decode cJ58_indexOf 51 = .ok (.ireturn, 1) := dk_172 (dk_at dksJ58_indexOf_2 4 rfl rfl)
abbrev cJ56_contains : ByteArray := prog_70_method_15_code
def yJ56_contains : MethodName := ⟨RJ56, "contains", "(Ljava/lang/Object;)Z"⟩
def dkwJ56_contains_0 : List UInt8 := [42, 43, 182, 0, 107, 155, 0, 7, 4, 167, 0, 4, 3, 172]
abbrev dktJ56_contains_0 : List UInt8 := dkwJ56_contains_0 ++ []
theorem dksJ56_contains_0 : cJ56_contains.data.toList.drop 0 = dktJ56_contains_0 := by decide +kernel
theorem dJ56_contains_0 : decode cJ56_contains 0 = .ok (.aload_n 0, 1) := dk_42 (dk_at dksJ56_contains_0 0 rfl rfl)
theorem dJ56_contains_1 : decode cJ56_contains 1 = .ok (.aload_n 1, 1) := dk_43 (dk_at dksJ56_contains_0 1 rfl rfl)
theorem dJ56_contains_2 : decode cJ56_contains 2 = .ok (.invokevirtual 107, 3) := dk_182 0 107 (dk_at dksJ56_contains_0 2 rfl rfl)
theorem dJ56_contains_5 : decode cJ56_contains 5 = .ok (.ifCond .lt 7, 3) := dk_155 0 7 (dk_at dksJ56_contains_0 5 rfl rfl)
theorem dJ56_contains_8 : decode cJ56_contains 8 = .ok (.iconst 1, 1) := dk_4 (dk_at dksJ56_contains_0 8 rfl rfl)
theorem dJ56_contains_9 : decode cJ56_contains 9 = .ok (.goto 4, 3) := dk_167 0 4 (dk_at dksJ56_contains_0 9 rfl rfl)
theorem dJ56_contains_12 : decode cJ56_contains 12 = .ok (.iconst 0, 1) := dk_3 (dk_at dksJ56_contains_0 12 rfl rfl)
theorem dJ56_contains_13 : decode cJ56_contains 13 = .ok (.ireturn, 1) := dk_172 (dk_at dksJ56_contains_0 13 rfl rfl)
abbrev cX15_word : ByteArray := prog_13_method_11_code
def yX15_word : MethodName := ⟨RX15, "word", "()Ljava/lang/String;"⟩
def dkwX15_word_3 : List UInt8 := [185, 0, 113, 2, 0, 182, 0, 64, 43, 182, 0, 109, 176]
abbrev dktX15_word_3 : List UInt8 := dkwX15_word_3 ++ []
def dkwX15_word_2 : List UInt8 := [180, 0, 41, 4, 96, 181, 0, 41, 167, 255, 210, 42, 42, 180, 0, 31, 43, 182, 0, 109]
abbrev dktX15_word_2 : List UInt8 := dkwX15_word_2 ++ dktX15_word_3
def dkwX15_word_1 : List UInt8 := [163, 0, 34, 43, 42, 182, 0, 60, 182, 0, 101, 87, 42, 42, 43, 182, 0, 105, 182, 0, 64, 42, 89]
abbrev dktX15_word_1 : List UInt8 := dkwX15_word_1 ++ dktX15_word_2
def dkwX15_word_0 : List UInt8 := [187, 0, 80, 89, 183, 0, 100, 76, 42, 182, 0, 60, 16, 97, 161, 0, 43, 42, 182, 0, 60, 16, 122]
abbrev dktX15_word_0 : List UInt8 := dkwX15_word_0 ++ dktX15_word_1
theorem dksX15_word_0 : cX15_word.data.toList.drop 0 = dktX15_word_0 := by decide +kernel
theorem dksX15_word_1 : cX15_word.data.toList.drop 23 = dktX15_word_1 := dk_seg dksX15_word_0 23 rfl rfl
theorem dksX15_word_2 : cX15_word.data.toList.drop 46 = dktX15_word_2 := dk_seg dksX15_word_1 23 rfl rfl
theorem dksX15_word_3 : cX15_word.data.toList.drop 66 = dktX15_word_3 := dk_seg dksX15_word_2 20 rfl rfl
theorem dX15_word_0 : decode cX15_word 0 = .ok (.new 80, 3) := dk_187 0 80 (dk_at dksX15_word_0 0 rfl rfl)
theorem dX15_word_3 : decode cX15_word 3 = .ok (.dup, 1) := dk_89 (dk_at dksX15_word_0 3 rfl rfl)
theorem dX15_word_4 : decode cX15_word 4 = .ok (.invokespecial 100, 3) := dk_183 0 100 (dk_at dksX15_word_0 4 rfl rfl)
theorem dX15_word_7 : decode cX15_word 7 = .ok (.astore_n 1, 1) := dk_76 (dk_at dksX15_word_0 7 rfl rfl)
theorem dX15_word_8 : decode cX15_word 8 = .ok (.aload_n 0, 1) := dk_42 (dk_at dksX15_word_0 8 rfl rfl)
theorem dX15_word_9 : decode cX15_word 9 = .ok (.invokevirtual 60, 3) := dk_182 0 60 (dk_at dksX15_word_0 9 rfl rfl)
theorem dX15_word_12 : decode cX15_word 12 = .ok (.bipush 97, 2) := dk_16 97 (dk_at dksX15_word_0 12 rfl rfl)
theorem dX15_word_14 : decode cX15_word 14 = .ok (.if_icmp .lt 43, 3) := dk_161 0 43 (dk_at dksX15_word_0 14 rfl rfl)
theorem dX15_word_17 : decode cX15_word 17 = .ok (.aload_n 0, 1) := dk_42 (dk_at dksX15_word_0 17 rfl rfl)
theorem dX15_word_18 : decode cX15_word 18 = .ok (.invokevirtual 60, 3) := dk_182 0 60 (dk_at dksX15_word_0 18 rfl rfl)
theorem dX15_word_21 : decode cX15_word 21 = .ok (.bipush 122, 2) := dk_16 122 (dk_at dksX15_word_0 21 rfl rfl)
theorem dX15_word_23 : decode cX15_word 23 = .ok (.if_icmp .gt 34, 3) := dk_163 0 34 (dk_at dksX15_word_1 0 rfl rfl)
theorem dX15_word_26 : decode cX15_word 26 = .ok (.aload_n 1, 1) := dk_43 (dk_at dksX15_word_1 3 rfl rfl)
theorem dX15_word_27 : decode cX15_word 27 = .ok (.aload_n 0, 1) := dk_42 (dk_at dksX15_word_1 4 rfl rfl)
theorem dX15_word_28 : decode cX15_word 28 = .ok (.invokevirtual 60, 3) := dk_182 0 60 (dk_at dksX15_word_1 5 rfl rfl)
theorem dX15_word_31 : decode cX15_word 31 = .ok (.invokevirtual 101, 3) := dk_182 0 101 (dk_at dksX15_word_1 8 rfl rfl)
theorem dX15_word_34 : decode cX15_word 34 = .ok (.pop, 1) := dk_87 (dk_at dksX15_word_1 11 rfl rfl)
theorem dX15_word_35 : decode cX15_word 35 = .ok (.aload_n 0, 1) := dk_42 (dk_at dksX15_word_1 12 rfl rfl)
theorem dX15_word_36 : decode cX15_word 36 = .ok (.aload_n 0, 1) := dk_42 (dk_at dksX15_word_1 13 rfl rfl)
theorem dX15_word_37 : decode cX15_word 37 = .ok (.aload_n 1, 1) := dk_43 (dk_at dksX15_word_1 14 rfl rfl)
theorem dX15_word_38 : decode cX15_word 38 = .ok (.invokevirtual 105, 3) := dk_182 0 105 (dk_at dksX15_word_1 15 rfl rfl)
theorem dX15_word_41 : decode cX15_word 41 = .ok (.invokevirtual 64, 3) := dk_182 0 64 (dk_at dksX15_word_1 18 rfl rfl)
theorem dX15_word_44 : decode cX15_word 44 = .ok (.aload_n 0, 1) := dk_42 (dk_at dksX15_word_1 21 rfl rfl)
theorem dX15_word_45 : decode cX15_word 45 = .ok (.dup, 1) := dk_89 (dk_at dksX15_word_1 22 rfl rfl)
theorem dX15_word_46 : decode cX15_word 46 = .ok (.getfield 41, 3) := dk_180 0 41 (dk_at dksX15_word_2 0 rfl rfl)
theorem dX15_word_49 : decode cX15_word 49 = .ok (.iconst 1, 1) := dk_4 (dk_at dksX15_word_2 3 rfl rfl)
theorem dX15_word_50 : decode cX15_word 50 = .ok (.iadd, 1) := dk_96 (dk_at dksX15_word_2 4 rfl rfl)
theorem dX15_word_51 : decode cX15_word 51 = .ok (.putfield 41, 3) := dk_181 0 41 (dk_at dksX15_word_2 5 rfl rfl)
theorem dX15_word_54 : decode cX15_word 54 = .ok (.goto (-46), 3) := dk_167 255 210 (dk_at dksX15_word_2 8 rfl rfl)
theorem dX15_word_57 : decode cX15_word 57 = .ok (.aload_n 0, 1) := dk_42 (dk_at dksX15_word_2 11 rfl rfl)
theorem dX15_word_58 : decode cX15_word 58 = .ok (.aload_n 0, 1) := dk_42 (dk_at dksX15_word_2 12 rfl rfl)
theorem dX15_word_59 : decode cX15_word 59 = .ok (.getfield 31, 3) := dk_180 0 31 (dk_at dksX15_word_2 13 rfl rfl)
theorem dX15_word_62 : decode cX15_word 62 = .ok (.aload_n 1, 1) := dk_43 (dk_at dksX15_word_2 16 rfl rfl)
theorem dX15_word_63 : decode cX15_word 63 = .ok (.invokevirtual 109, 3) := dk_182 0 109 (dk_at dksX15_word_2 17 rfl rfl)
theorem dX15_word_66 : decode cX15_word 66 = .ok (.invokeinterface 113 2, 5) := by decide +kernel
theorem dX15_word_71 : decode cX15_word 71 = .ok (.invokevirtual 64, 3) := dk_182 0 64 (dk_at dksX15_word_3 5 rfl rfl)
theorem dX15_word_74 : decode cX15_word 74 = .ok (.aload_n 1, 1) := dk_43 (dk_at dksX15_word_3 8 rfl rfl)
theorem dX15_word_75 : decode cX15_word 75 = .ok (.invokevirtual 109, 3) := dk_182 0 109 (dk_at dksX15_word_3 9 rfl rfl)
theorem dX15_word_78 : decode cX15_word 78 = .ok (.areturn, 1) := dk_176 (dk_at dksX15_word_3 12 rfl rfl)
abbrev cX15_command : ByteArray := prog_13_method_12_code
def yX15_command : MethodName := ⟨RX15, "command", "()LLionGate$Command;"⟩
def dkwX15_command_14 : List UInt8 := [16, 32, 182, 0, 126, 79, 183, 0, 135, 176, 187, 0, 133, 89, 43, 3, 188, 10, 183, 0, 135, 176]
abbrev dktX15_command_14 : List UInt8 := dkwX15_command_14 ++ []
def dkwX15_command_13 : List UInt8 := [188, 10, 89, 3, 42, 182, 0, 130, 79, 183, 0, 135, 176, 187, 0, 133, 89, 43, 4, 188, 10, 89, 3, 42]
abbrev dktX15_command_13 : List UInt8 := dkwX15_command_13 ++ dktX15_command_14
def dkwX15_command_12 : List UInt8 := [89, 3, 21, 7, 79, 89, 4, 42, 16, 45, 182, 0, 126, 79, 183, 0, 135, 176, 187, 0, 133, 89, 43, 4]
abbrev dktX15_command_12 : List UInt8 := dkwX15_command_12 ++ dktX15_command_13
def dkwX15_command_11 : List UInt8 := [182, 0, 126, 79, 183, 0, 135, 176, 42, 16, 32, 182, 0, 126, 54, 7, 187, 0, 133, 89, 43, 5, 188, 10]
abbrev dktX15_command_11 : List UInt8 := dkwX15_command_11 ++ dktX15_command_12
def dkwX15_command_10 : List UInt8 := [182, 0, 126, 54, 6, 187, 0, 133, 89, 43, 5, 188, 10, 89, 3, 21, 6, 79, 89, 4, 42, 16, 32]
abbrev dktX15_command_10 : List UInt8 := dkwX15_command_10 ++ dktX15_command_11
def dkwX15_command_9 : List UInt8 := [21, 4, 79, 89, 4, 21, 5, 79, 89, 5, 42, 16, 32, 182, 0, 126, 79, 183, 0, 135, 176, 42, 16, 32]
abbrev dktX15_command_9 : List UInt8 := dkwX15_command_9 ++ dktX15_command_10
def dkwX15_command_8 : List UInt8 := [42, 16, 32, 182, 0, 126, 54, 4, 42, 182, 0, 130, 54, 5, 187, 0, 133, 89, 43, 6, 188, 10, 89, 3]
abbrev dktX15_command_8 : List UInt8 := dkwX15_command_8 ++ dktX15_command_9
def dkwX15_command_7 : List UInt8 := [170, 0, 0, 0, 0, 0, 196, 0, 0, 0, 0, 0, 0, 0, 6, 0, 0, 0, 43, 0, 0, 0, 88, 0, 0, 0, 88, 0, 0, 0, 122, 0, 0, 0, 156, 0, 0, 0, 175, 0, 0, 0, 175]
abbrev dktX15_command_7 : List UInt8 := dkwX15_command_7 ++ dktX15_command_8
def dkwX15_command_6 : List UInt8 := [62, 29]
abbrev dktX15_command_6 : List UInt8 := dkwX15_command_6 ++ dktX15_command_7
def dkwX15_command_5 : List UInt8 := [18, 13, 182, 0, 123, 153, 0, 20, 8, 62, 167, 0, 15, 44, 18, 23, 182, 0, 123, 153, 0, 6, 16, 6]
abbrev dktX15_command_5 : List UInt8 := dkwX15_command_5 ++ dktX15_command_6
def dkwX15_command_4 : List UInt8 := [153, 0, 48, 6, 62, 167, 0, 43, 44, 18, 21, 182, 0, 123, 153, 0, 34, 7, 62, 167, 0, 29, 44]
abbrev dktX15_command_4 : List UInt8 := dkwX15_command_4 ++ dktX15_command_5
def dkwX15_command_3 : List UInt8 := [62, 167, 0, 71, 44, 18, 11, 182, 0, 123, 153, 0, 62, 5, 62, 167, 0, 57, 44, 18, 19, 182, 0, 123]
abbrev dktX15_command_3 : List UInt8 := dkwX15_command_3 ++ dktX15_command_4
def dkwX15_command_2 : List UInt8 := [44, 18, 7, 182, 0, 123, 153, 0, 90, 3, 62, 167, 0, 85, 44, 18, 9, 182, 0, 123, 153, 0, 76, 4]
abbrev dktX15_command_2 : List UInt8 := dkwX15_command_2 ++ dktX15_command_3
def dkwX15_command_1 : List UInt8 := [171, 0, 0, 0, 0, 0, 163, 0, 0, 0, 7, 188, 85, 106, 242, 0, 0, 0, 109, 0, 50, 176, 28, 0, 0, 0, 67, 0, 53, 127, 46, 0, 0, 0, 81, 0, 55, 145, 117, 0, 0, 0, 151, 0, 56, 123, 223, 0, 0, 0, 95, 6, 33, 78, 183, 0, 0, 0, 137, 99, 163, 178, 138, 0, 0, 0, 123]
abbrev dktX15_command_1 : List UInt8 := dkwX15_command_1 ++ dktX15_command_2
def dkwX15_command_0 : List UInt8 := [42, 182, 0, 117, 76, 43, 77, 2, 62, 44, 182, 0, 120]
abbrev dktX15_command_0 : List UInt8 := dkwX15_command_0 ++ dktX15_command_1
theorem dksX15_command_0 : cX15_command.data.toList.drop 0 = dktX15_command_0 := by decide +kernel
theorem dksX15_command_1 : cX15_command.data.toList.drop 13 = dktX15_command_1 := dk_seg dksX15_command_0 13 rfl rfl
theorem dksX15_command_2 : cX15_command.data.toList.drop 80 = dktX15_command_2 := dk_seg dksX15_command_1 67 rfl rfl
theorem dksX15_command_3 : cX15_command.data.toList.drop 104 = dktX15_command_3 := dk_seg dksX15_command_2 24 rfl rfl
theorem dksX15_command_4 : cX15_command.data.toList.drop 128 = dktX15_command_4 := dk_seg dksX15_command_3 24 rfl rfl
theorem dksX15_command_5 : cX15_command.data.toList.drop 151 = dktX15_command_5 := dk_seg dksX15_command_4 23 rfl rfl
theorem dksX15_command_6 : cX15_command.data.toList.drop 175 = dktX15_command_6 := dk_seg dksX15_command_5 24 rfl rfl
theorem dksX15_command_7 : cX15_command.data.toList.drop 177 = dktX15_command_7 := dk_seg dksX15_command_6 2 rfl rfl
theorem dksX15_command_8 : cX15_command.data.toList.drop 220 = dktX15_command_8 := dk_seg dksX15_command_7 43 rfl rfl
theorem dksX15_command_9 : cX15_command.data.toList.drop 244 = dktX15_command_9 := dk_seg dksX15_command_8 24 rfl rfl
theorem dksX15_command_10 : cX15_command.data.toList.drop 268 = dktX15_command_10 := dk_seg dksX15_command_9 24 rfl rfl
theorem dksX15_command_11 : cX15_command.data.toList.drop 291 = dktX15_command_11 := dk_seg dksX15_command_10 23 rfl rfl
theorem dksX15_command_12 : cX15_command.data.toList.drop 315 = dktX15_command_12 := dk_seg dksX15_command_11 24 rfl rfl
theorem dksX15_command_13 : cX15_command.data.toList.drop 339 = dktX15_command_13 := dk_seg dksX15_command_12 24 rfl rfl
theorem dksX15_command_14 : cX15_command.data.toList.drop 363 = dktX15_command_14 := dk_seg dksX15_command_13 24 rfl rfl
theorem dX15_command_0 : decode cX15_command 0 = .ok (.aload_n 0, 1) := dk_42 (dk_at dksX15_command_0 0 rfl rfl)
theorem dX15_command_1 : decode cX15_command 1 = .ok (.invokevirtual 117, 3) := dk_182 0 117 (dk_at dksX15_command_0 1 rfl rfl)
theorem dX15_command_4 : decode cX15_command 4 = .ok (.astore_n 1, 1) := dk_76 (dk_at dksX15_command_0 4 rfl rfl)
theorem dX15_command_5 : decode cX15_command 5 = .ok (.aload_n 1, 1) := dk_43 (dk_at dksX15_command_0 5 rfl rfl)
theorem dX15_command_6 : decode cX15_command 6 = .ok (.astore_n 2, 1) := dk_77 (dk_at dksX15_command_0 6 rfl rfl)
theorem dX15_command_7 : decode cX15_command 7 = .ok (.iconst (-1), 1) := dk_2 (dk_at dksX15_command_0 7 rfl rfl)
theorem dX15_command_8 : decode cX15_command 8 = .ok (.istore_n 3, 1) := dk_62 (dk_at dksX15_command_0 8 rfl rfl)
theorem dX15_command_9 : decode cX15_command 9 = .ok (.aload_n 2, 1) := dk_44 (dk_at dksX15_command_0 9 rfl rfl)
theorem dX15_command_10 : decode cX15_command 10 = .ok (.invokevirtual 120, 3) := dk_182 0 120 (dk_at dksX15_command_0 10 rfl rfl)
theorem dX15_command_13 : decode cX15_command 13 = .ok (.lookupswitch 163 #[(-1135252750, 109), (3321884, 67), (3505966, 81), (3641717, 151), (3701727, 95), (102846135, 137), (1671672458, 123)], 67) := by decide +kernel
theorem dX15_command_80 : decode cX15_command 80 = .ok (.aload_n 2, 1) := dk_44 (dk_at dksX15_command_2 0 rfl rfl)
theorem dX15_command_81 : decode cX15_command 81 = .ok (.ldc 7, 2) := dk_18 7 (dk_at dksX15_command_2 1 rfl rfl)
theorem dX15_command_83 : decode cX15_command 83 = .ok (.invokevirtual 123, 3) := dk_182 0 123 (dk_at dksX15_command_2 3 rfl rfl)
theorem dX15_command_86 : decode cX15_command 86 = .ok (.ifCond .eq 90, 3) := dk_153 0 90 (dk_at dksX15_command_2 6 rfl rfl)
theorem dX15_command_89 : decode cX15_command 89 = .ok (.iconst 0, 1) := dk_3 (dk_at dksX15_command_2 9 rfl rfl)
theorem dX15_command_90 : decode cX15_command 90 = .ok (.istore_n 3, 1) := dk_62 (dk_at dksX15_command_2 10 rfl rfl)
theorem dX15_command_91 : decode cX15_command 91 = .ok (.goto 85, 3) := dk_167 0 85 (dk_at dksX15_command_2 11 rfl rfl)
theorem dX15_command_94 : decode cX15_command 94 = .ok (.aload_n 2, 1) := dk_44 (dk_at dksX15_command_2 14 rfl rfl)
theorem dX15_command_95 : decode cX15_command 95 = .ok (.ldc 9, 2) := dk_18 9 (dk_at dksX15_command_2 15 rfl rfl)
theorem dX15_command_97 : decode cX15_command 97 = .ok (.invokevirtual 123, 3) := dk_182 0 123 (dk_at dksX15_command_2 17 rfl rfl)
theorem dX15_command_100 : decode cX15_command 100 = .ok (.ifCond .eq 76, 3) := dk_153 0 76 (dk_at dksX15_command_2 20 rfl rfl)
theorem dX15_command_103 : decode cX15_command 103 = .ok (.iconst 1, 1) := dk_4 (dk_at dksX15_command_2 23 rfl rfl)
theorem dX15_command_104 : decode cX15_command 104 = .ok (.istore_n 3, 1) := dk_62 (dk_at dksX15_command_3 0 rfl rfl)
theorem dX15_command_105 : decode cX15_command 105 = .ok (.goto 71, 3) := dk_167 0 71 (dk_at dksX15_command_3 1 rfl rfl)
theorem dX15_command_108 : decode cX15_command 108 = .ok (.aload_n 2, 1) := dk_44 (dk_at dksX15_command_3 4 rfl rfl)
theorem dX15_command_109 : decode cX15_command 109 = .ok (.ldc 11, 2) := dk_18 11 (dk_at dksX15_command_3 5 rfl rfl)
theorem dX15_command_111 : decode cX15_command 111 = .ok (.invokevirtual 123, 3) := dk_182 0 123 (dk_at dksX15_command_3 7 rfl rfl)
theorem dX15_command_114 : decode cX15_command 114 = .ok (.ifCond .eq 62, 3) := dk_153 0 62 (dk_at dksX15_command_3 10 rfl rfl)
theorem dX15_command_117 : decode cX15_command 117 = .ok (.iconst 2, 1) := dk_5 (dk_at dksX15_command_3 13 rfl rfl)
theorem dX15_command_118 : decode cX15_command 118 = .ok (.istore_n 3, 1) := dk_62 (dk_at dksX15_command_3 14 rfl rfl)
theorem dX15_command_119 : decode cX15_command 119 = .ok (.goto 57, 3) := dk_167 0 57 (dk_at dksX15_command_3 15 rfl rfl)
theorem dX15_command_122 : decode cX15_command 122 = .ok (.aload_n 2, 1) := dk_44 (dk_at dksX15_command_3 18 rfl rfl)
theorem dX15_command_123 : decode cX15_command 123 = .ok (.ldc 19, 2) := dk_18 19 (dk_at dksX15_command_3 19 rfl rfl)
theorem dX15_command_125 : decode cX15_command 125 = .ok (.invokevirtual 123, 3) := dk_182 0 123 (dk_at dksX15_command_3 21 rfl rfl)
theorem dX15_command_128 : decode cX15_command 128 = .ok (.ifCond .eq 48, 3) := dk_153 0 48 (dk_at dksX15_command_4 0 rfl rfl)
theorem dX15_command_131 : decode cX15_command 131 = .ok (.iconst 3, 1) := dk_6 (dk_at dksX15_command_4 3 rfl rfl)
theorem dX15_command_132 : decode cX15_command 132 = .ok (.istore_n 3, 1) := dk_62 (dk_at dksX15_command_4 4 rfl rfl)
theorem dX15_command_133 : decode cX15_command 133 = .ok (.goto 43, 3) := dk_167 0 43 (dk_at dksX15_command_4 5 rfl rfl)
theorem dX15_command_136 : decode cX15_command 136 = .ok (.aload_n 2, 1) := dk_44 (dk_at dksX15_command_4 8 rfl rfl)
theorem dX15_command_137 : decode cX15_command 137 = .ok (.ldc 21, 2) := dk_18 21 (dk_at dksX15_command_4 9 rfl rfl)
theorem dX15_command_139 : decode cX15_command 139 = .ok (.invokevirtual 123, 3) := dk_182 0 123 (dk_at dksX15_command_4 11 rfl rfl)
theorem dX15_command_142 : decode cX15_command 142 = .ok (.ifCond .eq 34, 3) := dk_153 0 34 (dk_at dksX15_command_4 14 rfl rfl)
theorem dX15_command_145 : decode cX15_command 145 = .ok (.iconst 4, 1) := dk_7 (dk_at dksX15_command_4 17 rfl rfl)
theorem dX15_command_146 : decode cX15_command 146 = .ok (.istore_n 3, 1) := dk_62 (dk_at dksX15_command_4 18 rfl rfl)
theorem dX15_command_147 : decode cX15_command 147 = .ok (.goto 29, 3) := dk_167 0 29 (dk_at dksX15_command_4 19 rfl rfl)
theorem dX15_command_150 : decode cX15_command 150 = .ok (.aload_n 2, 1) := dk_44 (dk_at dksX15_command_4 22 rfl rfl)
theorem dX15_command_151 : decode cX15_command 151 = .ok (.ldc 13, 2) := dk_18 13 (dk_at dksX15_command_5 0 rfl rfl)
theorem dX15_command_153 : decode cX15_command 153 = .ok (.invokevirtual 123, 3) := dk_182 0 123 (dk_at dksX15_command_5 2 rfl rfl)
theorem dX15_command_156 : decode cX15_command 156 = .ok (.ifCond .eq 20, 3) := dk_153 0 20 (dk_at dksX15_command_5 5 rfl rfl)
theorem dX15_command_159 : decode cX15_command 159 = .ok (.iconst 5, 1) := dk_8 (dk_at dksX15_command_5 8 rfl rfl)
theorem dX15_command_160 : decode cX15_command 160 = .ok (.istore_n 3, 1) := dk_62 (dk_at dksX15_command_5 9 rfl rfl)
theorem dX15_command_161 : decode cX15_command 161 = .ok (.goto 15, 3) := dk_167 0 15 (dk_at dksX15_command_5 10 rfl rfl)
theorem dX15_command_164 : decode cX15_command 164 = .ok (.aload_n 2, 1) := dk_44 (dk_at dksX15_command_5 13 rfl rfl)
theorem dX15_command_165 : decode cX15_command 165 = .ok (.ldc 23, 2) := dk_18 23 (dk_at dksX15_command_5 14 rfl rfl)
theorem dX15_command_167 : decode cX15_command 167 = .ok (.invokevirtual 123, 3) := dk_182 0 123 (dk_at dksX15_command_5 16 rfl rfl)
theorem dX15_command_170 : decode cX15_command 170 = .ok (.ifCond .eq 6, 3) := dk_153 0 6 (dk_at dksX15_command_5 19 rfl rfl)
theorem dX15_command_173 : decode cX15_command 173 = .ok (.bipush 6, 2) := dk_16 6 (dk_at dksX15_command_5 22 rfl rfl)
theorem dX15_command_175 : decode cX15_command 175 = .ok (.istore_n 3, 1) := dk_62 (dk_at dksX15_command_6 0 rfl rfl)
theorem dX15_command_176 : decode cX15_command 176 = .ok (.iload_n 3, 1) := dk_29 (dk_at dksX15_command_6 1 rfl rfl)
theorem dX15_command_177 : decode cX15_command 177 = .ok (.tableswitch 196 0 6 #[43, 88, 88, 122, 156, 175, 175], 43) := by decide +kernel
theorem dX15_command_220 : decode cX15_command 220 = .ok (.aload_n 0, 1) := dk_42 (dk_at dksX15_command_8 0 rfl rfl)
theorem dX15_command_221 : decode cX15_command 221 = .ok (.bipush 32, 2) := dk_16 32 (dk_at dksX15_command_8 1 rfl rfl)
theorem dX15_command_223 : decode cX15_command 223 = .ok (.invokevirtual 126, 3) := dk_182 0 126 (dk_at dksX15_command_8 3 rfl rfl)
theorem dX15_command_226 : decode cX15_command 226 = .ok (.istore 4, 2) := dk_54 4 (dk_at dksX15_command_8 6 rfl rfl)
theorem dX15_command_228 : decode cX15_command 228 = .ok (.aload_n 0, 1) := dk_42 (dk_at dksX15_command_8 8 rfl rfl)
theorem dX15_command_229 : decode cX15_command 229 = .ok (.invokevirtual 130, 3) := dk_182 0 130 (dk_at dksX15_command_8 9 rfl rfl)
theorem dX15_command_232 : decode cX15_command 232 = .ok (.istore 5, 2) := dk_54 5 (dk_at dksX15_command_8 12 rfl rfl)
theorem dX15_command_234 : decode cX15_command 234 = .ok (.new 133, 3) := dk_187 0 133 (dk_at dksX15_command_8 14 rfl rfl)
theorem dX15_command_237 : decode cX15_command 237 = .ok (.dup, 1) := dk_89 (dk_at dksX15_command_8 17 rfl rfl)
theorem dX15_command_238 : decode cX15_command 238 = .ok (.aload_n 1, 1) := dk_43 (dk_at dksX15_command_8 18 rfl rfl)
theorem dX15_command_239 : decode cX15_command 239 = .ok (.iconst 3, 1) := dk_6 (dk_at dksX15_command_8 19 rfl rfl)
theorem dX15_command_240 : decode cX15_command 240 = .ok (.newarray .int, 2) := dk_188_10 (dk_at dksX15_command_8 20 rfl rfl)
theorem dX15_command_242 : decode cX15_command 242 = .ok (.dup, 1) := dk_89 (dk_at dksX15_command_8 22 rfl rfl)
theorem dX15_command_243 : decode cX15_command 243 = .ok (.iconst 0, 1) := dk_3 (dk_at dksX15_command_8 23 rfl rfl)
theorem dX15_command_244 : decode cX15_command 244 = .ok (.iload 4, 2) := dk_21 4 (dk_at dksX15_command_9 0 rfl rfl)
theorem dX15_command_246 : decode cX15_command 246 = .ok (.iastore, 1) := dk_79 (dk_at dksX15_command_9 2 rfl rfl)
theorem dX15_command_247 : decode cX15_command 247 = .ok (.dup, 1) := dk_89 (dk_at dksX15_command_9 3 rfl rfl)
theorem dX15_command_248 : decode cX15_command 248 = .ok (.iconst 1, 1) := dk_4 (dk_at dksX15_command_9 4 rfl rfl)
theorem dX15_command_249 : decode cX15_command 249 = .ok (.iload 5, 2) := dk_21 5 (dk_at dksX15_command_9 5 rfl rfl)
theorem dX15_command_251 : decode cX15_command 251 = .ok (.iastore, 1) := dk_79 (dk_at dksX15_command_9 7 rfl rfl)
theorem dX15_command_252 : decode cX15_command 252 = .ok (.dup, 1) := dk_89 (dk_at dksX15_command_9 8 rfl rfl)
theorem dX15_command_253 : decode cX15_command 253 = .ok (.iconst 2, 1) := dk_5 (dk_at dksX15_command_9 9 rfl rfl)
theorem dX15_command_254 : decode cX15_command 254 = .ok (.aload_n 0, 1) := dk_42 (dk_at dksX15_command_9 10 rfl rfl)
theorem dX15_command_255 : decode cX15_command 255 = .ok (.bipush 32, 2) := dk_16 32 (dk_at dksX15_command_9 11 rfl rfl)
theorem dX15_command_257 : decode cX15_command 257 = .ok (.invokevirtual 126, 3) := dk_182 0 126 (dk_at dksX15_command_9 13 rfl rfl)
theorem dX15_command_260 : decode cX15_command 260 = .ok (.iastore, 1) := dk_79 (dk_at dksX15_command_9 16 rfl rfl)
theorem dX15_command_261 : decode cX15_command 261 = .ok (.invokespecial 135, 3) := dk_183 0 135 (dk_at dksX15_command_9 17 rfl rfl)
theorem dX15_command_264 : decode cX15_command 264 = .ok (.areturn, 1) := dk_176 (dk_at dksX15_command_9 20 rfl rfl)
theorem dX15_command_265 : decode cX15_command 265 = .ok (.aload_n 0, 1) := dk_42 (dk_at dksX15_command_9 21 rfl rfl)
theorem dX15_command_266 : decode cX15_command 266 = .ok (.bipush 32, 2) := dk_16 32 (dk_at dksX15_command_9 22 rfl rfl)
theorem dX15_command_268 : decode cX15_command 268 = .ok (.invokevirtual 126, 3) := dk_182 0 126 (dk_at dksX15_command_10 0 rfl rfl)
theorem dX15_command_271 : decode cX15_command 271 = .ok (.istore 6, 2) := dk_54 6 (dk_at dksX15_command_10 3 rfl rfl)
theorem dX15_command_273 : decode cX15_command 273 = .ok (.new 133, 3) := dk_187 0 133 (dk_at dksX15_command_10 5 rfl rfl)
theorem dX15_command_276 : decode cX15_command 276 = .ok (.dup, 1) := dk_89 (dk_at dksX15_command_10 8 rfl rfl)
theorem dX15_command_277 : decode cX15_command 277 = .ok (.aload_n 1, 1) := dk_43 (dk_at dksX15_command_10 9 rfl rfl)
theorem dX15_command_278 : decode cX15_command 278 = .ok (.iconst 2, 1) := dk_5 (dk_at dksX15_command_10 10 rfl rfl)
theorem dX15_command_279 : decode cX15_command 279 = .ok (.newarray .int, 2) := dk_188_10 (dk_at dksX15_command_10 11 rfl rfl)
theorem dX15_command_281 : decode cX15_command 281 = .ok (.dup, 1) := dk_89 (dk_at dksX15_command_10 13 rfl rfl)
theorem dX15_command_282 : decode cX15_command 282 = .ok (.iconst 0, 1) := dk_3 (dk_at dksX15_command_10 14 rfl rfl)
theorem dX15_command_283 : decode cX15_command 283 = .ok (.iload 6, 2) := dk_21 6 (dk_at dksX15_command_10 15 rfl rfl)
theorem dX15_command_285 : decode cX15_command 285 = .ok (.iastore, 1) := dk_79 (dk_at dksX15_command_10 17 rfl rfl)
theorem dX15_command_286 : decode cX15_command 286 = .ok (.dup, 1) := dk_89 (dk_at dksX15_command_10 18 rfl rfl)
theorem dX15_command_287 : decode cX15_command 287 = .ok (.iconst 1, 1) := dk_4 (dk_at dksX15_command_10 19 rfl rfl)
theorem dX15_command_288 : decode cX15_command 288 = .ok (.aload_n 0, 1) := dk_42 (dk_at dksX15_command_10 20 rfl rfl)
theorem dX15_command_289 : decode cX15_command 289 = .ok (.bipush 32, 2) := dk_16 32 (dk_at dksX15_command_10 21 rfl rfl)
theorem dX15_command_291 : decode cX15_command 291 = .ok (.invokevirtual 126, 3) := dk_182 0 126 (dk_at dksX15_command_11 0 rfl rfl)
theorem dX15_command_294 : decode cX15_command 294 = .ok (.iastore, 1) := dk_79 (dk_at dksX15_command_11 3 rfl rfl)
theorem dX15_command_295 : decode cX15_command 295 = .ok (.invokespecial 135, 3) := dk_183 0 135 (dk_at dksX15_command_11 4 rfl rfl)
theorem dX15_command_298 : decode cX15_command 298 = .ok (.areturn, 1) := dk_176 (dk_at dksX15_command_11 7 rfl rfl)
theorem dX15_command_299 : decode cX15_command 299 = .ok (.aload_n 0, 1) := dk_42 (dk_at dksX15_command_11 8 rfl rfl)
theorem dX15_command_300 : decode cX15_command 300 = .ok (.bipush 32, 2) := dk_16 32 (dk_at dksX15_command_11 9 rfl rfl)
theorem dX15_command_302 : decode cX15_command 302 = .ok (.invokevirtual 126, 3) := dk_182 0 126 (dk_at dksX15_command_11 11 rfl rfl)
theorem dX15_command_305 : decode cX15_command 305 = .ok (.istore 7, 2) := dk_54 7 (dk_at dksX15_command_11 14 rfl rfl)
theorem dX15_command_307 : decode cX15_command 307 = .ok (.new 133, 3) := dk_187 0 133 (dk_at dksX15_command_11 16 rfl rfl)
theorem dX15_command_310 : decode cX15_command 310 = .ok (.dup, 1) := dk_89 (dk_at dksX15_command_11 19 rfl rfl)
theorem dX15_command_311 : decode cX15_command 311 = .ok (.aload_n 1, 1) := dk_43 (dk_at dksX15_command_11 20 rfl rfl)
theorem dX15_command_312 : decode cX15_command 312 = .ok (.iconst 2, 1) := dk_5 (dk_at dksX15_command_11 21 rfl rfl)
theorem dX15_command_313 : decode cX15_command 313 = .ok (.newarray .int, 2) := dk_188_10 (dk_at dksX15_command_11 22 rfl rfl)
theorem dX15_command_315 : decode cX15_command 315 = .ok (.dup, 1) := dk_89 (dk_at dksX15_command_12 0 rfl rfl)
theorem dX15_command_316 : decode cX15_command 316 = .ok (.iconst 0, 1) := dk_3 (dk_at dksX15_command_12 1 rfl rfl)
theorem dX15_command_317 : decode cX15_command 317 = .ok (.iload 7, 2) := dk_21 7 (dk_at dksX15_command_12 2 rfl rfl)
theorem dX15_command_319 : decode cX15_command 319 = .ok (.iastore, 1) := dk_79 (dk_at dksX15_command_12 4 rfl rfl)
theorem dX15_command_320 : decode cX15_command 320 = .ok (.dup, 1) := dk_89 (dk_at dksX15_command_12 5 rfl rfl)
theorem dX15_command_321 : decode cX15_command 321 = .ok (.iconst 1, 1) := dk_4 (dk_at dksX15_command_12 6 rfl rfl)
theorem dX15_command_322 : decode cX15_command 322 = .ok (.aload_n 0, 1) := dk_42 (dk_at dksX15_command_12 7 rfl rfl)
theorem dX15_command_323 : decode cX15_command 323 = .ok (.bipush 45, 2) := dk_16 45 (dk_at dksX15_command_12 8 rfl rfl)
theorem dX15_command_325 : decode cX15_command 325 = .ok (.invokevirtual 126, 3) := dk_182 0 126 (dk_at dksX15_command_12 10 rfl rfl)
theorem dX15_command_328 : decode cX15_command 328 = .ok (.iastore, 1) := dk_79 (dk_at dksX15_command_12 13 rfl rfl)
theorem dX15_command_329 : decode cX15_command 329 = .ok (.invokespecial 135, 3) := dk_183 0 135 (dk_at dksX15_command_12 14 rfl rfl)
theorem dX15_command_332 : decode cX15_command 332 = .ok (.areturn, 1) := dk_176 (dk_at dksX15_command_12 17 rfl rfl)
theorem dX15_command_333 : decode cX15_command 333 = .ok (.new 133, 3) := dk_187 0 133 (dk_at dksX15_command_12 18 rfl rfl)
theorem dX15_command_336 : decode cX15_command 336 = .ok (.dup, 1) := dk_89 (dk_at dksX15_command_12 21 rfl rfl)
theorem dX15_command_337 : decode cX15_command 337 = .ok (.aload_n 1, 1) := dk_43 (dk_at dksX15_command_12 22 rfl rfl)
theorem dX15_command_338 : decode cX15_command 338 = .ok (.iconst 1, 1) := dk_4 (dk_at dksX15_command_12 23 rfl rfl)
theorem dX15_command_339 : decode cX15_command 339 = .ok (.newarray .int, 2) := dk_188_10 (dk_at dksX15_command_13 0 rfl rfl)
theorem dX15_command_341 : decode cX15_command 341 = .ok (.dup, 1) := dk_89 (dk_at dksX15_command_13 2 rfl rfl)
theorem dX15_command_342 : decode cX15_command 342 = .ok (.iconst 0, 1) := dk_3 (dk_at dksX15_command_13 3 rfl rfl)
theorem dX15_command_343 : decode cX15_command 343 = .ok (.aload_n 0, 1) := dk_42 (dk_at dksX15_command_13 4 rfl rfl)
theorem dX15_command_344 : decode cX15_command 344 = .ok (.invokevirtual 130, 3) := dk_182 0 130 (dk_at dksX15_command_13 5 rfl rfl)
theorem dX15_command_347 : decode cX15_command 347 = .ok (.iastore, 1) := dk_79 (dk_at dksX15_command_13 8 rfl rfl)
theorem dX15_command_348 : decode cX15_command 348 = .ok (.invokespecial 135, 3) := dk_183 0 135 (dk_at dksX15_command_13 9 rfl rfl)
theorem dX15_command_351 : decode cX15_command 351 = .ok (.areturn, 1) := dk_176 (dk_at dksX15_command_13 12 rfl rfl)
theorem dX15_command_352 : decode cX15_command 352 = .ok (.new 133, 3) := dk_187 0 133 (dk_at dksX15_command_13 13 rfl rfl)
theorem dX15_command_355 : decode cX15_command 355 = .ok (.dup, 1) := dk_89 (dk_at dksX15_command_13 16 rfl rfl)
theorem dX15_command_356 : decode cX15_command 356 = .ok (.aload_n 1, 1) := dk_43 (dk_at dksX15_command_13 17 rfl rfl)
theorem dX15_command_357 : decode cX15_command 357 = .ok (.iconst 1, 1) := dk_4 (dk_at dksX15_command_13 18 rfl rfl)
theorem dX15_command_358 : decode cX15_command 358 = .ok (.newarray .int, 2) := dk_188_10 (dk_at dksX15_command_13 19 rfl rfl)
theorem dX15_command_360 : decode cX15_command 360 = .ok (.dup, 1) := dk_89 (dk_at dksX15_command_13 21 rfl rfl)
theorem dX15_command_361 : decode cX15_command 361 = .ok (.iconst 0, 1) := dk_3 (dk_at dksX15_command_13 22 rfl rfl)
theorem dX15_command_362 : decode cX15_command 362 = .ok (.aload_n 0, 1) := dk_42 (dk_at dksX15_command_13 23 rfl rfl)
theorem dX15_command_363 : decode cX15_command 363 = .ok (.bipush 32, 2) := dk_16 32 (dk_at dksX15_command_14 0 rfl rfl)
theorem dX15_command_365 : decode cX15_command 365 = .ok (.invokevirtual 126, 3) := dk_182 0 126 (dk_at dksX15_command_14 2 rfl rfl)
theorem dX15_command_368 : decode cX15_command 368 = .ok (.iastore, 1) := dk_79 (dk_at dksX15_command_14 5 rfl rfl)
theorem dX15_command_369 : decode cX15_command 369 = .ok (.invokespecial 135, 3) := dk_183 0 135 (dk_at dksX15_command_14 6 rfl rfl)
theorem dX15_command_372 : decode cX15_command 372 = .ok (.areturn, 1) := dk_176 (dk_at dksX15_command_14 9 rfl rfl)
theorem dX15_command_373 : decode cX15_command 373 = .ok (.new 133, 3) := dk_187 0 133 (dk_at dksX15_command_14 10 rfl rfl)
theorem dX15_command_376 : decode cX15_command 376 = .ok (.dup, 1) := dk_89 (dk_at dksX15_command_14 13 rfl rfl)
theorem dX15_command_377 : decode cX15_command 377 = .ok (.aload_n 1, 1) := dk_43 (dk_at dksX15_command_14 14 rfl rfl)
theorem dX15_command_378 : decode cX15_command 378 = .ok (.iconst 0, 1) := dk_3 (dk_at dksX15_command_14 15 rfl rfl)
theorem dX15_command_379 : decode cX15_command 379 = .ok (.newarray .int, 2) := dk_188_10 (dk_at dksX15_command_14 16 rfl rfl)
theorem dX15_command_381 : decode cX15_command 381 = .ok (.invokespecial 135, 3) := dk_183 0 135 (dk_at dksX15_command_14 18 rfl rfl)
theorem dX15_command_384 : decode cX15_command 384 = .ok (.areturn, 1) := dk_176 (dk_at dksX15_command_14 21 rfl rfl)
abbrev cX15_commands : ByteArray := prog_13_method_13_code
def yX15_commands : MethodName := ⟨RX15, "commands", "()Ljava/util/List;"⟩
def dkwX15_commands_2 : List UInt8 := [185, 0, 145, 2, 0, 87, 167, 255, 225, 43, 176]
abbrev dktX15_commands_2 : List UInt8 := dkwX15_commands_2 ++ []
def dkwX15_commands_1 : List UInt8 := [180, 0, 37, 182, 0, 45, 162, 0, 23, 42, 16, 59, 182, 0, 72, 43, 42, 182, 0, 141]
abbrev dktX15_commands_1 : List UInt8 := dkwX15_commands_1 ++ dktX15_commands_2
def dkwX15_commands_0 : List UInt8 := [187, 0, 138, 89, 183, 0, 140, 76, 43, 42, 182, 0, 141, 185, 0, 145, 2, 0, 87, 42, 180, 0, 41, 42]
abbrev dktX15_commands_0 : List UInt8 := dkwX15_commands_0 ++ dktX15_commands_1
theorem dksX15_commands_0 : cX15_commands.data.toList.drop 0 = dktX15_commands_0 := by decide +kernel
theorem dksX15_commands_1 : cX15_commands.data.toList.drop 24 = dktX15_commands_1 := dk_seg dksX15_commands_0 24 rfl rfl
theorem dksX15_commands_2 : cX15_commands.data.toList.drop 44 = dktX15_commands_2 := dk_seg dksX15_commands_1 20 rfl rfl
theorem dX15_commands_0 : decode cX15_commands 0 = .ok (.new 138, 3) := dk_187 0 138 (dk_at dksX15_commands_0 0 rfl rfl)
theorem dX15_commands_3 : decode cX15_commands 3 = .ok (.dup, 1) := dk_89 (dk_at dksX15_commands_0 3 rfl rfl)
theorem dX15_commands_4 : decode cX15_commands 4 = .ok (.invokespecial 140, 3) := dk_183 0 140 (dk_at dksX15_commands_0 4 rfl rfl)
theorem dX15_commands_7 : decode cX15_commands 7 = .ok (.astore_n 1, 1) := dk_76 (dk_at dksX15_commands_0 7 rfl rfl)
theorem dX15_commands_8 : decode cX15_commands 8 = .ok (.aload_n 1, 1) := dk_43 (dk_at dksX15_commands_0 8 rfl rfl)
theorem dX15_commands_9 : decode cX15_commands 9 = .ok (.aload_n 0, 1) := dk_42 (dk_at dksX15_commands_0 9 rfl rfl)
theorem dX15_commands_10 : decode cX15_commands 10 = .ok (.invokevirtual 141, 3) := dk_182 0 141 (dk_at dksX15_commands_0 10 rfl rfl)
theorem dX15_commands_13 : decode cX15_commands 13 = .ok (.invokeinterface 145 2, 5) := by decide +kernel
theorem dX15_commands_18 : decode cX15_commands 18 = .ok (.pop, 1) := dk_87 (dk_at dksX15_commands_0 18 rfl rfl)
theorem dX15_commands_19 : decode cX15_commands 19 = .ok (.aload_n 0, 1) := dk_42 (dk_at dksX15_commands_0 19 rfl rfl)
theorem dX15_commands_20 : decode cX15_commands 20 = .ok (.getfield 41, 3) := dk_180 0 41 (dk_at dksX15_commands_0 20 rfl rfl)
theorem dX15_commands_23 : decode cX15_commands 23 = .ok (.aload_n 0, 1) := dk_42 (dk_at dksX15_commands_0 23 rfl rfl)
theorem dX15_commands_24 : decode cX15_commands 24 = .ok (.getfield 37, 3) := dk_180 0 37 (dk_at dksX15_commands_1 0 rfl rfl)
theorem dX15_commands_27 : decode cX15_commands 27 = .ok (.invokevirtual 45, 3) := dk_182 0 45 (dk_at dksX15_commands_1 3 rfl rfl)
theorem dX15_commands_30 : decode cX15_commands 30 = .ok (.if_icmp .ge 23, 3) := dk_162 0 23 (dk_at dksX15_commands_1 6 rfl rfl)
theorem dX15_commands_33 : decode cX15_commands 33 = .ok (.aload_n 0, 1) := dk_42 (dk_at dksX15_commands_1 9 rfl rfl)
theorem dX15_commands_34 : decode cX15_commands 34 = .ok (.bipush 59, 2) := dk_16 59 (dk_at dksX15_commands_1 10 rfl rfl)
theorem dX15_commands_36 : decode cX15_commands 36 = .ok (.invokevirtual 72, 3) := dk_182 0 72 (dk_at dksX15_commands_1 12 rfl rfl)
theorem dX15_commands_39 : decode cX15_commands 39 = .ok (.aload_n 1, 1) := dk_43 (dk_at dksX15_commands_1 15 rfl rfl)
theorem dX15_commands_40 : decode cX15_commands 40 = .ok (.aload_n 0, 1) := dk_42 (dk_at dksX15_commands_1 16 rfl rfl)
theorem dX15_commands_41 : decode cX15_commands 41 = .ok (.invokevirtual 141, 3) := dk_182 0 141 (dk_at dksX15_commands_1 17 rfl rfl)
theorem dX15_commands_44 : decode cX15_commands 44 = .ok (.invokeinterface 145 2, 5) := by decide +kernel
theorem dX15_commands_49 : decode cX15_commands 49 = .ok (.pop, 1) := dk_87 (dk_at dksX15_commands_2 5 rfl rfl)
theorem dX15_commands_50 : decode cX15_commands 50 = .ok (.goto (-31), 3) := dk_167 255 225 (dk_at dksX15_commands_2 6 rfl rfl)
theorem dX15_commands_53 : decode cX15_commands 53 = .ok (.aload_n 1, 1) := dk_43 (dk_at dksX15_commands_2 9 rfl rfl)
theorem dX15_commands_54 : decode cX15_commands 54 = .ok (.areturn, 1) := dk_176 (dk_at dksX15_commands_2 10 rfl rfl)
abbrev cX16_asPublicException : ByteArray := prog_15_method_3_code
def yX16_asPublicException : MethodName := ⟨RX16, "asPublicException", "()Ljava/lang/RuntimeException;"⟩
def dkwX16_asPublicException_0 : List UInt8 := [187, 0, 13, 89, 183, 0, 15, 176]
abbrev dktX16_asPublicException_0 : List UInt8 := dkwX16_asPublicException_0 ++ []
theorem dksX16_asPublicException_0 : cX16_asPublicException.data.toList.drop 0 = dktX16_asPublicException_0 := by decide +kernel
theorem dX16_asPublicException_0 : decode cX16_asPublicException 0 = .ok (.new 13, 3) := dk_187 0 13 (dk_at dksX16_asPublicException_0 0 rfl rfl)
theorem dX16_asPublicException_3 : decode cX16_asPublicException 3 = .ok (.dup, 1) := dk_89 (dk_at dksX16_asPublicException_0 3 rfl rfl)
theorem dX16_asPublicException_4 : decode cX16_asPublicException 4 = .ok (.invokespecial 15, 3) := dk_183 0 15 (dk_at dksX16_asPublicException_0 4 rfl rfl)
theorem dX16_asPublicException_7 : decode cX16_asPublicException 7 = .ok (.areturn, 1) := dk_176 (dk_at dksX16_asPublicException_0 7 rfl rfl)
abbrev cJ23_rangeCheck : ByteArray := prog_62_method_30_code
def yJ23_rangeCheck : MethodName := ⟨RJ23, "rangeCheck", "(III)V"⟩
def dkwJ23_rangeCheck_3 : List UInt8 := [183, 0, 70, 191, 177]
abbrev dktJ23_rangeCheck_3 : List UInt8 := dkwJ23_rangeCheck_3 ++ []
def dkwJ23_rangeCheck_2 : List UInt8 := [27, 156, 0, 12, 187, 0, 68, 89, 27, 183, 0, 70, 191, 28, 26, 164, 0, 12, 187, 0, 68, 89, 28]
abbrev dktJ23_rangeCheck_2 : List UInt8 := dkwJ23_rangeCheck_2 ++ dktJ23_rangeCheck_3
def dkwJ23_rangeCheck_1 : List UInt8 := [182, 0, 54, 18, 57, 182, 0, 50, 28, 182, 0, 54, 18, 59, 182, 0, 50, 182, 0, 61, 183, 0, 65, 191]
abbrev dktJ23_rangeCheck_1 : List UInt8 := dkwJ23_rangeCheck_1 ++ dktJ23_rangeCheck_2
def dkwJ23_rangeCheck_0 : List UInt8 := [27, 28, 164, 0, 44, 187, 0, 43, 89, 187, 0, 45, 89, 183, 0, 47, 18, 48, 182, 0, 50, 27]
abbrev dktJ23_rangeCheck_0 : List UInt8 := dkwJ23_rangeCheck_0 ++ dktJ23_rangeCheck_1
theorem dksJ23_rangeCheck_0 : cJ23_rangeCheck.data.toList.drop 0 = dktJ23_rangeCheck_0 := by decide +kernel
theorem dksJ23_rangeCheck_1 : cJ23_rangeCheck.data.toList.drop 22 = dktJ23_rangeCheck_1 := dk_seg dksJ23_rangeCheck_0 22 rfl rfl
theorem dksJ23_rangeCheck_2 : cJ23_rangeCheck.data.toList.drop 46 = dktJ23_rangeCheck_2 := dk_seg dksJ23_rangeCheck_1 24 rfl rfl
theorem dksJ23_rangeCheck_3 : cJ23_rangeCheck.data.toList.drop 69 = dktJ23_rangeCheck_3 := dk_seg dksJ23_rangeCheck_2 23 rfl rfl
theorem dJ23_rangeCheck_0 : decode cJ23_rangeCheck 0 = .ok (.iload_n 1, 1) := dk_27 (dk_at dksJ23_rangeCheck_0 0 rfl rfl)
theorem dJ23_rangeCheck_1 : decode cJ23_rangeCheck 1 = .ok (.iload_n 2, 1) := dk_28 (dk_at dksJ23_rangeCheck_0 1 rfl rfl)
theorem dJ23_rangeCheck_2 : decode cJ23_rangeCheck 2 = .ok (.if_icmp .le 44, 3) := dk_164 0 44 (dk_at dksJ23_rangeCheck_0 2 rfl rfl)
theorem dJ23_rangeCheck_5 : decode cJ23_rangeCheck 5 = .ok (.new 43, 3) := dk_187 0 43 (dk_at dksJ23_rangeCheck_0 5 rfl rfl)
theorem dJ23_rangeCheck_46 : decode cJ23_rangeCheck 46 = .ok (.iload_n 1, 1) := dk_27 (dk_at dksJ23_rangeCheck_2 0 rfl rfl)
theorem dJ23_rangeCheck_47 : decode cJ23_rangeCheck 47 = .ok (.ifCond .ge 12, 3) := dk_156 0 12 (dk_at dksJ23_rangeCheck_2 1 rfl rfl)
theorem dJ23_rangeCheck_50 : decode cJ23_rangeCheck 50 = .ok (.new 68, 3) := dk_187 0 68 (dk_at dksJ23_rangeCheck_2 4 rfl rfl)
theorem dJ23_rangeCheck_59 : decode cJ23_rangeCheck 59 = .ok (.iload_n 2, 1) := dk_28 (dk_at dksJ23_rangeCheck_2 13 rfl rfl)
theorem dJ23_rangeCheck_60 : decode cJ23_rangeCheck 60 = .ok (.iload_n 0, 1) := dk_26 (dk_at dksJ23_rangeCheck_2 14 rfl rfl)
theorem dJ23_rangeCheck_61 : decode cJ23_rangeCheck 61 = .ok (.if_icmp .le 12, 3) := dk_164 0 12 (dk_at dksJ23_rangeCheck_2 15 rfl rfl)
theorem dJ23_rangeCheck_64 : decode cJ23_rangeCheck 64 = .ok (.new 68, 3) := dk_187 0 68 (dk_at dksJ23_rangeCheck_2 18 rfl rfl)
theorem dJ23_rangeCheck_73 : decode cJ23_rangeCheck 73 = .ok (.return_, 1) := dk_177 (dk_at dksJ23_rangeCheck_3 4 rfl rfl)
abbrev cJ23_fill : ByteArray := prog_62_method_110_code
def yJ23_fill : MethodName := ⟨RJ23, "fill", "([BIIB)V"⟩
def dkwJ23_fill_1 : List UInt8 := [167, 255, 242, 177]
abbrev dktJ23_fill_1 : List UInt8 := dkwJ23_fill_1 ++ []
def dkwJ23_fill_0 : List UInt8 := [42, 190, 27, 28, 184, 0, 13, 27, 54, 4, 21, 4, 28, 162, 0, 14, 42, 21, 4, 29, 84, 132, 4, 1]
abbrev dktJ23_fill_0 : List UInt8 := dkwJ23_fill_0 ++ dktJ23_fill_1
theorem dksJ23_fill_0 : cJ23_fill.data.toList.drop 0 = dktJ23_fill_0 := by decide +kernel
theorem dksJ23_fill_1 : cJ23_fill.data.toList.drop 24 = dktJ23_fill_1 := dk_seg dksJ23_fill_0 24 rfl rfl
theorem dJ23_fill_0 : decode cJ23_fill 0 = .ok (.aload_n 0, 1) := dk_42 (dk_at dksJ23_fill_0 0 rfl rfl)
theorem dJ23_fill_1 : decode cJ23_fill 1 = .ok (.arraylength, 1) := dk_190 (dk_at dksJ23_fill_0 1 rfl rfl)
theorem dJ23_fill_2 : decode cJ23_fill 2 = .ok (.iload_n 1, 1) := dk_27 (dk_at dksJ23_fill_0 2 rfl rfl)
theorem dJ23_fill_3 : decode cJ23_fill 3 = .ok (.iload_n 2, 1) := dk_28 (dk_at dksJ23_fill_0 3 rfl rfl)
theorem dJ23_fill_4 : decode cJ23_fill 4 = .ok (.invokestatic 13, 3) := dk_184 0 13 (dk_at dksJ23_fill_0 4 rfl rfl)
theorem dJ23_fill_7 : decode cJ23_fill 7 = .ok (.iload_n 1, 1) := dk_27 (dk_at dksJ23_fill_0 7 rfl rfl)
theorem dJ23_fill_8 : decode cJ23_fill 8 = .ok (.istore 4, 2) := dk_54 4 (dk_at dksJ23_fill_0 8 rfl rfl)
theorem dJ23_fill_10 : decode cJ23_fill 10 = .ok (.iload 4, 2) := dk_21 4 (dk_at dksJ23_fill_0 10 rfl rfl)
theorem dJ23_fill_12 : decode cJ23_fill 12 = .ok (.iload_n 2, 1) := dk_28 (dk_at dksJ23_fill_0 12 rfl rfl)
theorem dJ23_fill_13 : decode cJ23_fill 13 = .ok (.if_icmp .ge 14, 3) := dk_162 0 14 (dk_at dksJ23_fill_0 13 rfl rfl)
theorem dJ23_fill_16 : decode cJ23_fill 16 = .ok (.aload_n 0, 1) := dk_42 (dk_at dksJ23_fill_0 16 rfl rfl)
theorem dJ23_fill_17 : decode cJ23_fill 17 = .ok (.iload 4, 2) := dk_21 4 (dk_at dksJ23_fill_0 17 rfl rfl)
theorem dJ23_fill_19 : decode cJ23_fill 19 = .ok (.iload_n 3, 1) := dk_29 (dk_at dksJ23_fill_0 19 rfl rfl)
theorem dJ23_fill_20 : decode cJ23_fill 20 = .ok (.bastore, 1) := dk_84 (dk_at dksJ23_fill_0 20 rfl rfl)
theorem dJ23_fill_21 : decode cJ23_fill 21 = .ok (.iinc 4 1, 3) := dk_132 4 1 (dk_at dksJ23_fill_0 21 rfl rfl)
theorem dJ23_fill_24 : decode cJ23_fill 24 = .ok (.goto (-14), 3) := dk_167 255 242 (dk_at dksJ23_fill_1 0 rfl rfl)
theorem dJ23_fill_27 : decode cJ23_fill 27 = .ok (.return_, 1) := dk_177 (dk_at dksJ23_fill_1 3 rfl rfl)
abbrev cJ25_fillNull : ByteArray := prog_41_method_48_code
def yJ25_fillNull : MethodName := ⟨RJ25, "fillNull", "([BII)V"⟩
def dkwJ25_fillNull_0 : List UInt8 := [42, 27, 28, 3, 184, 0, 236, 177]
abbrev dktJ25_fillNull_0 : List UInt8 := dkwJ25_fillNull_0 ++ []
theorem dksJ25_fillNull_0 : cJ25_fillNull.data.toList.drop 0 = dktJ25_fillNull_0 := by decide +kernel
theorem dJ25_fillNull_0 : decode cJ25_fillNull 0 = .ok (.aload_n 0, 1) := dk_42 (dk_at dksJ25_fillNull_0 0 rfl rfl)
theorem dJ25_fillNull_1 : decode cJ25_fillNull 1 = .ok (.iload_n 1, 1) := dk_27 (dk_at dksJ25_fillNull_0 1 rfl rfl)
theorem dJ25_fillNull_2 : decode cJ25_fillNull 2 = .ok (.iload_n 2, 1) := dk_28 (dk_at dksJ25_fillNull_0 2 rfl rfl)
theorem dJ25_fillNull_3 : decode cJ25_fillNull 3 = .ok (.iconst 0, 1) := dk_3 (dk_at dksJ25_fillNull_0 3 rfl rfl)
theorem dJ25_fillNull_4 : decode cJ25_fillNull 4 = .ok (.invokestatic 236, 3) := dk_184 0 236 (dk_at dksJ25_fillNull_0 4 rfl rfl)
theorem dJ25_fillNull_7 : decode cJ25_fillNull 7 = .ok (.return_, 1) := dk_177 (dk_at dksJ25_fillNull_0 7 rfl rfl)
abbrev cJ7_setLength : ByteArray := prog_20_method_13_code
def yJ7_setLength : MethodName := ⟨RJ7, "setLength", "(I)V"⟩
def dkwJ7_setLength_3 : List UInt8 := [164, 0, 8, 42, 4, 181, 0, 73, 42, 27, 181, 0, 79, 177]
abbrev dktJ7_setLength_3 : List UInt8 := dkwJ7_setLength_3 ++ []
def dkwJ7_setLength_2 : List UInt8 := [167, 0, 31, 42, 180, 0, 15, 42, 180, 0, 79, 27, 184, 0, 137, 167, 0, 16, 42, 180, 0, 79, 27]
abbrev dktJ7_setLength_2 : List UInt8 := dkwJ7_setLength_2 ++ dktJ7_setLength_3
def dkwJ7_setLength_1 : List UInt8 := [162, 0, 40, 42, 182, 0, 83, 153, 0, 18, 42, 180, 0, 15, 42, 180, 0, 79, 27, 184, 0, 133]
abbrev dktJ7_setLength_1 : List UInt8 := dkwJ7_setLength_1 ++ dktJ7_setLength_2
def dkwJ7_setLength_0 : List UInt8 := [27, 156, 0, 12, 187, 0, 129, 89, 27, 183, 0, 131, 191, 42, 27, 182, 0, 100, 42, 180, 0, 79, 27]
abbrev dktJ7_setLength_0 : List UInt8 := dkwJ7_setLength_0 ++ dktJ7_setLength_1
theorem dksJ7_setLength_0 : cJ7_setLength.data.toList.drop 0 = dktJ7_setLength_0 := by decide +kernel
theorem dksJ7_setLength_1 : cJ7_setLength.data.toList.drop 23 = dktJ7_setLength_1 := dk_seg dksJ7_setLength_0 23 rfl rfl
theorem dksJ7_setLength_2 : cJ7_setLength.data.toList.drop 45 = dktJ7_setLength_2 := dk_seg dksJ7_setLength_1 22 rfl rfl
theorem dksJ7_setLength_3 : cJ7_setLength.data.toList.drop 68 = dktJ7_setLength_3 := dk_seg dksJ7_setLength_2 23 rfl rfl
theorem dJ7_setLength_0 : decode cJ7_setLength 0 = .ok (.iload_n 1, 1) := dk_27 (dk_at dksJ7_setLength_0 0 rfl rfl)
theorem dJ7_setLength_1 : decode cJ7_setLength 1 = .ok (.ifCond .ge 12, 3) := dk_156 0 12 (dk_at dksJ7_setLength_0 1 rfl rfl)
theorem dJ7_setLength_4 : decode cJ7_setLength 4 = .ok (.new 129, 3) := dk_187 0 129 (dk_at dksJ7_setLength_0 4 rfl rfl)
theorem dJ7_setLength_13 : decode cJ7_setLength 13 = .ok (.aload_n 0, 1) := dk_42 (dk_at dksJ7_setLength_0 13 rfl rfl)
theorem dJ7_setLength_14 : decode cJ7_setLength 14 = .ok (.iload_n 1, 1) := dk_27 (dk_at dksJ7_setLength_0 14 rfl rfl)
theorem dJ7_setLength_15 : decode cJ7_setLength 15 = .ok (.invokevirtual 100, 3) := dk_182 0 100 (dk_at dksJ7_setLength_0 15 rfl rfl)
theorem dJ7_setLength_18 : decode cJ7_setLength 18 = .ok (.aload_n 0, 1) := dk_42 (dk_at dksJ7_setLength_0 18 rfl rfl)
theorem dJ7_setLength_19 : decode cJ7_setLength 19 = .ok (.getfield 79, 3) := dk_180 0 79 (dk_at dksJ7_setLength_0 19 rfl rfl)
theorem dJ7_setLength_22 : decode cJ7_setLength 22 = .ok (.iload_n 1, 1) := dk_27 (dk_at dksJ7_setLength_0 22 rfl rfl)
theorem dJ7_setLength_23 : decode cJ7_setLength 23 = .ok (.if_icmp .ge 40, 3) := dk_162 0 40 (dk_at dksJ7_setLength_1 0 rfl rfl)
theorem dJ7_setLength_26 : decode cJ7_setLength 26 = .ok (.aload_n 0, 1) := dk_42 (dk_at dksJ7_setLength_1 3 rfl rfl)
theorem dJ7_setLength_27 : decode cJ7_setLength 27 = .ok (.invokevirtual 83, 3) := dk_182 0 83 (dk_at dksJ7_setLength_1 4 rfl rfl)
theorem dJ7_setLength_30 : decode cJ7_setLength 30 = .ok (.ifCond .eq 18, 3) := dk_153 0 18 (dk_at dksJ7_setLength_1 7 rfl rfl)
theorem dJ7_setLength_33 : decode cJ7_setLength 33 = .ok (.aload_n 0, 1) := dk_42 (dk_at dksJ7_setLength_1 10 rfl rfl)
theorem dJ7_setLength_34 : decode cJ7_setLength 34 = .ok (.getfield 15, 3) := dk_180 0 15 (dk_at dksJ7_setLength_1 11 rfl rfl)
theorem dJ7_setLength_37 : decode cJ7_setLength 37 = .ok (.aload_n 0, 1) := dk_42 (dk_at dksJ7_setLength_1 14 rfl rfl)
theorem dJ7_setLength_38 : decode cJ7_setLength 38 = .ok (.getfield 79, 3) := dk_180 0 79 (dk_at dksJ7_setLength_1 15 rfl rfl)
theorem dJ7_setLength_41 : decode cJ7_setLength 41 = .ok (.iload_n 1, 1) := dk_27 (dk_at dksJ7_setLength_1 18 rfl rfl)
theorem dJ7_setLength_42 : decode cJ7_setLength 42 = .ok (.invokestatic 133, 3) := dk_184 0 133 (dk_at dksJ7_setLength_1 19 rfl rfl)
theorem dJ7_setLength_45 : decode cJ7_setLength 45 = .ok (.goto 31, 3) := dk_167 0 31 (dk_at dksJ7_setLength_2 0 rfl rfl)
theorem dJ7_setLength_48 : decode cJ7_setLength 48 = .ok (.aload_n 0, 1) := dk_42 (dk_at dksJ7_setLength_2 3 rfl rfl)
theorem dJ7_setLength_49 : decode cJ7_setLength 49 = .ok (.getfield 15, 3) := dk_180 0 15 (dk_at dksJ7_setLength_2 4 rfl rfl)
theorem dJ7_setLength_52 : decode cJ7_setLength 52 = .ok (.aload_n 0, 1) := dk_42 (dk_at dksJ7_setLength_2 7 rfl rfl)
theorem dJ7_setLength_53 : decode cJ7_setLength 53 = .ok (.getfield 79, 3) := dk_180 0 79 (dk_at dksJ7_setLength_2 8 rfl rfl)
theorem dJ7_setLength_56 : decode cJ7_setLength 56 = .ok (.iload_n 1, 1) := dk_27 (dk_at dksJ7_setLength_2 11 rfl rfl)
theorem dJ7_setLength_57 : decode cJ7_setLength 57 = .ok (.invokestatic 137, 3) := dk_184 0 137 (dk_at dksJ7_setLength_2 12 rfl rfl)
theorem dJ7_setLength_63 : decode cJ7_setLength 63 = .ok (.aload_n 0, 1) := dk_42 (dk_at dksJ7_setLength_2 18 rfl rfl)
theorem dJ7_setLength_64 : decode cJ7_setLength 64 = .ok (.getfield 79, 3) := dk_180 0 79 (dk_at dksJ7_setLength_2 19 rfl rfl)
theorem dJ7_setLength_67 : decode cJ7_setLength 67 = .ok (.iload_n 1, 1) := dk_27 (dk_at dksJ7_setLength_2 22 rfl rfl)
theorem dJ7_setLength_68 : decode cJ7_setLength 68 = .ok (.if_icmp .le 8, 3) := dk_164 0 8 (dk_at dksJ7_setLength_3 0 rfl rfl)
theorem dJ7_setLength_71 : decode cJ7_setLength 71 = .ok (.aload_n 0, 1) := dk_42 (dk_at dksJ7_setLength_3 3 rfl rfl)
theorem dJ7_setLength_72 : decode cJ7_setLength 72 = .ok (.iconst 1, 1) := dk_4 (dk_at dksJ7_setLength_3 4 rfl rfl)
theorem dJ7_setLength_73 : decode cJ7_setLength 73 = .ok (.putfield 73, 3) := dk_181 0 73 (dk_at dksJ7_setLength_3 5 rfl rfl)
theorem dJ7_setLength_76 : decode cJ7_setLength 76 = .ok (.aload_n 0, 1) := dk_42 (dk_at dksJ7_setLength_3 8 rfl rfl)
theorem dJ7_setLength_77 : decode cJ7_setLength 77 = .ok (.iload_n 1, 1) := dk_27 (dk_at dksJ7_setLength_3 9 rfl rfl)
theorem dJ7_setLength_78 : decode cJ7_setLength 78 = .ok (.putfield 79, 3) := dk_181 0 79 (dk_at dksJ7_setLength_3 10 rfl rfl)
theorem dJ7_setLength_81 : decode cJ7_setLength 81 = .ok (.return_, 1) := dk_177 (dk_at dksJ7_setLength_3 13 rfl rfl)
abbrev cJ8_setLength : ByteArray := prog_39_method_89_code
def yJ8_setLength : MethodName := ⟨RJ8, "setLength", "(I)V"⟩
def dkwJ8_setLength_0 : List UInt8 := [42, 27, 183, 1, 77, 177]
abbrev dktJ8_setLength_0 : List UInt8 := dkwJ8_setLength_0 ++ []
theorem dksJ8_setLength_0 : cJ8_setLength.data.toList.drop 0 = dktJ8_setLength_0 := by decide +kernel
theorem dJ8_setLength_0 : decode cJ8_setLength 0 = .ok (.aload_n 0, 1) := dk_42 (dk_at dksJ8_setLength_0 0 rfl rfl)
theorem dJ8_setLength_1 : decode cJ8_setLength 1 = .ok (.iload_n 1, 1) := dk_27 (dk_at dksJ8_setLength_0 1 rfl rfl)
theorem dJ8_setLength_2 : decode cJ8_setLength 2 = .ok (.invokespecial 333, 3) := dk_183 1 77 (dk_at dksJ8_setLength_0 2 rfl rfl)
theorem dJ8_setLength_5 : decode cJ8_setLength 5 = .ok (.return_, 1) := dk_177 (dk_at dksJ8_setLength_0 5 rfl rfl)
abbrev cX1_runScript : ByteArray := prog_1_method_66_code
def yX1_runScript : MethodName := ⟨RX1, "runScript", "()I"⟩
def dkwX1_runScript_2 : List UInt8 := [180, 0, 82, 3, 182, 1, 165, 45, 191]
abbrev dktX1_runScript_2 : List UInt8 := dkwX1_runScript_2 ++ []
def dkwX1_runScript_1 : List UInt8 := [42, 180, 0, 82, 3, 182, 1, 165, 28, 172, 77, 42, 44, 182, 1, 169, 44, 182, 1, 173, 191, 78, 42]
abbrev dktX1_runScript_1 : List UInt8 := dkwX1_runScript_1 ++ dktX1_runScript_2
def dkwX1_runScript_0 : List UInt8 := [42, 180, 0, 82, 182, 1, 151, 76, 42, 187, 1, 152, 89, 43, 183, 1, 154, 182, 1, 157, 182, 1, 161, 61]
abbrev dktX1_runScript_0 : List UInt8 := dkwX1_runScript_0 ++ dktX1_runScript_1
theorem dksX1_runScript_0 : cX1_runScript.data.toList.drop 0 = dktX1_runScript_0 := by decide +kernel
theorem dksX1_runScript_1 : cX1_runScript.data.toList.drop 24 = dktX1_runScript_1 := dk_seg dksX1_runScript_0 24 rfl rfl
theorem dksX1_runScript_2 : cX1_runScript.data.toList.drop 47 = dktX1_runScript_2 := dk_seg dksX1_runScript_1 23 rfl rfl
theorem dX1_runScript_0 : decode cX1_runScript 0 = .ok (.aload_n 0, 1) := dk_42 (dk_at dksX1_runScript_0 0 rfl rfl)
theorem dX1_runScript_1 : decode cX1_runScript 1 = .ok (.getfield 82, 3) := dk_180 0 82 (dk_at dksX1_runScript_0 1 rfl rfl)
theorem dX1_runScript_4 : decode cX1_runScript 4 = .ok (.invokevirtual 407, 3) := dk_182 1 151 (dk_at dksX1_runScript_0 4 rfl rfl)
theorem dX1_runScript_7 : decode cX1_runScript 7 = .ok (.astore_n 1, 1) := dk_76 (dk_at dksX1_runScript_0 7 rfl rfl)
theorem dX1_runScript_8 : decode cX1_runScript 8 = .ok (.aload_n 0, 1) := dk_42 (dk_at dksX1_runScript_0 8 rfl rfl)
theorem dX1_runScript_9 : decode cX1_runScript 9 = .ok (.new 408, 3) := dk_187 1 152 (dk_at dksX1_runScript_0 9 rfl rfl)
theorem dX1_runScript_12 : decode cX1_runScript 12 = .ok (.dup, 1) := dk_89 (dk_at dksX1_runScript_0 12 rfl rfl)
theorem dX1_runScript_13 : decode cX1_runScript 13 = .ok (.aload_n 1, 1) := dk_43 (dk_at dksX1_runScript_0 13 rfl rfl)
theorem dX1_runScript_14 : decode cX1_runScript 14 = .ok (.invokespecial 410, 3) := dk_183 1 154 (dk_at dksX1_runScript_0 14 rfl rfl)
theorem dX1_runScript_17 : decode cX1_runScript 17 = .ok (.invokevirtual 413, 3) := dk_182 1 157 (dk_at dksX1_runScript_0 17 rfl rfl)
theorem dX1_runScript_20 : decode cX1_runScript 20 = .ok (.invokevirtual 417, 3) := dk_182 1 161 (dk_at dksX1_runScript_0 20 rfl rfl)
theorem dX1_runScript_23 : decode cX1_runScript 23 = .ok (.istore_n 2, 1) := dk_61 (dk_at dksX1_runScript_0 23 rfl rfl)
theorem dX1_runScript_24 : decode cX1_runScript 24 = .ok (.aload_n 0, 1) := dk_42 (dk_at dksX1_runScript_1 0 rfl rfl)
theorem dX1_runScript_25 : decode cX1_runScript 25 = .ok (.getfield 82, 3) := dk_180 0 82 (dk_at dksX1_runScript_1 1 rfl rfl)
theorem dX1_runScript_28 : decode cX1_runScript 28 = .ok (.iconst 0, 1) := dk_3 (dk_at dksX1_runScript_1 4 rfl rfl)
theorem dX1_runScript_29 : decode cX1_runScript 29 = .ok (.invokevirtual 421, 3) := dk_182 1 165 (dk_at dksX1_runScript_1 5 rfl rfl)
theorem dX1_runScript_32 : decode cX1_runScript 32 = .ok (.iload_n 2, 1) := dk_28 (dk_at dksX1_runScript_1 8 rfl rfl)
theorem dX1_runScript_33 : decode cX1_runScript 33 = .ok (.ireturn, 1) := dk_172 (dk_at dksX1_runScript_1 9 rfl rfl)
theorem dX1_runScript_34 : decode cX1_runScript 34 = .ok (.astore_n 2, 1) := dk_77 (dk_at dksX1_runScript_1 10 rfl rfl)
theorem dX1_runScript_35 : decode cX1_runScript 35 = .ok (.aload_n 0, 1) := dk_42 (dk_at dksX1_runScript_1 11 rfl rfl)
theorem dX1_runScript_36 : decode cX1_runScript 36 = .ok (.aload_n 2, 1) := dk_44 (dk_at dksX1_runScript_1 12 rfl rfl)
theorem dX1_runScript_37 : decode cX1_runScript 37 = .ok (.invokevirtual 425, 3) := dk_182 1 169 (dk_at dksX1_runScript_1 13 rfl rfl)
theorem dX1_runScript_40 : decode cX1_runScript 40 = .ok (.aload_n 2, 1) := dk_44 (dk_at dksX1_runScript_1 16 rfl rfl)
theorem dX1_runScript_41 : decode cX1_runScript 41 = .ok (.invokevirtual 429, 3) := dk_182 1 173 (dk_at dksX1_runScript_1 17 rfl rfl)
theorem dX1_runScript_44 : decode cX1_runScript 44 = .ok (.athrow, 1) := dk_191 (dk_at dksX1_runScript_1 20 rfl rfl)
theorem dX1_runScript_45 : decode cX1_runScript 45 = .ok (.astore_n 3, 1) := dk_78 (dk_at dksX1_runScript_1 21 rfl rfl)
theorem dX1_runScript_46 : decode cX1_runScript 46 = .ok (.aload_n 0, 1) := dk_42 (dk_at dksX1_runScript_1 22 rfl rfl)
theorem dX1_runScript_47 : decode cX1_runScript 47 = .ok (.getfield 82, 3) := dk_180 0 82 (dk_at dksX1_runScript_2 0 rfl rfl)
theorem dX1_runScript_50 : decode cX1_runScript 50 = .ok (.iconst 0, 1) := dk_3 (dk_at dksX1_runScript_2 3 rfl rfl)
theorem dX1_runScript_51 : decode cX1_runScript 51 = .ok (.invokevirtual 421, 3) := dk_182 1 165 (dk_at dksX1_runScript_2 4 rfl rfl)
theorem dX1_runScript_54 : decode cX1_runScript 54 = .ok (.aload_n 3, 1) := dk_45 (dk_at dksX1_runScript_2 7 rfl rfl)
theorem dX1_runScript_55 : decode cX1_runScript 55 = .ok (.athrow, 1) := dk_191 (dk_at dksX1_runScript_2 8 rfl rfl)
abbrev cX0_runScript : ByteArray := method_32_code
def yX0_runScript : MethodName := ⟨RX0, "runScript", "(LLionGate;[J)I"⟩
def dkwX0_runScript_0 : List UInt8 := [43, 3, 42, 182, 0, 118, 133, 80, 167, 0, 9, 77, 4, 172, 77, 5, 172, 3, 172]
abbrev dktX0_runScript_0 : List UInt8 := dkwX0_runScript_0 ++ []
theorem dksX0_runScript_0 : cX0_runScript.data.toList.drop 0 = dktX0_runScript_0 := by decide +kernel
theorem dX0_runScript_0 : decode cX0_runScript 0 = .ok (.aload_n 1, 1) := dk_43 (dk_at dksX0_runScript_0 0 rfl rfl)
theorem dX0_runScript_1 : decode cX0_runScript 1 = .ok (.iconst 0, 1) := dk_3 (dk_at dksX0_runScript_0 1 rfl rfl)
theorem dX0_runScript_2 : decode cX0_runScript 2 = .ok (.aload_n 0, 1) := dk_42 (dk_at dksX0_runScript_0 2 rfl rfl)
theorem dX0_runScript_3 : decode cX0_runScript 3 = .ok (.invokevirtual 118, 3) := dk_182 0 118 (dk_at dksX0_runScript_0 3 rfl rfl)
theorem dX0_runScript_6 : decode cX0_runScript 6 = .ok (.i2l, 1) := dk_133 (dk_at dksX0_runScript_0 6 rfl rfl)
theorem dX0_runScript_7 : decode cX0_runScript 7 = .ok (.lastore, 1) := dk_80 (dk_at dksX0_runScript_0 7 rfl rfl)
theorem dX0_runScript_8 : decode cX0_runScript 8 = .ok (.goto 9, 3) := dk_167 0 9 (dk_at dksX0_runScript_0 8 rfl rfl)
theorem dX0_runScript_11 : decode cX0_runScript 11 = .ok (.astore_n 2, 1) := dk_77 (dk_at dksX0_runScript_0 11 rfl rfl)
theorem dX0_runScript_12 : decode cX0_runScript 12 = .ok (.iconst 1, 1) := dk_4 (dk_at dksX0_runScript_0 12 rfl rfl)
theorem dX0_runScript_13 : decode cX0_runScript 13 = .ok (.ireturn, 1) := dk_172 (dk_at dksX0_runScript_0 13 rfl rfl)
theorem dX0_runScript_14 : decode cX0_runScript 14 = .ok (.astore_n 2, 1) := dk_77 (dk_at dksX0_runScript_0 14 rfl rfl)
theorem dX0_runScript_15 : decode cX0_runScript 15 = .ok (.iconst 2, 1) := dk_5 (dk_at dksX0_runScript_0 15 rfl rfl)
theorem dX0_runScript_16 : decode cX0_runScript 16 = .ok (.ireturn, 1) := dk_172 (dk_at dksX0_runScript_0 16 rfl rfl)
theorem dX0_runScript_17 : decode cX0_runScript 17 = .ok (.iconst 0, 1) := dk_3 (dk_at dksX0_runScript_0 17 rfl rfl)
theorem dX0_runScript_18 : decode cX0_runScript 18 = .ok (.ireturn, 1) := dk_172 (dk_at dksX0_runScript_0 18 rfl rfl)
abbrev cX1_serve : ByteArray := prog_1_method_11_code
def yX1_serve : MethodName := ⟨RX1, "serve", "()I"⟩
def dkwX1_serve_0 : List UInt8 := [42, 18, 139, 3, 188, 10, 182, 0, 129, 172]
abbrev dktX1_serve_0 : List UInt8 := dkwX1_serve_0 ++ []
theorem dksX1_serve_0 : cX1_serve.data.toList.drop 0 = dktX1_serve_0 := by decide +kernel
theorem dX1_serve_0 : decode cX1_serve 0 = .ok (.aload_n 0, 1) := dk_42 (dk_at dksX1_serve_0 0 rfl rfl)
theorem dX1_serve_1 : decode cX1_serve 1 = .ok (.ldc 139, 2) := dk_18 139 (dk_at dksX1_serve_0 1 rfl rfl)
theorem dX1_serve_3 : decode cX1_serve 3 = .ok (.iconst 0, 1) := dk_3 (dk_at dksX1_serve_0 3 rfl rfl)
theorem dX1_serve_4 : decode cX1_serve 4 = .ok (.newarray .int, 2) := dk_188_10 (dk_at dksX1_serve_0 4 rfl rfl)
theorem dX1_serve_6 : decode cX1_serve 6 = .ok (.invokevirtual 129, 3) := dk_182 0 129 (dk_at dksX1_serve_0 6 rfl rfl)
theorem dX1_serve_9 : decode cX1_serve 9 = .ok (.ireturn, 1) := dk_172 (dk_at dksX1_serve_0 9 rfl rfl)
abbrev cX0_serve : ByteArray := method_7_code
def yX0_serve : MethodName := ⟨RX0, "serve", "(LLionGate;[J)I"⟩
def dkwX0_serve_0 : List UInt8 := [43, 3, 42, 182, 0, 30, 133, 80, 167, 0, 9, 77, 4, 172, 77, 5, 172, 3, 172]
abbrev dktX0_serve_0 : List UInt8 := dkwX0_serve_0 ++ []
theorem dksX0_serve_0 : cX0_serve.data.toList.drop 0 = dktX0_serve_0 := by decide +kernel
theorem dX0_serve_0 : decode cX0_serve 0 = .ok (.aload_n 1, 1) := dk_43 (dk_at dksX0_serve_0 0 rfl rfl)
theorem dX0_serve_1 : decode cX0_serve 1 = .ok (.iconst 0, 1) := dk_3 (dk_at dksX0_serve_0 1 rfl rfl)
theorem dX0_serve_2 : decode cX0_serve 2 = .ok (.aload_n 0, 1) := dk_42 (dk_at dksX0_serve_0 2 rfl rfl)
theorem dX0_serve_3 : decode cX0_serve 3 = .ok (.invokevirtual 30, 3) := dk_182 0 30 (dk_at dksX0_serve_0 3 rfl rfl)
theorem dX0_serve_6 : decode cX0_serve 6 = .ok (.i2l, 1) := dk_133 (dk_at dksX0_serve_0 6 rfl rfl)
theorem dX0_serve_7 : decode cX0_serve 7 = .ok (.lastore, 1) := dk_80 (dk_at dksX0_serve_0 7 rfl rfl)
theorem dX0_serve_8 : decode cX0_serve 8 = .ok (.goto 9, 3) := dk_167 0 9 (dk_at dksX0_serve_0 8 rfl rfl)
theorem dX0_serve_11 : decode cX0_serve 11 = .ok (.astore_n 2, 1) := dk_77 (dk_at dksX0_serve_0 11 rfl rfl)
theorem dX0_serve_12 : decode cX0_serve 12 = .ok (.iconst 1, 1) := dk_4 (dk_at dksX0_serve_0 12 rfl rfl)
theorem dX0_serve_13 : decode cX0_serve 13 = .ok (.ireturn, 1) := dk_172 (dk_at dksX0_serve_0 13 rfl rfl)
theorem dX0_serve_14 : decode cX0_serve 14 = .ok (.astore_n 2, 1) := dk_77 (dk_at dksX0_serve_0 14 rfl rfl)
theorem dX0_serve_15 : decode cX0_serve 15 = .ok (.iconst 2, 1) := dk_5 (dk_at dksX0_serve_0 15 rfl rfl)
theorem dX0_serve_16 : decode cX0_serve 16 = .ok (.ireturn, 1) := dk_172 (dk_at dksX0_serve_0 16 rfl rfl)
theorem dX0_serve_17 : decode cX0_serve 17 = .ok (.iconst 0, 1) := dk_3 (dk_at dksX0_serve_0 17 rfl rfl)
theorem dX0_serve_18 : decode cX0_serve 18 = .ok (.ireturn, 1) := dk_172 (dk_at dksX0_serve_0 18 rfl rfl)
abbrev cX1_startOf : ByteArray := prog_1_method_42_code
def yX1_startOf : MethodName := ⟨RX1, "startOf", "(I)I"⟩
def dkwX1_startOf_0 : List UInt8 := [42, 27, 182, 1, 34, 180, 1, 37, 172]
abbrev dktX1_startOf_0 : List UInt8 := dkwX1_startOf_0 ++ []
theorem dksX1_startOf_0 : cX1_startOf.data.toList.drop 0 = dktX1_startOf_0 := by decide +kernel
theorem dX1_startOf_0 : decode cX1_startOf 0 = .ok (.aload_n 0, 1) := dk_42 (dk_at dksX1_startOf_0 0 rfl rfl)
theorem dX1_startOf_1 : decode cX1_startOf 1 = .ok (.iload_n 1, 1) := dk_27 (dk_at dksX1_startOf_0 1 rfl rfl)
theorem dX1_startOf_2 : decode cX1_startOf 2 = .ok (.invokevirtual 290, 3) := dk_182 1 34 (dk_at dksX1_startOf_0 2 rfl rfl)
theorem dX1_startOf_5 : decode cX1_startOf 5 = .ok (.getfield 293, 3) := dk_180 1 37 (dk_at dksX1_startOf_0 5 rfl rfl)
theorem dX1_startOf_8 : decode cX1_startOf 8 = .ok (.ireturn, 1) := dk_172 (dk_at dksX1_startOf_0 8 rfl rfl)
