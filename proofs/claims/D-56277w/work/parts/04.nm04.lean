set_option maxRecDepth 100000
abbrev cX8_hunger : ByteArray := prog_11_method_3_code
def yX8_hunger : MethodName := ⟨RX8, "hunger", "()I"⟩
def dkwX8_hunger_0 : List UInt8 := [42, 180, 0, 19, 180, 0, 26, 172]
abbrev dktX8_hunger_0 : List UInt8 := dkwX8_hunger_0 ++ []
theorem dksX8_hunger_0 : cX8_hunger.data.toList.drop 0 = dktX8_hunger_0 := by decide +kernel
theorem dX8_hunger_0 : decode cX8_hunger 0 = .ok (.aload_n 0, 1) := dk_42 (dk_at dksX8_hunger_0 0 rfl rfl)
theorem dX8_hunger_1 : decode cX8_hunger 1 = .ok (.getfield 19, 3) := dk_180 0 19 (dk_at dksX8_hunger_0 1 rfl rfl)
theorem dX8_hunger_4 : decode cX8_hunger 4 = .ok (.getfield 26, 3) := dk_180 0 26 (dk_at dksX8_hunger_0 4 rfl rfl)
theorem dX8_hunger_7 : decode cX8_hunger 7 = .ok (.ireturn, 1) := dk_172 (dk_at dksX8_hunger_0 7 rfl rfl)
abbrev cX2_changeHunger_2 : ByteArray := prog_14_method_8_code
def yX2_changeHunger_2 : MethodName := ⟨RX2, "changeHunger", "(LLionGate$Lion;I)V"⟩
def dkwX2_changeHunger_2_0 : List UInt8 := [28, 43, 182, 0, 145, 159, 0, 9, 42, 43, 28, 182, 0, 148, 177]
abbrev dktX2_changeHunger_2_0 : List UInt8 := dkwX2_changeHunger_2_0 ++ []
theorem dksX2_changeHunger_2_0 : cX2_changeHunger_2.data.toList.drop 0 = dktX2_changeHunger_2_0 := by decide +kernel
theorem dX2_changeHunger_2_0 : decode cX2_changeHunger_2 0 = .ok (.iload_n 2, 1) := dk_28 (dk_at dksX2_changeHunger_2_0 0 rfl rfl)
theorem dX2_changeHunger_2_1 : decode cX2_changeHunger_2 1 = .ok (.aload_n 1, 1) := dk_43 (dk_at dksX2_changeHunger_2_0 1 rfl rfl)
theorem dX2_changeHunger_2_2 : decode cX2_changeHunger_2 2 = .ok (.invokevirtual 145, 3) := dk_182 0 145 (dk_at dksX2_changeHunger_2_0 2 rfl rfl)
theorem dX2_changeHunger_2_5 : decode cX2_changeHunger_2 5 = .ok (.if_icmp .eq 9, 3) := dk_159 0 9 (dk_at dksX2_changeHunger_2_0 5 rfl rfl)
theorem dX2_changeHunger_2_8 : decode cX2_changeHunger_2 8 = .ok (.aload_n 0, 1) := dk_42 (dk_at dksX2_changeHunger_2_0 8 rfl rfl)
theorem dX2_changeHunger_2_9 : decode cX2_changeHunger_2 9 = .ok (.aload_n 1, 1) := dk_43 (dk_at dksX2_changeHunger_2_0 9 rfl rfl)
theorem dX2_changeHunger_2_10 : decode cX2_changeHunger_2 10 = .ok (.iload_n 2, 1) := dk_28 (dk_at dksX2_changeHunger_2_0 10 rfl rfl)
theorem dX2_changeHunger_2_11 : decode cX2_changeHunger_2 11 = .ok (.invokevirtual 148, 3) := dk_182 0 148 (dk_at dksX2_changeHunger_2_0 11 rfl rfl)
theorem dX2_changeHunger_2_14 : decode cX2_changeHunger_2 14 = .ok (.return_, 1) := dk_177 (dk_at dksX2_changeHunger_2_0 14 rfl rfl)
abbrev cX2_changeHunger : ByteArray := prog_14_method_12_code
def yX2_changeHunger : MethodName := ⟨RX2, "changeHunger", "(IIZ)I"⟩
def dkwX2_changeHunger_3 : List UInt8 := [180, 0, 12, 27, 184, 0, 52, 182, 0, 107, 192, 0, 46, 21, 5, 182, 0, 182, 21, 5, 172]
abbrev dktX2_changeHunger_3 : List UInt8 := dkwX2_changeHunger_3 ++ []
def dkwX2_changeHunger_2 : List UInt8 := [21, 4, 28, 96, 184, 0, 173, 167, 0, 11, 3, 21, 4, 28, 100, 184, 0, 179, 54, 5, 42, 42]
abbrev dktX2_changeHunger_2 : List UInt8 := dkwX2_changeHunger_2 ++ dktX2_changeHunger_3
def dkwX2_changeHunger_1 : List UInt8 := [180, 0, 12, 27, 184, 0, 52, 182, 0, 107, 192, 0, 46, 182, 0, 145, 54, 4, 29, 153, 0, 15, 16, 99]
abbrev dktX2_changeHunger_1 : List UInt8 := dkwX2_changeHunger_1 ++ dktX2_changeHunger_2
def dkwX2_changeHunger_0 : List UInt8 := [42, 27, 182, 0, 103, 16, 101, 184, 0, 166, 28, 4, 16, 50, 184, 0, 162, 16, 97, 184, 0, 166, 42]
abbrev dktX2_changeHunger_0 : List UInt8 := dkwX2_changeHunger_0 ++ dktX2_changeHunger_1
theorem dksX2_changeHunger_0 : cX2_changeHunger.data.toList.drop 0 = dktX2_changeHunger_0 := by decide +kernel
theorem dksX2_changeHunger_1 : cX2_changeHunger.data.toList.drop 23 = dktX2_changeHunger_1 := dk_seg dksX2_changeHunger_0 23 rfl rfl
theorem dksX2_changeHunger_2 : cX2_changeHunger.data.toList.drop 47 = dktX2_changeHunger_2 := dk_seg dksX2_changeHunger_1 24 rfl rfl
theorem dksX2_changeHunger_3 : cX2_changeHunger.data.toList.drop 69 = dktX2_changeHunger_3 := dk_seg dksX2_changeHunger_2 22 rfl rfl
theorem dX2_changeHunger_0 : decode cX2_changeHunger 0 = .ok (.aload_n 0, 1) := dk_42 (dk_at dksX2_changeHunger_0 0 rfl rfl)
theorem dX2_changeHunger_1 : decode cX2_changeHunger 1 = .ok (.iload_n 1, 1) := dk_27 (dk_at dksX2_changeHunger_0 1 rfl rfl)
theorem dX2_changeHunger_2 : decode cX2_changeHunger 2 = .ok (.invokevirtual 103, 3) := dk_182 0 103 (dk_at dksX2_changeHunger_0 2 rfl rfl)
theorem dX2_changeHunger_5 : decode cX2_changeHunger 5 = .ok (.bipush 101, 2) := dk_16 101 (dk_at dksX2_changeHunger_0 5 rfl rfl)
theorem dX2_changeHunger_7 : decode cX2_changeHunger 7 = .ok (.invokestatic 166, 3) := dk_184 0 166 (dk_at dksX2_changeHunger_0 7 rfl rfl)
theorem dX2_changeHunger_10 : decode cX2_changeHunger 10 = .ok (.iload_n 2, 1) := dk_28 (dk_at dksX2_changeHunger_0 10 rfl rfl)
theorem dX2_changeHunger_11 : decode cX2_changeHunger 11 = .ok (.iconst 1, 1) := dk_4 (dk_at dksX2_changeHunger_0 11 rfl rfl)
theorem dX2_changeHunger_12 : decode cX2_changeHunger 12 = .ok (.bipush 50, 2) := dk_16 50 (dk_at dksX2_changeHunger_0 12 rfl rfl)
theorem dX2_changeHunger_14 : decode cX2_changeHunger 14 = .ok (.invokestatic 162, 3) := dk_184 0 162 (dk_at dksX2_changeHunger_0 14 rfl rfl)
theorem dX2_changeHunger_17 : decode cX2_changeHunger 17 = .ok (.bipush 97, 2) := dk_16 97 (dk_at dksX2_changeHunger_0 17 rfl rfl)
theorem dX2_changeHunger_19 : decode cX2_changeHunger 19 = .ok (.invokestatic 166, 3) := dk_184 0 166 (dk_at dksX2_changeHunger_0 19 rfl rfl)
theorem dX2_changeHunger_22 : decode cX2_changeHunger 22 = .ok (.aload_n 0, 1) := dk_42 (dk_at dksX2_changeHunger_0 22 rfl rfl)
theorem dX2_changeHunger_23 : decode cX2_changeHunger 23 = .ok (.getfield 12, 3) := dk_180 0 12 (dk_at dksX2_changeHunger_1 0 rfl rfl)
theorem dX2_changeHunger_26 : decode cX2_changeHunger 26 = .ok (.iload_n 1, 1) := dk_27 (dk_at dksX2_changeHunger_1 3 rfl rfl)
theorem dX2_changeHunger_27 : decode cX2_changeHunger 27 = .ok (.invokestatic 52, 3) := dk_184 0 52 (dk_at dksX2_changeHunger_1 4 rfl rfl)
theorem dX2_changeHunger_30 : decode cX2_changeHunger 30 = .ok (.invokevirtual 107, 3) := dk_182 0 107 (dk_at dksX2_changeHunger_1 7 rfl rfl)
theorem dX2_changeHunger_33 : decode cX2_changeHunger 33 = .ok (.checkcast 46, 3) := dk_192 0 46 (dk_at dksX2_changeHunger_1 10 rfl rfl)
theorem dX2_changeHunger_36 : decode cX2_changeHunger 36 = .ok (.invokevirtual 145, 3) := dk_182 0 145 (dk_at dksX2_changeHunger_1 13 rfl rfl)
theorem dX2_changeHunger_39 : decode cX2_changeHunger 39 = .ok (.istore 4, 2) := dk_54 4 (dk_at dksX2_changeHunger_1 16 rfl rfl)
theorem dX2_changeHunger_41 : decode cX2_changeHunger 41 = .ok (.iload_n 3, 1) := dk_29 (dk_at dksX2_changeHunger_1 18 rfl rfl)
theorem dX2_changeHunger_42 : decode cX2_changeHunger 42 = .ok (.ifCond .eq 15, 3) := dk_153 0 15 (dk_at dksX2_changeHunger_1 19 rfl rfl)
theorem dX2_changeHunger_45 : decode cX2_changeHunger 45 = .ok (.bipush 99, 2) := dk_16 99 (dk_at dksX2_changeHunger_1 22 rfl rfl)
theorem dX2_changeHunger_47 : decode cX2_changeHunger 47 = .ok (.iload 4, 2) := dk_21 4 (dk_at dksX2_changeHunger_2 0 rfl rfl)
theorem dX2_changeHunger_49 : decode cX2_changeHunger 49 = .ok (.iload_n 2, 1) := dk_28 (dk_at dksX2_changeHunger_2 2 rfl rfl)
theorem dX2_changeHunger_50 : decode cX2_changeHunger 50 = .ok (.iadd, 1) := dk_96 (dk_at dksX2_changeHunger_2 3 rfl rfl)
theorem dX2_changeHunger_51 : decode cX2_changeHunger 51 = .ok (.invokestatic 173, 3) := dk_184 0 173 (dk_at dksX2_changeHunger_2 4 rfl rfl)
theorem dX2_changeHunger_54 : decode cX2_changeHunger 54 = .ok (.goto 11, 3) := dk_167 0 11 (dk_at dksX2_changeHunger_2 7 rfl rfl)
theorem dX2_changeHunger_57 : decode cX2_changeHunger 57 = .ok (.iconst 0, 1) := dk_3 (dk_at dksX2_changeHunger_2 10 rfl rfl)
theorem dX2_changeHunger_58 : decode cX2_changeHunger 58 = .ok (.iload 4, 2) := dk_21 4 (dk_at dksX2_changeHunger_2 11 rfl rfl)
theorem dX2_changeHunger_60 : decode cX2_changeHunger 60 = .ok (.iload_n 2, 1) := dk_28 (dk_at dksX2_changeHunger_2 13 rfl rfl)
theorem dX2_changeHunger_61 : decode cX2_changeHunger 61 = .ok (.isub, 1) := dk_100 (dk_at dksX2_changeHunger_2 14 rfl rfl)
theorem dX2_changeHunger_62 : decode cX2_changeHunger 62 = .ok (.invokestatic 179, 3) := dk_184 0 179 (dk_at dksX2_changeHunger_2 15 rfl rfl)
theorem dX2_changeHunger_65 : decode cX2_changeHunger 65 = .ok (.istore 5, 2) := dk_54 5 (dk_at dksX2_changeHunger_2 18 rfl rfl)
theorem dX2_changeHunger_67 : decode cX2_changeHunger 67 = .ok (.aload_n 0, 1) := dk_42 (dk_at dksX2_changeHunger_2 20 rfl rfl)
theorem dX2_changeHunger_68 : decode cX2_changeHunger 68 = .ok (.aload_n 0, 1) := dk_42 (dk_at dksX2_changeHunger_2 21 rfl rfl)
theorem dX2_changeHunger_69 : decode cX2_changeHunger 69 = .ok (.getfield 12, 3) := dk_180 0 12 (dk_at dksX2_changeHunger_3 0 rfl rfl)
theorem dX2_changeHunger_72 : decode cX2_changeHunger 72 = .ok (.iload_n 1, 1) := dk_27 (dk_at dksX2_changeHunger_3 3 rfl rfl)
theorem dX2_changeHunger_73 : decode cX2_changeHunger 73 = .ok (.invokestatic 52, 3) := dk_184 0 52 (dk_at dksX2_changeHunger_3 4 rfl rfl)
theorem dX2_changeHunger_76 : decode cX2_changeHunger 76 = .ok (.invokevirtual 107, 3) := dk_182 0 107 (dk_at dksX2_changeHunger_3 7 rfl rfl)
theorem dX2_changeHunger_79 : decode cX2_changeHunger 79 = .ok (.checkcast 46, 3) := dk_192 0 46 (dk_at dksX2_changeHunger_3 10 rfl rfl)
theorem dX2_changeHunger_82 : decode cX2_changeHunger 82 = .ok (.iload 5, 2) := dk_21 5 (dk_at dksX2_changeHunger_3 13 rfl rfl)
theorem dX2_changeHunger_84 : decode cX2_changeHunger 84 = .ok (.invokevirtual 182, 3) := dk_182 0 182 (dk_at dksX2_changeHunger_3 15 rfl rfl)
theorem dX2_changeHunger_87 : decode cX2_changeHunger 87 = .ok (.iload 5, 2) := dk_21 5 (dk_at dksX2_changeHunger_3 18 rfl rfl)
theorem dX2_changeHunger_89 : decode cX2_changeHunger 89 = .ok (.ireturn, 1) := dk_172 (dk_at dksX2_changeHunger_3 20 rfl rfl)
abbrev cX3_has : ByteArray := prog_10_method_4_code
def yX3_has : MethodName := ⟨RX3, "has", "(I)Z"⟩
def dkwX3_has_0 : List UInt8 := [27, 3, 42, 180, 0, 12, 185, 0, 41, 1, 0, 4, 100, 184, 0, 45, 172]
abbrev dktX3_has_0 : List UInt8 := dkwX3_has_0 ++ []
theorem dksX3_has_0 : cX3_has.data.toList.drop 0 = dktX3_has_0 := by decide +kernel
theorem dX3_has_0 : decode cX3_has 0 = .ok (.iload_n 1, 1) := dk_27 (dk_at dksX3_has_0 0 rfl rfl)
theorem dX3_has_1 : decode cX3_has 1 = .ok (.iconst 0, 1) := dk_3 (dk_at dksX3_has_0 1 rfl rfl)
theorem dX3_has_2 : decode cX3_has 2 = .ok (.aload_n 0, 1) := dk_42 (dk_at dksX3_has_0 2 rfl rfl)
theorem dX3_has_3 : decode cX3_has 3 = .ok (.getfield 12, 3) := dk_180 0 12 (dk_at dksX3_has_0 3 rfl rfl)
theorem dX3_has_6 : decode cX3_has 6 = .ok (.invokeinterface 41 1, 5) := by decide +kernel
theorem dX3_has_11 : decode cX3_has 11 = .ok (.iconst 1, 1) := dk_4 (dk_at dksX3_has_0 11 rfl rfl)
theorem dX3_has_12 : decode cX3_has 12 = .ok (.isub, 1) := dk_100 (dk_at dksX3_has_0 12 rfl rfl)
theorem dX3_has_13 : decode cX3_has 13 = .ok (.invokestatic 45, 3) := dk_184 0 45 (dk_at dksX3_has_0 13 rfl rfl)
theorem dX3_has_16 : decode cX3_has 16 = .ok (.ireturn, 1) := dk_172 (dk_at dksX3_has_0 16 rfl rfl)
abbrev cX2_dismissKeeper : ByteArray := prog_14_method_18_code
def yX2_dismissKeeper : MethodName := ⟨RX2, "dismissKeeper", "(I)I"⟩
def dkwX2_dismissKeeper_1 : List UInt8 := [185, 0, 234, 2, 0, 87, 42, 180, 0, 21, 182, 0, 217, 172]
abbrev dktX2_dismissKeeper_1 : List UInt8 := dkwX2_dismissKeeper_1 ++ []
def dkwX2_dismissKeeper_0 : List UInt8 := [42, 180, 0, 21, 27, 182, 0, 231, 16, 105, 184, 0, 166, 42, 180, 0, 21, 180, 0, 220, 27]
abbrev dktX2_dismissKeeper_0 : List UInt8 := dkwX2_dismissKeeper_0 ++ dktX2_dismissKeeper_1
theorem dksX2_dismissKeeper_0 : cX2_dismissKeeper.data.toList.drop 0 = dktX2_dismissKeeper_0 := by decide +kernel
theorem dksX2_dismissKeeper_1 : cX2_dismissKeeper.data.toList.drop 21 = dktX2_dismissKeeper_1 := dk_seg dksX2_dismissKeeper_0 21 rfl rfl
theorem dX2_dismissKeeper_0 : decode cX2_dismissKeeper 0 = .ok (.aload_n 0, 1) := dk_42 (dk_at dksX2_dismissKeeper_0 0 rfl rfl)
theorem dX2_dismissKeeper_1 : decode cX2_dismissKeeper 1 = .ok (.getfield 21, 3) := dk_180 0 21 (dk_at dksX2_dismissKeeper_0 1 rfl rfl)
theorem dX2_dismissKeeper_4 : decode cX2_dismissKeeper 4 = .ok (.iload_n 1, 1) := dk_27 (dk_at dksX2_dismissKeeper_0 4 rfl rfl)
theorem dX2_dismissKeeper_5 : decode cX2_dismissKeeper 5 = .ok (.invokevirtual 231, 3) := dk_182 0 231 (dk_at dksX2_dismissKeeper_0 5 rfl rfl)
theorem dX2_dismissKeeper_8 : decode cX2_dismissKeeper 8 = .ok (.bipush 105, 2) := dk_16 105 (dk_at dksX2_dismissKeeper_0 8 rfl rfl)
theorem dX2_dismissKeeper_10 : decode cX2_dismissKeeper 10 = .ok (.invokestatic 166, 3) := dk_184 0 166 (dk_at dksX2_dismissKeeper_0 10 rfl rfl)
theorem dX2_dismissKeeper_13 : decode cX2_dismissKeeper 13 = .ok (.aload_n 0, 1) := dk_42 (dk_at dksX2_dismissKeeper_0 13 rfl rfl)
theorem dX2_dismissKeeper_14 : decode cX2_dismissKeeper 14 = .ok (.getfield 21, 3) := dk_180 0 21 (dk_at dksX2_dismissKeeper_0 14 rfl rfl)
theorem dX2_dismissKeeper_17 : decode cX2_dismissKeeper 17 = .ok (.getfield 220, 3) := dk_180 0 220 (dk_at dksX2_dismissKeeper_0 17 rfl rfl)
theorem dX2_dismissKeeper_20 : decode cX2_dismissKeeper 20 = .ok (.iload_n 1, 1) := dk_27 (dk_at dksX2_dismissKeeper_0 20 rfl rfl)
theorem dX2_dismissKeeper_21 : decode cX2_dismissKeeper 21 = .ok (.invokeinterface 234 2, 5) := by decide +kernel
theorem dX2_dismissKeeper_26 : decode cX2_dismissKeeper 26 = .ok (.pop, 1) := dk_87 (dk_at dksX2_dismissKeeper_1 5 rfl rfl)
theorem dX2_dismissKeeper_27 : decode cX2_dismissKeeper 27 = .ok (.aload_n 0, 1) := dk_42 (dk_at dksX2_dismissKeeper_1 6 rfl rfl)
theorem dX2_dismissKeeper_28 : decode cX2_dismissKeeper 28 = .ok (.getfield 21, 3) := dk_180 0 21 (dk_at dksX2_dismissKeeper_1 7 rfl rfl)
theorem dX2_dismissKeeper_31 : decode cX2_dismissKeeper 31 = .ok (.invokevirtual 217, 3) := dk_182 0 217 (dk_at dksX2_dismissKeeper_1 10 rfl rfl)
theorem dX2_dismissKeeper_34 : decode cX2_dismissKeeper 34 = .ok (.ireturn, 1) := dk_172 (dk_at dksX2_dismissKeeper_1 13 rfl rfl)
abbrev cX11_init : ByteArray := prog_9_method_1_code
def yX11_init : MethodName := ⟨RX11, "<init>", "(II)V"⟩
def dkwX11_init_0 : List UInt8 := [42, 183, 0, 1, 42, 27, 181, 0, 7, 42, 28, 181, 0, 13, 177]
abbrev dktX11_init_0 : List UInt8 := dkwX11_init_0 ++ []
theorem dksX11_init_0 : cX11_init.data.toList.drop 0 = dktX11_init_0 := by decide +kernel
theorem dX11_init_0 : decode cX11_init 0 = .ok (.aload_n 0, 1) := dk_42 (dk_at dksX11_init_0 0 rfl rfl)
theorem dX11_init_1 : decode cX11_init 1 = .ok (.invokespecial 1, 3) := dk_183 0 1 (dk_at dksX11_init_0 1 rfl rfl)
theorem dX11_init_4 : decode cX11_init 4 = .ok (.aload_n 0, 1) := dk_42 (dk_at dksX11_init_0 4 rfl rfl)
theorem dX11_init_5 : decode cX11_init 5 = .ok (.iload_n 1, 1) := dk_27 (dk_at dksX11_init_0 5 rfl rfl)
theorem dX11_init_6 : decode cX11_init 6 = .ok (.putfield 7, 3) := dk_181 0 7 (dk_at dksX11_init_0 6 rfl rfl)
theorem dX11_init_9 : decode cX11_init 9 = .ok (.aload_n 0, 1) := dk_42 (dk_at dksX11_init_0 9 rfl rfl)
theorem dX11_init_10 : decode cX11_init 10 = .ok (.iload_n 2, 1) := dk_28 (dk_at dksX11_init_0 10 rfl rfl)
theorem dX11_init_11 : decode cX11_init 11 = .ok (.putfield 13, 3) := dk_181 0 13 (dk_at dksX11_init_0 11 rfl rfl)
theorem dX11_init_14 : decode cX11_init 14 = .ok (.return_, 1) := dk_177 (dk_at dksX11_init_0 14 rfl rfl)
abbrev cX2_areHours : ByteArray := prog_14_method_16_code
def yX2_areHours : MethodName := ⟨RX2, "areHours", "(II)Z"⟩
def dkwX2_areHours_1 : List UInt8 := [167, 0, 4, 3, 172]
abbrev dktX2_areHours_1 : List UInt8 := dkwX2_areHours_1 ++ []
def dkwX2_areHours_0 : List UInt8 := [26, 3, 16, 23, 184, 0, 162, 153, 0, 19, 27, 26, 4, 96, 16, 24, 184, 0, 162, 153, 0, 7, 4]
abbrev dktX2_areHours_0 : List UInt8 := dkwX2_areHours_0 ++ dktX2_areHours_1
theorem dksX2_areHours_0 : cX2_areHours.data.toList.drop 0 = dktX2_areHours_0 := by decide +kernel
theorem dksX2_areHours_1 : cX2_areHours.data.toList.drop 23 = dktX2_areHours_1 := dk_seg dksX2_areHours_0 23 rfl rfl
theorem dX2_areHours_0 : decode cX2_areHours 0 = .ok (.iload_n 0, 1) := dk_26 (dk_at dksX2_areHours_0 0 rfl rfl)
theorem dX2_areHours_1 : decode cX2_areHours 1 = .ok (.iconst 0, 1) := dk_3 (dk_at dksX2_areHours_0 1 rfl rfl)
theorem dX2_areHours_2 : decode cX2_areHours 2 = .ok (.bipush 23, 2) := dk_16 23 (dk_at dksX2_areHours_0 2 rfl rfl)
theorem dX2_areHours_4 : decode cX2_areHours 4 = .ok (.invokestatic 162, 3) := dk_184 0 162 (dk_at dksX2_areHours_0 4 rfl rfl)
theorem dX2_areHours_7 : decode cX2_areHours 7 = .ok (.ifCond .eq 19, 3) := dk_153 0 19 (dk_at dksX2_areHours_0 7 rfl rfl)
theorem dX2_areHours_10 : decode cX2_areHours 10 = .ok (.iload_n 1, 1) := dk_27 (dk_at dksX2_areHours_0 10 rfl rfl)
theorem dX2_areHours_11 : decode cX2_areHours 11 = .ok (.iload_n 0, 1) := dk_26 (dk_at dksX2_areHours_0 11 rfl rfl)
theorem dX2_areHours_12 : decode cX2_areHours 12 = .ok (.iconst 1, 1) := dk_4 (dk_at dksX2_areHours_0 12 rfl rfl)
theorem dX2_areHours_13 : decode cX2_areHours 13 = .ok (.iadd, 1) := dk_96 (dk_at dksX2_areHours_0 13 rfl rfl)
theorem dX2_areHours_14 : decode cX2_areHours 14 = .ok (.bipush 24, 2) := dk_16 24 (dk_at dksX2_areHours_0 14 rfl rfl)
theorem dX2_areHours_16 : decode cX2_areHours 16 = .ok (.invokestatic 162, 3) := dk_184 0 162 (dk_at dksX2_areHours_0 16 rfl rfl)
theorem dX2_areHours_19 : decode cX2_areHours 19 = .ok (.ifCond .eq 7, 3) := dk_153 0 7 (dk_at dksX2_areHours_0 19 rfl rfl)
theorem dX2_areHours_22 : decode cX2_areHours 22 = .ok (.iconst 1, 1) := dk_4 (dk_at dksX2_areHours_0 22 rfl rfl)
theorem dX2_areHours_23 : decode cX2_areHours 23 = .ok (.goto 4, 3) := dk_167 0 4 (dk_at dksX2_areHours_1 0 rfl rfl)
theorem dX2_areHours_26 : decode cX2_areHours 26 = .ok (.iconst 0, 1) := dk_3 (dk_at dksX2_areHours_1 3 rfl rfl)
theorem dX2_areHours_27 : decode cX2_areHours 27 = .ok (.ireturn, 1) := dk_172 (dk_at dksX2_areHours_1 4 rfl rfl)
abbrev cJ4_add_2 : ByteArray := prog_59_method_24_code
def yJ4_add_2 : MethodName := ⟨RJ4, "add", "(Ljava/lang/Object;[Ljava/lang/Object;I)V"⟩
def dkwJ4_add_2_0 : List UInt8 := [29, 44, 190, 160, 0, 8, 42, 182, 0, 129, 77, 44, 29, 43, 83, 42, 29, 4, 96, 181, 0, 48, 177]
abbrev dktJ4_add_2_0 : List UInt8 := dkwJ4_add_2_0 ++ []
theorem dksJ4_add_2_0 : cJ4_add_2.data.toList.drop 0 = dktJ4_add_2_0 := by decide +kernel
theorem dJ4_add_2_0 : decode cJ4_add_2 0 = .ok (.iload_n 3, 1) := dk_29 (dk_at dksJ4_add_2_0 0 rfl rfl)
theorem dJ4_add_2_1 : decode cJ4_add_2 1 = .ok (.aload_n 2, 1) := dk_44 (dk_at dksJ4_add_2_0 1 rfl rfl)
theorem dJ4_add_2_2 : decode cJ4_add_2 2 = .ok (.arraylength, 1) := dk_190 (dk_at dksJ4_add_2_0 2 rfl rfl)
theorem dJ4_add_2_3 : decode cJ4_add_2 3 = .ok (.if_icmp .ne 8, 3) := dk_160 0 8 (dk_at dksJ4_add_2_0 3 rfl rfl)
theorem dJ4_add_2_6 : decode cJ4_add_2 6 = .ok (.aload_n 0, 1) := dk_42 (dk_at dksJ4_add_2_0 6 rfl rfl)
theorem dJ4_add_2_7 : decode cJ4_add_2 7 = .ok (.invokevirtual 129, 3) := dk_182 0 129 (dk_at dksJ4_add_2_0 7 rfl rfl)
theorem dJ4_add_2_10 : decode cJ4_add_2 10 = .ok (.astore_n 2, 1) := dk_77 (dk_at dksJ4_add_2_0 10 rfl rfl)
theorem dJ4_add_2_11 : decode cJ4_add_2 11 = .ok (.aload_n 2, 1) := dk_44 (dk_at dksJ4_add_2_0 11 rfl rfl)
theorem dJ4_add_2_12 : decode cJ4_add_2 12 = .ok (.iload_n 3, 1) := dk_29 (dk_at dksJ4_add_2_0 12 rfl rfl)
theorem dJ4_add_2_13 : decode cJ4_add_2 13 = .ok (.aload_n 1, 1) := dk_43 (dk_at dksJ4_add_2_0 13 rfl rfl)
theorem dJ4_add_2_14 : decode cJ4_add_2 14 = .ok (.aastore, 1) := dk_83 (dk_at dksJ4_add_2_0 14 rfl rfl)
theorem dJ4_add_2_15 : decode cJ4_add_2 15 = .ok (.aload_n 0, 1) := dk_42 (dk_at dksJ4_add_2_0 15 rfl rfl)
theorem dJ4_add_2_16 : decode cJ4_add_2 16 = .ok (.iload_n 3, 1) := dk_29 (dk_at dksJ4_add_2_0 16 rfl rfl)
theorem dJ4_add_2_17 : decode cJ4_add_2 17 = .ok (.iconst 1, 1) := dk_4 (dk_at dksJ4_add_2_0 17 rfl rfl)
theorem dJ4_add_2_18 : decode cJ4_add_2 18 = .ok (.iadd, 1) := dk_96 (dk_at dksJ4_add_2_0 18 rfl rfl)
theorem dJ4_add_2_19 : decode cJ4_add_2 19 = .ok (.putfield 48, 3) := dk_181 0 48 (dk_at dksJ4_add_2_0 19 rfl rfl)
theorem dJ4_add_2_22 : decode cJ4_add_2 22 = .ok (.return_, 1) := dk_177 (dk_at dksJ4_add_2_0 22 rfl rfl)
abbrev cJ4_add : ByteArray := prog_59_method_25_code
def yJ4_add : MethodName := ⟨RJ4, "add", "(Ljava/lang/Object;)Z"⟩
def dkwJ4_add_1 : List UInt8 := [172]
abbrev dktJ4_add_1 : List UInt8 := dkwJ4_add_1 ++ []
def dkwJ4_add_0 : List UInt8 := [42, 89, 180, 0, 63, 4, 96, 181, 0, 63, 42, 43, 42, 180, 0, 9, 42, 180, 0, 48, 182, 0, 131, 4]
abbrev dktJ4_add_0 : List UInt8 := dkwJ4_add_0 ++ dktJ4_add_1
theorem dksJ4_add_0 : cJ4_add.data.toList.drop 0 = dktJ4_add_0 := by decide +kernel
theorem dksJ4_add_1 : cJ4_add.data.toList.drop 24 = dktJ4_add_1 := dk_seg dksJ4_add_0 24 rfl rfl
theorem dJ4_add_0 : decode cJ4_add 0 = .ok (.aload_n 0, 1) := dk_42 (dk_at dksJ4_add_0 0 rfl rfl)
theorem dJ4_add_1 : decode cJ4_add 1 = .ok (.dup, 1) := dk_89 (dk_at dksJ4_add_0 1 rfl rfl)
theorem dJ4_add_2 : decode cJ4_add 2 = .ok (.getfield 63, 3) := dk_180 0 63 (dk_at dksJ4_add_0 2 rfl rfl)
theorem dJ4_add_5 : decode cJ4_add 5 = .ok (.iconst 1, 1) := dk_4 (dk_at dksJ4_add_0 5 rfl rfl)
theorem dJ4_add_6 : decode cJ4_add 6 = .ok (.iadd, 1) := dk_96 (dk_at dksJ4_add_0 6 rfl rfl)
theorem dJ4_add_7 : decode cJ4_add 7 = .ok (.putfield 63, 3) := dk_181 0 63 (dk_at dksJ4_add_0 7 rfl rfl)
theorem dJ4_add_10 : decode cJ4_add 10 = .ok (.aload_n 0, 1) := dk_42 (dk_at dksJ4_add_0 10 rfl rfl)
theorem dJ4_add_11 : decode cJ4_add 11 = .ok (.aload_n 1, 1) := dk_43 (dk_at dksJ4_add_0 11 rfl rfl)
theorem dJ4_add_12 : decode cJ4_add 12 = .ok (.aload_n 0, 1) := dk_42 (dk_at dksJ4_add_0 12 rfl rfl)
theorem dJ4_add_13 : decode cJ4_add 13 = .ok (.getfield 9, 3) := dk_180 0 9 (dk_at dksJ4_add_0 13 rfl rfl)
theorem dJ4_add_16 : decode cJ4_add 16 = .ok (.aload_n 0, 1) := dk_42 (dk_at dksJ4_add_0 16 rfl rfl)
theorem dJ4_add_17 : decode cJ4_add 17 = .ok (.getfield 48, 3) := dk_180 0 48 (dk_at dksJ4_add_0 17 rfl rfl)
theorem dJ4_add_20 : decode cJ4_add 20 = .ok (.invokevirtual 131, 3) := dk_182 0 131 (dk_at dksJ4_add_0 20 rfl rfl)
theorem dJ4_add_23 : decode cJ4_add 23 = .ok (.iconst 1, 1) := dk_4 (dk_at dksJ4_add_0 23 rfl rfl)
theorem dJ4_add_24 : decode cJ4_add 24 = .ok (.ireturn, 1) := dk_172 (dk_at dksJ4_add_1 0 rfl rfl)
abbrev cX2_hireKeeper : ByteArray := prog_14_method_17_code
def yX2_hireKeeper : MethodName := ⟨RX2, "hireKeeper", "(II)I"⟩
def dkwX2_hireKeeper_2 : List UInt8 := [183, 0, 225, 185, 0, 228, 2, 0, 87, 42, 180, 0, 21, 182, 0, 217, 4, 100, 172]
abbrev dktX2_hireKeeper_2 : List UInt8 := dkwX2_hireKeeper_2 ++ []
def dkwX2_hireKeeper_1 : List UInt8 := [167, 0, 4, 3, 16, 115, 184, 0, 166, 42, 180, 0, 21, 180, 0, 220, 187, 0, 223, 89, 27, 28]
abbrev dktX2_hireKeeper_1 : List UInt8 := dkwX2_hireKeeper_1 ++ dktX2_hireKeeper_2
def dkwX2_hireKeeper_0 : List UInt8 := [27, 28, 184, 0, 213, 16, 97, 184, 0, 166, 42, 180, 0, 21, 182, 0, 217, 16, 6, 162, 0, 7, 4]
abbrev dktX2_hireKeeper_0 : List UInt8 := dkwX2_hireKeeper_0 ++ dktX2_hireKeeper_1
theorem dksX2_hireKeeper_0 : cX2_hireKeeper.data.toList.drop 0 = dktX2_hireKeeper_0 := by decide +kernel
theorem dksX2_hireKeeper_1 : cX2_hireKeeper.data.toList.drop 23 = dktX2_hireKeeper_1 := dk_seg dksX2_hireKeeper_0 23 rfl rfl
theorem dksX2_hireKeeper_2 : cX2_hireKeeper.data.toList.drop 45 = dktX2_hireKeeper_2 := dk_seg dksX2_hireKeeper_1 22 rfl rfl
theorem dX2_hireKeeper_0 : decode cX2_hireKeeper 0 = .ok (.iload_n 1, 1) := dk_27 (dk_at dksX2_hireKeeper_0 0 rfl rfl)
theorem dX2_hireKeeper_1 : decode cX2_hireKeeper 1 = .ok (.iload_n 2, 1) := dk_28 (dk_at dksX2_hireKeeper_0 1 rfl rfl)
theorem dX2_hireKeeper_2 : decode cX2_hireKeeper 2 = .ok (.invokestatic 213, 3) := dk_184 0 213 (dk_at dksX2_hireKeeper_0 2 rfl rfl)
theorem dX2_hireKeeper_5 : decode cX2_hireKeeper 5 = .ok (.bipush 97, 2) := dk_16 97 (dk_at dksX2_hireKeeper_0 5 rfl rfl)
theorem dX2_hireKeeper_7 : decode cX2_hireKeeper 7 = .ok (.invokestatic 166, 3) := dk_184 0 166 (dk_at dksX2_hireKeeper_0 7 rfl rfl)
theorem dX2_hireKeeper_10 : decode cX2_hireKeeper 10 = .ok (.aload_n 0, 1) := dk_42 (dk_at dksX2_hireKeeper_0 10 rfl rfl)
theorem dX2_hireKeeper_11 : decode cX2_hireKeeper 11 = .ok (.getfield 21, 3) := dk_180 0 21 (dk_at dksX2_hireKeeper_0 11 rfl rfl)
theorem dX2_hireKeeper_14 : decode cX2_hireKeeper 14 = .ok (.invokevirtual 217, 3) := dk_182 0 217 (dk_at dksX2_hireKeeper_0 14 rfl rfl)
theorem dX2_hireKeeper_17 : decode cX2_hireKeeper 17 = .ok (.bipush 6, 2) := dk_16 6 (dk_at dksX2_hireKeeper_0 17 rfl rfl)
theorem dX2_hireKeeper_19 : decode cX2_hireKeeper 19 = .ok (.if_icmp .ge 7, 3) := dk_162 0 7 (dk_at dksX2_hireKeeper_0 19 rfl rfl)
theorem dX2_hireKeeper_22 : decode cX2_hireKeeper 22 = .ok (.iconst 1, 1) := dk_4 (dk_at dksX2_hireKeeper_0 22 rfl rfl)
theorem dX2_hireKeeper_23 : decode cX2_hireKeeper 23 = .ok (.goto 4, 3) := dk_167 0 4 (dk_at dksX2_hireKeeper_1 0 rfl rfl)
theorem dX2_hireKeeper_26 : decode cX2_hireKeeper 26 = .ok (.iconst 0, 1) := dk_3 (dk_at dksX2_hireKeeper_1 3 rfl rfl)
theorem dX2_hireKeeper_27 : decode cX2_hireKeeper 27 = .ok (.bipush 115, 2) := dk_16 115 (dk_at dksX2_hireKeeper_1 4 rfl rfl)
theorem dX2_hireKeeper_29 : decode cX2_hireKeeper 29 = .ok (.invokestatic 166, 3) := dk_184 0 166 (dk_at dksX2_hireKeeper_1 6 rfl rfl)
theorem dX2_hireKeeper_32 : decode cX2_hireKeeper 32 = .ok (.aload_n 0, 1) := dk_42 (dk_at dksX2_hireKeeper_1 9 rfl rfl)
theorem dX2_hireKeeper_33 : decode cX2_hireKeeper 33 = .ok (.getfield 21, 3) := dk_180 0 21 (dk_at dksX2_hireKeeper_1 10 rfl rfl)
theorem dX2_hireKeeper_36 : decode cX2_hireKeeper 36 = .ok (.getfield 220, 3) := dk_180 0 220 (dk_at dksX2_hireKeeper_1 13 rfl rfl)
theorem dX2_hireKeeper_39 : decode cX2_hireKeeper 39 = .ok (.new 223, 3) := dk_187 0 223 (dk_at dksX2_hireKeeper_1 16 rfl rfl)
theorem dX2_hireKeeper_42 : decode cX2_hireKeeper 42 = .ok (.dup, 1) := dk_89 (dk_at dksX2_hireKeeper_1 19 rfl rfl)
theorem dX2_hireKeeper_43 : decode cX2_hireKeeper 43 = .ok (.iload_n 1, 1) := dk_27 (dk_at dksX2_hireKeeper_1 20 rfl rfl)
theorem dX2_hireKeeper_44 : decode cX2_hireKeeper 44 = .ok (.iload_n 2, 1) := dk_28 (dk_at dksX2_hireKeeper_1 21 rfl rfl)
theorem dX2_hireKeeper_45 : decode cX2_hireKeeper 45 = .ok (.invokespecial 225, 3) := dk_183 0 225 (dk_at dksX2_hireKeeper_2 0 rfl rfl)
theorem dX2_hireKeeper_48 : decode cX2_hireKeeper 48 = .ok (.invokeinterface 228 2, 5) := by decide +kernel
theorem dX2_hireKeeper_53 : decode cX2_hireKeeper 53 = .ok (.pop, 1) := dk_87 (dk_at dksX2_hireKeeper_2 8 rfl rfl)
theorem dX2_hireKeeper_54 : decode cX2_hireKeeper 54 = .ok (.aload_n 0, 1) := dk_42 (dk_at dksX2_hireKeeper_2 9 rfl rfl)
theorem dX2_hireKeeper_55 : decode cX2_hireKeeper 55 = .ok (.getfield 21, 3) := dk_180 0 21 (dk_at dksX2_hireKeeper_2 10 rfl rfl)
theorem dX2_hireKeeper_58 : decode cX2_hireKeeper 58 = .ok (.invokevirtual 217, 3) := dk_182 0 217 (dk_at dksX2_hireKeeper_2 13 rfl rfl)
theorem dX2_hireKeeper_61 : decode cX2_hireKeeper 61 = .ok (.iconst 1, 1) := dk_4 (dk_at dksX2_hireKeeper_2 16 rfl rfl)
theorem dX2_hireKeeper_62 : decode cX2_hireKeeper 62 = .ok (.isub, 1) := dk_100 (dk_at dksX2_hireKeeper_2 17 rfl rfl)
theorem dX2_hireKeeper_63 : decode cX2_hireKeeper 63 = .ok (.ireturn, 1) := dk_172 (dk_at dksX2_hireKeeper_2 18 rfl rfl)
abbrev cJ1_fixAfterDeletion : ByteArray := prog_96_method_85_code
def yJ1_fixAfterDeletion : MethodName := ⟨RJ1, "fixAfterDeletion", "(Ljava/util/TreeMap$Entry;)V"⟩
def dkwJ1_fixAfterDeletion_14 : List UInt8 := [182, 1, 58, 42, 180, 0, 101, 76, 167, 254, 170, 43, 4, 184, 1, 51, 177]
abbrev dktJ1_fixAfterDeletion_14 : List UInt8 := dkwJ1_fixAfterDeletion_14 ++ []
def dkwJ1_fixAfterDeletion_13 : List UInt8 := [184, 1, 51, 43, 184, 1, 38, 4, 184, 1, 51, 44, 184, 1, 41, 4, 184, 1, 51, 42, 43, 184, 1, 38]
abbrev dktJ1_fixAfterDeletion_13 : List UInt8 := dkwJ1_fixAfterDeletion_13 ++ dktJ1_fixAfterDeletion_14
def dkwJ1_fixAfterDeletion_12 : List UInt8 := [184, 1, 51, 42, 44, 182, 1, 55, 43, 184, 1, 38, 184, 1, 41, 77, 44, 43, 184, 1, 38, 184, 1, 47]
abbrev dktJ1_fixAfterDeletion_12 : List UInt8 := dkwJ1_fixAfterDeletion_12 ++ dktJ1_fixAfterDeletion_13
def dkwJ1_fixAfterDeletion_11 : List UInt8 := [167, 0, 80, 44, 184, 1, 41, 184, 1, 47, 4, 160, 0, 29, 44, 184, 1, 44, 4, 184, 1, 51, 44, 3]
abbrev dktJ1_fixAfterDeletion_11 : List UInt8 := dkwJ1_fixAfterDeletion_11 ++ dktJ1_fixAfterDeletion_12
def dkwJ1_fixAfterDeletion_10 : List UInt8 := [160, 0, 27, 44, 184, 1, 41, 184, 1, 47, 4, 160, 0, 16, 44, 3, 184, 1, 51, 43, 184, 1, 38, 76]
abbrev dktJ1_fixAfterDeletion_10 : List UInt8 := dkwJ1_fixAfterDeletion_10 ++ dktJ1_fixAfterDeletion_11
def dkwJ1_fixAfterDeletion_9 : List UInt8 := [42, 43, 184, 1, 38, 182, 1, 58, 43, 184, 1, 38, 184, 1, 41, 77, 44, 184, 1, 44, 184, 1, 47, 4]
abbrev dktJ1_fixAfterDeletion_9 : List UInt8 := dkwJ1_fixAfterDeletion_9 ++ dktJ1_fixAfterDeletion_10
def dkwJ1_fixAfterDeletion_8 : List UInt8 := [184, 1, 41, 77, 44, 184, 1, 47, 154, 0, 32, 44, 4, 184, 1, 51, 43, 184, 1, 38, 3, 184, 1, 51]
abbrev dktJ1_fixAfterDeletion_8 : List UInt8 := dkwJ1_fixAfterDeletion_8 ++ dktJ1_fixAfterDeletion_9
def dkwJ1_fixAfterDeletion_7 : List UInt8 := [4, 184, 1, 51, 42, 43, 184, 1, 38, 182, 1, 55, 42, 180, 0, 101, 76, 167, 255, 73, 43, 184, 1, 38]
abbrev dktJ1_fixAfterDeletion_7 : List UInt8 := dkwJ1_fixAfterDeletion_7 ++ dktJ1_fixAfterDeletion_8
def dkwJ1_fixAfterDeletion_6 : List UInt8 := [77, 44, 43, 184, 1, 38, 184, 1, 47, 184, 1, 51, 43, 184, 1, 38, 4, 184, 1, 51, 44, 184, 1, 44]
abbrev dktJ1_fixAfterDeletion_6 : List UInt8 := dkwJ1_fixAfterDeletion_6 ++ dktJ1_fixAfterDeletion_7
def dkwJ1_fixAfterDeletion_5 : List UInt8 := [184, 1, 41, 4, 184, 1, 51, 44, 3, 184, 1, 51, 42, 44, 182, 1, 58, 43, 184, 1, 38, 184, 1, 44]
abbrev dktJ1_fixAfterDeletion_5 : List UInt8 := dkwJ1_fixAfterDeletion_5 ++ dktJ1_fixAfterDeletion_6
def dkwJ1_fixAfterDeletion_4 : List UInt8 := [184, 1, 51, 43, 184, 1, 38, 76, 167, 0, 80, 44, 184, 1, 44, 184, 1, 47, 4, 160, 0, 29, 44]
abbrev dktJ1_fixAfterDeletion_4 : List UInt8 := dkwJ1_fixAfterDeletion_4 ++ dktJ1_fixAfterDeletion_5
def dkwJ1_fixAfterDeletion_3 : List UInt8 := [184, 1, 41, 184, 1, 47, 4, 160, 0, 27, 44, 184, 1, 44, 184, 1, 47, 4, 160, 0, 16, 44, 3]
abbrev dktJ1_fixAfterDeletion_3 : List UInt8 := dkwJ1_fixAfterDeletion_3 ++ dktJ1_fixAfterDeletion_4
def dkwJ1_fixAfterDeletion_2 : List UInt8 := [184, 1, 38, 3, 184, 1, 51, 42, 43, 184, 1, 38, 182, 1, 55, 43, 184, 1, 38, 184, 1, 44, 77, 44]
abbrev dktJ1_fixAfterDeletion_2 : List UInt8 := dkwJ1_fixAfterDeletion_2 ++ dktJ1_fixAfterDeletion_3
def dkwJ1_fixAfterDeletion_1 : List UInt8 := [166, 0, 162, 43, 184, 1, 38, 184, 1, 44, 77, 44, 184, 1, 47, 154, 0, 32, 44, 4, 184, 1, 51, 43]
abbrev dktJ1_fixAfterDeletion_1 : List UInt8 := dkwJ1_fixAfterDeletion_1 ++ dktJ1_fixAfterDeletion_2
def dkwJ1_fixAfterDeletion_0 : List UInt8 := [43, 42, 180, 0, 101, 165, 1, 84, 43, 184, 1, 47, 4, 160, 1, 76, 43, 43, 184, 1, 38, 184, 1, 41]
abbrev dktJ1_fixAfterDeletion_0 : List UInt8 := dkwJ1_fixAfterDeletion_0 ++ dktJ1_fixAfterDeletion_1
theorem dksJ1_fixAfterDeletion_0 : cJ1_fixAfterDeletion.data.toList.drop 0 = dktJ1_fixAfterDeletion_0 := by decide +kernel
theorem dksJ1_fixAfterDeletion_1 : cJ1_fixAfterDeletion.data.toList.drop 24 = dktJ1_fixAfterDeletion_1 := dk_seg dksJ1_fixAfterDeletion_0 24 rfl rfl
theorem dksJ1_fixAfterDeletion_2 : cJ1_fixAfterDeletion.data.toList.drop 48 = dktJ1_fixAfterDeletion_2 := dk_seg dksJ1_fixAfterDeletion_1 24 rfl rfl
theorem dksJ1_fixAfterDeletion_3 : cJ1_fixAfterDeletion.data.toList.drop 72 = dktJ1_fixAfterDeletion_3 := dk_seg dksJ1_fixAfterDeletion_2 24 rfl rfl
theorem dksJ1_fixAfterDeletion_4 : cJ1_fixAfterDeletion.data.toList.drop 95 = dktJ1_fixAfterDeletion_4 := dk_seg dksJ1_fixAfterDeletion_3 23 rfl rfl
theorem dksJ1_fixAfterDeletion_5 : cJ1_fixAfterDeletion.data.toList.drop 118 = dktJ1_fixAfterDeletion_5 := dk_seg dksJ1_fixAfterDeletion_4 23 rfl rfl
theorem dksJ1_fixAfterDeletion_6 : cJ1_fixAfterDeletion.data.toList.drop 142 = dktJ1_fixAfterDeletion_6 := dk_seg dksJ1_fixAfterDeletion_5 24 rfl rfl
theorem dksJ1_fixAfterDeletion_7 : cJ1_fixAfterDeletion.data.toList.drop 166 = dktJ1_fixAfterDeletion_7 := dk_seg dksJ1_fixAfterDeletion_6 24 rfl rfl
theorem dksJ1_fixAfterDeletion_8 : cJ1_fixAfterDeletion.data.toList.drop 190 = dktJ1_fixAfterDeletion_8 := dk_seg dksJ1_fixAfterDeletion_7 24 rfl rfl
theorem dksJ1_fixAfterDeletion_9 : cJ1_fixAfterDeletion.data.toList.drop 214 = dktJ1_fixAfterDeletion_9 := dk_seg dksJ1_fixAfterDeletion_8 24 rfl rfl
theorem dksJ1_fixAfterDeletion_10 : cJ1_fixAfterDeletion.data.toList.drop 238 = dktJ1_fixAfterDeletion_10 := dk_seg dksJ1_fixAfterDeletion_9 24 rfl rfl
theorem dksJ1_fixAfterDeletion_11 : cJ1_fixAfterDeletion.data.toList.drop 262 = dktJ1_fixAfterDeletion_11 := dk_seg dksJ1_fixAfterDeletion_10 24 rfl rfl
theorem dksJ1_fixAfterDeletion_12 : cJ1_fixAfterDeletion.data.toList.drop 286 = dktJ1_fixAfterDeletion_12 := dk_seg dksJ1_fixAfterDeletion_11 24 rfl rfl
theorem dksJ1_fixAfterDeletion_13 : cJ1_fixAfterDeletion.data.toList.drop 310 = dktJ1_fixAfterDeletion_13 := dk_seg dksJ1_fixAfterDeletion_12 24 rfl rfl
theorem dksJ1_fixAfterDeletion_14 : cJ1_fixAfterDeletion.data.toList.drop 334 = dktJ1_fixAfterDeletion_14 := dk_seg dksJ1_fixAfterDeletion_13 24 rfl rfl
theorem dJ1_fixAfterDeletion_0 : decode cJ1_fixAfterDeletion 0 = .ok (.aload_n 1, 1) := dk_43 (dk_at dksJ1_fixAfterDeletion_0 0 rfl rfl)
theorem dJ1_fixAfterDeletion_1 : decode cJ1_fixAfterDeletion 1 = .ok (.aload_n 0, 1) := dk_42 (dk_at dksJ1_fixAfterDeletion_0 1 rfl rfl)
theorem dJ1_fixAfterDeletion_2 : decode cJ1_fixAfterDeletion 2 = .ok (.getfield 101, 3) := dk_180 0 101 (dk_at dksJ1_fixAfterDeletion_0 2 rfl rfl)
theorem dJ1_fixAfterDeletion_5 : decode cJ1_fixAfterDeletion 5 = .ok (.if_acmp .eq 340, 3) := dk_165 1 84 (dk_at dksJ1_fixAfterDeletion_0 5 rfl rfl)
theorem dJ1_fixAfterDeletion_8 : decode cJ1_fixAfterDeletion 8 = .ok (.aload_n 1, 1) := dk_43 (dk_at dksJ1_fixAfterDeletion_0 8 rfl rfl)
theorem dJ1_fixAfterDeletion_9 : decode cJ1_fixAfterDeletion 9 = .ok (.invokestatic 303, 3) := dk_184 1 47 (dk_at dksJ1_fixAfterDeletion_0 9 rfl rfl)
theorem dJ1_fixAfterDeletion_12 : decode cJ1_fixAfterDeletion 12 = .ok (.iconst 1, 1) := dk_4 (dk_at dksJ1_fixAfterDeletion_0 12 rfl rfl)
theorem dJ1_fixAfterDeletion_13 : decode cJ1_fixAfterDeletion 13 = .ok (.if_icmp .ne 332, 3) := dk_160 1 76 (dk_at dksJ1_fixAfterDeletion_0 13 rfl rfl)
theorem dJ1_fixAfterDeletion_16 : decode cJ1_fixAfterDeletion 16 = .ok (.aload_n 1, 1) := dk_43 (dk_at dksJ1_fixAfterDeletion_0 16 rfl rfl)
theorem dJ1_fixAfterDeletion_17 : decode cJ1_fixAfterDeletion 17 = .ok (.aload_n 1, 1) := dk_43 (dk_at dksJ1_fixAfterDeletion_0 17 rfl rfl)
theorem dJ1_fixAfterDeletion_18 : decode cJ1_fixAfterDeletion 18 = .ok (.invokestatic 294, 3) := dk_184 1 38 (dk_at dksJ1_fixAfterDeletion_0 18 rfl rfl)
theorem dJ1_fixAfterDeletion_21 : decode cJ1_fixAfterDeletion 21 = .ok (.invokestatic 297, 3) := dk_184 1 41 (dk_at dksJ1_fixAfterDeletion_0 21 rfl rfl)
theorem dJ1_fixAfterDeletion_24 : decode cJ1_fixAfterDeletion 24 = .ok (.if_acmp .ne 162, 3) := dk_166 0 162 (dk_at dksJ1_fixAfterDeletion_1 0 rfl rfl)
theorem dJ1_fixAfterDeletion_27 : decode cJ1_fixAfterDeletion 27 = .ok (.aload_n 1, 1) := dk_43 (dk_at dksJ1_fixAfterDeletion_1 3 rfl rfl)
theorem dJ1_fixAfterDeletion_28 : decode cJ1_fixAfterDeletion 28 = .ok (.invokestatic 294, 3) := dk_184 1 38 (dk_at dksJ1_fixAfterDeletion_1 4 rfl rfl)
theorem dJ1_fixAfterDeletion_31 : decode cJ1_fixAfterDeletion 31 = .ok (.invokestatic 300, 3) := dk_184 1 44 (dk_at dksJ1_fixAfterDeletion_1 7 rfl rfl)
theorem dJ1_fixAfterDeletion_34 : decode cJ1_fixAfterDeletion 34 = .ok (.astore_n 2, 1) := dk_77 (dk_at dksJ1_fixAfterDeletion_1 10 rfl rfl)
theorem dJ1_fixAfterDeletion_35 : decode cJ1_fixAfterDeletion 35 = .ok (.aload_n 2, 1) := dk_44 (dk_at dksJ1_fixAfterDeletion_1 11 rfl rfl)
theorem dJ1_fixAfterDeletion_36 : decode cJ1_fixAfterDeletion 36 = .ok (.invokestatic 303, 3) := dk_184 1 47 (dk_at dksJ1_fixAfterDeletion_1 12 rfl rfl)
theorem dJ1_fixAfterDeletion_39 : decode cJ1_fixAfterDeletion 39 = .ok (.ifCond .ne 32, 3) := dk_154 0 32 (dk_at dksJ1_fixAfterDeletion_1 15 rfl rfl)
theorem dJ1_fixAfterDeletion_42 : decode cJ1_fixAfterDeletion 42 = .ok (.aload_n 2, 1) := dk_44 (dk_at dksJ1_fixAfterDeletion_1 18 rfl rfl)
theorem dJ1_fixAfterDeletion_43 : decode cJ1_fixAfterDeletion 43 = .ok (.iconst 1, 1) := dk_4 (dk_at dksJ1_fixAfterDeletion_1 19 rfl rfl)
theorem dJ1_fixAfterDeletion_44 : decode cJ1_fixAfterDeletion 44 = .ok (.invokestatic 307, 3) := dk_184 1 51 (dk_at dksJ1_fixAfterDeletion_1 20 rfl rfl)
theorem dJ1_fixAfterDeletion_47 : decode cJ1_fixAfterDeletion 47 = .ok (.aload_n 1, 1) := dk_43 (dk_at dksJ1_fixAfterDeletion_1 23 rfl rfl)
theorem dJ1_fixAfterDeletion_48 : decode cJ1_fixAfterDeletion 48 = .ok (.invokestatic 294, 3) := dk_184 1 38 (dk_at dksJ1_fixAfterDeletion_2 0 rfl rfl)
theorem dJ1_fixAfterDeletion_51 : decode cJ1_fixAfterDeletion 51 = .ok (.iconst 0, 1) := dk_3 (dk_at dksJ1_fixAfterDeletion_2 3 rfl rfl)
theorem dJ1_fixAfterDeletion_52 : decode cJ1_fixAfterDeletion 52 = .ok (.invokestatic 307, 3) := dk_184 1 51 (dk_at dksJ1_fixAfterDeletion_2 4 rfl rfl)
theorem dJ1_fixAfterDeletion_55 : decode cJ1_fixAfterDeletion 55 = .ok (.aload_n 0, 1) := dk_42 (dk_at dksJ1_fixAfterDeletion_2 7 rfl rfl)
theorem dJ1_fixAfterDeletion_56 : decode cJ1_fixAfterDeletion 56 = .ok (.aload_n 1, 1) := dk_43 (dk_at dksJ1_fixAfterDeletion_2 8 rfl rfl)
theorem dJ1_fixAfterDeletion_57 : decode cJ1_fixAfterDeletion 57 = .ok (.invokestatic 294, 3) := dk_184 1 38 (dk_at dksJ1_fixAfterDeletion_2 9 rfl rfl)
theorem dJ1_fixAfterDeletion_60 : decode cJ1_fixAfterDeletion 60 = .ok (.invokevirtual 311, 3) := dk_182 1 55 (dk_at dksJ1_fixAfterDeletion_2 12 rfl rfl)
theorem dJ1_fixAfterDeletion_63 : decode cJ1_fixAfterDeletion 63 = .ok (.aload_n 1, 1) := dk_43 (dk_at dksJ1_fixAfterDeletion_2 15 rfl rfl)
theorem dJ1_fixAfterDeletion_64 : decode cJ1_fixAfterDeletion 64 = .ok (.invokestatic 294, 3) := dk_184 1 38 (dk_at dksJ1_fixAfterDeletion_2 16 rfl rfl)
theorem dJ1_fixAfterDeletion_67 : decode cJ1_fixAfterDeletion 67 = .ok (.invokestatic 300, 3) := dk_184 1 44 (dk_at dksJ1_fixAfterDeletion_2 19 rfl rfl)
theorem dJ1_fixAfterDeletion_70 : decode cJ1_fixAfterDeletion 70 = .ok (.astore_n 2, 1) := dk_77 (dk_at dksJ1_fixAfterDeletion_2 22 rfl rfl)
theorem dJ1_fixAfterDeletion_71 : decode cJ1_fixAfterDeletion 71 = .ok (.aload_n 2, 1) := dk_44 (dk_at dksJ1_fixAfterDeletion_2 23 rfl rfl)
theorem dJ1_fixAfterDeletion_72 : decode cJ1_fixAfterDeletion 72 = .ok (.invokestatic 297, 3) := dk_184 1 41 (dk_at dksJ1_fixAfterDeletion_3 0 rfl rfl)
theorem dJ1_fixAfterDeletion_75 : decode cJ1_fixAfterDeletion 75 = .ok (.invokestatic 303, 3) := dk_184 1 47 (dk_at dksJ1_fixAfterDeletion_3 3 rfl rfl)
theorem dJ1_fixAfterDeletion_78 : decode cJ1_fixAfterDeletion 78 = .ok (.iconst 1, 1) := dk_4 (dk_at dksJ1_fixAfterDeletion_3 6 rfl rfl)
theorem dJ1_fixAfterDeletion_79 : decode cJ1_fixAfterDeletion 79 = .ok (.if_icmp .ne 27, 3) := dk_160 0 27 (dk_at dksJ1_fixAfterDeletion_3 7 rfl rfl)
theorem dJ1_fixAfterDeletion_82 : decode cJ1_fixAfterDeletion 82 = .ok (.aload_n 2, 1) := dk_44 (dk_at dksJ1_fixAfterDeletion_3 10 rfl rfl)
theorem dJ1_fixAfterDeletion_83 : decode cJ1_fixAfterDeletion 83 = .ok (.invokestatic 300, 3) := dk_184 1 44 (dk_at dksJ1_fixAfterDeletion_3 11 rfl rfl)
theorem dJ1_fixAfterDeletion_86 : decode cJ1_fixAfterDeletion 86 = .ok (.invokestatic 303, 3) := dk_184 1 47 (dk_at dksJ1_fixAfterDeletion_3 14 rfl rfl)
theorem dJ1_fixAfterDeletion_89 : decode cJ1_fixAfterDeletion 89 = .ok (.iconst 1, 1) := dk_4 (dk_at dksJ1_fixAfterDeletion_3 17 rfl rfl)
theorem dJ1_fixAfterDeletion_90 : decode cJ1_fixAfterDeletion 90 = .ok (.if_icmp .ne 16, 3) := dk_160 0 16 (dk_at dksJ1_fixAfterDeletion_3 18 rfl rfl)
theorem dJ1_fixAfterDeletion_93 : decode cJ1_fixAfterDeletion 93 = .ok (.aload_n 2, 1) := dk_44 (dk_at dksJ1_fixAfterDeletion_3 21 rfl rfl)
theorem dJ1_fixAfterDeletion_94 : decode cJ1_fixAfterDeletion 94 = .ok (.iconst 0, 1) := dk_3 (dk_at dksJ1_fixAfterDeletion_3 22 rfl rfl)
theorem dJ1_fixAfterDeletion_95 : decode cJ1_fixAfterDeletion 95 = .ok (.invokestatic 307, 3) := dk_184 1 51 (dk_at dksJ1_fixAfterDeletion_4 0 rfl rfl)
theorem dJ1_fixAfterDeletion_98 : decode cJ1_fixAfterDeletion 98 = .ok (.aload_n 1, 1) := dk_43 (dk_at dksJ1_fixAfterDeletion_4 3 rfl rfl)
theorem dJ1_fixAfterDeletion_99 : decode cJ1_fixAfterDeletion 99 = .ok (.invokestatic 294, 3) := dk_184 1 38 (dk_at dksJ1_fixAfterDeletion_4 4 rfl rfl)
theorem dJ1_fixAfterDeletion_102 : decode cJ1_fixAfterDeletion 102 = .ok (.astore_n 1, 1) := dk_76 (dk_at dksJ1_fixAfterDeletion_4 7 rfl rfl)
theorem dJ1_fixAfterDeletion_103 : decode cJ1_fixAfterDeletion 103 = .ok (.goto 80, 3) := dk_167 0 80 (dk_at dksJ1_fixAfterDeletion_4 8 rfl rfl)
theorem dJ1_fixAfterDeletion_106 : decode cJ1_fixAfterDeletion 106 = .ok (.aload_n 2, 1) := dk_44 (dk_at dksJ1_fixAfterDeletion_4 11 rfl rfl)
theorem dJ1_fixAfterDeletion_107 : decode cJ1_fixAfterDeletion 107 = .ok (.invokestatic 300, 3) := dk_184 1 44 (dk_at dksJ1_fixAfterDeletion_4 12 rfl rfl)
theorem dJ1_fixAfterDeletion_110 : decode cJ1_fixAfterDeletion 110 = .ok (.invokestatic 303, 3) := dk_184 1 47 (dk_at dksJ1_fixAfterDeletion_4 15 rfl rfl)
theorem dJ1_fixAfterDeletion_113 : decode cJ1_fixAfterDeletion 113 = .ok (.iconst 1, 1) := dk_4 (dk_at dksJ1_fixAfterDeletion_4 18 rfl rfl)
theorem dJ1_fixAfterDeletion_114 : decode cJ1_fixAfterDeletion 114 = .ok (.if_icmp .ne 29, 3) := dk_160 0 29 (dk_at dksJ1_fixAfterDeletion_4 19 rfl rfl)
theorem dJ1_fixAfterDeletion_117 : decode cJ1_fixAfterDeletion 117 = .ok (.aload_n 2, 1) := dk_44 (dk_at dksJ1_fixAfterDeletion_4 22 rfl rfl)
theorem dJ1_fixAfterDeletion_118 : decode cJ1_fixAfterDeletion 118 = .ok (.invokestatic 297, 3) := dk_184 1 41 (dk_at dksJ1_fixAfterDeletion_5 0 rfl rfl)
theorem dJ1_fixAfterDeletion_121 : decode cJ1_fixAfterDeletion 121 = .ok (.iconst 1, 1) := dk_4 (dk_at dksJ1_fixAfterDeletion_5 3 rfl rfl)
theorem dJ1_fixAfterDeletion_122 : decode cJ1_fixAfterDeletion 122 = .ok (.invokestatic 307, 3) := dk_184 1 51 (dk_at dksJ1_fixAfterDeletion_5 4 rfl rfl)
theorem dJ1_fixAfterDeletion_125 : decode cJ1_fixAfterDeletion 125 = .ok (.aload_n 2, 1) := dk_44 (dk_at dksJ1_fixAfterDeletion_5 7 rfl rfl)
theorem dJ1_fixAfterDeletion_126 : decode cJ1_fixAfterDeletion 126 = .ok (.iconst 0, 1) := dk_3 (dk_at dksJ1_fixAfterDeletion_5 8 rfl rfl)
theorem dJ1_fixAfterDeletion_127 : decode cJ1_fixAfterDeletion 127 = .ok (.invokestatic 307, 3) := dk_184 1 51 (dk_at dksJ1_fixAfterDeletion_5 9 rfl rfl)
theorem dJ1_fixAfterDeletion_130 : decode cJ1_fixAfterDeletion 130 = .ok (.aload_n 0, 1) := dk_42 (dk_at dksJ1_fixAfterDeletion_5 12 rfl rfl)
theorem dJ1_fixAfterDeletion_131 : decode cJ1_fixAfterDeletion 131 = .ok (.aload_n 2, 1) := dk_44 (dk_at dksJ1_fixAfterDeletion_5 13 rfl rfl)
theorem dJ1_fixAfterDeletion_132 : decode cJ1_fixAfterDeletion 132 = .ok (.invokevirtual 314, 3) := dk_182 1 58 (dk_at dksJ1_fixAfterDeletion_5 14 rfl rfl)
theorem dJ1_fixAfterDeletion_135 : decode cJ1_fixAfterDeletion 135 = .ok (.aload_n 1, 1) := dk_43 (dk_at dksJ1_fixAfterDeletion_5 17 rfl rfl)
theorem dJ1_fixAfterDeletion_136 : decode cJ1_fixAfterDeletion 136 = .ok (.invokestatic 294, 3) := dk_184 1 38 (dk_at dksJ1_fixAfterDeletion_5 18 rfl rfl)
theorem dJ1_fixAfterDeletion_139 : decode cJ1_fixAfterDeletion 139 = .ok (.invokestatic 300, 3) := dk_184 1 44 (dk_at dksJ1_fixAfterDeletion_5 21 rfl rfl)
theorem dJ1_fixAfterDeletion_142 : decode cJ1_fixAfterDeletion 142 = .ok (.astore_n 2, 1) := dk_77 (dk_at dksJ1_fixAfterDeletion_6 0 rfl rfl)
theorem dJ1_fixAfterDeletion_143 : decode cJ1_fixAfterDeletion 143 = .ok (.aload_n 2, 1) := dk_44 (dk_at dksJ1_fixAfterDeletion_6 1 rfl rfl)
theorem dJ1_fixAfterDeletion_144 : decode cJ1_fixAfterDeletion 144 = .ok (.aload_n 1, 1) := dk_43 (dk_at dksJ1_fixAfterDeletion_6 2 rfl rfl)
theorem dJ1_fixAfterDeletion_145 : decode cJ1_fixAfterDeletion 145 = .ok (.invokestatic 294, 3) := dk_184 1 38 (dk_at dksJ1_fixAfterDeletion_6 3 rfl rfl)
theorem dJ1_fixAfterDeletion_148 : decode cJ1_fixAfterDeletion 148 = .ok (.invokestatic 303, 3) := dk_184 1 47 (dk_at dksJ1_fixAfterDeletion_6 6 rfl rfl)
theorem dJ1_fixAfterDeletion_151 : decode cJ1_fixAfterDeletion 151 = .ok (.invokestatic 307, 3) := dk_184 1 51 (dk_at dksJ1_fixAfterDeletion_6 9 rfl rfl)
theorem dJ1_fixAfterDeletion_154 : decode cJ1_fixAfterDeletion 154 = .ok (.aload_n 1, 1) := dk_43 (dk_at dksJ1_fixAfterDeletion_6 12 rfl rfl)
theorem dJ1_fixAfterDeletion_155 : decode cJ1_fixAfterDeletion 155 = .ok (.invokestatic 294, 3) := dk_184 1 38 (dk_at dksJ1_fixAfterDeletion_6 13 rfl rfl)
theorem dJ1_fixAfterDeletion_158 : decode cJ1_fixAfterDeletion 158 = .ok (.iconst 1, 1) := dk_4 (dk_at dksJ1_fixAfterDeletion_6 16 rfl rfl)
theorem dJ1_fixAfterDeletion_159 : decode cJ1_fixAfterDeletion 159 = .ok (.invokestatic 307, 3) := dk_184 1 51 (dk_at dksJ1_fixAfterDeletion_6 17 rfl rfl)
theorem dJ1_fixAfterDeletion_162 : decode cJ1_fixAfterDeletion 162 = .ok (.aload_n 2, 1) := dk_44 (dk_at dksJ1_fixAfterDeletion_6 20 rfl rfl)
theorem dJ1_fixAfterDeletion_163 : decode cJ1_fixAfterDeletion 163 = .ok (.invokestatic 300, 3) := dk_184 1 44 (dk_at dksJ1_fixAfterDeletion_6 21 rfl rfl)
theorem dJ1_fixAfterDeletion_166 : decode cJ1_fixAfterDeletion 166 = .ok (.iconst 1, 1) := dk_4 (dk_at dksJ1_fixAfterDeletion_7 0 rfl rfl)
theorem dJ1_fixAfterDeletion_167 : decode cJ1_fixAfterDeletion 167 = .ok (.invokestatic 307, 3) := dk_184 1 51 (dk_at dksJ1_fixAfterDeletion_7 1 rfl rfl)
theorem dJ1_fixAfterDeletion_170 : decode cJ1_fixAfterDeletion 170 = .ok (.aload_n 0, 1) := dk_42 (dk_at dksJ1_fixAfterDeletion_7 4 rfl rfl)
theorem dJ1_fixAfterDeletion_171 : decode cJ1_fixAfterDeletion 171 = .ok (.aload_n 1, 1) := dk_43 (dk_at dksJ1_fixAfterDeletion_7 5 rfl rfl)
theorem dJ1_fixAfterDeletion_172 : decode cJ1_fixAfterDeletion 172 = .ok (.invokestatic 294, 3) := dk_184 1 38 (dk_at dksJ1_fixAfterDeletion_7 6 rfl rfl)
theorem dJ1_fixAfterDeletion_175 : decode cJ1_fixAfterDeletion 175 = .ok (.invokevirtual 311, 3) := dk_182 1 55 (dk_at dksJ1_fixAfterDeletion_7 9 rfl rfl)
theorem dJ1_fixAfterDeletion_178 : decode cJ1_fixAfterDeletion 178 = .ok (.aload_n 0, 1) := dk_42 (dk_at dksJ1_fixAfterDeletion_7 12 rfl rfl)
theorem dJ1_fixAfterDeletion_179 : decode cJ1_fixAfterDeletion 179 = .ok (.getfield 101, 3) := dk_180 0 101 (dk_at dksJ1_fixAfterDeletion_7 13 rfl rfl)
theorem dJ1_fixAfterDeletion_182 : decode cJ1_fixAfterDeletion 182 = .ok (.astore_n 1, 1) := dk_76 (dk_at dksJ1_fixAfterDeletion_7 16 rfl rfl)
theorem dJ1_fixAfterDeletion_183 : decode cJ1_fixAfterDeletion 183 = .ok (.goto (-183), 3) := dk_167 255 73 (dk_at dksJ1_fixAfterDeletion_7 17 rfl rfl)
theorem dJ1_fixAfterDeletion_186 : decode cJ1_fixAfterDeletion 186 = .ok (.aload_n 1, 1) := dk_43 (dk_at dksJ1_fixAfterDeletion_7 20 rfl rfl)
theorem dJ1_fixAfterDeletion_187 : decode cJ1_fixAfterDeletion 187 = .ok (.invokestatic 294, 3) := dk_184 1 38 (dk_at dksJ1_fixAfterDeletion_7 21 rfl rfl)
theorem dJ1_fixAfterDeletion_190 : decode cJ1_fixAfterDeletion 190 = .ok (.invokestatic 297, 3) := dk_184 1 41 (dk_at dksJ1_fixAfterDeletion_8 0 rfl rfl)
theorem dJ1_fixAfterDeletion_193 : decode cJ1_fixAfterDeletion 193 = .ok (.astore_n 2, 1) := dk_77 (dk_at dksJ1_fixAfterDeletion_8 3 rfl rfl)
theorem dJ1_fixAfterDeletion_194 : decode cJ1_fixAfterDeletion 194 = .ok (.aload_n 2, 1) := dk_44 (dk_at dksJ1_fixAfterDeletion_8 4 rfl rfl)
theorem dJ1_fixAfterDeletion_195 : decode cJ1_fixAfterDeletion 195 = .ok (.invokestatic 303, 3) := dk_184 1 47 (dk_at dksJ1_fixAfterDeletion_8 5 rfl rfl)
theorem dJ1_fixAfterDeletion_198 : decode cJ1_fixAfterDeletion 198 = .ok (.ifCond .ne 32, 3) := dk_154 0 32 (dk_at dksJ1_fixAfterDeletion_8 8 rfl rfl)
theorem dJ1_fixAfterDeletion_201 : decode cJ1_fixAfterDeletion 201 = .ok (.aload_n 2, 1) := dk_44 (dk_at dksJ1_fixAfterDeletion_8 11 rfl rfl)
theorem dJ1_fixAfterDeletion_202 : decode cJ1_fixAfterDeletion 202 = .ok (.iconst 1, 1) := dk_4 (dk_at dksJ1_fixAfterDeletion_8 12 rfl rfl)
theorem dJ1_fixAfterDeletion_203 : decode cJ1_fixAfterDeletion 203 = .ok (.invokestatic 307, 3) := dk_184 1 51 (dk_at dksJ1_fixAfterDeletion_8 13 rfl rfl)
theorem dJ1_fixAfterDeletion_206 : decode cJ1_fixAfterDeletion 206 = .ok (.aload_n 1, 1) := dk_43 (dk_at dksJ1_fixAfterDeletion_8 16 rfl rfl)
theorem dJ1_fixAfterDeletion_207 : decode cJ1_fixAfterDeletion 207 = .ok (.invokestatic 294, 3) := dk_184 1 38 (dk_at dksJ1_fixAfterDeletion_8 17 rfl rfl)
theorem dJ1_fixAfterDeletion_210 : decode cJ1_fixAfterDeletion 210 = .ok (.iconst 0, 1) := dk_3 (dk_at dksJ1_fixAfterDeletion_8 20 rfl rfl)
theorem dJ1_fixAfterDeletion_211 : decode cJ1_fixAfterDeletion 211 = .ok (.invokestatic 307, 3) := dk_184 1 51 (dk_at dksJ1_fixAfterDeletion_8 21 rfl rfl)
theorem dJ1_fixAfterDeletion_214 : decode cJ1_fixAfterDeletion 214 = .ok (.aload_n 0, 1) := dk_42 (dk_at dksJ1_fixAfterDeletion_9 0 rfl rfl)
theorem dJ1_fixAfterDeletion_215 : decode cJ1_fixAfterDeletion 215 = .ok (.aload_n 1, 1) := dk_43 (dk_at dksJ1_fixAfterDeletion_9 1 rfl rfl)
theorem dJ1_fixAfterDeletion_216 : decode cJ1_fixAfterDeletion 216 = .ok (.invokestatic 294, 3) := dk_184 1 38 (dk_at dksJ1_fixAfterDeletion_9 2 rfl rfl)
theorem dJ1_fixAfterDeletion_219 : decode cJ1_fixAfterDeletion 219 = .ok (.invokevirtual 314, 3) := dk_182 1 58 (dk_at dksJ1_fixAfterDeletion_9 5 rfl rfl)
theorem dJ1_fixAfterDeletion_222 : decode cJ1_fixAfterDeletion 222 = .ok (.aload_n 1, 1) := dk_43 (dk_at dksJ1_fixAfterDeletion_9 8 rfl rfl)
theorem dJ1_fixAfterDeletion_223 : decode cJ1_fixAfterDeletion 223 = .ok (.invokestatic 294, 3) := dk_184 1 38 (dk_at dksJ1_fixAfterDeletion_9 9 rfl rfl)
theorem dJ1_fixAfterDeletion_226 : decode cJ1_fixAfterDeletion 226 = .ok (.invokestatic 297, 3) := dk_184 1 41 (dk_at dksJ1_fixAfterDeletion_9 12 rfl rfl)
theorem dJ1_fixAfterDeletion_229 : decode cJ1_fixAfterDeletion 229 = .ok (.astore_n 2, 1) := dk_77 (dk_at dksJ1_fixAfterDeletion_9 15 rfl rfl)
theorem dJ1_fixAfterDeletion_230 : decode cJ1_fixAfterDeletion 230 = .ok (.aload_n 2, 1) := dk_44 (dk_at dksJ1_fixAfterDeletion_9 16 rfl rfl)
theorem dJ1_fixAfterDeletion_231 : decode cJ1_fixAfterDeletion 231 = .ok (.invokestatic 300, 3) := dk_184 1 44 (dk_at dksJ1_fixAfterDeletion_9 17 rfl rfl)
theorem dJ1_fixAfterDeletion_234 : decode cJ1_fixAfterDeletion 234 = .ok (.invokestatic 303, 3) := dk_184 1 47 (dk_at dksJ1_fixAfterDeletion_9 20 rfl rfl)
theorem dJ1_fixAfterDeletion_237 : decode cJ1_fixAfterDeletion 237 = .ok (.iconst 1, 1) := dk_4 (dk_at dksJ1_fixAfterDeletion_9 23 rfl rfl)
theorem dJ1_fixAfterDeletion_238 : decode cJ1_fixAfterDeletion 238 = .ok (.if_icmp .ne 27, 3) := dk_160 0 27 (dk_at dksJ1_fixAfterDeletion_10 0 rfl rfl)
theorem dJ1_fixAfterDeletion_241 : decode cJ1_fixAfterDeletion 241 = .ok (.aload_n 2, 1) := dk_44 (dk_at dksJ1_fixAfterDeletion_10 3 rfl rfl)
theorem dJ1_fixAfterDeletion_242 : decode cJ1_fixAfterDeletion 242 = .ok (.invokestatic 297, 3) := dk_184 1 41 (dk_at dksJ1_fixAfterDeletion_10 4 rfl rfl)
theorem dJ1_fixAfterDeletion_245 : decode cJ1_fixAfterDeletion 245 = .ok (.invokestatic 303, 3) := dk_184 1 47 (dk_at dksJ1_fixAfterDeletion_10 7 rfl rfl)
theorem dJ1_fixAfterDeletion_248 : decode cJ1_fixAfterDeletion 248 = .ok (.iconst 1, 1) := dk_4 (dk_at dksJ1_fixAfterDeletion_10 10 rfl rfl)
theorem dJ1_fixAfterDeletion_249 : decode cJ1_fixAfterDeletion 249 = .ok (.if_icmp .ne 16, 3) := dk_160 0 16 (dk_at dksJ1_fixAfterDeletion_10 11 rfl rfl)
theorem dJ1_fixAfterDeletion_252 : decode cJ1_fixAfterDeletion 252 = .ok (.aload_n 2, 1) := dk_44 (dk_at dksJ1_fixAfterDeletion_10 14 rfl rfl)
theorem dJ1_fixAfterDeletion_253 : decode cJ1_fixAfterDeletion 253 = .ok (.iconst 0, 1) := dk_3 (dk_at dksJ1_fixAfterDeletion_10 15 rfl rfl)
theorem dJ1_fixAfterDeletion_254 : decode cJ1_fixAfterDeletion 254 = .ok (.invokestatic 307, 3) := dk_184 1 51 (dk_at dksJ1_fixAfterDeletion_10 16 rfl rfl)
theorem dJ1_fixAfterDeletion_257 : decode cJ1_fixAfterDeletion 257 = .ok (.aload_n 1, 1) := dk_43 (dk_at dksJ1_fixAfterDeletion_10 19 rfl rfl)
theorem dJ1_fixAfterDeletion_258 : decode cJ1_fixAfterDeletion 258 = .ok (.invokestatic 294, 3) := dk_184 1 38 (dk_at dksJ1_fixAfterDeletion_10 20 rfl rfl)
theorem dJ1_fixAfterDeletion_261 : decode cJ1_fixAfterDeletion 261 = .ok (.astore_n 1, 1) := dk_76 (dk_at dksJ1_fixAfterDeletion_10 23 rfl rfl)
theorem dJ1_fixAfterDeletion_262 : decode cJ1_fixAfterDeletion 262 = .ok (.goto 80, 3) := dk_167 0 80 (dk_at dksJ1_fixAfterDeletion_11 0 rfl rfl)
theorem dJ1_fixAfterDeletion_265 : decode cJ1_fixAfterDeletion 265 = .ok (.aload_n 2, 1) := dk_44 (dk_at dksJ1_fixAfterDeletion_11 3 rfl rfl)
theorem dJ1_fixAfterDeletion_266 : decode cJ1_fixAfterDeletion 266 = .ok (.invokestatic 297, 3) := dk_184 1 41 (dk_at dksJ1_fixAfterDeletion_11 4 rfl rfl)
theorem dJ1_fixAfterDeletion_269 : decode cJ1_fixAfterDeletion 269 = .ok (.invokestatic 303, 3) := dk_184 1 47 (dk_at dksJ1_fixAfterDeletion_11 7 rfl rfl)
theorem dJ1_fixAfterDeletion_272 : decode cJ1_fixAfterDeletion 272 = .ok (.iconst 1, 1) := dk_4 (dk_at dksJ1_fixAfterDeletion_11 10 rfl rfl)
theorem dJ1_fixAfterDeletion_273 : decode cJ1_fixAfterDeletion 273 = .ok (.if_icmp .ne 29, 3) := dk_160 0 29 (dk_at dksJ1_fixAfterDeletion_11 11 rfl rfl)
theorem dJ1_fixAfterDeletion_276 : decode cJ1_fixAfterDeletion 276 = .ok (.aload_n 2, 1) := dk_44 (dk_at dksJ1_fixAfterDeletion_11 14 rfl rfl)
theorem dJ1_fixAfterDeletion_277 : decode cJ1_fixAfterDeletion 277 = .ok (.invokestatic 300, 3) := dk_184 1 44 (dk_at dksJ1_fixAfterDeletion_11 15 rfl rfl)
theorem dJ1_fixAfterDeletion_280 : decode cJ1_fixAfterDeletion 280 = .ok (.iconst 1, 1) := dk_4 (dk_at dksJ1_fixAfterDeletion_11 18 rfl rfl)
theorem dJ1_fixAfterDeletion_281 : decode cJ1_fixAfterDeletion 281 = .ok (.invokestatic 307, 3) := dk_184 1 51 (dk_at dksJ1_fixAfterDeletion_11 19 rfl rfl)
theorem dJ1_fixAfterDeletion_284 : decode cJ1_fixAfterDeletion 284 = .ok (.aload_n 2, 1) := dk_44 (dk_at dksJ1_fixAfterDeletion_11 22 rfl rfl)
theorem dJ1_fixAfterDeletion_285 : decode cJ1_fixAfterDeletion 285 = .ok (.iconst 0, 1) := dk_3 (dk_at dksJ1_fixAfterDeletion_11 23 rfl rfl)
theorem dJ1_fixAfterDeletion_286 : decode cJ1_fixAfterDeletion 286 = .ok (.invokestatic 307, 3) := dk_184 1 51 (dk_at dksJ1_fixAfterDeletion_12 0 rfl rfl)
theorem dJ1_fixAfterDeletion_289 : decode cJ1_fixAfterDeletion 289 = .ok (.aload_n 0, 1) := dk_42 (dk_at dksJ1_fixAfterDeletion_12 3 rfl rfl)
theorem dJ1_fixAfterDeletion_290 : decode cJ1_fixAfterDeletion 290 = .ok (.aload_n 2, 1) := dk_44 (dk_at dksJ1_fixAfterDeletion_12 4 rfl rfl)
theorem dJ1_fixAfterDeletion_291 : decode cJ1_fixAfterDeletion 291 = .ok (.invokevirtual 311, 3) := dk_182 1 55 (dk_at dksJ1_fixAfterDeletion_12 5 rfl rfl)
theorem dJ1_fixAfterDeletion_294 : decode cJ1_fixAfterDeletion 294 = .ok (.aload_n 1, 1) := dk_43 (dk_at dksJ1_fixAfterDeletion_12 8 rfl rfl)
theorem dJ1_fixAfterDeletion_295 : decode cJ1_fixAfterDeletion 295 = .ok (.invokestatic 294, 3) := dk_184 1 38 (dk_at dksJ1_fixAfterDeletion_12 9 rfl rfl)
theorem dJ1_fixAfterDeletion_298 : decode cJ1_fixAfterDeletion 298 = .ok (.invokestatic 297, 3) := dk_184 1 41 (dk_at dksJ1_fixAfterDeletion_12 12 rfl rfl)
theorem dJ1_fixAfterDeletion_301 : decode cJ1_fixAfterDeletion 301 = .ok (.astore_n 2, 1) := dk_77 (dk_at dksJ1_fixAfterDeletion_12 15 rfl rfl)
theorem dJ1_fixAfterDeletion_302 : decode cJ1_fixAfterDeletion 302 = .ok (.aload_n 2, 1) := dk_44 (dk_at dksJ1_fixAfterDeletion_12 16 rfl rfl)
theorem dJ1_fixAfterDeletion_303 : decode cJ1_fixAfterDeletion 303 = .ok (.aload_n 1, 1) := dk_43 (dk_at dksJ1_fixAfterDeletion_12 17 rfl rfl)
theorem dJ1_fixAfterDeletion_304 : decode cJ1_fixAfterDeletion 304 = .ok (.invokestatic 294, 3) := dk_184 1 38 (dk_at dksJ1_fixAfterDeletion_12 18 rfl rfl)
theorem dJ1_fixAfterDeletion_307 : decode cJ1_fixAfterDeletion 307 = .ok (.invokestatic 303, 3) := dk_184 1 47 (dk_at dksJ1_fixAfterDeletion_12 21 rfl rfl)
theorem dJ1_fixAfterDeletion_310 : decode cJ1_fixAfterDeletion 310 = .ok (.invokestatic 307, 3) := dk_184 1 51 (dk_at dksJ1_fixAfterDeletion_13 0 rfl rfl)
theorem dJ1_fixAfterDeletion_313 : decode cJ1_fixAfterDeletion 313 = .ok (.aload_n 1, 1) := dk_43 (dk_at dksJ1_fixAfterDeletion_13 3 rfl rfl)
theorem dJ1_fixAfterDeletion_314 : decode cJ1_fixAfterDeletion 314 = .ok (.invokestatic 294, 3) := dk_184 1 38 (dk_at dksJ1_fixAfterDeletion_13 4 rfl rfl)
theorem dJ1_fixAfterDeletion_317 : decode cJ1_fixAfterDeletion 317 = .ok (.iconst 1, 1) := dk_4 (dk_at dksJ1_fixAfterDeletion_13 7 rfl rfl)
theorem dJ1_fixAfterDeletion_318 : decode cJ1_fixAfterDeletion 318 = .ok (.invokestatic 307, 3) := dk_184 1 51 (dk_at dksJ1_fixAfterDeletion_13 8 rfl rfl)
theorem dJ1_fixAfterDeletion_321 : decode cJ1_fixAfterDeletion 321 = .ok (.aload_n 2, 1) := dk_44 (dk_at dksJ1_fixAfterDeletion_13 11 rfl rfl)
theorem dJ1_fixAfterDeletion_322 : decode cJ1_fixAfterDeletion 322 = .ok (.invokestatic 297, 3) := dk_184 1 41 (dk_at dksJ1_fixAfterDeletion_13 12 rfl rfl)
theorem dJ1_fixAfterDeletion_325 : decode cJ1_fixAfterDeletion 325 = .ok (.iconst 1, 1) := dk_4 (dk_at dksJ1_fixAfterDeletion_13 15 rfl rfl)
theorem dJ1_fixAfterDeletion_326 : decode cJ1_fixAfterDeletion 326 = .ok (.invokestatic 307, 3) := dk_184 1 51 (dk_at dksJ1_fixAfterDeletion_13 16 rfl rfl)
theorem dJ1_fixAfterDeletion_329 : decode cJ1_fixAfterDeletion 329 = .ok (.aload_n 0, 1) := dk_42 (dk_at dksJ1_fixAfterDeletion_13 19 rfl rfl)
theorem dJ1_fixAfterDeletion_330 : decode cJ1_fixAfterDeletion 330 = .ok (.aload_n 1, 1) := dk_43 (dk_at dksJ1_fixAfterDeletion_13 20 rfl rfl)
theorem dJ1_fixAfterDeletion_331 : decode cJ1_fixAfterDeletion 331 = .ok (.invokestatic 294, 3) := dk_184 1 38 (dk_at dksJ1_fixAfterDeletion_13 21 rfl rfl)
theorem dJ1_fixAfterDeletion_334 : decode cJ1_fixAfterDeletion 334 = .ok (.invokevirtual 314, 3) := dk_182 1 58 (dk_at dksJ1_fixAfterDeletion_14 0 rfl rfl)
theorem dJ1_fixAfterDeletion_337 : decode cJ1_fixAfterDeletion 337 = .ok (.aload_n 0, 1) := dk_42 (dk_at dksJ1_fixAfterDeletion_14 3 rfl rfl)
theorem dJ1_fixAfterDeletion_338 : decode cJ1_fixAfterDeletion 338 = .ok (.getfield 101, 3) := dk_180 0 101 (dk_at dksJ1_fixAfterDeletion_14 4 rfl rfl)
theorem dJ1_fixAfterDeletion_341 : decode cJ1_fixAfterDeletion 341 = .ok (.astore_n 1, 1) := dk_76 (dk_at dksJ1_fixAfterDeletion_14 7 rfl rfl)
theorem dJ1_fixAfterDeletion_342 : decode cJ1_fixAfterDeletion 342 = .ok (.goto (-342), 3) := dk_167 254 170 (dk_at dksJ1_fixAfterDeletion_14 8 rfl rfl)
theorem dJ1_fixAfterDeletion_345 : decode cJ1_fixAfterDeletion 345 = .ok (.aload_n 1, 1) := dk_43 (dk_at dksJ1_fixAfterDeletion_14 11 rfl rfl)
theorem dJ1_fixAfterDeletion_346 : decode cJ1_fixAfterDeletion 346 = .ok (.iconst 1, 1) := dk_4 (dk_at dksJ1_fixAfterDeletion_14 12 rfl rfl)
theorem dJ1_fixAfterDeletion_347 : decode cJ1_fixAfterDeletion 347 = .ok (.invokestatic 307, 3) := dk_184 1 51 (dk_at dksJ1_fixAfterDeletion_14 13 rfl rfl)
theorem dJ1_fixAfterDeletion_350 : decode cJ1_fixAfterDeletion 350 = .ok (.return_, 1) := dk_177 (dk_at dksJ1_fixAfterDeletion_14 16 rfl rfl)
abbrev cJ1_deleteEntry : ByteArray := prog_96_method_84_code
def yJ1_deleteEntry : MethodName := ⟨RJ1, "deleteEntry", "(Ljava/util/TreeMap$Entry;)V"⟩
def dkwJ1_deleteEntry_10 : List UInt8 := [180, 0, 124, 1, 181, 0, 114, 43, 1, 181, 0, 124, 177]
abbrev dktJ1_deleteEntry_10 : List UInt8 := dkwJ1_deleteEntry_10 ++ []
def dkwJ1_deleteEntry_9 : List UInt8 := [180, 0, 124, 1, 181, 0, 111, 167, 0, 22, 43, 43, 180, 0, 124, 180, 0, 114, 166, 0, 11, 43]
abbrev dktJ1_deleteEntry_9 : List UInt8 := dkwJ1_deleteEntry_9 ++ dktJ1_deleteEntry_10
def dkwJ1_deleteEntry_8 : List UInt8 := [182, 1, 61, 43, 180, 0, 124, 198, 0, 49, 43, 43, 180, 0, 124, 180, 0, 111, 166, 0, 14, 43]
abbrev dktJ1_deleteEntry_8 : List UInt8 := dkwJ1_deleteEntry_8 ++ dktJ1_deleteEntry_9
def dkwJ1_deleteEntry_7 : List UInt8 := [180, 0, 124, 199, 0, 11, 42, 1, 181, 0, 101, 167, 0, 69, 43, 180, 1, 34, 4, 160, 0, 8, 42, 43]
abbrev dktJ1_deleteEntry_7 : List UInt8 := dkwJ1_deleteEntry_7 ++ dktJ1_deleteEntry_8
def dkwJ1_deleteEntry_6 : List UInt8 := [181, 0, 114, 181, 0, 111, 43, 180, 1, 34, 4, 160, 0, 92, 42, 44, 182, 1, 61, 167, 0, 84, 43]
abbrev dktJ1_deleteEntry_6 : List UInt8 := dkwJ1_deleteEntry_6 ++ dktJ1_deleteEntry_7
def dkwJ1_deleteEntry_5 : List UInt8 := [181, 0, 111, 167, 0, 11, 43, 180, 0, 124, 44, 181, 0, 114, 43, 43, 43, 1, 90, 181, 0, 124, 90]
abbrev dktJ1_deleteEntry_5 : List UInt8 := dkwJ1_deleteEntry_5 ++ dktJ1_deleteEntry_6
def dkwJ1_deleteEntry_4 : List UInt8 := [44, 181, 0, 101, 167, 0, 33, 43, 43, 180, 0, 124, 180, 0, 111, 166, 0, 14, 43, 180, 0, 124, 44]
abbrev dktJ1_deleteEntry_4 : List UInt8 := dkwJ1_deleteEntry_4 ++ dktJ1_deleteEntry_5
def dkwJ1_deleteEntry_3 : List UInt8 := [180, 0, 114, 77, 44, 198, 0, 87, 44, 43, 180, 0, 124, 181, 0, 124, 43, 180, 0, 124, 199, 0, 11, 42]
abbrev dktJ1_deleteEntry_3 : List UInt8 := dkwJ1_deleteEntry_3 ++ dktJ1_deleteEntry_4
def dkwJ1_deleteEntry_2 : List UInt8 := [44, 180, 0, 58, 181, 0, 58, 44, 76, 43, 180, 0, 111, 198, 0, 10, 43, 180, 0, 111, 167, 0, 7, 43]
abbrev dktJ1_deleteEntry_2 : List UInt8 := dkwJ1_deleteEntry_2 ++ dktJ1_deleteEntry_3
def dkwJ1_deleteEntry_1 : List UInt8 := [198, 0, 33, 43, 180, 0, 114, 198, 0, 26, 43, 184, 0, 68, 77, 43, 44, 180, 0, 105, 181, 0, 105, 43]
abbrev dktJ1_deleteEntry_1 : List UInt8 := dkwJ1_deleteEntry_1 ++ dktJ1_deleteEntry_2
def dkwJ1_deleteEntry_0 : List UInt8 := [42, 89, 180, 0, 13, 4, 96, 181, 0, 13, 42, 89, 180, 0, 7, 4, 100, 181, 0, 7, 43, 180, 0, 111]
abbrev dktJ1_deleteEntry_0 : List UInt8 := dkwJ1_deleteEntry_0 ++ dktJ1_deleteEntry_1
theorem dksJ1_deleteEntry_0 : cJ1_deleteEntry.data.toList.drop 0 = dktJ1_deleteEntry_0 := by decide +kernel
theorem dksJ1_deleteEntry_1 : cJ1_deleteEntry.data.toList.drop 24 = dktJ1_deleteEntry_1 := dk_seg dksJ1_deleteEntry_0 24 rfl rfl
theorem dksJ1_deleteEntry_2 : cJ1_deleteEntry.data.toList.drop 48 = dktJ1_deleteEntry_2 := dk_seg dksJ1_deleteEntry_1 24 rfl rfl
theorem dksJ1_deleteEntry_3 : cJ1_deleteEntry.data.toList.drop 72 = dktJ1_deleteEntry_3 := dk_seg dksJ1_deleteEntry_2 24 rfl rfl
theorem dksJ1_deleteEntry_4 : cJ1_deleteEntry.data.toList.drop 96 = dktJ1_deleteEntry_4 := dk_seg dksJ1_deleteEntry_3 24 rfl rfl
theorem dksJ1_deleteEntry_5 : cJ1_deleteEntry.data.toList.drop 119 = dktJ1_deleteEntry_5 := dk_seg dksJ1_deleteEntry_4 23 rfl rfl
theorem dksJ1_deleteEntry_6 : cJ1_deleteEntry.data.toList.drop 142 = dktJ1_deleteEntry_6 := dk_seg dksJ1_deleteEntry_5 23 rfl rfl
theorem dksJ1_deleteEntry_7 : cJ1_deleteEntry.data.toList.drop 165 = dktJ1_deleteEntry_7 := dk_seg dksJ1_deleteEntry_6 23 rfl rfl
theorem dksJ1_deleteEntry_8 : cJ1_deleteEntry.data.toList.drop 189 = dktJ1_deleteEntry_8 := dk_seg dksJ1_deleteEntry_7 24 rfl rfl
theorem dksJ1_deleteEntry_9 : cJ1_deleteEntry.data.toList.drop 211 = dktJ1_deleteEntry_9 := dk_seg dksJ1_deleteEntry_8 22 rfl rfl
theorem dksJ1_deleteEntry_10 : cJ1_deleteEntry.data.toList.drop 233 = dktJ1_deleteEntry_10 := dk_seg dksJ1_deleteEntry_9 22 rfl rfl
theorem dJ1_deleteEntry_0 : decode cJ1_deleteEntry 0 = .ok (.aload_n 0, 1) := dk_42 (dk_at dksJ1_deleteEntry_0 0 rfl rfl)
theorem dJ1_deleteEntry_1 : decode cJ1_deleteEntry 1 = .ok (.dup, 1) := dk_89 (dk_at dksJ1_deleteEntry_0 1 rfl rfl)
theorem dJ1_deleteEntry_2 : decode cJ1_deleteEntry 2 = .ok (.getfield 13, 3) := dk_180 0 13 (dk_at dksJ1_deleteEntry_0 2 rfl rfl)
theorem dJ1_deleteEntry_5 : decode cJ1_deleteEntry 5 = .ok (.iconst 1, 1) := dk_4 (dk_at dksJ1_deleteEntry_0 5 rfl rfl)
theorem dJ1_deleteEntry_6 : decode cJ1_deleteEntry 6 = .ok (.iadd, 1) := dk_96 (dk_at dksJ1_deleteEntry_0 6 rfl rfl)
theorem dJ1_deleteEntry_7 : decode cJ1_deleteEntry 7 = .ok (.putfield 13, 3) := dk_181 0 13 (dk_at dksJ1_deleteEntry_0 7 rfl rfl)
theorem dJ1_deleteEntry_10 : decode cJ1_deleteEntry 10 = .ok (.aload_n 0, 1) := dk_42 (dk_at dksJ1_deleteEntry_0 10 rfl rfl)
theorem dJ1_deleteEntry_11 : decode cJ1_deleteEntry 11 = .ok (.dup, 1) := dk_89 (dk_at dksJ1_deleteEntry_0 11 rfl rfl)
theorem dJ1_deleteEntry_12 : decode cJ1_deleteEntry 12 = .ok (.getfield 7, 3) := dk_180 0 7 (dk_at dksJ1_deleteEntry_0 12 rfl rfl)
theorem dJ1_deleteEntry_15 : decode cJ1_deleteEntry 15 = .ok (.iconst 1, 1) := dk_4 (dk_at dksJ1_deleteEntry_0 15 rfl rfl)
theorem dJ1_deleteEntry_16 : decode cJ1_deleteEntry 16 = .ok (.isub, 1) := dk_100 (dk_at dksJ1_deleteEntry_0 16 rfl rfl)
theorem dJ1_deleteEntry_17 : decode cJ1_deleteEntry 17 = .ok (.putfield 7, 3) := dk_181 0 7 (dk_at dksJ1_deleteEntry_0 17 rfl rfl)
theorem dJ1_deleteEntry_20 : decode cJ1_deleteEntry 20 = .ok (.aload_n 1, 1) := dk_43 (dk_at dksJ1_deleteEntry_0 20 rfl rfl)
theorem dJ1_deleteEntry_21 : decode cJ1_deleteEntry 21 = .ok (.getfield 111, 3) := dk_180 0 111 (dk_at dksJ1_deleteEntry_0 21 rfl rfl)
theorem dJ1_deleteEntry_24 : decode cJ1_deleteEntry 24 = .ok (.ifnull 33, 3) := dk_198 0 33 (dk_at dksJ1_deleteEntry_1 0 rfl rfl)
theorem dJ1_deleteEntry_27 : decode cJ1_deleteEntry 27 = .ok (.aload_n 1, 1) := dk_43 (dk_at dksJ1_deleteEntry_1 3 rfl rfl)
theorem dJ1_deleteEntry_28 : decode cJ1_deleteEntry 28 = .ok (.getfield 114, 3) := dk_180 0 114 (dk_at dksJ1_deleteEntry_1 4 rfl rfl)
theorem dJ1_deleteEntry_31 : decode cJ1_deleteEntry 31 = .ok (.ifnull 26, 3) := dk_198 0 26 (dk_at dksJ1_deleteEntry_1 7 rfl rfl)
theorem dJ1_deleteEntry_34 : decode cJ1_deleteEntry 34 = .ok (.aload_n 1, 1) := dk_43 (dk_at dksJ1_deleteEntry_1 10 rfl rfl)
theorem dJ1_deleteEntry_35 : decode cJ1_deleteEntry 35 = .ok (.invokestatic 68, 3) := dk_184 0 68 (dk_at dksJ1_deleteEntry_1 11 rfl rfl)
theorem dJ1_deleteEntry_38 : decode cJ1_deleteEntry 38 = .ok (.astore_n 2, 1) := dk_77 (dk_at dksJ1_deleteEntry_1 14 rfl rfl)
theorem dJ1_deleteEntry_39 : decode cJ1_deleteEntry 39 = .ok (.aload_n 1, 1) := dk_43 (dk_at dksJ1_deleteEntry_1 15 rfl rfl)
theorem dJ1_deleteEntry_40 : decode cJ1_deleteEntry 40 = .ok (.aload_n 2, 1) := dk_44 (dk_at dksJ1_deleteEntry_1 16 rfl rfl)
theorem dJ1_deleteEntry_41 : decode cJ1_deleteEntry 41 = .ok (.getfield 105, 3) := dk_180 0 105 (dk_at dksJ1_deleteEntry_1 17 rfl rfl)
theorem dJ1_deleteEntry_44 : decode cJ1_deleteEntry 44 = .ok (.putfield 105, 3) := dk_181 0 105 (dk_at dksJ1_deleteEntry_1 20 rfl rfl)
theorem dJ1_deleteEntry_47 : decode cJ1_deleteEntry 47 = .ok (.aload_n 1, 1) := dk_43 (dk_at dksJ1_deleteEntry_1 23 rfl rfl)
theorem dJ1_deleteEntry_48 : decode cJ1_deleteEntry 48 = .ok (.aload_n 2, 1) := dk_44 (dk_at dksJ1_deleteEntry_2 0 rfl rfl)
theorem dJ1_deleteEntry_49 : decode cJ1_deleteEntry 49 = .ok (.getfield 58, 3) := dk_180 0 58 (dk_at dksJ1_deleteEntry_2 1 rfl rfl)
theorem dJ1_deleteEntry_52 : decode cJ1_deleteEntry 52 = .ok (.putfield 58, 3) := dk_181 0 58 (dk_at dksJ1_deleteEntry_2 4 rfl rfl)
theorem dJ1_deleteEntry_55 : decode cJ1_deleteEntry 55 = .ok (.aload_n 2, 1) := dk_44 (dk_at dksJ1_deleteEntry_2 7 rfl rfl)
theorem dJ1_deleteEntry_56 : decode cJ1_deleteEntry 56 = .ok (.astore_n 1, 1) := dk_76 (dk_at dksJ1_deleteEntry_2 8 rfl rfl)
theorem dJ1_deleteEntry_57 : decode cJ1_deleteEntry 57 = .ok (.aload_n 1, 1) := dk_43 (dk_at dksJ1_deleteEntry_2 9 rfl rfl)
theorem dJ1_deleteEntry_58 : decode cJ1_deleteEntry 58 = .ok (.getfield 111, 3) := dk_180 0 111 (dk_at dksJ1_deleteEntry_2 10 rfl rfl)
theorem dJ1_deleteEntry_61 : decode cJ1_deleteEntry 61 = .ok (.ifnull 10, 3) := dk_198 0 10 (dk_at dksJ1_deleteEntry_2 13 rfl rfl)
theorem dJ1_deleteEntry_64 : decode cJ1_deleteEntry 64 = .ok (.aload_n 1, 1) := dk_43 (dk_at dksJ1_deleteEntry_2 16 rfl rfl)
theorem dJ1_deleteEntry_65 : decode cJ1_deleteEntry 65 = .ok (.getfield 111, 3) := dk_180 0 111 (dk_at dksJ1_deleteEntry_2 17 rfl rfl)
theorem dJ1_deleteEntry_68 : decode cJ1_deleteEntry 68 = .ok (.goto 7, 3) := dk_167 0 7 (dk_at dksJ1_deleteEntry_2 20 rfl rfl)
theorem dJ1_deleteEntry_71 : decode cJ1_deleteEntry 71 = .ok (.aload_n 1, 1) := dk_43 (dk_at dksJ1_deleteEntry_2 23 rfl rfl)
theorem dJ1_deleteEntry_72 : decode cJ1_deleteEntry 72 = .ok (.getfield 114, 3) := dk_180 0 114 (dk_at dksJ1_deleteEntry_3 0 rfl rfl)
theorem dJ1_deleteEntry_75 : decode cJ1_deleteEntry 75 = .ok (.astore_n 2, 1) := dk_77 (dk_at dksJ1_deleteEntry_3 3 rfl rfl)
theorem dJ1_deleteEntry_76 : decode cJ1_deleteEntry 76 = .ok (.aload_n 2, 1) := dk_44 (dk_at dksJ1_deleteEntry_3 4 rfl rfl)
theorem dJ1_deleteEntry_77 : decode cJ1_deleteEntry 77 = .ok (.ifnull 87, 3) := dk_198 0 87 (dk_at dksJ1_deleteEntry_3 5 rfl rfl)
theorem dJ1_deleteEntry_80 : decode cJ1_deleteEntry 80 = .ok (.aload_n 2, 1) := dk_44 (dk_at dksJ1_deleteEntry_3 8 rfl rfl)
theorem dJ1_deleteEntry_81 : decode cJ1_deleteEntry 81 = .ok (.aload_n 1, 1) := dk_43 (dk_at dksJ1_deleteEntry_3 9 rfl rfl)
theorem dJ1_deleteEntry_82 : decode cJ1_deleteEntry 82 = .ok (.getfield 124, 3) := dk_180 0 124 (dk_at dksJ1_deleteEntry_3 10 rfl rfl)
theorem dJ1_deleteEntry_85 : decode cJ1_deleteEntry 85 = .ok (.putfield 124, 3) := dk_181 0 124 (dk_at dksJ1_deleteEntry_3 13 rfl rfl)
theorem dJ1_deleteEntry_88 : decode cJ1_deleteEntry 88 = .ok (.aload_n 1, 1) := dk_43 (dk_at dksJ1_deleteEntry_3 16 rfl rfl)
theorem dJ1_deleteEntry_89 : decode cJ1_deleteEntry 89 = .ok (.getfield 124, 3) := dk_180 0 124 (dk_at dksJ1_deleteEntry_3 17 rfl rfl)
theorem dJ1_deleteEntry_92 : decode cJ1_deleteEntry 92 = .ok (.ifnonnull 11, 3) := dk_199 0 11 (dk_at dksJ1_deleteEntry_3 20 rfl rfl)
theorem dJ1_deleteEntry_95 : decode cJ1_deleteEntry 95 = .ok (.aload_n 0, 1) := dk_42 (dk_at dksJ1_deleteEntry_3 23 rfl rfl)
theorem dJ1_deleteEntry_96 : decode cJ1_deleteEntry 96 = .ok (.aload_n 2, 1) := dk_44 (dk_at dksJ1_deleteEntry_4 0 rfl rfl)
theorem dJ1_deleteEntry_97 : decode cJ1_deleteEntry 97 = .ok (.putfield 101, 3) := dk_181 0 101 (dk_at dksJ1_deleteEntry_4 1 rfl rfl)
theorem dJ1_deleteEntry_100 : decode cJ1_deleteEntry 100 = .ok (.goto 33, 3) := dk_167 0 33 (dk_at dksJ1_deleteEntry_4 4 rfl rfl)
theorem dJ1_deleteEntry_103 : decode cJ1_deleteEntry 103 = .ok (.aload_n 1, 1) := dk_43 (dk_at dksJ1_deleteEntry_4 7 rfl rfl)
theorem dJ1_deleteEntry_104 : decode cJ1_deleteEntry 104 = .ok (.aload_n 1, 1) := dk_43 (dk_at dksJ1_deleteEntry_4 8 rfl rfl)
theorem dJ1_deleteEntry_105 : decode cJ1_deleteEntry 105 = .ok (.getfield 124, 3) := dk_180 0 124 (dk_at dksJ1_deleteEntry_4 9 rfl rfl)
theorem dJ1_deleteEntry_108 : decode cJ1_deleteEntry 108 = .ok (.getfield 111, 3) := dk_180 0 111 (dk_at dksJ1_deleteEntry_4 12 rfl rfl)
theorem dJ1_deleteEntry_111 : decode cJ1_deleteEntry 111 = .ok (.if_acmp .ne 14, 3) := dk_166 0 14 (dk_at dksJ1_deleteEntry_4 15 rfl rfl)
theorem dJ1_deleteEntry_114 : decode cJ1_deleteEntry 114 = .ok (.aload_n 1, 1) := dk_43 (dk_at dksJ1_deleteEntry_4 18 rfl rfl)
theorem dJ1_deleteEntry_115 : decode cJ1_deleteEntry 115 = .ok (.getfield 124, 3) := dk_180 0 124 (dk_at dksJ1_deleteEntry_4 19 rfl rfl)
theorem dJ1_deleteEntry_118 : decode cJ1_deleteEntry 118 = .ok (.aload_n 2, 1) := dk_44 (dk_at dksJ1_deleteEntry_4 22 rfl rfl)
theorem dJ1_deleteEntry_119 : decode cJ1_deleteEntry 119 = .ok (.putfield 111, 3) := dk_181 0 111 (dk_at dksJ1_deleteEntry_5 0 rfl rfl)
theorem dJ1_deleteEntry_122 : decode cJ1_deleteEntry 122 = .ok (.goto 11, 3) := dk_167 0 11 (dk_at dksJ1_deleteEntry_5 3 rfl rfl)
theorem dJ1_deleteEntry_125 : decode cJ1_deleteEntry 125 = .ok (.aload_n 1, 1) := dk_43 (dk_at dksJ1_deleteEntry_5 6 rfl rfl)
theorem dJ1_deleteEntry_126 : decode cJ1_deleteEntry 126 = .ok (.getfield 124, 3) := dk_180 0 124 (dk_at dksJ1_deleteEntry_5 7 rfl rfl)
theorem dJ1_deleteEntry_129 : decode cJ1_deleteEntry 129 = .ok (.aload_n 2, 1) := dk_44 (dk_at dksJ1_deleteEntry_5 10 rfl rfl)
theorem dJ1_deleteEntry_130 : decode cJ1_deleteEntry 130 = .ok (.putfield 114, 3) := dk_181 0 114 (dk_at dksJ1_deleteEntry_5 11 rfl rfl)
theorem dJ1_deleteEntry_133 : decode cJ1_deleteEntry 133 = .ok (.aload_n 1, 1) := dk_43 (dk_at dksJ1_deleteEntry_5 14 rfl rfl)
theorem dJ1_deleteEntry_134 : decode cJ1_deleteEntry 134 = .ok (.aload_n 1, 1) := dk_43 (dk_at dksJ1_deleteEntry_5 15 rfl rfl)
theorem dJ1_deleteEntry_135 : decode cJ1_deleteEntry 135 = .ok (.aload_n 1, 1) := dk_43 (dk_at dksJ1_deleteEntry_5 16 rfl rfl)
theorem dJ1_deleteEntry_136 : decode cJ1_deleteEntry 136 = .ok (.aconst_null, 1) := dk_1 (dk_at dksJ1_deleteEntry_5 17 rfl rfl)
theorem dJ1_deleteEntry_137 : decode cJ1_deleteEntry 137 = .ok (.dup_x1, 1) := dk_90 (dk_at dksJ1_deleteEntry_5 18 rfl rfl)
theorem dJ1_deleteEntry_138 : decode cJ1_deleteEntry 138 = .ok (.putfield 124, 3) := dk_181 0 124 (dk_at dksJ1_deleteEntry_5 19 rfl rfl)
theorem dJ1_deleteEntry_141 : decode cJ1_deleteEntry 141 = .ok (.dup_x1, 1) := dk_90 (dk_at dksJ1_deleteEntry_5 22 rfl rfl)
theorem dJ1_deleteEntry_142 : decode cJ1_deleteEntry 142 = .ok (.putfield 114, 3) := dk_181 0 114 (dk_at dksJ1_deleteEntry_6 0 rfl rfl)
theorem dJ1_deleteEntry_145 : decode cJ1_deleteEntry 145 = .ok (.putfield 111, 3) := dk_181 0 111 (dk_at dksJ1_deleteEntry_6 3 rfl rfl)
theorem dJ1_deleteEntry_148 : decode cJ1_deleteEntry 148 = .ok (.aload_n 1, 1) := dk_43 (dk_at dksJ1_deleteEntry_6 6 rfl rfl)
theorem dJ1_deleteEntry_149 : decode cJ1_deleteEntry 149 = .ok (.getfield 290, 3) := dk_180 1 34 (dk_at dksJ1_deleteEntry_6 7 rfl rfl)
theorem dJ1_deleteEntry_152 : decode cJ1_deleteEntry 152 = .ok (.iconst 1, 1) := dk_4 (dk_at dksJ1_deleteEntry_6 10 rfl rfl)
theorem dJ1_deleteEntry_153 : decode cJ1_deleteEntry 153 = .ok (.if_icmp .ne 92, 3) := dk_160 0 92 (dk_at dksJ1_deleteEntry_6 11 rfl rfl)
theorem dJ1_deleteEntry_156 : decode cJ1_deleteEntry 156 = .ok (.aload_n 0, 1) := dk_42 (dk_at dksJ1_deleteEntry_6 14 rfl rfl)
theorem dJ1_deleteEntry_157 : decode cJ1_deleteEntry 157 = .ok (.aload_n 2, 1) := dk_44 (dk_at dksJ1_deleteEntry_6 15 rfl rfl)
theorem dJ1_deleteEntry_158 : decode cJ1_deleteEntry 158 = .ok (.invokevirtual 317, 3) := dk_182 1 61 (dk_at dksJ1_deleteEntry_6 16 rfl rfl)
theorem dJ1_deleteEntry_161 : decode cJ1_deleteEntry 161 = .ok (.goto 84, 3) := dk_167 0 84 (dk_at dksJ1_deleteEntry_6 19 rfl rfl)
theorem dJ1_deleteEntry_164 : decode cJ1_deleteEntry 164 = .ok (.aload_n 1, 1) := dk_43 (dk_at dksJ1_deleteEntry_6 22 rfl rfl)
theorem dJ1_deleteEntry_165 : decode cJ1_deleteEntry 165 = .ok (.getfield 124, 3) := dk_180 0 124 (dk_at dksJ1_deleteEntry_7 0 rfl rfl)
theorem dJ1_deleteEntry_168 : decode cJ1_deleteEntry 168 = .ok (.ifnonnull 11, 3) := dk_199 0 11 (dk_at dksJ1_deleteEntry_7 3 rfl rfl)
theorem dJ1_deleteEntry_171 : decode cJ1_deleteEntry 171 = .ok (.aload_n 0, 1) := dk_42 (dk_at dksJ1_deleteEntry_7 6 rfl rfl)
theorem dJ1_deleteEntry_172 : decode cJ1_deleteEntry 172 = .ok (.aconst_null, 1) := dk_1 (dk_at dksJ1_deleteEntry_7 7 rfl rfl)
theorem dJ1_deleteEntry_173 : decode cJ1_deleteEntry 173 = .ok (.putfield 101, 3) := dk_181 0 101 (dk_at dksJ1_deleteEntry_7 8 rfl rfl)
theorem dJ1_deleteEntry_176 : decode cJ1_deleteEntry 176 = .ok (.goto 69, 3) := dk_167 0 69 (dk_at dksJ1_deleteEntry_7 11 rfl rfl)
theorem dJ1_deleteEntry_179 : decode cJ1_deleteEntry 179 = .ok (.aload_n 1, 1) := dk_43 (dk_at dksJ1_deleteEntry_7 14 rfl rfl)
theorem dJ1_deleteEntry_180 : decode cJ1_deleteEntry 180 = .ok (.getfield 290, 3) := dk_180 1 34 (dk_at dksJ1_deleteEntry_7 15 rfl rfl)
theorem dJ1_deleteEntry_183 : decode cJ1_deleteEntry 183 = .ok (.iconst 1, 1) := dk_4 (dk_at dksJ1_deleteEntry_7 18 rfl rfl)
theorem dJ1_deleteEntry_184 : decode cJ1_deleteEntry 184 = .ok (.if_icmp .ne 8, 3) := dk_160 0 8 (dk_at dksJ1_deleteEntry_7 19 rfl rfl)
theorem dJ1_deleteEntry_187 : decode cJ1_deleteEntry 187 = .ok (.aload_n 0, 1) := dk_42 (dk_at dksJ1_deleteEntry_7 22 rfl rfl)
theorem dJ1_deleteEntry_188 : decode cJ1_deleteEntry 188 = .ok (.aload_n 1, 1) := dk_43 (dk_at dksJ1_deleteEntry_7 23 rfl rfl)
theorem dJ1_deleteEntry_189 : decode cJ1_deleteEntry 189 = .ok (.invokevirtual 317, 3) := dk_182 1 61 (dk_at dksJ1_deleteEntry_8 0 rfl rfl)
theorem dJ1_deleteEntry_192 : decode cJ1_deleteEntry 192 = .ok (.aload_n 1, 1) := dk_43 (dk_at dksJ1_deleteEntry_8 3 rfl rfl)
theorem dJ1_deleteEntry_193 : decode cJ1_deleteEntry 193 = .ok (.getfield 124, 3) := dk_180 0 124 (dk_at dksJ1_deleteEntry_8 4 rfl rfl)
theorem dJ1_deleteEntry_196 : decode cJ1_deleteEntry 196 = .ok (.ifnull 49, 3) := dk_198 0 49 (dk_at dksJ1_deleteEntry_8 7 rfl rfl)
theorem dJ1_deleteEntry_199 : decode cJ1_deleteEntry 199 = .ok (.aload_n 1, 1) := dk_43 (dk_at dksJ1_deleteEntry_8 10 rfl rfl)
theorem dJ1_deleteEntry_200 : decode cJ1_deleteEntry 200 = .ok (.aload_n 1, 1) := dk_43 (dk_at dksJ1_deleteEntry_8 11 rfl rfl)
theorem dJ1_deleteEntry_201 : decode cJ1_deleteEntry 201 = .ok (.getfield 124, 3) := dk_180 0 124 (dk_at dksJ1_deleteEntry_8 12 rfl rfl)
theorem dJ1_deleteEntry_204 : decode cJ1_deleteEntry 204 = .ok (.getfield 111, 3) := dk_180 0 111 (dk_at dksJ1_deleteEntry_8 15 rfl rfl)
theorem dJ1_deleteEntry_207 : decode cJ1_deleteEntry 207 = .ok (.if_acmp .ne 14, 3) := dk_166 0 14 (dk_at dksJ1_deleteEntry_8 18 rfl rfl)
theorem dJ1_deleteEntry_210 : decode cJ1_deleteEntry 210 = .ok (.aload_n 1, 1) := dk_43 (dk_at dksJ1_deleteEntry_8 21 rfl rfl)
theorem dJ1_deleteEntry_211 : decode cJ1_deleteEntry 211 = .ok (.getfield 124, 3) := dk_180 0 124 (dk_at dksJ1_deleteEntry_9 0 rfl rfl)
theorem dJ1_deleteEntry_214 : decode cJ1_deleteEntry 214 = .ok (.aconst_null, 1) := dk_1 (dk_at dksJ1_deleteEntry_9 3 rfl rfl)
theorem dJ1_deleteEntry_215 : decode cJ1_deleteEntry 215 = .ok (.putfield 111, 3) := dk_181 0 111 (dk_at dksJ1_deleteEntry_9 4 rfl rfl)
theorem dJ1_deleteEntry_218 : decode cJ1_deleteEntry 218 = .ok (.goto 22, 3) := dk_167 0 22 (dk_at dksJ1_deleteEntry_9 7 rfl rfl)
theorem dJ1_deleteEntry_221 : decode cJ1_deleteEntry 221 = .ok (.aload_n 1, 1) := dk_43 (dk_at dksJ1_deleteEntry_9 10 rfl rfl)
theorem dJ1_deleteEntry_222 : decode cJ1_deleteEntry 222 = .ok (.aload_n 1, 1) := dk_43 (dk_at dksJ1_deleteEntry_9 11 rfl rfl)
theorem dJ1_deleteEntry_223 : decode cJ1_deleteEntry 223 = .ok (.getfield 124, 3) := dk_180 0 124 (dk_at dksJ1_deleteEntry_9 12 rfl rfl)
theorem dJ1_deleteEntry_226 : decode cJ1_deleteEntry 226 = .ok (.getfield 114, 3) := dk_180 0 114 (dk_at dksJ1_deleteEntry_9 15 rfl rfl)
theorem dJ1_deleteEntry_229 : decode cJ1_deleteEntry 229 = .ok (.if_acmp .ne 11, 3) := dk_166 0 11 (dk_at dksJ1_deleteEntry_9 18 rfl rfl)
theorem dJ1_deleteEntry_232 : decode cJ1_deleteEntry 232 = .ok (.aload_n 1, 1) := dk_43 (dk_at dksJ1_deleteEntry_9 21 rfl rfl)
theorem dJ1_deleteEntry_233 : decode cJ1_deleteEntry 233 = .ok (.getfield 124, 3) := dk_180 0 124 (dk_at dksJ1_deleteEntry_10 0 rfl rfl)
theorem dJ1_deleteEntry_236 : decode cJ1_deleteEntry 236 = .ok (.aconst_null, 1) := dk_1 (dk_at dksJ1_deleteEntry_10 3 rfl rfl)
theorem dJ1_deleteEntry_237 : decode cJ1_deleteEntry 237 = .ok (.putfield 114, 3) := dk_181 0 114 (dk_at dksJ1_deleteEntry_10 4 rfl rfl)
theorem dJ1_deleteEntry_240 : decode cJ1_deleteEntry 240 = .ok (.aload_n 1, 1) := dk_43 (dk_at dksJ1_deleteEntry_10 7 rfl rfl)
theorem dJ1_deleteEntry_241 : decode cJ1_deleteEntry 241 = .ok (.aconst_null, 1) := dk_1 (dk_at dksJ1_deleteEntry_10 8 rfl rfl)
theorem dJ1_deleteEntry_242 : decode cJ1_deleteEntry 242 = .ok (.putfield 124, 3) := dk_181 0 124 (dk_at dksJ1_deleteEntry_10 9 rfl rfl)
theorem dJ1_deleteEntry_245 : decode cJ1_deleteEntry 245 = .ok (.return_, 1) := dk_177 (dk_at dksJ1_deleteEntry_10 12 rfl rfl)
abbrev cJ1_remove : ByteArray := prog_96_method_34_code
def yJ1_remove : MethodName := ⟨RJ1, "remove", "(Ljava/lang/Object;)Ljava/lang/Object;"⟩
def dkwJ1_remove_0 : List UInt8 := [42, 43, 182, 0, 50, 77, 44, 199, 0, 5, 1, 176, 44, 180, 0, 58, 78, 42, 44, 182, 0, 174, 45, 176]
abbrev dktJ1_remove_0 : List UInt8 := dkwJ1_remove_0 ++ []
theorem dksJ1_remove_0 : cJ1_remove.data.toList.drop 0 = dktJ1_remove_0 := by decide +kernel
theorem dJ1_remove_0 : decode cJ1_remove 0 = .ok (.aload_n 0, 1) := dk_42 (dk_at dksJ1_remove_0 0 rfl rfl)
theorem dJ1_remove_1 : decode cJ1_remove 1 = .ok (.aload_n 1, 1) := dk_43 (dk_at dksJ1_remove_0 1 rfl rfl)
theorem dJ1_remove_2 : decode cJ1_remove 2 = .ok (.invokevirtual 50, 3) := dk_182 0 50 (dk_at dksJ1_remove_0 2 rfl rfl)
theorem dJ1_remove_5 : decode cJ1_remove 5 = .ok (.astore_n 2, 1) := dk_77 (dk_at dksJ1_remove_0 5 rfl rfl)
theorem dJ1_remove_6 : decode cJ1_remove 6 = .ok (.aload_n 2, 1) := dk_44 (dk_at dksJ1_remove_0 6 rfl rfl)
theorem dJ1_remove_7 : decode cJ1_remove 7 = .ok (.ifnonnull 5, 3) := dk_199 0 5 (dk_at dksJ1_remove_0 7 rfl rfl)
theorem dJ1_remove_10 : decode cJ1_remove 10 = .ok (.aconst_null, 1) := dk_1 (dk_at dksJ1_remove_0 10 rfl rfl)
theorem dJ1_remove_11 : decode cJ1_remove 11 = .ok (.areturn, 1) := dk_176 (dk_at dksJ1_remove_0 11 rfl rfl)
theorem dJ1_remove_12 : decode cJ1_remove 12 = .ok (.aload_n 2, 1) := dk_44 (dk_at dksJ1_remove_0 12 rfl rfl)
theorem dJ1_remove_13 : decode cJ1_remove 13 = .ok (.getfield 58, 3) := dk_180 0 58 (dk_at dksJ1_remove_0 13 rfl rfl)
theorem dJ1_remove_16 : decode cJ1_remove 16 = .ok (.astore_n 3, 1) := dk_78 (dk_at dksJ1_remove_0 16 rfl rfl)
theorem dJ1_remove_17 : decode cJ1_remove 17 = .ok (.aload_n 0, 1) := dk_42 (dk_at dksJ1_remove_0 17 rfl rfl)
theorem dJ1_remove_18 : decode cJ1_remove 18 = .ok (.aload_n 2, 1) := dk_44 (dk_at dksJ1_remove_0 18 rfl rfl)
theorem dJ1_remove_19 : decode cJ1_remove 19 = .ok (.invokevirtual 174, 3) := dk_182 0 174 (dk_at dksJ1_remove_0 19 rfl rfl)
theorem dJ1_remove_22 : decode cJ1_remove 22 = .ok (.aload_n 3, 1) := dk_45 (dk_at dksJ1_remove_0 22 rfl rfl)
theorem dJ1_remove_23 : decode cJ1_remove 23 = .ok (.areturn, 1) := dk_176 (dk_at dksJ1_remove_0 23 rfl rfl)
abbrev cX2_leave : ByteArray := prog_14_method_13_code
def yX2_leave : MethodName := ⟨RX2, "leave", "(I)I"⟩
def dkwX2_leave_1 : List UInt8 := [180, 0, 12, 182, 0, 160, 172]
abbrev dktX2_leave_1 : List UInt8 := dkwX2_leave_1 ++ []
def dkwX2_leave_0 : List UInt8 := [42, 27, 182, 0, 103, 16, 101, 184, 0, 166, 42, 180, 0, 12, 27, 184, 0, 52, 182, 0, 185, 87, 42]
abbrev dktX2_leave_0 : List UInt8 := dkwX2_leave_0 ++ dktX2_leave_1
theorem dksX2_leave_0 : cX2_leave.data.toList.drop 0 = dktX2_leave_0 := by decide +kernel
theorem dksX2_leave_1 : cX2_leave.data.toList.drop 23 = dktX2_leave_1 := dk_seg dksX2_leave_0 23 rfl rfl
theorem dX2_leave_0 : decode cX2_leave 0 = .ok (.aload_n 0, 1) := dk_42 (dk_at dksX2_leave_0 0 rfl rfl)
theorem dX2_leave_1 : decode cX2_leave 1 = .ok (.iload_n 1, 1) := dk_27 (dk_at dksX2_leave_0 1 rfl rfl)
theorem dX2_leave_2 : decode cX2_leave 2 = .ok (.invokevirtual 103, 3) := dk_182 0 103 (dk_at dksX2_leave_0 2 rfl rfl)
theorem dX2_leave_5 : decode cX2_leave 5 = .ok (.bipush 101, 2) := dk_16 101 (dk_at dksX2_leave_0 5 rfl rfl)
theorem dX2_leave_7 : decode cX2_leave 7 = .ok (.invokestatic 166, 3) := dk_184 0 166 (dk_at dksX2_leave_0 7 rfl rfl)
theorem dX2_leave_10 : decode cX2_leave 10 = .ok (.aload_n 0, 1) := dk_42 (dk_at dksX2_leave_0 10 rfl rfl)
theorem dX2_leave_11 : decode cX2_leave 11 = .ok (.getfield 12, 3) := dk_180 0 12 (dk_at dksX2_leave_0 11 rfl rfl)
theorem dX2_leave_14 : decode cX2_leave 14 = .ok (.iload_n 1, 1) := dk_27 (dk_at dksX2_leave_0 14 rfl rfl)
theorem dX2_leave_15 : decode cX2_leave 15 = .ok (.invokestatic 52, 3) := dk_184 0 52 (dk_at dksX2_leave_0 15 rfl rfl)
theorem dX2_leave_18 : decode cX2_leave 18 = .ok (.invokevirtual 185, 3) := dk_182 0 185 (dk_at dksX2_leave_0 18 rfl rfl)
theorem dX2_leave_21 : decode cX2_leave 21 = .ok (.pop, 1) := dk_87 (dk_at dksX2_leave_0 21 rfl rfl)
theorem dX2_leave_22 : decode cX2_leave 22 = .ok (.aload_n 0, 1) := dk_42 (dk_at dksX2_leave_0 22 rfl rfl)
theorem dX2_leave_23 : decode cX2_leave 23 = .ok (.getfield 12, 3) := dk_180 0 12 (dk_at dksX2_leave_1 0 rfl rfl)
theorem dX2_leave_26 : decode cX2_leave 26 = .ok (.invokevirtual 160, 3) := dk_182 0 160 (dk_at dksX2_leave_1 3 rfl rfl)
theorem dX2_leave_29 : decode cX2_leave 29 = .ok (.ireturn, 1) := dk_172 (dk_at dksX2_leave_1 6 rfl rfl)
abbrev cJ35_next : ByteArray := prog_100_method_2_code
def yJ35_next : MethodName := ⟨RJ35, "next", "()Ljava/lang/Object;"⟩
def dkwJ35_next_0 : List UInt8 := [42, 182, 0, 7, 180, 0, 13, 176]
abbrev dktJ35_next_0 : List UInt8 := dkwJ35_next_0 ++ []
theorem dksJ35_next_0 : cJ35_next.data.toList.drop 0 = dktJ35_next_0 := by decide +kernel
theorem dJ35_next_0 : decode cJ35_next 0 = .ok (.aload_n 0, 1) := dk_42 (dk_at dksJ35_next_0 0 rfl rfl)
theorem dJ35_next_1 : decode cJ35_next 1 = .ok (.invokevirtual 7, 3) := dk_182 0 7 (dk_at dksJ35_next_0 1 rfl rfl)
theorem dJ35_next_4 : decode cJ35_next 4 = .ok (.getfield 13, 3) := dk_180 0 13 (dk_at dksJ35_next_0 4 rfl rfl)
theorem dJ35_next_7 : decode cJ35_next 7 = .ok (.areturn, 1) := dk_176 (dk_at dksJ35_next_0 7 rfl rfl)
abbrev cJ35_init : ByteArray := prog_100_method_1_code
def yJ35_init : MethodName := ⟨RJ35, "<init>", "(Ljava/util/TreeMap;Ljava/util/TreeMap$Entry;)V"⟩
def dkwJ35_init_0 : List UInt8 := [42, 43, 44, 183, 0, 1, 177]
abbrev dktJ35_init_0 : List UInt8 := dkwJ35_init_0 ++ []
theorem dksJ35_init_0 : cJ35_init.data.toList.drop 0 = dktJ35_init_0 := by decide +kernel
theorem dJ35_init_0 : decode cJ35_init 0 = .ok (.aload_n 0, 1) := dk_42 (dk_at dksJ35_init_0 0 rfl rfl)
theorem dJ35_init_1 : decode cJ35_init 1 = .ok (.aload_n 1, 1) := dk_43 (dk_at dksJ35_init_0 1 rfl rfl)
theorem dJ35_init_2 : decode cJ35_init 2 = .ok (.aload_n 2, 1) := dk_44 (dk_at dksJ35_init_0 2 rfl rfl)
theorem dJ35_init_3 : decode cJ35_init 3 = .ok (.invokespecial 1, 3) := dk_183 0 1 (dk_at dksJ35_init_0 3 rfl rfl)
theorem dJ35_init_6 : decode cJ35_init 6 = .ok (.return_, 1) := dk_177 (dk_at dksJ35_init_0 6 rfl rfl)
abbrev cJ1_keyIterator : ByteArray := prog_96_method_65_code
def yJ1_keyIterator : MethodName := ⟨RJ1, "keyIterator", "()Ljava/util/Iterator;"⟩
def dkwJ1_keyIterator_0 : List UInt8 := [187, 1, 13, 89, 42, 42, 182, 0, 54, 183, 1, 15, 176]
abbrev dktJ1_keyIterator_0 : List UInt8 := dkwJ1_keyIterator_0 ++ []
theorem dksJ1_keyIterator_0 : cJ1_keyIterator.data.toList.drop 0 = dktJ1_keyIterator_0 := by decide +kernel
theorem dJ1_keyIterator_0 : decode cJ1_keyIterator 0 = .ok (.new 269, 3) := dk_187 1 13 (dk_at dksJ1_keyIterator_0 0 rfl rfl)
theorem dJ1_keyIterator_3 : decode cJ1_keyIterator 3 = .ok (.dup, 1) := dk_89 (dk_at dksJ1_keyIterator_0 3 rfl rfl)
theorem dJ1_keyIterator_4 : decode cJ1_keyIterator 4 = .ok (.aload_n 0, 1) := dk_42 (dk_at dksJ1_keyIterator_0 4 rfl rfl)
theorem dJ1_keyIterator_5 : decode cJ1_keyIterator 5 = .ok (.aload_n 0, 1) := dk_42 (dk_at dksJ1_keyIterator_0 5 rfl rfl)
theorem dJ1_keyIterator_6 : decode cJ1_keyIterator 6 = .ok (.invokevirtual 54, 3) := dk_182 0 54 (dk_at dksJ1_keyIterator_0 6 rfl rfl)
theorem dJ1_keyIterator_9 : decode cJ1_keyIterator 9 = .ok (.invokespecial 271, 3) := dk_183 1 15 (dk_at dksJ1_keyIterator_0 9 rfl rfl)
theorem dJ1_keyIterator_12 : decode cJ1_keyIterator 12 = .ok (.areturn, 1) := dk_176 (dk_at dksJ1_keyIterator_0 12 rfl rfl)
abbrev cJ51_iterator : ByteArray := prog_101_method_2_code
def yJ51_iterator : MethodName := ⟨RJ51, "iterator", "()Ljava/util/Iterator;"⟩
def dkwJ51_iterator_1 : List UInt8 := [180, 0, 7, 192, 0, 19, 182, 0, 21, 176]
abbrev dktJ51_iterator_1 : List UInt8 := dkwJ51_iterator_1 ++ []
def dkwJ51_iterator_0 : List UInt8 := [42, 180, 0, 7, 193, 0, 13, 153, 0, 14, 42, 180, 0, 7, 192, 0, 13, 182, 0, 15, 176, 42]
abbrev dktJ51_iterator_0 : List UInt8 := dkwJ51_iterator_0 ++ dktJ51_iterator_1
theorem dksJ51_iterator_0 : cJ51_iterator.data.toList.drop 0 = dktJ51_iterator_0 := by decide +kernel
theorem dksJ51_iterator_1 : cJ51_iterator.data.toList.drop 22 = dktJ51_iterator_1 := dk_seg dksJ51_iterator_0 22 rfl rfl
theorem dJ51_iterator_0 : decode cJ51_iterator 0 = .ok (.aload_n 0, 1) := dk_42 (dk_at dksJ51_iterator_0 0 rfl rfl)
theorem dJ51_iterator_1 : decode cJ51_iterator 1 = .ok (.getfield 7, 3) := dk_180 0 7 (dk_at dksJ51_iterator_0 1 rfl rfl)
theorem dJ51_iterator_4 : decode cJ51_iterator 4 = .ok (.instanceof 13, 3) := dk_193 0 13 (dk_at dksJ51_iterator_0 4 rfl rfl)
theorem dJ51_iterator_7 : decode cJ51_iterator 7 = .ok (.ifCond .eq 14, 3) := dk_153 0 14 (dk_at dksJ51_iterator_0 7 rfl rfl)
theorem dJ51_iterator_10 : decode cJ51_iterator 10 = .ok (.aload_n 0, 1) := dk_42 (dk_at dksJ51_iterator_0 10 rfl rfl)
theorem dJ51_iterator_11 : decode cJ51_iterator 11 = .ok (.getfield 7, 3) := dk_180 0 7 (dk_at dksJ51_iterator_0 11 rfl rfl)
theorem dJ51_iterator_14 : decode cJ51_iterator 14 = .ok (.checkcast 13, 3) := dk_192 0 13 (dk_at dksJ51_iterator_0 14 rfl rfl)
theorem dJ51_iterator_17 : decode cJ51_iterator 17 = .ok (.invokevirtual 15, 3) := dk_182 0 15 (dk_at dksJ51_iterator_0 17 rfl rfl)
theorem dJ51_iterator_20 : decode cJ51_iterator 20 = .ok (.areturn, 1) := dk_176 (dk_at dksJ51_iterator_0 20 rfl rfl)
theorem dJ51_iterator_21 : decode cJ51_iterator 21 = .ok (.aload_n 0, 1) := dk_42 (dk_at dksJ51_iterator_0 21 rfl rfl)
theorem dJ51_iterator_22 : decode cJ51_iterator 22 = .ok (.getfield 7, 3) := dk_180 0 7 (dk_at dksJ51_iterator_1 0 rfl rfl)
theorem dJ51_iterator_25 : decode cJ51_iterator 25 = .ok (.checkcast 19, 3) := dk_192 0 19 (dk_at dksJ51_iterator_1 3 rfl rfl)
abbrev cJ51_size : ByteArray := prog_101_method_4_code
def yJ51_size : MethodName := ⟨RJ51, "size", "()I"⟩
def dkwJ51_size_0 : List UInt8 := [42, 180, 0, 7, 185, 0, 26, 1, 0, 172]
abbrev dktJ51_size_0 : List UInt8 := dkwJ51_size_0 ++ []
theorem dksJ51_size_0 : cJ51_size.data.toList.drop 0 = dktJ51_size_0 := by decide +kernel
theorem dJ51_size_0 : decode cJ51_size 0 = .ok (.aload_n 0, 1) := dk_42 (dk_at dksJ51_size_0 0 rfl rfl)
theorem dJ51_size_1 : decode cJ51_size 1 = .ok (.getfield 7, 3) := dk_180 0 7 (dk_at dksJ51_size_0 1 rfl rfl)
theorem dJ51_size_4 : decode cJ51_size 4 = .ok (.invokeinterface 26 1, 5) := by decide +kernel
theorem dJ51_size_9 : decode cJ51_size 9 = .ok (.ireturn, 1) := dk_172 (dk_at dksJ51_size_0 9 rfl rfl)
abbrev cJ11_size : ByteArray := prog_105_method_3_code
def yJ11_size : MethodName := ⟨RJ11, "size", "()I"⟩
def dkwJ11_size_0 : List UInt8 := [42, 180, 0, 1, 182, 0, 24, 172]
abbrev dktJ11_size_0 : List UInt8 := dkwJ11_size_0 ++ []
theorem dksJ11_size_0 : cJ11_size.data.toList.drop 0 = dktJ11_size_0 := by decide +kernel
theorem dJ11_size_0 : decode cJ11_size 0 = .ok (.aload_n 0, 1) := dk_42 (dk_at dksJ11_size_0 0 rfl rfl)
theorem dJ11_size_1 : decode cJ11_size 1 = .ok (.getfield 1, 3) := dk_180 0 1 (dk_at dksJ11_size_0 1 rfl rfl)
theorem dJ11_size_4 : decode cJ11_size 4 = .ok (.invokevirtual 24, 3) := dk_182 0 24 (dk_at dksJ11_size_0 4 rfl rfl)
theorem dJ11_size_7 : decode cJ11_size 7 = .ok (.ireturn, 1) := dk_172 (dk_at dksJ11_size_0 7 rfl rfl)
abbrev cJ2_toArray : ByteArray := prog_49_method_6_code
def yJ2_toArray : MethodName := ⟨RJ2, "toArray", "()[Ljava/lang/Object;"⟩
def dkwJ2_toArray_3 : List UInt8 := [176]
abbrev dktJ2_toArray_3 : List UInt8 := dkwJ2_toArray_3 ++ []
def dkwJ2_toArray_2 : List UInt8 := [132, 3, 1, 167, 255, 223, 44, 185, 0, 17, 1, 0, 153, 0, 11, 43, 44, 184, 0, 37, 167, 0, 4, 43]
abbrev dktJ2_toArray_2 : List UInt8 := dkwJ2_toArray_2 ++ dktJ2_toArray_3
def dkwJ2_toArray_1 : List UInt8 := [185, 0, 17, 1, 0, 154, 0, 9, 43, 29, 184, 0, 31, 176, 43, 29, 44, 185, 0, 23, 1, 0, 83]
abbrev dktJ2_toArray_1 : List UInt8 := dkwJ2_toArray_1 ++ dktJ2_toArray_2
def dkwJ2_toArray_0 : List UInt8 := [42, 182, 0, 7, 189, 0, 2, 76, 42, 182, 0, 13, 77, 3, 62, 29, 43, 190, 162, 0, 33, 44]
abbrev dktJ2_toArray_0 : List UInt8 := dkwJ2_toArray_0 ++ dktJ2_toArray_1
theorem dksJ2_toArray_0 : cJ2_toArray.data.toList.drop 0 = dktJ2_toArray_0 := by decide +kernel
theorem dksJ2_toArray_1 : cJ2_toArray.data.toList.drop 22 = dktJ2_toArray_1 := dk_seg dksJ2_toArray_0 22 rfl rfl
theorem dksJ2_toArray_2 : cJ2_toArray.data.toList.drop 45 = dktJ2_toArray_2 := dk_seg dksJ2_toArray_1 23 rfl rfl
theorem dksJ2_toArray_3 : cJ2_toArray.data.toList.drop 69 = dktJ2_toArray_3 := dk_seg dksJ2_toArray_2 24 rfl rfl
theorem dJ2_toArray_0 : decode cJ2_toArray 0 = .ok (.aload_n 0, 1) := dk_42 (dk_at dksJ2_toArray_0 0 rfl rfl)
theorem dJ2_toArray_1 : decode cJ2_toArray 1 = .ok (.invokevirtual 7, 3) := dk_182 0 7 (dk_at dksJ2_toArray_0 1 rfl rfl)
theorem dJ2_toArray_4 : decode cJ2_toArray 4 = .ok (.anewarray 2, 3) := dk_189 0 2 (dk_at dksJ2_toArray_0 4 rfl rfl)
theorem dJ2_toArray_7 : decode cJ2_toArray 7 = .ok (.astore_n 1, 1) := dk_76 (dk_at dksJ2_toArray_0 7 rfl rfl)
theorem dJ2_toArray_8 : decode cJ2_toArray 8 = .ok (.aload_n 0, 1) := dk_42 (dk_at dksJ2_toArray_0 8 rfl rfl)
theorem dJ2_toArray_9 : decode cJ2_toArray 9 = .ok (.invokevirtual 13, 3) := dk_182 0 13 (dk_at dksJ2_toArray_0 9 rfl rfl)
theorem dJ2_toArray_12 : decode cJ2_toArray 12 = .ok (.astore_n 2, 1) := dk_77 (dk_at dksJ2_toArray_0 12 rfl rfl)
theorem dJ2_toArray_13 : decode cJ2_toArray 13 = .ok (.iconst 0, 1) := dk_3 (dk_at dksJ2_toArray_0 13 rfl rfl)
theorem dJ2_toArray_14 : decode cJ2_toArray 14 = .ok (.istore_n 3, 1) := dk_62 (dk_at dksJ2_toArray_0 14 rfl rfl)
theorem dJ2_toArray_15 : decode cJ2_toArray 15 = .ok (.iload_n 3, 1) := dk_29 (dk_at dksJ2_toArray_0 15 rfl rfl)
theorem dJ2_toArray_16 : decode cJ2_toArray 16 = .ok (.aload_n 1, 1) := dk_43 (dk_at dksJ2_toArray_0 16 rfl rfl)
theorem dJ2_toArray_17 : decode cJ2_toArray 17 = .ok (.arraylength, 1) := dk_190 (dk_at dksJ2_toArray_0 17 rfl rfl)
theorem dJ2_toArray_18 : decode cJ2_toArray 18 = .ok (.if_icmp .ge 33, 3) := dk_162 0 33 (dk_at dksJ2_toArray_0 18 rfl rfl)
theorem dJ2_toArray_21 : decode cJ2_toArray 21 = .ok (.aload_n 2, 1) := dk_44 (dk_at dksJ2_toArray_0 21 rfl rfl)
theorem dJ2_toArray_22 : decode cJ2_toArray 22 = .ok (.invokeinterface 17 1, 5) := by decide +kernel
theorem dJ2_toArray_27 : decode cJ2_toArray 27 = .ok (.ifCond .ne 9, 3) := dk_154 0 9 (dk_at dksJ2_toArray_1 5 rfl rfl)
theorem dJ2_toArray_30 : decode cJ2_toArray 30 = .ok (.aload_n 1, 1) := dk_43 (dk_at dksJ2_toArray_1 8 rfl rfl)
theorem dJ2_toArray_31 : decode cJ2_toArray 31 = .ok (.iload_n 3, 1) := dk_29 (dk_at dksJ2_toArray_1 9 rfl rfl)
theorem dJ2_toArray_32 : decode cJ2_toArray 32 = .ok (.invokestatic 31, 3) := dk_184 0 31 (dk_at dksJ2_toArray_1 10 rfl rfl)
theorem dJ2_toArray_35 : decode cJ2_toArray 35 = .ok (.areturn, 1) := dk_176 (dk_at dksJ2_toArray_1 13 rfl rfl)
theorem dJ2_toArray_36 : decode cJ2_toArray 36 = .ok (.aload_n 1, 1) := dk_43 (dk_at dksJ2_toArray_1 14 rfl rfl)
theorem dJ2_toArray_37 : decode cJ2_toArray 37 = .ok (.iload_n 3, 1) := dk_29 (dk_at dksJ2_toArray_1 15 rfl rfl)
theorem dJ2_toArray_38 : decode cJ2_toArray 38 = .ok (.aload_n 2, 1) := dk_44 (dk_at dksJ2_toArray_1 16 rfl rfl)
theorem dJ2_toArray_39 : decode cJ2_toArray 39 = .ok (.invokeinterface 23 1, 5) := by decide +kernel
theorem dJ2_toArray_44 : decode cJ2_toArray 44 = .ok (.aastore, 1) := dk_83 (dk_at dksJ2_toArray_1 22 rfl rfl)
theorem dJ2_toArray_45 : decode cJ2_toArray 45 = .ok (.iinc 3 1, 3) := dk_132 3 1 (dk_at dksJ2_toArray_2 0 rfl rfl)
theorem dJ2_toArray_48 : decode cJ2_toArray 48 = .ok (.goto (-33), 3) := dk_167 255 223 (dk_at dksJ2_toArray_2 3 rfl rfl)
theorem dJ2_toArray_51 : decode cJ2_toArray 51 = .ok (.aload_n 2, 1) := dk_44 (dk_at dksJ2_toArray_2 6 rfl rfl)
theorem dJ2_toArray_52 : decode cJ2_toArray 52 = .ok (.invokeinterface 17 1, 5) := by decide +kernel
theorem dJ2_toArray_57 : decode cJ2_toArray 57 = .ok (.ifCond .eq 11, 3) := dk_153 0 11 (dk_at dksJ2_toArray_2 12 rfl rfl)
theorem dJ2_toArray_60 : decode cJ2_toArray 60 = .ok (.aload_n 1, 1) := dk_43 (dk_at dksJ2_toArray_2 15 rfl rfl)
theorem dJ2_toArray_61 : decode cJ2_toArray 61 = .ok (.aload_n 2, 1) := dk_44 (dk_at dksJ2_toArray_2 16 rfl rfl)
theorem dJ2_toArray_62 : decode cJ2_toArray 62 = .ok (.invokestatic 37, 3) := dk_184 0 37 (dk_at dksJ2_toArray_2 17 rfl rfl)
theorem dJ2_toArray_68 : decode cJ2_toArray 68 = .ok (.aload_n 1, 1) := dk_43 (dk_at dksJ2_toArray_2 23 rfl rfl)
theorem dJ2_toArray_69 : decode cJ2_toArray 69 = .ok (.areturn, 1) := dk_176 (dk_at dksJ2_toArray_3 0 rfl rfl)
abbrev cJ4_init_2 : ByteArray := prog_59_method_3_code
def yJ4_init_2 : MethodName := ⟨RJ4, "<init>", "(Ljava/util/Collection;)V"⟩
def dkwJ4_init_2_2 : List UInt8 := [18, 56, 184, 0, 57, 181, 0, 9, 167, 0, 10, 42, 178, 0, 15, 181, 0, 9, 177]
abbrev dktJ4_init_2_2 : List UInt8 := dkwJ4_init_2_2 ++ []
def dkwJ4_init_2_1 : List UInt8 := [185, 0, 52, 1, 0, 18, 10, 166, 0, 11, 42, 44, 181, 0, 9, 167, 0, 27, 42, 44, 42, 180, 0, 48]
abbrev dktJ4_init_2_1 : List UInt8 := dkwJ4_init_2_1 ++ dktJ4_init_2_2
def dkwJ4_init_2_0 : List UInt8 := [42, 183, 0, 1, 43, 185, 0, 42, 1, 0, 77, 42, 44, 190, 90, 181, 0, 48, 153, 0, 39, 43]
abbrev dktJ4_init_2_0 : List UInt8 := dkwJ4_init_2_0 ++ dktJ4_init_2_1
theorem dksJ4_init_2_0 : cJ4_init_2.data.toList.drop 0 = dktJ4_init_2_0 := by decide +kernel
theorem dksJ4_init_2_1 : cJ4_init_2.data.toList.drop 22 = dktJ4_init_2_1 := dk_seg dksJ4_init_2_0 22 rfl rfl
theorem dksJ4_init_2_2 : cJ4_init_2.data.toList.drop 46 = dktJ4_init_2_2 := dk_seg dksJ4_init_2_1 24 rfl rfl
theorem dJ4_init_2_0 : decode cJ4_init_2 0 = .ok (.aload_n 0, 1) := dk_42 (dk_at dksJ4_init_2_0 0 rfl rfl)
theorem dJ4_init_2_1 : decode cJ4_init_2 1 = .ok (.invokespecial 1, 3) := dk_183 0 1 (dk_at dksJ4_init_2_0 1 rfl rfl)
theorem dJ4_init_2_4 : decode cJ4_init_2 4 = .ok (.aload_n 1, 1) := dk_43 (dk_at dksJ4_init_2_0 4 rfl rfl)
theorem dJ4_init_2_5 : decode cJ4_init_2 5 = .ok (.invokeinterface 42 1, 5) := by decide +kernel
theorem dJ4_init_2_10 : decode cJ4_init_2 10 = .ok (.astore_n 2, 1) := dk_77 (dk_at dksJ4_init_2_0 10 rfl rfl)
theorem dJ4_init_2_11 : decode cJ4_init_2 11 = .ok (.aload_n 0, 1) := dk_42 (dk_at dksJ4_init_2_0 11 rfl rfl)
theorem dJ4_init_2_12 : decode cJ4_init_2 12 = .ok (.aload_n 2, 1) := dk_44 (dk_at dksJ4_init_2_0 12 rfl rfl)
theorem dJ4_init_2_13 : decode cJ4_init_2 13 = .ok (.arraylength, 1) := dk_190 (dk_at dksJ4_init_2_0 13 rfl rfl)
theorem dJ4_init_2_14 : decode cJ4_init_2 14 = .ok (.dup_x1, 1) := dk_90 (dk_at dksJ4_init_2_0 14 rfl rfl)
theorem dJ4_init_2_15 : decode cJ4_init_2 15 = .ok (.putfield 48, 3) := dk_181 0 48 (dk_at dksJ4_init_2_0 15 rfl rfl)
theorem dJ4_init_2_18 : decode cJ4_init_2 18 = .ok (.ifCond .eq 39, 3) := dk_153 0 39 (dk_at dksJ4_init_2_0 18 rfl rfl)
theorem dJ4_init_2_21 : decode cJ4_init_2 21 = .ok (.aload_n 1, 1) := dk_43 (dk_at dksJ4_init_2_0 21 rfl rfl)
theorem dJ4_init_2_22 : decode cJ4_init_2 22 = .ok (.invokeinterface 52 1, 5) := by decide +kernel
theorem dJ4_init_2_27 : decode cJ4_init_2 27 = .ok (.ldc 10, 2) := dk_18 10 (dk_at dksJ4_init_2_1 5 rfl rfl)
theorem dJ4_init_2_29 : decode cJ4_init_2 29 = .ok (.if_acmp .ne 11, 3) := dk_166 0 11 (dk_at dksJ4_init_2_1 7 rfl rfl)
theorem dJ4_init_2_32 : decode cJ4_init_2 32 = .ok (.aload_n 0, 1) := dk_42 (dk_at dksJ4_init_2_1 10 rfl rfl)
theorem dJ4_init_2_33 : decode cJ4_init_2 33 = .ok (.aload_n 2, 1) := dk_44 (dk_at dksJ4_init_2_1 11 rfl rfl)
theorem dJ4_init_2_34 : decode cJ4_init_2 34 = .ok (.putfield 9, 3) := dk_181 0 9 (dk_at dksJ4_init_2_1 12 rfl rfl)
theorem dJ4_init_2_37 : decode cJ4_init_2 37 = .ok (.goto 27, 3) := dk_167 0 27 (dk_at dksJ4_init_2_1 15 rfl rfl)
theorem dJ4_init_2_40 : decode cJ4_init_2 40 = .ok (.aload_n 0, 1) := dk_42 (dk_at dksJ4_init_2_1 18 rfl rfl)
theorem dJ4_init_2_41 : decode cJ4_init_2 41 = .ok (.aload_n 2, 1) := dk_44 (dk_at dksJ4_init_2_1 19 rfl rfl)
theorem dJ4_init_2_42 : decode cJ4_init_2 42 = .ok (.aload_n 0, 1) := dk_42 (dk_at dksJ4_init_2_1 20 rfl rfl)
theorem dJ4_init_2_43 : decode cJ4_init_2 43 = .ok (.getfield 48, 3) := dk_180 0 48 (dk_at dksJ4_init_2_1 21 rfl rfl)
theorem dJ4_init_2_46 : decode cJ4_init_2 46 = .ok (.ldc 56, 2) := dk_18 56 (dk_at dksJ4_init_2_2 0 rfl rfl)
theorem dJ4_init_2_48 : decode cJ4_init_2 48 = .ok (.invokestatic 57, 3) := dk_184 0 57 (dk_at dksJ4_init_2_2 2 rfl rfl)
theorem dJ4_init_2_51 : decode cJ4_init_2 51 = .ok (.putfield 9, 3) := dk_181 0 9 (dk_at dksJ4_init_2_2 5 rfl rfl)
theorem dJ4_init_2_54 : decode cJ4_init_2 54 = .ok (.goto 10, 3) := dk_167 0 10 (dk_at dksJ4_init_2_2 8 rfl rfl)
theorem dJ4_init_2_57 : decode cJ4_init_2 57 = .ok (.aload_n 0, 1) := dk_42 (dk_at dksJ4_init_2_2 11 rfl rfl)
theorem dJ4_init_2_58 : decode cJ4_init_2 58 = .ok (.getstatic 15, 3) := dk_178 0 15 (dk_at dksJ4_init_2_2 12 rfl rfl)
theorem dJ4_init_2_61 : decode cJ4_init_2 61 = .ok (.putfield 9, 3) := dk_181 0 9 (dk_at dksJ4_init_2_2 15 rfl rfl)
theorem dJ4_init_2_64 : decode cJ4_init_2 64 = .ok (.return_, 1) := dk_177 (dk_at dksJ4_init_2_2 18 rfl rfl)
abbrev cX2_passHours : ByteArray := prog_14_method_19_code
def yX2_passHours : MethodName := ⟨RX2, "passHours", "(I)I"⟩
def dkwX2_passHours_4 : List UInt8 := [180, 0, 82, 172]
abbrev dktX2_passHours_4 : List UInt8 := dkwX2_passHours_4 ++ []
def dkwX2_passHours_3 : List UInt8 := [25, 4, 182, 0, 145, 4, 96, 184, 0, 173, 182, 0, 182, 167, 255, 218, 132, 2, 1, 167, 255, 179, 42]
abbrev dktX2_passHours_3 : List UInt8 := dkwX2_passHours_3 ++ dktX2_passHours_4
def dkwX2_passHours_2 : List UInt8 := [185, 0, 36, 1, 0, 153, 0, 35, 45, 185, 0, 42, 1, 0, 192, 0, 46, 58, 4, 42, 25, 4, 16, 99]
abbrev dktX2_passHours_2 : List UInt8 := dkwX2_passHours_2 ++ dktX2_passHours_3
def dkwX2_passHours_1 : List UInt8 := [4, 96, 181, 0, 82, 187, 0, 237, 89, 42, 180, 0, 12, 182, 0, 26, 183, 0, 239, 182, 0, 242, 78, 45]
abbrev dktX2_passHours_1 : List UInt8 := dkwX2_passHours_1 ++ dktX2_passHours_2
def dkwX2_passHours_0 : List UInt8 := [27, 4, 16, 24, 184, 0, 162, 16, 97, 184, 0, 166, 3, 61, 28, 27, 162, 0, 78, 42, 89, 180, 0, 82]
abbrev dktX2_passHours_0 : List UInt8 := dkwX2_passHours_0 ++ dktX2_passHours_1
theorem dksX2_passHours_0 : cX2_passHours.data.toList.drop 0 = dktX2_passHours_0 := by decide +kernel
theorem dksX2_passHours_1 : cX2_passHours.data.toList.drop 24 = dktX2_passHours_1 := dk_seg dksX2_passHours_0 24 rfl rfl
theorem dksX2_passHours_2 : cX2_passHours.data.toList.drop 48 = dktX2_passHours_2 := dk_seg dksX2_passHours_1 24 rfl rfl
theorem dksX2_passHours_3 : cX2_passHours.data.toList.drop 72 = dktX2_passHours_3 := dk_seg dksX2_passHours_2 24 rfl rfl
theorem dksX2_passHours_4 : cX2_passHours.data.toList.drop 95 = dktX2_passHours_4 := dk_seg dksX2_passHours_3 23 rfl rfl
theorem dX2_passHours_0 : decode cX2_passHours 0 = .ok (.iload_n 1, 1) := dk_27 (dk_at dksX2_passHours_0 0 rfl rfl)
theorem dX2_passHours_1 : decode cX2_passHours 1 = .ok (.iconst 1, 1) := dk_4 (dk_at dksX2_passHours_0 1 rfl rfl)
theorem dX2_passHours_2 : decode cX2_passHours 2 = .ok (.bipush 24, 2) := dk_16 24 (dk_at dksX2_passHours_0 2 rfl rfl)
theorem dX2_passHours_4 : decode cX2_passHours 4 = .ok (.invokestatic 162, 3) := dk_184 0 162 (dk_at dksX2_passHours_0 4 rfl rfl)
theorem dX2_passHours_7 : decode cX2_passHours 7 = .ok (.bipush 97, 2) := dk_16 97 (dk_at dksX2_passHours_0 7 rfl rfl)
theorem dX2_passHours_9 : decode cX2_passHours 9 = .ok (.invokestatic 166, 3) := dk_184 0 166 (dk_at dksX2_passHours_0 9 rfl rfl)
theorem dX2_passHours_12 : decode cX2_passHours 12 = .ok (.iconst 0, 1) := dk_3 (dk_at dksX2_passHours_0 12 rfl rfl)
theorem dX2_passHours_13 : decode cX2_passHours 13 = .ok (.istore_n 2, 1) := dk_61 (dk_at dksX2_passHours_0 13 rfl rfl)
theorem dX2_passHours_14 : decode cX2_passHours 14 = .ok (.iload_n 2, 1) := dk_28 (dk_at dksX2_passHours_0 14 rfl rfl)
theorem dX2_passHours_15 : decode cX2_passHours 15 = .ok (.iload_n 1, 1) := dk_27 (dk_at dksX2_passHours_0 15 rfl rfl)
theorem dX2_passHours_16 : decode cX2_passHours 16 = .ok (.if_icmp .ge 78, 3) := dk_162 0 78 (dk_at dksX2_passHours_0 16 rfl rfl)
theorem dX2_passHours_19 : decode cX2_passHours 19 = .ok (.aload_n 0, 1) := dk_42 (dk_at dksX2_passHours_0 19 rfl rfl)
theorem dX2_passHours_20 : decode cX2_passHours 20 = .ok (.dup, 1) := dk_89 (dk_at dksX2_passHours_0 20 rfl rfl)
theorem dX2_passHours_21 : decode cX2_passHours 21 = .ok (.getfield 82, 3) := dk_180 0 82 (dk_at dksX2_passHours_0 21 rfl rfl)
theorem dX2_passHours_24 : decode cX2_passHours 24 = .ok (.iconst 1, 1) := dk_4 (dk_at dksX2_passHours_1 0 rfl rfl)
theorem dX2_passHours_25 : decode cX2_passHours 25 = .ok (.iadd, 1) := dk_96 (dk_at dksX2_passHours_1 1 rfl rfl)
theorem dX2_passHours_26 : decode cX2_passHours 26 = .ok (.putfield 82, 3) := dk_181 0 82 (dk_at dksX2_passHours_1 2 rfl rfl)
theorem dX2_passHours_29 : decode cX2_passHours 29 = .ok (.new 237, 3) := dk_187 0 237 (dk_at dksX2_passHours_1 5 rfl rfl)
theorem dX2_passHours_32 : decode cX2_passHours 32 = .ok (.dup, 1) := dk_89 (dk_at dksX2_passHours_1 8 rfl rfl)
theorem dX2_passHours_33 : decode cX2_passHours 33 = .ok (.aload_n 0, 1) := dk_42 (dk_at dksX2_passHours_1 9 rfl rfl)
theorem dX2_passHours_34 : decode cX2_passHours 34 = .ok (.getfield 12, 3) := dk_180 0 12 (dk_at dksX2_passHours_1 10 rfl rfl)
theorem dX2_passHours_37 : decode cX2_passHours 37 = .ok (.invokevirtual 26, 3) := dk_182 0 26 (dk_at dksX2_passHours_1 13 rfl rfl)
theorem dX2_passHours_40 : decode cX2_passHours 40 = .ok (.invokespecial 239, 3) := dk_183 0 239 (dk_at dksX2_passHours_1 16 rfl rfl)
theorem dX2_passHours_43 : decode cX2_passHours 43 = .ok (.invokevirtual 242, 3) := dk_182 0 242 (dk_at dksX2_passHours_1 19 rfl rfl)
theorem dX2_passHours_46 : decode cX2_passHours 46 = .ok (.astore_n 3, 1) := dk_78 (dk_at dksX2_passHours_1 22 rfl rfl)
theorem dX2_passHours_47 : decode cX2_passHours 47 = .ok (.aload_n 3, 1) := dk_45 (dk_at dksX2_passHours_1 23 rfl rfl)
theorem dX2_passHours_48 : decode cX2_passHours 48 = .ok (.invokeinterface 36 1, 5) := by decide +kernel
theorem dX2_passHours_53 : decode cX2_passHours 53 = .ok (.ifCond .eq 35, 3) := dk_153 0 35 (dk_at dksX2_passHours_2 5 rfl rfl)
theorem dX2_passHours_56 : decode cX2_passHours 56 = .ok (.aload_n 3, 1) := dk_45 (dk_at dksX2_passHours_2 8 rfl rfl)
theorem dX2_passHours_57 : decode cX2_passHours 57 = .ok (.invokeinterface 42 1, 5) := by decide +kernel
theorem dX2_passHours_62 : decode cX2_passHours 62 = .ok (.checkcast 46, 3) := dk_192 0 46 (dk_at dksX2_passHours_2 14 rfl rfl)
theorem dX2_passHours_65 : decode cX2_passHours 65 = .ok (.astore 4, 2) := dk_58 4 (dk_at dksX2_passHours_2 17 rfl rfl)
theorem dX2_passHours_67 : decode cX2_passHours 67 = .ok (.aload_n 0, 1) := dk_42 (dk_at dksX2_passHours_2 19 rfl rfl)
theorem dX2_passHours_68 : decode cX2_passHours 68 = .ok (.aload 4, 2) := dk_25 4 (dk_at dksX2_passHours_2 20 rfl rfl)
theorem dX2_passHours_70 : decode cX2_passHours 70 = .ok (.bipush 99, 2) := dk_16 99 (dk_at dksX2_passHours_2 22 rfl rfl)
theorem dX2_passHours_72 : decode cX2_passHours 72 = .ok (.aload 4, 2) := dk_25 4 (dk_at dksX2_passHours_3 0 rfl rfl)
theorem dX2_passHours_74 : decode cX2_passHours 74 = .ok (.invokevirtual 145, 3) := dk_182 0 145 (dk_at dksX2_passHours_3 2 rfl rfl)
theorem dX2_passHours_77 : decode cX2_passHours 77 = .ok (.iconst 1, 1) := dk_4 (dk_at dksX2_passHours_3 5 rfl rfl)
theorem dX2_passHours_78 : decode cX2_passHours 78 = .ok (.iadd, 1) := dk_96 (dk_at dksX2_passHours_3 6 rfl rfl)
theorem dX2_passHours_79 : decode cX2_passHours 79 = .ok (.invokestatic 173, 3) := dk_184 0 173 (dk_at dksX2_passHours_3 7 rfl rfl)
theorem dX2_passHours_82 : decode cX2_passHours 82 = .ok (.invokevirtual 182, 3) := dk_182 0 182 (dk_at dksX2_passHours_3 10 rfl rfl)
theorem dX2_passHours_85 : decode cX2_passHours 85 = .ok (.goto (-38), 3) := dk_167 255 218 (dk_at dksX2_passHours_3 13 rfl rfl)
theorem dX2_passHours_88 : decode cX2_passHours 88 = .ok (.iinc 2 1, 3) := dk_132 2 1 (dk_at dksX2_passHours_3 16 rfl rfl)
theorem dX2_passHours_91 : decode cX2_passHours 91 = .ok (.goto (-77), 3) := dk_167 255 179 (dk_at dksX2_passHours_3 19 rfl rfl)
theorem dX2_passHours_94 : decode cX2_passHours 94 = .ok (.aload_n 0, 1) := dk_42 (dk_at dksX2_passHours_3 22 rfl rfl)
theorem dX2_passHours_95 : decode cX2_passHours 95 = .ok (.getfield 82, 3) := dk_180 0 82 (dk_at dksX2_passHours_4 0 rfl rfl)
theorem dX2_passHours_98 : decode cX2_passHours 98 = .ok (.ireturn, 1) := dk_172 (dk_at dksX2_passHours_4 3 rfl rfl)
abbrev cX3_onDuty : ByteArray := prog_10_method_6_code
def yX3_onDuty : MethodName := ⟨RX3, "onDuty", "(I)I"⟩
def dkwX3_onDuty_2 : List UInt8 := [3, 96, 61, 167, 255, 219, 28, 172]
abbrev dktX3_onDuty_2 : List UInt8 := dkwX3_onDuty_2 ++ []
def dkwX3_onDuty_1 : List UInt8 := [185, 0, 31, 1, 0, 192, 0, 35, 58, 4, 28, 25, 4, 27, 182, 0, 53, 153, 0, 7, 4, 167, 0, 4]
abbrev dktX3_onDuty_1 : List UInt8 := dkwX3_onDuty_1 ++ dktX3_onDuty_2
def dkwX3_onDuty_0 : List UInt8 := [3, 61, 42, 180, 0, 12, 185, 0, 19, 1, 0, 78, 45, 185, 0, 25, 1, 0, 153, 0, 34, 45]
abbrev dktX3_onDuty_0 : List UInt8 := dkwX3_onDuty_0 ++ dktX3_onDuty_1
theorem dksX3_onDuty_0 : cX3_onDuty.data.toList.drop 0 = dktX3_onDuty_0 := by decide +kernel
theorem dksX3_onDuty_1 : cX3_onDuty.data.toList.drop 22 = dktX3_onDuty_1 := dk_seg dksX3_onDuty_0 22 rfl rfl
theorem dksX3_onDuty_2 : cX3_onDuty.data.toList.drop 46 = dktX3_onDuty_2 := dk_seg dksX3_onDuty_1 24 rfl rfl
theorem dX3_onDuty_0 : decode cX3_onDuty 0 = .ok (.iconst 0, 1) := dk_3 (dk_at dksX3_onDuty_0 0 rfl rfl)
theorem dX3_onDuty_1 : decode cX3_onDuty 1 = .ok (.istore_n 2, 1) := dk_61 (dk_at dksX3_onDuty_0 1 rfl rfl)
theorem dX3_onDuty_2 : decode cX3_onDuty 2 = .ok (.aload_n 0, 1) := dk_42 (dk_at dksX3_onDuty_0 2 rfl rfl)
theorem dX3_onDuty_3 : decode cX3_onDuty 3 = .ok (.getfield 12, 3) := dk_180 0 12 (dk_at dksX3_onDuty_0 3 rfl rfl)
theorem dX3_onDuty_6 : decode cX3_onDuty 6 = .ok (.invokeinterface 19 1, 5) := by decide +kernel
theorem dX3_onDuty_11 : decode cX3_onDuty 11 = .ok (.astore_n 3, 1) := dk_78 (dk_at dksX3_onDuty_0 11 rfl rfl)
theorem dX3_onDuty_12 : decode cX3_onDuty 12 = .ok (.aload_n 3, 1) := dk_45 (dk_at dksX3_onDuty_0 12 rfl rfl)
theorem dX3_onDuty_13 : decode cX3_onDuty 13 = .ok (.invokeinterface 25 1, 5) := by decide +kernel
theorem dX3_onDuty_18 : decode cX3_onDuty 18 = .ok (.ifCond .eq 34, 3) := dk_153 0 34 (dk_at dksX3_onDuty_0 18 rfl rfl)
theorem dX3_onDuty_21 : decode cX3_onDuty 21 = .ok (.aload_n 3, 1) := dk_45 (dk_at dksX3_onDuty_0 21 rfl rfl)
theorem dX3_onDuty_22 : decode cX3_onDuty 22 = .ok (.invokeinterface 31 1, 5) := by decide +kernel
theorem dX3_onDuty_27 : decode cX3_onDuty 27 = .ok (.checkcast 35, 3) := dk_192 0 35 (dk_at dksX3_onDuty_1 5 rfl rfl)
theorem dX3_onDuty_30 : decode cX3_onDuty 30 = .ok (.astore 4, 2) := dk_58 4 (dk_at dksX3_onDuty_1 8 rfl rfl)
theorem dX3_onDuty_32 : decode cX3_onDuty 32 = .ok (.iload_n 2, 1) := dk_28 (dk_at dksX3_onDuty_1 10 rfl rfl)
theorem dX3_onDuty_33 : decode cX3_onDuty 33 = .ok (.aload 4, 2) := dk_25 4 (dk_at dksX3_onDuty_1 11 rfl rfl)
theorem dX3_onDuty_35 : decode cX3_onDuty 35 = .ok (.iload_n 1, 1) := dk_27 (dk_at dksX3_onDuty_1 13 rfl rfl)
theorem dX3_onDuty_36 : decode cX3_onDuty 36 = .ok (.invokevirtual 53, 3) := dk_182 0 53 (dk_at dksX3_onDuty_1 14 rfl rfl)
theorem dX3_onDuty_39 : decode cX3_onDuty 39 = .ok (.ifCond .eq 7, 3) := dk_153 0 7 (dk_at dksX3_onDuty_1 17 rfl rfl)
theorem dX3_onDuty_42 : decode cX3_onDuty 42 = .ok (.iconst 1, 1) := dk_4 (dk_at dksX3_onDuty_1 20 rfl rfl)
theorem dX3_onDuty_43 : decode cX3_onDuty 43 = .ok (.goto 4, 3) := dk_167 0 4 (dk_at dksX3_onDuty_1 21 rfl rfl)
theorem dX3_onDuty_46 : decode cX3_onDuty 46 = .ok (.iconst 0, 1) := dk_3 (dk_at dksX3_onDuty_2 0 rfl rfl)
theorem dX3_onDuty_47 : decode cX3_onDuty 47 = .ok (.iadd, 1) := dk_96 (dk_at dksX3_onDuty_2 1 rfl rfl)
theorem dX3_onDuty_48 : decode cX3_onDuty 48 = .ok (.istore_n 2, 1) := dk_61 (dk_at dksX3_onDuty_2 2 rfl rfl)
theorem dX3_onDuty_49 : decode cX3_onDuty 49 = .ok (.goto (-37), 3) := dk_167 255 219 (dk_at dksX3_onDuty_2 3 rfl rfl)
theorem dX3_onDuty_52 : decode cX3_onDuty 52 = .ok (.iload_n 2, 1) := dk_28 (dk_at dksX3_onDuty_2 6 rfl rfl)
theorem dX3_onDuty_53 : decode cX3_onDuty 53 = .ok (.ireturn, 1) := dk_172 (dk_at dksX3_onDuty_2 7 rfl rfl)
abbrev cX2_take : ByteArray := prog_14_method_6_code
def yX2_take : MethodName := ⟨RX2, "take", "()LLionGate$Ticket;"⟩
def dkwX2_take_1 : List UInt8 := [4, 100, 181, 0, 70, 43, 176]
abbrev dktX2_take_1 : List UInt8 := dkwX2_take_1 ++ []
def dkwX2_take_0 : List UInt8 := [42, 180, 0, 66, 180, 0, 127, 76, 42, 42, 180, 0, 66, 182, 0, 128, 181, 0, 66, 42, 89, 180, 0, 70]
abbrev dktX2_take_0 : List UInt8 := dkwX2_take_0 ++ dktX2_take_1
theorem dksX2_take_0 : cX2_take.data.toList.drop 0 = dktX2_take_0 := by decide +kernel
theorem dksX2_take_1 : cX2_take.data.toList.drop 24 = dktX2_take_1 := dk_seg dksX2_take_0 24 rfl rfl
theorem dX2_take_0 : decode cX2_take 0 = .ok (.aload_n 0, 1) := dk_42 (dk_at dksX2_take_0 0 rfl rfl)
theorem dX2_take_1 : decode cX2_take 1 = .ok (.getfield 66, 3) := dk_180 0 66 (dk_at dksX2_take_0 1 rfl rfl)
theorem dX2_take_4 : decode cX2_take 4 = .ok (.getfield 127, 3) := dk_180 0 127 (dk_at dksX2_take_0 4 rfl rfl)
theorem dX2_take_7 : decode cX2_take 7 = .ok (.astore_n 1, 1) := dk_76 (dk_at dksX2_take_0 7 rfl rfl)
theorem dX2_take_8 : decode cX2_take 8 = .ok (.aload_n 0, 1) := dk_42 (dk_at dksX2_take_0 8 rfl rfl)
theorem dX2_take_9 : decode cX2_take 9 = .ok (.aload_n 0, 1) := dk_42 (dk_at dksX2_take_0 9 rfl rfl)
theorem dX2_take_10 : decode cX2_take 10 = .ok (.getfield 66, 3) := dk_180 0 66 (dk_at dksX2_take_0 10 rfl rfl)
theorem dX2_take_13 : decode cX2_take 13 = .ok (.invokevirtual 128, 3) := dk_182 0 128 (dk_at dksX2_take_0 13 rfl rfl)
theorem dX2_take_16 : decode cX2_take 16 = .ok (.putfield 66, 3) := dk_181 0 66 (dk_at dksX2_take_0 16 rfl rfl)
theorem dX2_take_19 : decode cX2_take 19 = .ok (.aload_n 0, 1) := dk_42 (dk_at dksX2_take_0 19 rfl rfl)
theorem dX2_take_20 : decode cX2_take 20 = .ok (.dup, 1) := dk_89 (dk_at dksX2_take_0 20 rfl rfl)
theorem dX2_take_21 : decode cX2_take 21 = .ok (.getfield 70, 3) := dk_180 0 70 (dk_at dksX2_take_0 21 rfl rfl)
theorem dX2_take_24 : decode cX2_take 24 = .ok (.iconst 1, 1) := dk_4 (dk_at dksX2_take_1 0 rfl rfl)
theorem dX2_take_25 : decode cX2_take 25 = .ok (.isub, 1) := dk_100 (dk_at dksX2_take_1 1 rfl rfl)
theorem dX2_take_26 : decode cX2_take 26 = .ok (.putfield 70, 3) := dk_181 0 70 (dk_at dksX2_take_1 2 rfl rfl)
theorem dX2_take_29 : decode cX2_take 29 = .ok (.aload_n 1, 1) := dk_43 (dk_at dksX2_take_1 5 rfl rfl)
theorem dX2_take_30 : decode cX2_take 30 = .ok (.areturn, 1) := dk_176 (dk_at dksX2_take_1 6 rfl rfl)
abbrev cX2_throwStale : ByteArray := prog_14_method_9_code
def yX2_throwStale : MethodName := ⟨RX2, "throwStale", "()V"⟩
def dkwX2_throwStale_1 : List UInt8 := [4, 96, 181, 0, 79, 167, 255, 227, 177]
abbrev dktX2_throwStale_1 : List UInt8 := dkwX2_throwStale_1 ++ []
def dkwX2_throwStale_0 : List UInt8 := [42, 42, 180, 0, 66, 180, 0, 127, 182, 0, 152, 154, 0, 21, 42, 182, 0, 156, 87, 42, 89, 180, 0, 79]
abbrev dktX2_throwStale_0 : List UInt8 := dkwX2_throwStale_0 ++ dktX2_throwStale_1
theorem dksX2_throwStale_0 : cX2_throwStale.data.toList.drop 0 = dktX2_throwStale_0 := by decide +kernel
theorem dksX2_throwStale_1 : cX2_throwStale.data.toList.drop 24 = dktX2_throwStale_1 := dk_seg dksX2_throwStale_0 24 rfl rfl
theorem dX2_throwStale_0 : decode cX2_throwStale 0 = .ok (.aload_n 0, 1) := dk_42 (dk_at dksX2_throwStale_0 0 rfl rfl)
theorem dX2_throwStale_1 : decode cX2_throwStale 1 = .ok (.aload_n 0, 1) := dk_42 (dk_at dksX2_throwStale_0 1 rfl rfl)
theorem dX2_throwStale_2 : decode cX2_throwStale 2 = .ok (.getfield 66, 3) := dk_180 0 66 (dk_at dksX2_throwStale_0 2 rfl rfl)
theorem dX2_throwStale_5 : decode cX2_throwStale 5 = .ok (.getfield 127, 3) := dk_180 0 127 (dk_at dksX2_throwStale_0 5 rfl rfl)
theorem dX2_throwStale_8 : decode cX2_throwStale 8 = .ok (.invokevirtual 152, 3) := dk_182 0 152 (dk_at dksX2_throwStale_0 8 rfl rfl)
theorem dX2_throwStale_11 : decode cX2_throwStale 11 = .ok (.ifCond .ne 21, 3) := dk_154 0 21 (dk_at dksX2_throwStale_0 11 rfl rfl)
theorem dX2_throwStale_14 : decode cX2_throwStale 14 = .ok (.aload_n 0, 1) := dk_42 (dk_at dksX2_throwStale_0 14 rfl rfl)
theorem dX2_throwStale_15 : decode cX2_throwStale 15 = .ok (.invokevirtual 156, 3) := dk_182 0 156 (dk_at dksX2_throwStale_0 15 rfl rfl)
theorem dX2_throwStale_18 : decode cX2_throwStale 18 = .ok (.pop, 1) := dk_87 (dk_at dksX2_throwStale_0 18 rfl rfl)
theorem dX2_throwStale_19 : decode cX2_throwStale 19 = .ok (.aload_n 0, 1) := dk_42 (dk_at dksX2_throwStale_0 19 rfl rfl)
theorem dX2_throwStale_20 : decode cX2_throwStale 20 = .ok (.dup, 1) := dk_89 (dk_at dksX2_throwStale_0 20 rfl rfl)
theorem dX2_throwStale_21 : decode cX2_throwStale 21 = .ok (.getfield 79, 3) := dk_180 0 79 (dk_at dksX2_throwStale_0 21 rfl rfl)
theorem dX2_throwStale_24 : decode cX2_throwStale 24 = .ok (.iconst 1, 1) := dk_4 (dk_at dksX2_throwStale_1 0 rfl rfl)
theorem dX2_throwStale_25 : decode cX2_throwStale 25 = .ok (.iadd, 1) := dk_96 (dk_at dksX2_throwStale_1 1 rfl rfl)
theorem dX2_throwStale_26 : decode cX2_throwStale 26 = .ok (.putfield 79, 3) := dk_181 0 79 (dk_at dksX2_throwStale_1 2 rfl rfl)
theorem dX2_throwStale_29 : decode cX2_throwStale 29 = .ok (.goto (-29), 3) := dk_167 255 227 (dk_at dksX2_throwStale_1 5 rfl rfl)
theorem dX2_throwStale_32 : decode cX2_throwStale 32 = .ok (.return_, 1) := dk_177 (dk_at dksX2_throwStale_1 8 rfl rfl)
abbrev cJ0_isEmpty : ByteArray := prog_53_method_3_code
def yJ0_isEmpty : MethodName := ⟨RJ0, "isEmpty", "()Z"⟩
def dkwJ0_isEmpty_0 : List UInt8 := [42, 182, 0, 19, 154, 0, 7, 4, 167, 0, 4, 3, 172]
abbrev dktJ0_isEmpty_0 : List UInt8 := dkwJ0_isEmpty_0 ++ []
theorem dksJ0_isEmpty_0 : cJ0_isEmpty.data.toList.drop 0 = dktJ0_isEmpty_0 := by decide +kernel
theorem dJ0_isEmpty_0 : decode cJ0_isEmpty 0 = .ok (.aload_n 0, 1) := dk_42 (dk_at dksJ0_isEmpty_0 0 rfl rfl)
theorem dJ0_isEmpty_1 : decode cJ0_isEmpty 1 = .ok (.invokevirtual 19, 3) := dk_182 0 19 (dk_at dksJ0_isEmpty_0 1 rfl rfl)
theorem dJ0_isEmpty_4 : decode cJ0_isEmpty 4 = .ok (.ifCond .ne 7, 3) := dk_154 0 7 (dk_at dksJ0_isEmpty_0 4 rfl rfl)
theorem dJ0_isEmpty_7 : decode cJ0_isEmpty 7 = .ok (.iconst 1, 1) := dk_4 (dk_at dksJ0_isEmpty_0 7 rfl rfl)
theorem dJ0_isEmpty_8 : decode cJ0_isEmpty 8 = .ok (.goto 4, 3) := dk_167 0 4 (dk_at dksJ0_isEmpty_0 8 rfl rfl)
theorem dJ0_isEmpty_11 : decode cJ0_isEmpty 11 = .ok (.iconst 0, 1) := dk_3 (dk_at dksJ0_isEmpty_0 11 rfl rfl)
theorem dJ0_isEmpty_12 : decode cJ0_isEmpty 12 = .ok (.ireturn, 1) := dk_172 (dk_at dksJ0_isEmpty_0 12 rfl rfl)
