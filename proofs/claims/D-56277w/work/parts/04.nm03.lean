set_option maxRecDepth 100000
abbrev cX1_inOrder : ByteArray := prog_1_method_3_code
def yX1_inOrder : MethodName := ⟨RX1, "inOrder", "(LLionGate$Node;)Ljava/util/List;"⟩
def dkwX1_inOrder_5 : List UInt8 := [180, 0, 57, 182, 0, 15, 167, 255, 157, 43, 176]
abbrev dktX1_inOrder_5 : List UInt8 := dkwX1_inOrder_5 ++ []
def dkwX1_inOrder_4 : List UInt8 := [45, 180, 0, 53, 198, 0, 11, 44, 45, 180, 0, 53, 182, 0, 15, 45, 180, 0, 57, 198, 0, 11, 44, 45]
abbrev dktX1_inOrder_4 : List UInt8 := dkwX1_inOrder_4 ++ dktX1_inOrder_5
def dkwX1_inOrder_3 : List UInt8 := [182, 0, 45, 153, 0, 9, 132, 4, 255, 167, 255, 225, 43, 21, 4, 45, 180, 0, 35, 185, 0, 49, 3, 0]
abbrev dktX1_inOrder_3 : List UInt8 := dkwX1_inOrder_3 ++ dktX1_inOrder_4
def dkwX1_inOrder_2 : List UInt8 := [54, 4, 21, 4, 158, 0, 32, 45, 180, 0, 35, 43, 21, 4, 4, 100, 185, 0, 39, 2, 0, 192, 0, 43]
abbrev dktX1_inOrder_2 : List UInt8 := dkwX1_inOrder_2 ++ dktX1_inOrder_3
def dkwX1_inOrder_1 : List UInt8 := [182, 0, 15, 44, 182, 0, 19, 154, 0, 98, 44, 182, 0, 23, 192, 0, 27, 78, 43, 185, 0, 29, 1, 0]
abbrev dktX1_inOrder_1 : List UInt8 := dkwX1_inOrder_1 ++ dktX1_inOrder_2
def dkwX1_inOrder_0 : List UInt8 := [187, 0, 7, 89, 183, 0, 9, 76, 187, 0, 12, 89, 183, 0, 14, 77, 42, 198, 0, 8, 44, 42]
abbrev dktX1_inOrder_0 : List UInt8 := dkwX1_inOrder_0 ++ dktX1_inOrder_1
theorem dksX1_inOrder_0 : cX1_inOrder.data.toList.drop 0 = dktX1_inOrder_0 := by decide +kernel
theorem dksX1_inOrder_1 : cX1_inOrder.data.toList.drop 22 = dktX1_inOrder_1 := dk_seg dksX1_inOrder_0 22 rfl rfl
theorem dksX1_inOrder_2 : cX1_inOrder.data.toList.drop 46 = dktX1_inOrder_2 := dk_seg dksX1_inOrder_1 24 rfl rfl
theorem dksX1_inOrder_3 : cX1_inOrder.data.toList.drop 70 = dktX1_inOrder_3 := dk_seg dksX1_inOrder_2 24 rfl rfl
theorem dksX1_inOrder_4 : cX1_inOrder.data.toList.drop 94 = dktX1_inOrder_4 := dk_seg dksX1_inOrder_3 24 rfl rfl
theorem dksX1_inOrder_5 : cX1_inOrder.data.toList.drop 118 = dktX1_inOrder_5 := dk_seg dksX1_inOrder_4 24 rfl rfl
theorem dX1_inOrder_0 : decode cX1_inOrder 0 = .ok (.new 7, 3) := dk_187 0 7 (dk_at dksX1_inOrder_0 0 rfl rfl)
theorem dX1_inOrder_3 : decode cX1_inOrder 3 = .ok (.dup, 1) := dk_89 (dk_at dksX1_inOrder_0 3 rfl rfl)
theorem dX1_inOrder_4 : decode cX1_inOrder 4 = .ok (.invokespecial 9, 3) := dk_183 0 9 (dk_at dksX1_inOrder_0 4 rfl rfl)
theorem dX1_inOrder_7 : decode cX1_inOrder 7 = .ok (.astore_n 1, 1) := dk_76 (dk_at dksX1_inOrder_0 7 rfl rfl)
theorem dX1_inOrder_8 : decode cX1_inOrder 8 = .ok (.new 12, 3) := dk_187 0 12 (dk_at dksX1_inOrder_0 8 rfl rfl)
theorem dX1_inOrder_11 : decode cX1_inOrder 11 = .ok (.dup, 1) := dk_89 (dk_at dksX1_inOrder_0 11 rfl rfl)
theorem dX1_inOrder_12 : decode cX1_inOrder 12 = .ok (.invokespecial 14, 3) := dk_183 0 14 (dk_at dksX1_inOrder_0 12 rfl rfl)
theorem dX1_inOrder_15 : decode cX1_inOrder 15 = .ok (.astore_n 2, 1) := dk_77 (dk_at dksX1_inOrder_0 15 rfl rfl)
theorem dX1_inOrder_16 : decode cX1_inOrder 16 = .ok (.aload_n 0, 1) := dk_42 (dk_at dksX1_inOrder_0 16 rfl rfl)
theorem dX1_inOrder_17 : decode cX1_inOrder 17 = .ok (.ifnull 8, 3) := dk_198 0 8 (dk_at dksX1_inOrder_0 17 rfl rfl)
theorem dX1_inOrder_20 : decode cX1_inOrder 20 = .ok (.aload_n 2, 1) := dk_44 (dk_at dksX1_inOrder_0 20 rfl rfl)
theorem dX1_inOrder_21 : decode cX1_inOrder 21 = .ok (.aload_n 0, 1) := dk_42 (dk_at dksX1_inOrder_0 21 rfl rfl)
theorem dX1_inOrder_22 : decode cX1_inOrder 22 = .ok (.invokevirtual 15, 3) := dk_182 0 15 (dk_at dksX1_inOrder_1 0 rfl rfl)
theorem dX1_inOrder_25 : decode cX1_inOrder 25 = .ok (.aload_n 2, 1) := dk_44 (dk_at dksX1_inOrder_1 3 rfl rfl)
theorem dX1_inOrder_26 : decode cX1_inOrder 26 = .ok (.invokevirtual 19, 3) := dk_182 0 19 (dk_at dksX1_inOrder_1 4 rfl rfl)
theorem dX1_inOrder_29 : decode cX1_inOrder 29 = .ok (.ifCond .ne 98, 3) := dk_154 0 98 (dk_at dksX1_inOrder_1 7 rfl rfl)
theorem dX1_inOrder_32 : decode cX1_inOrder 32 = .ok (.aload_n 2, 1) := dk_44 (dk_at dksX1_inOrder_1 10 rfl rfl)
theorem dX1_inOrder_33 : decode cX1_inOrder 33 = .ok (.invokevirtual 23, 3) := dk_182 0 23 (dk_at dksX1_inOrder_1 11 rfl rfl)
theorem dX1_inOrder_36 : decode cX1_inOrder 36 = .ok (.checkcast 27, 3) := dk_192 0 27 (dk_at dksX1_inOrder_1 14 rfl rfl)
theorem dX1_inOrder_39 : decode cX1_inOrder 39 = .ok (.astore_n 3, 1) := dk_78 (dk_at dksX1_inOrder_1 17 rfl rfl)
theorem dX1_inOrder_40 : decode cX1_inOrder 40 = .ok (.aload_n 1, 1) := dk_43 (dk_at dksX1_inOrder_1 18 rfl rfl)
theorem dX1_inOrder_41 : decode cX1_inOrder 41 = .ok (.invokeinterface 29 1, 5) := by decide +kernel
theorem dX1_inOrder_46 : decode cX1_inOrder 46 = .ok (.istore 4, 2) := dk_54 4 (dk_at dksX1_inOrder_2 0 rfl rfl)
theorem dX1_inOrder_48 : decode cX1_inOrder 48 = .ok (.iload 4, 2) := dk_21 4 (dk_at dksX1_inOrder_2 2 rfl rfl)
theorem dX1_inOrder_50 : decode cX1_inOrder 50 = .ok (.ifCond .le 32, 3) := dk_158 0 32 (dk_at dksX1_inOrder_2 4 rfl rfl)
theorem dX1_inOrder_53 : decode cX1_inOrder 53 = .ok (.aload_n 3, 1) := dk_45 (dk_at dksX1_inOrder_2 7 rfl rfl)
theorem dX1_inOrder_54 : decode cX1_inOrder 54 = .ok (.getfield 35, 3) := dk_180 0 35 (dk_at dksX1_inOrder_2 8 rfl rfl)
theorem dX1_inOrder_57 : decode cX1_inOrder 57 = .ok (.aload_n 1, 1) := dk_43 (dk_at dksX1_inOrder_2 11 rfl rfl)
theorem dX1_inOrder_58 : decode cX1_inOrder 58 = .ok (.iload 4, 2) := dk_21 4 (dk_at dksX1_inOrder_2 12 rfl rfl)
theorem dX1_inOrder_60 : decode cX1_inOrder 60 = .ok (.iconst 1, 1) := dk_4 (dk_at dksX1_inOrder_2 14 rfl rfl)
theorem dX1_inOrder_61 : decode cX1_inOrder 61 = .ok (.isub, 1) := dk_100 (dk_at dksX1_inOrder_2 15 rfl rfl)
theorem dX1_inOrder_62 : decode cX1_inOrder 62 = .ok (.invokeinterface 39 2, 5) := by decide +kernel
theorem dX1_inOrder_67 : decode cX1_inOrder 67 = .ok (.checkcast 43, 3) := dk_192 0 43 (dk_at dksX1_inOrder_2 21 rfl rfl)
theorem dX1_inOrder_70 : decode cX1_inOrder 70 = .ok (.invokevirtual 45, 3) := dk_182 0 45 (dk_at dksX1_inOrder_3 0 rfl rfl)
theorem dX1_inOrder_73 : decode cX1_inOrder 73 = .ok (.ifCond .eq 9, 3) := dk_153 0 9 (dk_at dksX1_inOrder_3 3 rfl rfl)
theorem dX1_inOrder_76 : decode cX1_inOrder 76 = .ok (.iinc 4 (-1), 3) := dk_132 4 255 (dk_at dksX1_inOrder_3 6 rfl rfl)
theorem dX1_inOrder_79 : decode cX1_inOrder 79 = .ok (.goto (-31), 3) := dk_167 255 225 (dk_at dksX1_inOrder_3 9 rfl rfl)
theorem dX1_inOrder_82 : decode cX1_inOrder 82 = .ok (.aload_n 1, 1) := dk_43 (dk_at dksX1_inOrder_3 12 rfl rfl)
theorem dX1_inOrder_83 : decode cX1_inOrder 83 = .ok (.iload 4, 2) := dk_21 4 (dk_at dksX1_inOrder_3 13 rfl rfl)
theorem dX1_inOrder_85 : decode cX1_inOrder 85 = .ok (.aload_n 3, 1) := dk_45 (dk_at dksX1_inOrder_3 15 rfl rfl)
theorem dX1_inOrder_86 : decode cX1_inOrder 86 = .ok (.getfield 35, 3) := dk_180 0 35 (dk_at dksX1_inOrder_3 16 rfl rfl)
theorem dX1_inOrder_89 : decode cX1_inOrder 89 = .ok (.invokeinterface 49 3, 5) := by decide +kernel
theorem dX1_inOrder_94 : decode cX1_inOrder 94 = .ok (.aload_n 3, 1) := dk_45 (dk_at dksX1_inOrder_4 0 rfl rfl)
theorem dX1_inOrder_95 : decode cX1_inOrder 95 = .ok (.getfield 53, 3) := dk_180 0 53 (dk_at dksX1_inOrder_4 1 rfl rfl)
theorem dX1_inOrder_98 : decode cX1_inOrder 98 = .ok (.ifnull 11, 3) := dk_198 0 11 (dk_at dksX1_inOrder_4 4 rfl rfl)
theorem dX1_inOrder_101 : decode cX1_inOrder 101 = .ok (.aload_n 2, 1) := dk_44 (dk_at dksX1_inOrder_4 7 rfl rfl)
theorem dX1_inOrder_102 : decode cX1_inOrder 102 = .ok (.aload_n 3, 1) := dk_45 (dk_at dksX1_inOrder_4 8 rfl rfl)
theorem dX1_inOrder_103 : decode cX1_inOrder 103 = .ok (.getfield 53, 3) := dk_180 0 53 (dk_at dksX1_inOrder_4 9 rfl rfl)
theorem dX1_inOrder_106 : decode cX1_inOrder 106 = .ok (.invokevirtual 15, 3) := dk_182 0 15 (dk_at dksX1_inOrder_4 12 rfl rfl)
theorem dX1_inOrder_109 : decode cX1_inOrder 109 = .ok (.aload_n 3, 1) := dk_45 (dk_at dksX1_inOrder_4 15 rfl rfl)
theorem dX1_inOrder_110 : decode cX1_inOrder 110 = .ok (.getfield 57, 3) := dk_180 0 57 (dk_at dksX1_inOrder_4 16 rfl rfl)
theorem dX1_inOrder_113 : decode cX1_inOrder 113 = .ok (.ifnull 11, 3) := dk_198 0 11 (dk_at dksX1_inOrder_4 19 rfl rfl)
theorem dX1_inOrder_116 : decode cX1_inOrder 116 = .ok (.aload_n 2, 1) := dk_44 (dk_at dksX1_inOrder_4 22 rfl rfl)
theorem dX1_inOrder_117 : decode cX1_inOrder 117 = .ok (.aload_n 3, 1) := dk_45 (dk_at dksX1_inOrder_4 23 rfl rfl)
theorem dX1_inOrder_118 : decode cX1_inOrder 118 = .ok (.getfield 57, 3) := dk_180 0 57 (dk_at dksX1_inOrder_5 0 rfl rfl)
theorem dX1_inOrder_121 : decode cX1_inOrder 121 = .ok (.invokevirtual 15, 3) := dk_182 0 15 (dk_at dksX1_inOrder_5 3 rfl rfl)
theorem dX1_inOrder_124 : decode cX1_inOrder 124 = .ok (.goto (-99), 3) := dk_167 255 157 (dk_at dksX1_inOrder_5 6 rfl rfl)
theorem dX1_inOrder_127 : decode cX1_inOrder 127 = .ok (.aload_n 1, 1) := dk_43 (dk_at dksX1_inOrder_5 9 rfl rfl)
theorem dX1_inOrder_128 : decode cX1_inOrder 128 = .ok (.areturn, 1) := dk_176 (dk_at dksX1_inOrder_5 10 rfl rfl)
abbrev cX10_init : ByteArray := prog_12_method_1_code
def yX10_init : MethodName := ⟨RX10, "<init>", "(LLionGate$Ticket;)V"⟩
def dkwX10_init_0 : List UInt8 := [42, 43, 1, 1, 183, 0, 1, 177]
abbrev dktX10_init_0 : List UInt8 := dkwX10_init_0 ++ []
theorem dksX10_init_0 : cX10_init.data.toList.drop 0 = dktX10_init_0 := by decide +kernel
theorem dX10_init_0 : decode cX10_init 0 = .ok (.aload_n 0, 1) := dk_42 (dk_at dksX10_init_0 0 rfl rfl)
theorem dX10_init_1 : decode cX10_init 1 = .ok (.aload_n 1, 1) := dk_43 (dk_at dksX10_init_0 1 rfl rfl)
theorem dX10_init_2 : decode cX10_init 2 = .ok (.aconst_null, 1) := dk_1 (dk_at dksX10_init_0 2 rfl rfl)
theorem dX10_init_3 : decode cX10_init 3 = .ok (.aconst_null, 1) := dk_1 (dk_at dksX10_init_0 3 rfl rfl)
theorem dX10_init_4 : decode cX10_init 4 = .ok (.invokespecial 1, 3) := dk_183 0 1 (dk_at dksX10_init_0 4 rfl rfl)
theorem dX10_init_7 : decode cX10_init 7 = .ok (.return_, 1) := dk_177 (dk_at dksX10_init_0 7 rfl rfl)
abbrev cX2_put : ByteArray := prog_14_method_5_code
def yX2_put : MethodName := ⟨RX2, "put", "(LLionGate$Ticket;)V"⟩
def dkwX2_put_1 : List UInt8 := [4, 96, 181, 0, 70, 177]
abbrev dktX2_put_1 : List UInt8 := dkwX2_put_1 ++ []
def dkwX2_put_0 : List UInt8 := [42, 42, 180, 0, 66, 187, 0, 118, 89, 43, 183, 0, 120, 184, 0, 123, 181, 0, 66, 42, 89, 180, 0, 70]
abbrev dktX2_put_0 : List UInt8 := dkwX2_put_0 ++ dktX2_put_1
theorem dksX2_put_0 : cX2_put.data.toList.drop 0 = dktX2_put_0 := by decide +kernel
theorem dksX2_put_1 : cX2_put.data.toList.drop 24 = dktX2_put_1 := dk_seg dksX2_put_0 24 rfl rfl
theorem dX2_put_0 : decode cX2_put 0 = .ok (.aload_n 0, 1) := dk_42 (dk_at dksX2_put_0 0 rfl rfl)
theorem dX2_put_1 : decode cX2_put 1 = .ok (.aload_n 0, 1) := dk_42 (dk_at dksX2_put_0 1 rfl rfl)
theorem dX2_put_2 : decode cX2_put 2 = .ok (.getfield 66, 3) := dk_180 0 66 (dk_at dksX2_put_0 2 rfl rfl)
theorem dX2_put_5 : decode cX2_put 5 = .ok (.new 118, 3) := dk_187 0 118 (dk_at dksX2_put_0 5 rfl rfl)
theorem dX2_put_8 : decode cX2_put 8 = .ok (.dup, 1) := dk_89 (dk_at dksX2_put_0 8 rfl rfl)
theorem dX2_put_9 : decode cX2_put 9 = .ok (.aload_n 1, 1) := dk_43 (dk_at dksX2_put_0 9 rfl rfl)
theorem dX2_put_10 : decode cX2_put 10 = .ok (.invokespecial 120, 3) := dk_183 0 120 (dk_at dksX2_put_0 10 rfl rfl)
theorem dX2_put_13 : decode cX2_put 13 = .ok (.invokestatic 123, 3) := dk_184 0 123 (dk_at dksX2_put_0 13 rfl rfl)
theorem dX2_put_16 : decode cX2_put 16 = .ok (.putfield 66, 3) := dk_181 0 66 (dk_at dksX2_put_0 16 rfl rfl)
theorem dX2_put_19 : decode cX2_put 19 = .ok (.aload_n 0, 1) := dk_42 (dk_at dksX2_put_0 19 rfl rfl)
theorem dX2_put_20 : decode cX2_put 20 = .ok (.dup, 1) := dk_89 (dk_at dksX2_put_0 20 rfl rfl)
theorem dX2_put_21 : decode cX2_put 21 = .ok (.getfield 70, 3) := dk_180 0 70 (dk_at dksX2_put_0 21 rfl rfl)
theorem dX2_put_24 : decode cX2_put 24 = .ok (.iconst 1, 1) := dk_4 (dk_at dksX2_put_1 0 rfl rfl)
theorem dX2_put_25 : decode cX2_put 25 = .ok (.iadd, 1) := dk_96 (dk_at dksX2_put_1 1 rfl rfl)
theorem dX2_put_26 : decode cX2_put 26 = .ok (.putfield 70, 3) := dk_181 0 70 (dk_at dksX2_put_1 2 rfl rfl)
theorem dX2_put_29 : decode cX2_put 29 = .ok (.return_, 1) := dk_177 (dk_at dksX2_put_1 5 rfl rfl)
abbrev cJ4_fastRemove : ByteArray := prog_59_method_39_code
def yJ4_fastRemove : MethodName := ⟨RJ4, "fastRemove", "([Ljava/lang/Object;I)V"⟩
def dkwJ4_fastRemove_1 : List UInt8 := [4, 96, 43, 28, 29, 28, 100, 184, 0, 112, 43, 42, 29, 90, 181, 0, 48, 1, 83, 177]
abbrev dktJ4_fastRemove_1 : List UInt8 := dkwJ4_fastRemove_1 ++ []
def dkwJ4_fastRemove_0 : List UInt8 := [42, 89, 180, 0, 63, 4, 96, 181, 0, 63, 42, 180, 0, 48, 4, 100, 89, 62, 28, 164, 0, 15, 43, 28]
abbrev dktJ4_fastRemove_0 : List UInt8 := dkwJ4_fastRemove_0 ++ dktJ4_fastRemove_1
theorem dksJ4_fastRemove_0 : cJ4_fastRemove.data.toList.drop 0 = dktJ4_fastRemove_0 := by decide +kernel
theorem dksJ4_fastRemove_1 : cJ4_fastRemove.data.toList.drop 24 = dktJ4_fastRemove_1 := dk_seg dksJ4_fastRemove_0 24 rfl rfl
theorem dJ4_fastRemove_0 : decode cJ4_fastRemove 0 = .ok (.aload_n 0, 1) := dk_42 (dk_at dksJ4_fastRemove_0 0 rfl rfl)
theorem dJ4_fastRemove_1 : decode cJ4_fastRemove 1 = .ok (.dup, 1) := dk_89 (dk_at dksJ4_fastRemove_0 1 rfl rfl)
theorem dJ4_fastRemove_2 : decode cJ4_fastRemove 2 = .ok (.getfield 63, 3) := dk_180 0 63 (dk_at dksJ4_fastRemove_0 2 rfl rfl)
theorem dJ4_fastRemove_5 : decode cJ4_fastRemove 5 = .ok (.iconst 1, 1) := dk_4 (dk_at dksJ4_fastRemove_0 5 rfl rfl)
theorem dJ4_fastRemove_6 : decode cJ4_fastRemove 6 = .ok (.iadd, 1) := dk_96 (dk_at dksJ4_fastRemove_0 6 rfl rfl)
theorem dJ4_fastRemove_7 : decode cJ4_fastRemove 7 = .ok (.putfield 63, 3) := dk_181 0 63 (dk_at dksJ4_fastRemove_0 7 rfl rfl)
theorem dJ4_fastRemove_10 : decode cJ4_fastRemove 10 = .ok (.aload_n 0, 1) := dk_42 (dk_at dksJ4_fastRemove_0 10 rfl rfl)
theorem dJ4_fastRemove_11 : decode cJ4_fastRemove 11 = .ok (.getfield 48, 3) := dk_180 0 48 (dk_at dksJ4_fastRemove_0 11 rfl rfl)
theorem dJ4_fastRemove_14 : decode cJ4_fastRemove 14 = .ok (.iconst 1, 1) := dk_4 (dk_at dksJ4_fastRemove_0 14 rfl rfl)
theorem dJ4_fastRemove_15 : decode cJ4_fastRemove 15 = .ok (.isub, 1) := dk_100 (dk_at dksJ4_fastRemove_0 15 rfl rfl)
theorem dJ4_fastRemove_16 : decode cJ4_fastRemove 16 = .ok (.dup, 1) := dk_89 (dk_at dksJ4_fastRemove_0 16 rfl rfl)
theorem dJ4_fastRemove_17 : decode cJ4_fastRemove 17 = .ok (.istore_n 3, 1) := dk_62 (dk_at dksJ4_fastRemove_0 17 rfl rfl)
theorem dJ4_fastRemove_18 : decode cJ4_fastRemove 18 = .ok (.iload_n 2, 1) := dk_28 (dk_at dksJ4_fastRemove_0 18 rfl rfl)
theorem dJ4_fastRemove_19 : decode cJ4_fastRemove 19 = .ok (.if_icmp .le 15, 3) := dk_164 0 15 (dk_at dksJ4_fastRemove_0 19 rfl rfl)
theorem dJ4_fastRemove_22 : decode cJ4_fastRemove 22 = .ok (.aload_n 1, 1) := dk_43 (dk_at dksJ4_fastRemove_0 22 rfl rfl)
theorem dJ4_fastRemove_23 : decode cJ4_fastRemove 23 = .ok (.iload_n 2, 1) := dk_28 (dk_at dksJ4_fastRemove_0 23 rfl rfl)
theorem dJ4_fastRemove_24 : decode cJ4_fastRemove 24 = .ok (.iconst 1, 1) := dk_4 (dk_at dksJ4_fastRemove_1 0 rfl rfl)
theorem dJ4_fastRemove_25 : decode cJ4_fastRemove 25 = .ok (.iadd, 1) := dk_96 (dk_at dksJ4_fastRemove_1 1 rfl rfl)
theorem dJ4_fastRemove_26 : decode cJ4_fastRemove 26 = .ok (.aload_n 1, 1) := dk_43 (dk_at dksJ4_fastRemove_1 2 rfl rfl)
theorem dJ4_fastRemove_27 : decode cJ4_fastRemove 27 = .ok (.iload_n 2, 1) := dk_28 (dk_at dksJ4_fastRemove_1 3 rfl rfl)
theorem dJ4_fastRemove_28 : decode cJ4_fastRemove 28 = .ok (.iload_n 3, 1) := dk_29 (dk_at dksJ4_fastRemove_1 4 rfl rfl)
theorem dJ4_fastRemove_29 : decode cJ4_fastRemove 29 = .ok (.iload_n 2, 1) := dk_28 (dk_at dksJ4_fastRemove_1 5 rfl rfl)
theorem dJ4_fastRemove_30 : decode cJ4_fastRemove 30 = .ok (.isub, 1) := dk_100 (dk_at dksJ4_fastRemove_1 6 rfl rfl)
theorem dJ4_fastRemove_31 : decode cJ4_fastRemove 31 = .ok (.invokestatic 112, 3) := dk_184 0 112 (dk_at dksJ4_fastRemove_1 7 rfl rfl)
theorem dJ4_fastRemove_34 : decode cJ4_fastRemove 34 = .ok (.aload_n 1, 1) := dk_43 (dk_at dksJ4_fastRemove_1 10 rfl rfl)
theorem dJ4_fastRemove_35 : decode cJ4_fastRemove 35 = .ok (.aload_n 0, 1) := dk_42 (dk_at dksJ4_fastRemove_1 11 rfl rfl)
theorem dJ4_fastRemove_36 : decode cJ4_fastRemove 36 = .ok (.iload_n 3, 1) := dk_29 (dk_at dksJ4_fastRemove_1 12 rfl rfl)
theorem dJ4_fastRemove_37 : decode cJ4_fastRemove 37 = .ok (.dup_x1, 1) := dk_90 (dk_at dksJ4_fastRemove_1 13 rfl rfl)
theorem dJ4_fastRemove_38 : decode cJ4_fastRemove 38 = .ok (.putfield 48, 3) := dk_181 0 48 (dk_at dksJ4_fastRemove_1 14 rfl rfl)
theorem dJ4_fastRemove_41 : decode cJ4_fastRemove 41 = .ok (.aconst_null, 1) := dk_1 (dk_at dksJ4_fastRemove_1 17 rfl rfl)
theorem dJ4_fastRemove_42 : decode cJ4_fastRemove 42 = .ok (.aastore, 1) := dk_83 (dk_at dksJ4_fastRemove_1 18 rfl rfl)
theorem dJ4_fastRemove_43 : decode cJ4_fastRemove 43 = .ok (.return_, 1) := dk_177 (dk_at dksJ4_fastRemove_1 19 rfl rfl)
abbrev cJ4_remove : ByteArray := prog_59_method_29_code
def yJ4_remove : MethodName := ⟨RJ4, "remove", "(I)Ljava/lang/Object;"⟩
def dkwJ4_remove_1 : List UInt8 := [45, 176]
abbrev dktJ4_remove_1 : List UInt8 := dkwJ4_remove_1 ++ []
def dkwJ4_remove_0 : List UInt8 := [27, 42, 180, 0, 48, 184, 0, 118, 87, 42, 180, 0, 9, 77, 44, 27, 50, 78, 42, 44, 27, 182, 0, 144]
abbrev dktJ4_remove_0 : List UInt8 := dkwJ4_remove_0 ++ dktJ4_remove_1
theorem dksJ4_remove_0 : cJ4_remove.data.toList.drop 0 = dktJ4_remove_0 := by decide +kernel
theorem dksJ4_remove_1 : cJ4_remove.data.toList.drop 24 = dktJ4_remove_1 := dk_seg dksJ4_remove_0 24 rfl rfl
theorem dJ4_remove_0 : decode cJ4_remove 0 = .ok (.iload_n 1, 1) := dk_27 (dk_at dksJ4_remove_0 0 rfl rfl)
theorem dJ4_remove_1 : decode cJ4_remove 1 = .ok (.aload_n 0, 1) := dk_42 (dk_at dksJ4_remove_0 1 rfl rfl)
theorem dJ4_remove_2 : decode cJ4_remove 2 = .ok (.getfield 48, 3) := dk_180 0 48 (dk_at dksJ4_remove_0 2 rfl rfl)
theorem dJ4_remove_5 : decode cJ4_remove 5 = .ok (.invokestatic 118, 3) := dk_184 0 118 (dk_at dksJ4_remove_0 5 rfl rfl)
theorem dJ4_remove_8 : decode cJ4_remove 8 = .ok (.pop, 1) := dk_87 (dk_at dksJ4_remove_0 8 rfl rfl)
theorem dJ4_remove_9 : decode cJ4_remove 9 = .ok (.aload_n 0, 1) := dk_42 (dk_at dksJ4_remove_0 9 rfl rfl)
theorem dJ4_remove_10 : decode cJ4_remove 10 = .ok (.getfield 9, 3) := dk_180 0 9 (dk_at dksJ4_remove_0 10 rfl rfl)
theorem dJ4_remove_13 : decode cJ4_remove 13 = .ok (.astore_n 2, 1) := dk_77 (dk_at dksJ4_remove_0 13 rfl rfl)
theorem dJ4_remove_14 : decode cJ4_remove 14 = .ok (.aload_n 2, 1) := dk_44 (dk_at dksJ4_remove_0 14 rfl rfl)
theorem dJ4_remove_15 : decode cJ4_remove 15 = .ok (.iload_n 1, 1) := dk_27 (dk_at dksJ4_remove_0 15 rfl rfl)
theorem dJ4_remove_16 : decode cJ4_remove 16 = .ok (.aaload, 1) := dk_50 (dk_at dksJ4_remove_0 16 rfl rfl)
theorem dJ4_remove_17 : decode cJ4_remove 17 = .ok (.astore_n 3, 1) := dk_78 (dk_at dksJ4_remove_0 17 rfl rfl)
theorem dJ4_remove_18 : decode cJ4_remove 18 = .ok (.aload_n 0, 1) := dk_42 (dk_at dksJ4_remove_0 18 rfl rfl)
theorem dJ4_remove_19 : decode cJ4_remove 19 = .ok (.aload_n 2, 1) := dk_44 (dk_at dksJ4_remove_0 19 rfl rfl)
theorem dJ4_remove_20 : decode cJ4_remove 20 = .ok (.iload_n 1, 1) := dk_27 (dk_at dksJ4_remove_0 20 rfl rfl)
theorem dJ4_remove_21 : decode cJ4_remove 21 = .ok (.invokevirtual 144, 3) := dk_182 0 144 (dk_at dksJ4_remove_0 21 rfl rfl)
theorem dJ4_remove_24 : decode cJ4_remove 24 = .ok (.aload_n 3, 1) := dk_45 (dk_at dksJ4_remove_1 0 rfl rfl)
theorem dJ4_remove_25 : decode cJ4_remove 25 = .ok (.areturn, 1) := dk_176 (dk_at dksJ4_remove_1 1 rfl rfl)
abbrev cJ14_remove : ByteArray := prog_60_method_4_code
def yJ14_remove : MethodName := ⟨RJ14, "remove", "()V"⟩
def dkwJ14_remove_2 : List UInt8 := [180, 0, 1, 180, 0, 17, 181, 0, 22, 167, 0, 12, 76, 187, 0, 41, 89, 183, 0, 43, 191, 177]
abbrev dktJ14_remove_2 : List UInt8 := dkwJ14_remove_2 ++ []
def dkwJ14_remove_1 : List UInt8 := [180, 0, 13, 182, 0, 47, 87, 42, 42, 180, 0, 13, 181, 0, 25, 42, 2, 181, 0, 13, 42, 42]
abbrev dktJ14_remove_1 : List UInt8 := dkwJ14_remove_1 ++ dktJ14_remove_2
def dkwJ14_remove_0 : List UInt8 := [42, 180, 0, 13, 156, 0, 11, 187, 0, 44, 89, 183, 0, 46, 191, 42, 182, 0, 31, 42, 180, 0, 1, 42]
abbrev dktJ14_remove_0 : List UInt8 := dkwJ14_remove_0 ++ dktJ14_remove_1
theorem dksJ14_remove_0 : cJ14_remove.data.toList.drop 0 = dktJ14_remove_0 := by decide +kernel
theorem dksJ14_remove_1 : cJ14_remove.data.toList.drop 24 = dktJ14_remove_1 := dk_seg dksJ14_remove_0 24 rfl rfl
theorem dksJ14_remove_2 : cJ14_remove.data.toList.drop 46 = dktJ14_remove_2 := dk_seg dksJ14_remove_1 22 rfl rfl
theorem dJ14_remove_0 : decode cJ14_remove 0 = .ok (.aload_n 0, 1) := dk_42 (dk_at dksJ14_remove_0 0 rfl rfl)
theorem dJ14_remove_1 : decode cJ14_remove 1 = .ok (.getfield 13, 3) := dk_180 0 13 (dk_at dksJ14_remove_0 1 rfl rfl)
theorem dJ14_remove_4 : decode cJ14_remove 4 = .ok (.ifCond .ge 11, 3) := dk_156 0 11 (dk_at dksJ14_remove_0 4 rfl rfl)
theorem dJ14_remove_7 : decode cJ14_remove 7 = .ok (.new 44, 3) := dk_187 0 44 (dk_at dksJ14_remove_0 7 rfl rfl)
theorem dJ14_remove_15 : decode cJ14_remove 15 = .ok (.aload_n 0, 1) := dk_42 (dk_at dksJ14_remove_0 15 rfl rfl)
theorem dJ14_remove_16 : decode cJ14_remove 16 = .ok (.invokevirtual 31, 3) := dk_182 0 31 (dk_at dksJ14_remove_0 16 rfl rfl)
theorem dJ14_remove_19 : decode cJ14_remove 19 = .ok (.aload_n 0, 1) := dk_42 (dk_at dksJ14_remove_0 19 rfl rfl)
theorem dJ14_remove_20 : decode cJ14_remove 20 = .ok (.getfield 1, 3) := dk_180 0 1 (dk_at dksJ14_remove_0 20 rfl rfl)
theorem dJ14_remove_23 : decode cJ14_remove 23 = .ok (.aload_n 0, 1) := dk_42 (dk_at dksJ14_remove_0 23 rfl rfl)
theorem dJ14_remove_24 : decode cJ14_remove 24 = .ok (.getfield 13, 3) := dk_180 0 13 (dk_at dksJ14_remove_1 0 rfl rfl)
theorem dJ14_remove_27 : decode cJ14_remove 27 = .ok (.invokevirtual 47, 3) := dk_182 0 47 (dk_at dksJ14_remove_1 3 rfl rfl)
theorem dJ14_remove_30 : decode cJ14_remove 30 = .ok (.pop, 1) := dk_87 (dk_at dksJ14_remove_1 6 rfl rfl)
theorem dJ14_remove_31 : decode cJ14_remove 31 = .ok (.aload_n 0, 1) := dk_42 (dk_at dksJ14_remove_1 7 rfl rfl)
theorem dJ14_remove_32 : decode cJ14_remove 32 = .ok (.aload_n 0, 1) := dk_42 (dk_at dksJ14_remove_1 8 rfl rfl)
theorem dJ14_remove_33 : decode cJ14_remove 33 = .ok (.getfield 13, 3) := dk_180 0 13 (dk_at dksJ14_remove_1 9 rfl rfl)
theorem dJ14_remove_36 : decode cJ14_remove 36 = .ok (.putfield 25, 3) := dk_181 0 25 (dk_at dksJ14_remove_1 12 rfl rfl)
theorem dJ14_remove_39 : decode cJ14_remove 39 = .ok (.aload_n 0, 1) := dk_42 (dk_at dksJ14_remove_1 15 rfl rfl)
theorem dJ14_remove_40 : decode cJ14_remove 40 = .ok (.iconst (-1), 1) := dk_2 (dk_at dksJ14_remove_1 16 rfl rfl)
theorem dJ14_remove_41 : decode cJ14_remove 41 = .ok (.putfield 13, 3) := dk_181 0 13 (dk_at dksJ14_remove_1 17 rfl rfl)
theorem dJ14_remove_44 : decode cJ14_remove 44 = .ok (.aload_n 0, 1) := dk_42 (dk_at dksJ14_remove_1 20 rfl rfl)
theorem dJ14_remove_45 : decode cJ14_remove 45 = .ok (.aload_n 0, 1) := dk_42 (dk_at dksJ14_remove_1 21 rfl rfl)
theorem dJ14_remove_46 : decode cJ14_remove 46 = .ok (.getfield 1, 3) := dk_180 0 1 (dk_at dksJ14_remove_2 0 rfl rfl)
theorem dJ14_remove_49 : decode cJ14_remove 49 = .ok (.getfield 17, 3) := dk_180 0 17 (dk_at dksJ14_remove_2 3 rfl rfl)
theorem dJ14_remove_52 : decode cJ14_remove 52 = .ok (.putfield 22, 3) := dk_181 0 22 (dk_at dksJ14_remove_2 6 rfl rfl)
theorem dJ14_remove_55 : decode cJ14_remove 55 = .ok (.goto 12, 3) := dk_167 0 12 (dk_at dksJ14_remove_2 9 rfl rfl)
theorem dJ14_remove_67 : decode cJ14_remove 67 = .ok (.return_, 1) := dk_177 (dk_at dksJ14_remove_2 21 rfl rfl)
abbrev cX2_purge : ByteArray := prog_14_method_15_code
def yX2_purge : MethodName := ⟨RX2, "purge", "()I"⟩
def dkwX2_purge_5 : List UInt8 := [28, 172]
abbrev dktX2_purge_5 : List UInt8 := dkwX2_purge_5 ++ []
def dkwX2_purge_4 : List UInt8 := [192, 0, 99, 58, 5, 42, 25, 5, 182, 0, 143, 167, 255, 228, 42, 89, 180, 0, 79, 28, 96, 181, 0, 79]
abbrev dktX2_purge_4 : List UInt8 := dkwX2_purge_4 ++ dktX2_purge_5
def dkwX2_purge_3 : List UInt8 := [185, 0, 208, 1, 0, 58, 4, 25, 4, 185, 0, 36, 1, 0, 153, 0, 24, 25, 4, 185, 0, 42, 1, 0]
abbrev dktX2_purge_3 : List UInt8 := dkwX2_purge_3 ++ dktX2_purge_4
def dkwX2_purge_2 : List UInt8 := [185, 0, 211, 1, 0, 132, 2, 1, 167, 255, 222, 42, 1, 181, 0, 66, 42, 3, 181, 0, 70, 43]
abbrev dktX2_purge_2 : List UInt8 := dkwX2_purge_2 ++ dktX2_purge_3
def dkwX2_purge_1 : List UInt8 := [153, 0, 31, 42, 45, 185, 0, 42, 1, 0, 192, 0, 99, 182, 0, 152, 154, 255, 234, 45]
abbrev dktX2_purge_1 : List UInt8 := dkwX2_purge_1 ++ dktX2_purge_2
def dkwX2_purge_0 : List UInt8 := [42, 180, 0, 66, 184, 0, 204, 76, 3, 61, 43, 185, 0, 208, 1, 0, 78, 45, 185, 0, 36, 1, 0]
abbrev dktX2_purge_0 : List UInt8 := dkwX2_purge_0 ++ dktX2_purge_1
theorem dksX2_purge_0 : cX2_purge.data.toList.drop 0 = dktX2_purge_0 := by decide +kernel
theorem dksX2_purge_1 : cX2_purge.data.toList.drop 23 = dktX2_purge_1 := dk_seg dksX2_purge_0 23 rfl rfl
theorem dksX2_purge_2 : cX2_purge.data.toList.drop 43 = dktX2_purge_2 := dk_seg dksX2_purge_1 20 rfl rfl
theorem dksX2_purge_3 : cX2_purge.data.toList.drop 65 = dktX2_purge_3 := dk_seg dksX2_purge_2 22 rfl rfl
theorem dksX2_purge_4 : cX2_purge.data.toList.drop 89 = dktX2_purge_4 := dk_seg dksX2_purge_3 24 rfl rfl
theorem dksX2_purge_5 : cX2_purge.data.toList.drop 113 = dktX2_purge_5 := dk_seg dksX2_purge_4 24 rfl rfl
theorem dX2_purge_0 : decode cX2_purge 0 = .ok (.aload_n 0, 1) := dk_42 (dk_at dksX2_purge_0 0 rfl rfl)
theorem dX2_purge_1 : decode cX2_purge 1 = .ok (.getfield 66, 3) := dk_180 0 66 (dk_at dksX2_purge_0 1 rfl rfl)
theorem dX2_purge_4 : decode cX2_purge 4 = .ok (.invokestatic 204, 3) := dk_184 0 204 (dk_at dksX2_purge_0 4 rfl rfl)
theorem dX2_purge_7 : decode cX2_purge 7 = .ok (.astore_n 1, 1) := dk_76 (dk_at dksX2_purge_0 7 rfl rfl)
theorem dX2_purge_8 : decode cX2_purge 8 = .ok (.iconst 0, 1) := dk_3 (dk_at dksX2_purge_0 8 rfl rfl)
theorem dX2_purge_9 : decode cX2_purge 9 = .ok (.istore_n 2, 1) := dk_61 (dk_at dksX2_purge_0 9 rfl rfl)
theorem dX2_purge_10 : decode cX2_purge 10 = .ok (.aload_n 1, 1) := dk_43 (dk_at dksX2_purge_0 10 rfl rfl)
theorem dX2_purge_11 : decode cX2_purge 11 = .ok (.invokeinterface 208 1, 5) := by decide +kernel
theorem dX2_purge_16 : decode cX2_purge 16 = .ok (.astore_n 3, 1) := dk_78 (dk_at dksX2_purge_0 16 rfl rfl)
theorem dX2_purge_17 : decode cX2_purge 17 = .ok (.aload_n 3, 1) := dk_45 (dk_at dksX2_purge_0 17 rfl rfl)
theorem dX2_purge_18 : decode cX2_purge 18 = .ok (.invokeinterface 36 1, 5) := by decide +kernel
theorem dX2_purge_23 : decode cX2_purge 23 = .ok (.ifCond .eq 31, 3) := dk_153 0 31 (dk_at dksX2_purge_1 0 rfl rfl)
theorem dX2_purge_26 : decode cX2_purge 26 = .ok (.aload_n 0, 1) := dk_42 (dk_at dksX2_purge_1 3 rfl rfl)
theorem dX2_purge_27 : decode cX2_purge 27 = .ok (.aload_n 3, 1) := dk_45 (dk_at dksX2_purge_1 4 rfl rfl)
theorem dX2_purge_28 : decode cX2_purge 28 = .ok (.invokeinterface 42 1, 5) := by decide +kernel
theorem dX2_purge_33 : decode cX2_purge 33 = .ok (.checkcast 99, 3) := dk_192 0 99 (dk_at dksX2_purge_1 10 rfl rfl)
theorem dX2_purge_36 : decode cX2_purge 36 = .ok (.invokevirtual 152, 3) := dk_182 0 152 (dk_at dksX2_purge_1 13 rfl rfl)
theorem dX2_purge_39 : decode cX2_purge 39 = .ok (.ifCond .ne (-22), 3) := dk_154 255 234 (dk_at dksX2_purge_1 16 rfl rfl)
theorem dX2_purge_42 : decode cX2_purge 42 = .ok (.aload_n 3, 1) := dk_45 (dk_at dksX2_purge_1 19 rfl rfl)
theorem dX2_purge_43 : decode cX2_purge 43 = .ok (.invokeinterface 211 1, 5) := by decide +kernel
theorem dX2_purge_48 : decode cX2_purge 48 = .ok (.iinc 2 1, 3) := dk_132 2 1 (dk_at dksX2_purge_2 5 rfl rfl)
theorem dX2_purge_51 : decode cX2_purge 51 = .ok (.goto (-34), 3) := dk_167 255 222 (dk_at dksX2_purge_2 8 rfl rfl)
theorem dX2_purge_54 : decode cX2_purge 54 = .ok (.aload_n 0, 1) := dk_42 (dk_at dksX2_purge_2 11 rfl rfl)
theorem dX2_purge_55 : decode cX2_purge 55 = .ok (.aconst_null, 1) := dk_1 (dk_at dksX2_purge_2 12 rfl rfl)
theorem dX2_purge_56 : decode cX2_purge 56 = .ok (.putfield 66, 3) := dk_181 0 66 (dk_at dksX2_purge_2 13 rfl rfl)
theorem dX2_purge_59 : decode cX2_purge 59 = .ok (.aload_n 0, 1) := dk_42 (dk_at dksX2_purge_2 16 rfl rfl)
theorem dX2_purge_60 : decode cX2_purge 60 = .ok (.iconst 0, 1) := dk_3 (dk_at dksX2_purge_2 17 rfl rfl)
theorem dX2_purge_61 : decode cX2_purge 61 = .ok (.putfield 70, 3) := dk_181 0 70 (dk_at dksX2_purge_2 18 rfl rfl)
theorem dX2_purge_64 : decode cX2_purge 64 = .ok (.aload_n 1, 1) := dk_43 (dk_at dksX2_purge_2 21 rfl rfl)
theorem dX2_purge_65 : decode cX2_purge 65 = .ok (.invokeinterface 208 1, 5) := by decide +kernel
theorem dX2_purge_70 : decode cX2_purge 70 = .ok (.astore 4, 2) := dk_58 4 (dk_at dksX2_purge_3 5 rfl rfl)
theorem dX2_purge_72 : decode cX2_purge 72 = .ok (.aload 4, 2) := dk_25 4 (dk_at dksX2_purge_3 7 rfl rfl)
theorem dX2_purge_74 : decode cX2_purge 74 = .ok (.invokeinterface 36 1, 5) := by decide +kernel
theorem dX2_purge_79 : decode cX2_purge 79 = .ok (.ifCond .eq 24, 3) := dk_153 0 24 (dk_at dksX2_purge_3 14 rfl rfl)
theorem dX2_purge_82 : decode cX2_purge 82 = .ok (.aload 4, 2) := dk_25 4 (dk_at dksX2_purge_3 17 rfl rfl)
theorem dX2_purge_84 : decode cX2_purge 84 = .ok (.invokeinterface 42 1, 5) := by decide +kernel
theorem dX2_purge_89 : decode cX2_purge 89 = .ok (.checkcast 99, 3) := dk_192 0 99 (dk_at dksX2_purge_4 0 rfl rfl)
theorem dX2_purge_92 : decode cX2_purge 92 = .ok (.astore 5, 2) := dk_58 5 (dk_at dksX2_purge_4 3 rfl rfl)
theorem dX2_purge_94 : decode cX2_purge 94 = .ok (.aload_n 0, 1) := dk_42 (dk_at dksX2_purge_4 5 rfl rfl)
theorem dX2_purge_95 : decode cX2_purge 95 = .ok (.aload 5, 2) := dk_25 5 (dk_at dksX2_purge_4 6 rfl rfl)
theorem dX2_purge_97 : decode cX2_purge 97 = .ok (.invokevirtual 143, 3) := dk_182 0 143 (dk_at dksX2_purge_4 8 rfl rfl)
theorem dX2_purge_100 : decode cX2_purge 100 = .ok (.goto (-28), 3) := dk_167 255 228 (dk_at dksX2_purge_4 11 rfl rfl)
theorem dX2_purge_103 : decode cX2_purge 103 = .ok (.aload_n 0, 1) := dk_42 (dk_at dksX2_purge_4 14 rfl rfl)
theorem dX2_purge_104 : decode cX2_purge 104 = .ok (.dup, 1) := dk_89 (dk_at dksX2_purge_4 15 rfl rfl)
theorem dX2_purge_105 : decode cX2_purge 105 = .ok (.getfield 79, 3) := dk_180 0 79 (dk_at dksX2_purge_4 16 rfl rfl)
theorem dX2_purge_108 : decode cX2_purge 108 = .ok (.iload_n 2, 1) := dk_28 (dk_at dksX2_purge_4 19 rfl rfl)
theorem dX2_purge_109 : decode cX2_purge 109 = .ok (.iadd, 1) := dk_96 (dk_at dksX2_purge_4 20 rfl rfl)
theorem dX2_purge_110 : decode cX2_purge 110 = .ok (.putfield 79, 3) := dk_181 0 79 (dk_at dksX2_purge_4 21 rfl rfl)
theorem dX2_purge_113 : decode cX2_purge 113 = .ok (.iload_n 2, 1) := dk_28 (dk_at dksX2_purge_5 0 rfl rfl)
theorem dX2_purge_114 : decode cX2_purge 114 = .ok (.ireturn, 1) := dk_172 (dk_at dksX2_purge_5 1 rfl rfl)
abbrev cX9_init : ByteArray := prog_16_method_1_code
def yX9_init : MethodName := ⟨RX9, "<init>", "(III)V"⟩
def dkwX9_init_0 : List UInt8 := [42, 183, 0, 1, 42, 27, 181, 0, 7, 42, 28, 181, 0, 13, 42, 29, 181, 0, 16, 177]
abbrev dktX9_init_0 : List UInt8 := dkwX9_init_0 ++ []
theorem dksX9_init_0 : cX9_init.data.toList.drop 0 = dktX9_init_0 := by decide +kernel
theorem dX9_init_0 : decode cX9_init 0 = .ok (.aload_n 0, 1) := dk_42 (dk_at dksX9_init_0 0 rfl rfl)
theorem dX9_init_1 : decode cX9_init 1 = .ok (.invokespecial 1, 3) := dk_183 0 1 (dk_at dksX9_init_0 1 rfl rfl)
theorem dX9_init_4 : decode cX9_init 4 = .ok (.aload_n 0, 1) := dk_42 (dk_at dksX9_init_0 4 rfl rfl)
theorem dX9_init_5 : decode cX9_init 5 = .ok (.iload_n 1, 1) := dk_27 (dk_at dksX9_init_0 5 rfl rfl)
theorem dX9_init_6 : decode cX9_init 6 = .ok (.putfield 7, 3) := dk_181 0 7 (dk_at dksX9_init_0 6 rfl rfl)
theorem dX9_init_9 : decode cX9_init 9 = .ok (.aload_n 0, 1) := dk_42 (dk_at dksX9_init_0 9 rfl rfl)
theorem dX9_init_10 : decode cX9_init 10 = .ok (.iload_n 2, 1) := dk_28 (dk_at dksX9_init_0 10 rfl rfl)
theorem dX9_init_11 : decode cX9_init 11 = .ok (.putfield 13, 3) := dk_181 0 13 (dk_at dksX9_init_0 11 rfl rfl)
theorem dX9_init_14 : decode cX9_init 14 = .ok (.aload_n 0, 1) := dk_42 (dk_at dksX9_init_0 14 rfl rfl)
theorem dX9_init_15 : decode cX9_init 15 = .ok (.iload_n 3, 1) := dk_29 (dk_at dksX9_init_0 15 rfl rfl)
theorem dX9_init_16 : decode cX9_init 16 = .ok (.putfield 16, 3) := dk_181 0 16 (dk_at dksX9_init_0 16 rfl rfl)
theorem dX9_init_19 : decode cX9_init 19 = .ok (.return_, 1) := dk_177 (dk_at dksX9_init_0 19 rfl rfl)
abbrev cJ1_colorOf : ByteArray := prog_96_method_76_code
def yJ1_colorOf : MethodName := ⟨RJ1, "colorOf", "(Ljava/util/TreeMap$Entry;)Z"⟩
def dkwJ1_colorOf_0 : List UInt8 := [42, 199, 0, 7, 4, 167, 0, 7, 42, 180, 1, 34, 172]
abbrev dktJ1_colorOf_0 : List UInt8 := dkwJ1_colorOf_0 ++ []
theorem dksJ1_colorOf_0 : cJ1_colorOf.data.toList.drop 0 = dktJ1_colorOf_0 := by decide +kernel
theorem dJ1_colorOf_0 : decode cJ1_colorOf 0 = .ok (.aload_n 0, 1) := dk_42 (dk_at dksJ1_colorOf_0 0 rfl rfl)
theorem dJ1_colorOf_1 : decode cJ1_colorOf 1 = .ok (.ifnonnull 7, 3) := dk_199 0 7 (dk_at dksJ1_colorOf_0 1 rfl rfl)
theorem dJ1_colorOf_4 : decode cJ1_colorOf 4 = .ok (.iconst 1, 1) := dk_4 (dk_at dksJ1_colorOf_0 4 rfl rfl)
theorem dJ1_colorOf_5 : decode cJ1_colorOf 5 = .ok (.goto 7, 3) := dk_167 0 7 (dk_at dksJ1_colorOf_0 5 rfl rfl)
theorem dJ1_colorOf_8 : decode cJ1_colorOf 8 = .ok (.aload_n 0, 1) := dk_42 (dk_at dksJ1_colorOf_0 8 rfl rfl)
theorem dJ1_colorOf_9 : decode cJ1_colorOf 9 = .ok (.getfield 290, 3) := dk_180 1 34 (dk_at dksJ1_colorOf_0 9 rfl rfl)
theorem dJ1_colorOf_12 : decode cJ1_colorOf 12 = .ok (.ireturn, 1) := dk_172 (dk_at dksJ1_colorOf_0 12 rfl rfl)
abbrev cJ1_leftOf : ByteArray := prog_96_method_79_code
def yJ1_leftOf : MethodName := ⟨RJ1, "leftOf", "(Ljava/util/TreeMap$Entry;)Ljava/util/TreeMap$Entry;"⟩
def dkwJ1_leftOf_0 : List UInt8 := [42, 199, 0, 7, 1, 167, 0, 7, 42, 180, 0, 111, 176]
abbrev dktJ1_leftOf_0 : List UInt8 := dkwJ1_leftOf_0 ++ []
theorem dksJ1_leftOf_0 : cJ1_leftOf.data.toList.drop 0 = dktJ1_leftOf_0 := by decide +kernel
theorem dJ1_leftOf_0 : decode cJ1_leftOf 0 = .ok (.aload_n 0, 1) := dk_42 (dk_at dksJ1_leftOf_0 0 rfl rfl)
theorem dJ1_leftOf_1 : decode cJ1_leftOf 1 = .ok (.ifnonnull 7, 3) := dk_199 0 7 (dk_at dksJ1_leftOf_0 1 rfl rfl)
theorem dJ1_leftOf_4 : decode cJ1_leftOf 4 = .ok (.aconst_null, 1) := dk_1 (dk_at dksJ1_leftOf_0 4 rfl rfl)
theorem dJ1_leftOf_5 : decode cJ1_leftOf 5 = .ok (.goto 7, 3) := dk_167 0 7 (dk_at dksJ1_leftOf_0 5 rfl rfl)
theorem dJ1_leftOf_8 : decode cJ1_leftOf 8 = .ok (.aload_n 0, 1) := dk_42 (dk_at dksJ1_leftOf_0 8 rfl rfl)
theorem dJ1_leftOf_9 : decode cJ1_leftOf 9 = .ok (.getfield 111, 3) := dk_180 0 111 (dk_at dksJ1_leftOf_0 9 rfl rfl)
theorem dJ1_leftOf_12 : decode cJ1_leftOf 12 = .ok (.areturn, 1) := dk_176 (dk_at dksJ1_leftOf_0 12 rfl rfl)
abbrev cJ1_parentOf : ByteArray := prog_96_method_77_code
def yJ1_parentOf : MethodName := ⟨RJ1, "parentOf", "(Ljava/util/TreeMap$Entry;)Ljava/util/TreeMap$Entry;"⟩
def dkwJ1_parentOf_0 : List UInt8 := [42, 199, 0, 7, 1, 167, 0, 7, 42, 180, 0, 124, 176]
abbrev dktJ1_parentOf_0 : List UInt8 := dkwJ1_parentOf_0 ++ []
theorem dksJ1_parentOf_0 : cJ1_parentOf.data.toList.drop 0 = dktJ1_parentOf_0 := by decide +kernel
theorem dJ1_parentOf_0 : decode cJ1_parentOf 0 = .ok (.aload_n 0, 1) := dk_42 (dk_at dksJ1_parentOf_0 0 rfl rfl)
theorem dJ1_parentOf_1 : decode cJ1_parentOf 1 = .ok (.ifnonnull 7, 3) := dk_199 0 7 (dk_at dksJ1_parentOf_0 1 rfl rfl)
theorem dJ1_parentOf_4 : decode cJ1_parentOf 4 = .ok (.aconst_null, 1) := dk_1 (dk_at dksJ1_parentOf_0 4 rfl rfl)
theorem dJ1_parentOf_5 : decode cJ1_parentOf 5 = .ok (.goto 7, 3) := dk_167 0 7 (dk_at dksJ1_parentOf_0 5 rfl rfl)
theorem dJ1_parentOf_8 : decode cJ1_parentOf 8 = .ok (.aload_n 0, 1) := dk_42 (dk_at dksJ1_parentOf_0 8 rfl rfl)
theorem dJ1_parentOf_9 : decode cJ1_parentOf 9 = .ok (.getfield 124, 3) := dk_180 0 124 (dk_at dksJ1_parentOf_0 9 rfl rfl)
theorem dJ1_parentOf_12 : decode cJ1_parentOf 12 = .ok (.areturn, 1) := dk_176 (dk_at dksJ1_parentOf_0 12 rfl rfl)
abbrev cJ1_rightOf : ByteArray := prog_96_method_80_code
def yJ1_rightOf : MethodName := ⟨RJ1, "rightOf", "(Ljava/util/TreeMap$Entry;)Ljava/util/TreeMap$Entry;"⟩
def dkwJ1_rightOf_0 : List UInt8 := [42, 199, 0, 7, 1, 167, 0, 7, 42, 180, 0, 114, 176]
abbrev dktJ1_rightOf_0 : List UInt8 := dkwJ1_rightOf_0 ++ []
theorem dksJ1_rightOf_0 : cJ1_rightOf.data.toList.drop 0 = dktJ1_rightOf_0 := by decide +kernel
theorem dJ1_rightOf_0 : decode cJ1_rightOf 0 = .ok (.aload_n 0, 1) := dk_42 (dk_at dksJ1_rightOf_0 0 rfl rfl)
theorem dJ1_rightOf_1 : decode cJ1_rightOf 1 = .ok (.ifnonnull 7, 3) := dk_199 0 7 (dk_at dksJ1_rightOf_0 1 rfl rfl)
theorem dJ1_rightOf_4 : decode cJ1_rightOf 4 = .ok (.aconst_null, 1) := dk_1 (dk_at dksJ1_rightOf_0 4 rfl rfl)
theorem dJ1_rightOf_5 : decode cJ1_rightOf 5 = .ok (.goto 7, 3) := dk_167 0 7 (dk_at dksJ1_rightOf_0 5 rfl rfl)
theorem dJ1_rightOf_8 : decode cJ1_rightOf 8 = .ok (.aload_n 0, 1) := dk_42 (dk_at dksJ1_rightOf_0 8 rfl rfl)
theorem dJ1_rightOf_9 : decode cJ1_rightOf 9 = .ok (.getfield 114, 3) := dk_180 0 114 (dk_at dksJ1_rightOf_0 9 rfl rfl)
theorem dJ1_rightOf_12 : decode cJ1_rightOf 12 = .ok (.areturn, 1) := dk_176 (dk_at dksJ1_rightOf_0 12 rfl rfl)
abbrev cJ1_rotateLeft : ByteArray := prog_96_method_81_code
def yJ1_rotateLeft : MethodName := ⟨RJ1, "rotateLeft", "(Ljava/util/TreeMap$Entry;)V"⟩
def dkwJ1_rotateLeft_4 : List UInt8 := [177]
abbrev dktJ1_rotateLeft_4 : List UInt8 := dkwJ1_rotateLeft_4 ++ []
def dkwJ1_rotateLeft_3 : List UInt8 := [181, 0, 111, 167, 0, 11, 43, 180, 0, 124, 44, 181, 0, 114, 44, 43, 181, 0, 111, 43, 44, 181, 0, 124]
abbrev dktJ1_rotateLeft_3 : List UInt8 := dkwJ1_rotateLeft_3 ++ dktJ1_rotateLeft_4
def dkwJ1_rotateLeft_2 : List UInt8 := [44, 181, 0, 101, 167, 0, 33, 43, 180, 0, 124, 180, 0, 111, 43, 166, 0, 14, 43, 180, 0, 124, 44]
abbrev dktJ1_rotateLeft_2 : List UInt8 := dkwJ1_rotateLeft_2 ++ dktJ1_rotateLeft_3
def dkwJ1_rotateLeft_1 : List UInt8 := [44, 180, 0, 111, 43, 181, 0, 124, 44, 43, 180, 0, 124, 181, 0, 124, 43, 180, 0, 124, 199, 0, 11, 42]
abbrev dktJ1_rotateLeft_1 : List UInt8 := dkwJ1_rotateLeft_1 ++ dktJ1_rotateLeft_2
def dkwJ1_rotateLeft_0 : List UInt8 := [43, 198, 0, 94, 43, 180, 0, 114, 77, 43, 44, 180, 0, 111, 181, 0, 114, 44, 180, 0, 111, 198, 0, 11]
abbrev dktJ1_rotateLeft_0 : List UInt8 := dkwJ1_rotateLeft_0 ++ dktJ1_rotateLeft_1
theorem dksJ1_rotateLeft_0 : cJ1_rotateLeft.data.toList.drop 0 = dktJ1_rotateLeft_0 := by decide +kernel
theorem dksJ1_rotateLeft_1 : cJ1_rotateLeft.data.toList.drop 24 = dktJ1_rotateLeft_1 := dk_seg dksJ1_rotateLeft_0 24 rfl rfl
theorem dksJ1_rotateLeft_2 : cJ1_rotateLeft.data.toList.drop 48 = dktJ1_rotateLeft_2 := dk_seg dksJ1_rotateLeft_1 24 rfl rfl
theorem dksJ1_rotateLeft_3 : cJ1_rotateLeft.data.toList.drop 71 = dktJ1_rotateLeft_3 := dk_seg dksJ1_rotateLeft_2 23 rfl rfl
theorem dksJ1_rotateLeft_4 : cJ1_rotateLeft.data.toList.drop 95 = dktJ1_rotateLeft_4 := dk_seg dksJ1_rotateLeft_3 24 rfl rfl
theorem dJ1_rotateLeft_0 : decode cJ1_rotateLeft 0 = .ok (.aload_n 1, 1) := dk_43 (dk_at dksJ1_rotateLeft_0 0 rfl rfl)
theorem dJ1_rotateLeft_1 : decode cJ1_rotateLeft 1 = .ok (.ifnull 94, 3) := dk_198 0 94 (dk_at dksJ1_rotateLeft_0 1 rfl rfl)
theorem dJ1_rotateLeft_4 : decode cJ1_rotateLeft 4 = .ok (.aload_n 1, 1) := dk_43 (dk_at dksJ1_rotateLeft_0 4 rfl rfl)
theorem dJ1_rotateLeft_5 : decode cJ1_rotateLeft 5 = .ok (.getfield 114, 3) := dk_180 0 114 (dk_at dksJ1_rotateLeft_0 5 rfl rfl)
theorem dJ1_rotateLeft_8 : decode cJ1_rotateLeft 8 = .ok (.astore_n 2, 1) := dk_77 (dk_at dksJ1_rotateLeft_0 8 rfl rfl)
theorem dJ1_rotateLeft_9 : decode cJ1_rotateLeft 9 = .ok (.aload_n 1, 1) := dk_43 (dk_at dksJ1_rotateLeft_0 9 rfl rfl)
theorem dJ1_rotateLeft_10 : decode cJ1_rotateLeft 10 = .ok (.aload_n 2, 1) := dk_44 (dk_at dksJ1_rotateLeft_0 10 rfl rfl)
theorem dJ1_rotateLeft_11 : decode cJ1_rotateLeft 11 = .ok (.getfield 111, 3) := dk_180 0 111 (dk_at dksJ1_rotateLeft_0 11 rfl rfl)
theorem dJ1_rotateLeft_14 : decode cJ1_rotateLeft 14 = .ok (.putfield 114, 3) := dk_181 0 114 (dk_at dksJ1_rotateLeft_0 14 rfl rfl)
theorem dJ1_rotateLeft_17 : decode cJ1_rotateLeft 17 = .ok (.aload_n 2, 1) := dk_44 (dk_at dksJ1_rotateLeft_0 17 rfl rfl)
theorem dJ1_rotateLeft_18 : decode cJ1_rotateLeft 18 = .ok (.getfield 111, 3) := dk_180 0 111 (dk_at dksJ1_rotateLeft_0 18 rfl rfl)
theorem dJ1_rotateLeft_21 : decode cJ1_rotateLeft 21 = .ok (.ifnull 11, 3) := dk_198 0 11 (dk_at dksJ1_rotateLeft_0 21 rfl rfl)
theorem dJ1_rotateLeft_24 : decode cJ1_rotateLeft 24 = .ok (.aload_n 2, 1) := dk_44 (dk_at dksJ1_rotateLeft_1 0 rfl rfl)
theorem dJ1_rotateLeft_25 : decode cJ1_rotateLeft 25 = .ok (.getfield 111, 3) := dk_180 0 111 (dk_at dksJ1_rotateLeft_1 1 rfl rfl)
theorem dJ1_rotateLeft_28 : decode cJ1_rotateLeft 28 = .ok (.aload_n 1, 1) := dk_43 (dk_at dksJ1_rotateLeft_1 4 rfl rfl)
theorem dJ1_rotateLeft_29 : decode cJ1_rotateLeft 29 = .ok (.putfield 124, 3) := dk_181 0 124 (dk_at dksJ1_rotateLeft_1 5 rfl rfl)
theorem dJ1_rotateLeft_32 : decode cJ1_rotateLeft 32 = .ok (.aload_n 2, 1) := dk_44 (dk_at dksJ1_rotateLeft_1 8 rfl rfl)
theorem dJ1_rotateLeft_33 : decode cJ1_rotateLeft 33 = .ok (.aload_n 1, 1) := dk_43 (dk_at dksJ1_rotateLeft_1 9 rfl rfl)
theorem dJ1_rotateLeft_34 : decode cJ1_rotateLeft 34 = .ok (.getfield 124, 3) := dk_180 0 124 (dk_at dksJ1_rotateLeft_1 10 rfl rfl)
theorem dJ1_rotateLeft_37 : decode cJ1_rotateLeft 37 = .ok (.putfield 124, 3) := dk_181 0 124 (dk_at dksJ1_rotateLeft_1 13 rfl rfl)
theorem dJ1_rotateLeft_40 : decode cJ1_rotateLeft 40 = .ok (.aload_n 1, 1) := dk_43 (dk_at dksJ1_rotateLeft_1 16 rfl rfl)
theorem dJ1_rotateLeft_41 : decode cJ1_rotateLeft 41 = .ok (.getfield 124, 3) := dk_180 0 124 (dk_at dksJ1_rotateLeft_1 17 rfl rfl)
theorem dJ1_rotateLeft_44 : decode cJ1_rotateLeft 44 = .ok (.ifnonnull 11, 3) := dk_199 0 11 (dk_at dksJ1_rotateLeft_1 20 rfl rfl)
theorem dJ1_rotateLeft_47 : decode cJ1_rotateLeft 47 = .ok (.aload_n 0, 1) := dk_42 (dk_at dksJ1_rotateLeft_1 23 rfl rfl)
theorem dJ1_rotateLeft_48 : decode cJ1_rotateLeft 48 = .ok (.aload_n 2, 1) := dk_44 (dk_at dksJ1_rotateLeft_2 0 rfl rfl)
theorem dJ1_rotateLeft_49 : decode cJ1_rotateLeft 49 = .ok (.putfield 101, 3) := dk_181 0 101 (dk_at dksJ1_rotateLeft_2 1 rfl rfl)
theorem dJ1_rotateLeft_52 : decode cJ1_rotateLeft 52 = .ok (.goto 33, 3) := dk_167 0 33 (dk_at dksJ1_rotateLeft_2 4 rfl rfl)
theorem dJ1_rotateLeft_55 : decode cJ1_rotateLeft 55 = .ok (.aload_n 1, 1) := dk_43 (dk_at dksJ1_rotateLeft_2 7 rfl rfl)
theorem dJ1_rotateLeft_56 : decode cJ1_rotateLeft 56 = .ok (.getfield 124, 3) := dk_180 0 124 (dk_at dksJ1_rotateLeft_2 8 rfl rfl)
theorem dJ1_rotateLeft_59 : decode cJ1_rotateLeft 59 = .ok (.getfield 111, 3) := dk_180 0 111 (dk_at dksJ1_rotateLeft_2 11 rfl rfl)
theorem dJ1_rotateLeft_62 : decode cJ1_rotateLeft 62 = .ok (.aload_n 1, 1) := dk_43 (dk_at dksJ1_rotateLeft_2 14 rfl rfl)
theorem dJ1_rotateLeft_63 : decode cJ1_rotateLeft 63 = .ok (.if_acmp .ne 14, 3) := dk_166 0 14 (dk_at dksJ1_rotateLeft_2 15 rfl rfl)
theorem dJ1_rotateLeft_66 : decode cJ1_rotateLeft 66 = .ok (.aload_n 1, 1) := dk_43 (dk_at dksJ1_rotateLeft_2 18 rfl rfl)
theorem dJ1_rotateLeft_67 : decode cJ1_rotateLeft 67 = .ok (.getfield 124, 3) := dk_180 0 124 (dk_at dksJ1_rotateLeft_2 19 rfl rfl)
theorem dJ1_rotateLeft_70 : decode cJ1_rotateLeft 70 = .ok (.aload_n 2, 1) := dk_44 (dk_at dksJ1_rotateLeft_2 22 rfl rfl)
theorem dJ1_rotateLeft_71 : decode cJ1_rotateLeft 71 = .ok (.putfield 111, 3) := dk_181 0 111 (dk_at dksJ1_rotateLeft_3 0 rfl rfl)
theorem dJ1_rotateLeft_74 : decode cJ1_rotateLeft 74 = .ok (.goto 11, 3) := dk_167 0 11 (dk_at dksJ1_rotateLeft_3 3 rfl rfl)
theorem dJ1_rotateLeft_77 : decode cJ1_rotateLeft 77 = .ok (.aload_n 1, 1) := dk_43 (dk_at dksJ1_rotateLeft_3 6 rfl rfl)
theorem dJ1_rotateLeft_78 : decode cJ1_rotateLeft 78 = .ok (.getfield 124, 3) := dk_180 0 124 (dk_at dksJ1_rotateLeft_3 7 rfl rfl)
theorem dJ1_rotateLeft_81 : decode cJ1_rotateLeft 81 = .ok (.aload_n 2, 1) := dk_44 (dk_at dksJ1_rotateLeft_3 10 rfl rfl)
theorem dJ1_rotateLeft_82 : decode cJ1_rotateLeft 82 = .ok (.putfield 114, 3) := dk_181 0 114 (dk_at dksJ1_rotateLeft_3 11 rfl rfl)
theorem dJ1_rotateLeft_85 : decode cJ1_rotateLeft 85 = .ok (.aload_n 2, 1) := dk_44 (dk_at dksJ1_rotateLeft_3 14 rfl rfl)
theorem dJ1_rotateLeft_86 : decode cJ1_rotateLeft 86 = .ok (.aload_n 1, 1) := dk_43 (dk_at dksJ1_rotateLeft_3 15 rfl rfl)
theorem dJ1_rotateLeft_87 : decode cJ1_rotateLeft 87 = .ok (.putfield 111, 3) := dk_181 0 111 (dk_at dksJ1_rotateLeft_3 16 rfl rfl)
theorem dJ1_rotateLeft_90 : decode cJ1_rotateLeft 90 = .ok (.aload_n 1, 1) := dk_43 (dk_at dksJ1_rotateLeft_3 19 rfl rfl)
theorem dJ1_rotateLeft_91 : decode cJ1_rotateLeft 91 = .ok (.aload_n 2, 1) := dk_44 (dk_at dksJ1_rotateLeft_3 20 rfl rfl)
theorem dJ1_rotateLeft_92 : decode cJ1_rotateLeft 92 = .ok (.putfield 124, 3) := dk_181 0 124 (dk_at dksJ1_rotateLeft_3 21 rfl rfl)
theorem dJ1_rotateLeft_95 : decode cJ1_rotateLeft 95 = .ok (.return_, 1) := dk_177 (dk_at dksJ1_rotateLeft_4 0 rfl rfl)
abbrev cJ1_rotateRight : ByteArray := prog_96_method_82_code
def yJ1_rotateRight : MethodName := ⟨RJ1, "rotateRight", "(Ljava/util/TreeMap$Entry;)V"⟩
def dkwJ1_rotateRight_4 : List UInt8 := [177]
abbrev dktJ1_rotateRight_4 : List UInt8 := dkwJ1_rotateRight_4 ++ []
def dkwJ1_rotateRight_3 : List UInt8 := [181, 0, 114, 167, 0, 11, 43, 180, 0, 124, 44, 181, 0, 111, 44, 43, 181, 0, 114, 43, 44, 181, 0, 124]
abbrev dktJ1_rotateRight_3 : List UInt8 := dkwJ1_rotateRight_3 ++ dktJ1_rotateRight_4
def dkwJ1_rotateRight_2 : List UInt8 := [44, 181, 0, 101, 167, 0, 33, 43, 180, 0, 124, 180, 0, 114, 43, 166, 0, 14, 43, 180, 0, 124, 44]
abbrev dktJ1_rotateRight_2 : List UInt8 := dkwJ1_rotateRight_2 ++ dktJ1_rotateRight_3
def dkwJ1_rotateRight_1 : List UInt8 := [44, 180, 0, 114, 43, 181, 0, 124, 44, 43, 180, 0, 124, 181, 0, 124, 43, 180, 0, 124, 199, 0, 11, 42]
abbrev dktJ1_rotateRight_1 : List UInt8 := dkwJ1_rotateRight_1 ++ dktJ1_rotateRight_2
def dkwJ1_rotateRight_0 : List UInt8 := [43, 198, 0, 94, 43, 180, 0, 111, 77, 43, 44, 180, 0, 114, 181, 0, 111, 44, 180, 0, 114, 198, 0, 11]
abbrev dktJ1_rotateRight_0 : List UInt8 := dkwJ1_rotateRight_0 ++ dktJ1_rotateRight_1
theorem dksJ1_rotateRight_0 : cJ1_rotateRight.data.toList.drop 0 = dktJ1_rotateRight_0 := by decide +kernel
theorem dksJ1_rotateRight_1 : cJ1_rotateRight.data.toList.drop 24 = dktJ1_rotateRight_1 := dk_seg dksJ1_rotateRight_0 24 rfl rfl
theorem dksJ1_rotateRight_2 : cJ1_rotateRight.data.toList.drop 48 = dktJ1_rotateRight_2 := dk_seg dksJ1_rotateRight_1 24 rfl rfl
theorem dksJ1_rotateRight_3 : cJ1_rotateRight.data.toList.drop 71 = dktJ1_rotateRight_3 := dk_seg dksJ1_rotateRight_2 23 rfl rfl
theorem dksJ1_rotateRight_4 : cJ1_rotateRight.data.toList.drop 95 = dktJ1_rotateRight_4 := dk_seg dksJ1_rotateRight_3 24 rfl rfl
theorem dJ1_rotateRight_0 : decode cJ1_rotateRight 0 = .ok (.aload_n 1, 1) := dk_43 (dk_at dksJ1_rotateRight_0 0 rfl rfl)
theorem dJ1_rotateRight_1 : decode cJ1_rotateRight 1 = .ok (.ifnull 94, 3) := dk_198 0 94 (dk_at dksJ1_rotateRight_0 1 rfl rfl)
theorem dJ1_rotateRight_4 : decode cJ1_rotateRight 4 = .ok (.aload_n 1, 1) := dk_43 (dk_at dksJ1_rotateRight_0 4 rfl rfl)
theorem dJ1_rotateRight_5 : decode cJ1_rotateRight 5 = .ok (.getfield 111, 3) := dk_180 0 111 (dk_at dksJ1_rotateRight_0 5 rfl rfl)
theorem dJ1_rotateRight_8 : decode cJ1_rotateRight 8 = .ok (.astore_n 2, 1) := dk_77 (dk_at dksJ1_rotateRight_0 8 rfl rfl)
theorem dJ1_rotateRight_9 : decode cJ1_rotateRight 9 = .ok (.aload_n 1, 1) := dk_43 (dk_at dksJ1_rotateRight_0 9 rfl rfl)
theorem dJ1_rotateRight_10 : decode cJ1_rotateRight 10 = .ok (.aload_n 2, 1) := dk_44 (dk_at dksJ1_rotateRight_0 10 rfl rfl)
theorem dJ1_rotateRight_11 : decode cJ1_rotateRight 11 = .ok (.getfield 114, 3) := dk_180 0 114 (dk_at dksJ1_rotateRight_0 11 rfl rfl)
theorem dJ1_rotateRight_14 : decode cJ1_rotateRight 14 = .ok (.putfield 111, 3) := dk_181 0 111 (dk_at dksJ1_rotateRight_0 14 rfl rfl)
theorem dJ1_rotateRight_17 : decode cJ1_rotateRight 17 = .ok (.aload_n 2, 1) := dk_44 (dk_at dksJ1_rotateRight_0 17 rfl rfl)
theorem dJ1_rotateRight_18 : decode cJ1_rotateRight 18 = .ok (.getfield 114, 3) := dk_180 0 114 (dk_at dksJ1_rotateRight_0 18 rfl rfl)
theorem dJ1_rotateRight_21 : decode cJ1_rotateRight 21 = .ok (.ifnull 11, 3) := dk_198 0 11 (dk_at dksJ1_rotateRight_0 21 rfl rfl)
theorem dJ1_rotateRight_24 : decode cJ1_rotateRight 24 = .ok (.aload_n 2, 1) := dk_44 (dk_at dksJ1_rotateRight_1 0 rfl rfl)
theorem dJ1_rotateRight_25 : decode cJ1_rotateRight 25 = .ok (.getfield 114, 3) := dk_180 0 114 (dk_at dksJ1_rotateRight_1 1 rfl rfl)
theorem dJ1_rotateRight_28 : decode cJ1_rotateRight 28 = .ok (.aload_n 1, 1) := dk_43 (dk_at dksJ1_rotateRight_1 4 rfl rfl)
theorem dJ1_rotateRight_29 : decode cJ1_rotateRight 29 = .ok (.putfield 124, 3) := dk_181 0 124 (dk_at dksJ1_rotateRight_1 5 rfl rfl)
theorem dJ1_rotateRight_32 : decode cJ1_rotateRight 32 = .ok (.aload_n 2, 1) := dk_44 (dk_at dksJ1_rotateRight_1 8 rfl rfl)
theorem dJ1_rotateRight_33 : decode cJ1_rotateRight 33 = .ok (.aload_n 1, 1) := dk_43 (dk_at dksJ1_rotateRight_1 9 rfl rfl)
theorem dJ1_rotateRight_34 : decode cJ1_rotateRight 34 = .ok (.getfield 124, 3) := dk_180 0 124 (dk_at dksJ1_rotateRight_1 10 rfl rfl)
theorem dJ1_rotateRight_37 : decode cJ1_rotateRight 37 = .ok (.putfield 124, 3) := dk_181 0 124 (dk_at dksJ1_rotateRight_1 13 rfl rfl)
theorem dJ1_rotateRight_40 : decode cJ1_rotateRight 40 = .ok (.aload_n 1, 1) := dk_43 (dk_at dksJ1_rotateRight_1 16 rfl rfl)
theorem dJ1_rotateRight_41 : decode cJ1_rotateRight 41 = .ok (.getfield 124, 3) := dk_180 0 124 (dk_at dksJ1_rotateRight_1 17 rfl rfl)
theorem dJ1_rotateRight_44 : decode cJ1_rotateRight 44 = .ok (.ifnonnull 11, 3) := dk_199 0 11 (dk_at dksJ1_rotateRight_1 20 rfl rfl)
theorem dJ1_rotateRight_47 : decode cJ1_rotateRight 47 = .ok (.aload_n 0, 1) := dk_42 (dk_at dksJ1_rotateRight_1 23 rfl rfl)
theorem dJ1_rotateRight_48 : decode cJ1_rotateRight 48 = .ok (.aload_n 2, 1) := dk_44 (dk_at dksJ1_rotateRight_2 0 rfl rfl)
theorem dJ1_rotateRight_49 : decode cJ1_rotateRight 49 = .ok (.putfield 101, 3) := dk_181 0 101 (dk_at dksJ1_rotateRight_2 1 rfl rfl)
theorem dJ1_rotateRight_52 : decode cJ1_rotateRight 52 = .ok (.goto 33, 3) := dk_167 0 33 (dk_at dksJ1_rotateRight_2 4 rfl rfl)
theorem dJ1_rotateRight_55 : decode cJ1_rotateRight 55 = .ok (.aload_n 1, 1) := dk_43 (dk_at dksJ1_rotateRight_2 7 rfl rfl)
theorem dJ1_rotateRight_56 : decode cJ1_rotateRight 56 = .ok (.getfield 124, 3) := dk_180 0 124 (dk_at dksJ1_rotateRight_2 8 rfl rfl)
theorem dJ1_rotateRight_59 : decode cJ1_rotateRight 59 = .ok (.getfield 114, 3) := dk_180 0 114 (dk_at dksJ1_rotateRight_2 11 rfl rfl)
theorem dJ1_rotateRight_62 : decode cJ1_rotateRight 62 = .ok (.aload_n 1, 1) := dk_43 (dk_at dksJ1_rotateRight_2 14 rfl rfl)
theorem dJ1_rotateRight_63 : decode cJ1_rotateRight 63 = .ok (.if_acmp .ne 14, 3) := dk_166 0 14 (dk_at dksJ1_rotateRight_2 15 rfl rfl)
theorem dJ1_rotateRight_66 : decode cJ1_rotateRight 66 = .ok (.aload_n 1, 1) := dk_43 (dk_at dksJ1_rotateRight_2 18 rfl rfl)
theorem dJ1_rotateRight_67 : decode cJ1_rotateRight 67 = .ok (.getfield 124, 3) := dk_180 0 124 (dk_at dksJ1_rotateRight_2 19 rfl rfl)
theorem dJ1_rotateRight_70 : decode cJ1_rotateRight 70 = .ok (.aload_n 2, 1) := dk_44 (dk_at dksJ1_rotateRight_2 22 rfl rfl)
theorem dJ1_rotateRight_71 : decode cJ1_rotateRight 71 = .ok (.putfield 114, 3) := dk_181 0 114 (dk_at dksJ1_rotateRight_3 0 rfl rfl)
theorem dJ1_rotateRight_74 : decode cJ1_rotateRight 74 = .ok (.goto 11, 3) := dk_167 0 11 (dk_at dksJ1_rotateRight_3 3 rfl rfl)
theorem dJ1_rotateRight_77 : decode cJ1_rotateRight 77 = .ok (.aload_n 1, 1) := dk_43 (dk_at dksJ1_rotateRight_3 6 rfl rfl)
theorem dJ1_rotateRight_78 : decode cJ1_rotateRight 78 = .ok (.getfield 124, 3) := dk_180 0 124 (dk_at dksJ1_rotateRight_3 7 rfl rfl)
theorem dJ1_rotateRight_81 : decode cJ1_rotateRight 81 = .ok (.aload_n 2, 1) := dk_44 (dk_at dksJ1_rotateRight_3 10 rfl rfl)
theorem dJ1_rotateRight_82 : decode cJ1_rotateRight 82 = .ok (.putfield 111, 3) := dk_181 0 111 (dk_at dksJ1_rotateRight_3 11 rfl rfl)
theorem dJ1_rotateRight_85 : decode cJ1_rotateRight 85 = .ok (.aload_n 2, 1) := dk_44 (dk_at dksJ1_rotateRight_3 14 rfl rfl)
theorem dJ1_rotateRight_86 : decode cJ1_rotateRight 86 = .ok (.aload_n 1, 1) := dk_43 (dk_at dksJ1_rotateRight_3 15 rfl rfl)
theorem dJ1_rotateRight_87 : decode cJ1_rotateRight 87 = .ok (.putfield 114, 3) := dk_181 0 114 (dk_at dksJ1_rotateRight_3 16 rfl rfl)
theorem dJ1_rotateRight_90 : decode cJ1_rotateRight 90 = .ok (.aload_n 1, 1) := dk_43 (dk_at dksJ1_rotateRight_3 19 rfl rfl)
theorem dJ1_rotateRight_91 : decode cJ1_rotateRight 91 = .ok (.aload_n 2, 1) := dk_44 (dk_at dksJ1_rotateRight_3 20 rfl rfl)
theorem dJ1_rotateRight_92 : decode cJ1_rotateRight 92 = .ok (.putfield 124, 3) := dk_181 0 124 (dk_at dksJ1_rotateRight_3 21 rfl rfl)
theorem dJ1_rotateRight_95 : decode cJ1_rotateRight 95 = .ok (.return_, 1) := dk_177 (dk_at dksJ1_rotateRight_4 0 rfl rfl)
abbrev cJ1_setColor : ByteArray := prog_96_method_78_code
def yJ1_setColor : MethodName := ⟨RJ1, "setColor", "(Ljava/util/TreeMap$Entry;Z)V"⟩
def dkwJ1_setColor_0 : List UInt8 := [42, 198, 0, 8, 42, 27, 181, 1, 34, 177]
abbrev dktJ1_setColor_0 : List UInt8 := dkwJ1_setColor_0 ++ []
theorem dksJ1_setColor_0 : cJ1_setColor.data.toList.drop 0 = dktJ1_setColor_0 := by decide +kernel
theorem dJ1_setColor_0 : decode cJ1_setColor 0 = .ok (.aload_n 0, 1) := dk_42 (dk_at dksJ1_setColor_0 0 rfl rfl)
theorem dJ1_setColor_1 : decode cJ1_setColor 1 = .ok (.ifnull 8, 3) := dk_198 0 8 (dk_at dksJ1_setColor_0 1 rfl rfl)
theorem dJ1_setColor_4 : decode cJ1_setColor 4 = .ok (.aload_n 0, 1) := dk_42 (dk_at dksJ1_setColor_0 4 rfl rfl)
theorem dJ1_setColor_5 : decode cJ1_setColor 5 = .ok (.iload_n 1, 1) := dk_27 (dk_at dksJ1_setColor_0 5 rfl rfl)
theorem dJ1_setColor_6 : decode cJ1_setColor 6 = .ok (.putfield 290, 3) := dk_181 1 34 (dk_at dksJ1_setColor_0 6 rfl rfl)
theorem dJ1_setColor_9 : decode cJ1_setColor 9 = .ok (.return_, 1) := dk_177 (dk_at dksJ1_setColor_0 9 rfl rfl)
abbrev cJ1_fixAfterInsertion : ByteArray := prog_96_method_83_code
def yJ1_fixAfterInsertion : MethodName := ⟨RJ1, "fixAfterInsertion", "(Ljava/util/TreeMap$Entry;)V"⟩
def dkwJ1_fixAfterInsertion_11 : List UInt8 := [42, 180, 0, 101, 4, 181, 1, 34, 177]
abbrev dktJ1_fixAfterInsertion_11 : List UInt8 := dkwJ1_fixAfterInsertion_11 ++ []
def dkwJ1_fixAfterInsertion_10 : List UInt8 := [184, 1, 38, 184, 1, 38, 3, 184, 1, 51, 42, 43, 184, 1, 38, 184, 1, 38, 182, 1, 55, 167, 255, 6]
abbrev dktJ1_fixAfterInsertion_10 : List UInt8 := dkwJ1_fixAfterInsertion_10 ++ dktJ1_fixAfterInsertion_11
def dkwJ1_fixAfterInsertion_9 : List UInt8 := [166, 0, 13, 43, 184, 1, 38, 76, 42, 43, 182, 1, 58, 43, 184, 1, 38, 4, 184, 1, 51, 43]
abbrev dktJ1_fixAfterInsertion_9 : List UInt8 := dkwJ1_fixAfterInsertion_9 ++ dktJ1_fixAfterInsertion_10
def dkwJ1_fixAfterInsertion_8 : List UInt8 := [184, 1, 51, 43, 184, 1, 38, 184, 1, 38, 76, 167, 0, 54, 43, 43, 184, 1, 38, 184, 1, 41]
abbrev dktJ1_fixAfterInsertion_8 : List UInt8 := dkwJ1_fixAfterInsertion_8 ++ dktJ1_fixAfterInsertion_9
def dkwJ1_fixAfterInsertion_7 : List UInt8 := [154, 0, 38, 43, 184, 1, 38, 4, 184, 1, 51, 44, 4, 184, 1, 51, 43, 184, 1, 38, 184, 1, 38, 3]
abbrev dktJ1_fixAfterInsertion_7 : List UInt8 := dkwJ1_fixAfterInsertion_7 ++ dktJ1_fixAfterInsertion_8
def dkwJ1_fixAfterInsertion_6 : List UInt8 := [184, 1, 38, 182, 1, 58, 167, 255, 113, 43, 184, 1, 38, 184, 1, 38, 184, 1, 41, 77, 44, 184, 1, 47]
abbrev dktJ1_fixAfterInsertion_6 : List UInt8 := dkwJ1_fixAfterInsertion_6 ++ dktJ1_fixAfterInsertion_7
def dkwJ1_fixAfterInsertion_5 : List UInt8 := [43, 184, 1, 38, 4, 184, 1, 51, 43, 184, 1, 38, 184, 1, 38, 3, 184, 1, 51, 42, 43, 184, 1, 38]
abbrev dktJ1_fixAfterInsertion_5 : List UInt8 := dkwJ1_fixAfterInsertion_5 ++ dktJ1_fixAfterInsertion_6
def dkwJ1_fixAfterInsertion_4 : List UInt8 := [167, 0, 54, 43, 43, 184, 1, 38, 184, 1, 44, 166, 0, 13, 43, 184, 1, 38, 76, 42, 43, 182, 1, 55]
abbrev dktJ1_fixAfterInsertion_4 : List UInt8 := dkwJ1_fixAfterInsertion_4 ++ dktJ1_fixAfterInsertion_5
def dkwJ1_fixAfterInsertion_3 : List UInt8 := [184, 1, 51, 43, 184, 1, 38, 184, 1, 38, 3, 184, 1, 51, 43, 184, 1, 38, 184, 1, 38, 76]
abbrev dktJ1_fixAfterInsertion_3 : List UInt8 := dkwJ1_fixAfterInsertion_3 ++ dktJ1_fixAfterInsertion_4
def dkwJ1_fixAfterInsertion_2 : List UInt8 := [184, 1, 38, 184, 1, 44, 77, 44, 184, 1, 47, 154, 0, 38, 43, 184, 1, 38, 4, 184, 1, 51, 44, 4]
abbrev dktJ1_fixAfterInsertion_2 : List UInt8 := dkwJ1_fixAfterInsertion_2 ++ dktJ1_fixAfterInsertion_3
def dkwJ1_fixAfterInsertion_1 : List UInt8 := [154, 0, 234, 43, 184, 1, 38, 43, 184, 1, 38, 184, 1, 38, 184, 1, 41, 166, 0, 110, 43, 184, 1, 38]
abbrev dktJ1_fixAfterInsertion_1 : List UInt8 := dkwJ1_fixAfterInsertion_1 ++ dktJ1_fixAfterInsertion_2
def dkwJ1_fixAfterInsertion_0 : List UInt8 := [43, 3, 181, 1, 34, 43, 198, 0, 252, 43, 42, 180, 0, 101, 165, 0, 244, 43, 180, 0, 124, 180, 1, 34]
abbrev dktJ1_fixAfterInsertion_0 : List UInt8 := dkwJ1_fixAfterInsertion_0 ++ dktJ1_fixAfterInsertion_1
theorem dksJ1_fixAfterInsertion_0 : cJ1_fixAfterInsertion.data.toList.drop 0 = dktJ1_fixAfterInsertion_0 := by decide +kernel
theorem dksJ1_fixAfterInsertion_1 : cJ1_fixAfterInsertion.data.toList.drop 24 = dktJ1_fixAfterInsertion_1 := dk_seg dksJ1_fixAfterInsertion_0 24 rfl rfl
theorem dksJ1_fixAfterInsertion_2 : cJ1_fixAfterInsertion.data.toList.drop 48 = dktJ1_fixAfterInsertion_2 := dk_seg dksJ1_fixAfterInsertion_1 24 rfl rfl
theorem dksJ1_fixAfterInsertion_3 : cJ1_fixAfterInsertion.data.toList.drop 72 = dktJ1_fixAfterInsertion_3 := dk_seg dksJ1_fixAfterInsertion_2 24 rfl rfl
theorem dksJ1_fixAfterInsertion_4 : cJ1_fixAfterInsertion.data.toList.drop 94 = dktJ1_fixAfterInsertion_4 := dk_seg dksJ1_fixAfterInsertion_3 22 rfl rfl
theorem dksJ1_fixAfterInsertion_5 : cJ1_fixAfterInsertion.data.toList.drop 118 = dktJ1_fixAfterInsertion_5 := dk_seg dksJ1_fixAfterInsertion_4 24 rfl rfl
theorem dksJ1_fixAfterInsertion_6 : cJ1_fixAfterInsertion.data.toList.drop 142 = dktJ1_fixAfterInsertion_6 := dk_seg dksJ1_fixAfterInsertion_5 24 rfl rfl
theorem dksJ1_fixAfterInsertion_7 : cJ1_fixAfterInsertion.data.toList.drop 166 = dktJ1_fixAfterInsertion_7 := dk_seg dksJ1_fixAfterInsertion_6 24 rfl rfl
theorem dksJ1_fixAfterInsertion_8 : cJ1_fixAfterInsertion.data.toList.drop 190 = dktJ1_fixAfterInsertion_8 := dk_seg dksJ1_fixAfterInsertion_7 24 rfl rfl
theorem dksJ1_fixAfterInsertion_9 : cJ1_fixAfterInsertion.data.toList.drop 212 = dktJ1_fixAfterInsertion_9 := dk_seg dksJ1_fixAfterInsertion_8 22 rfl rfl
theorem dksJ1_fixAfterInsertion_10 : cJ1_fixAfterInsertion.data.toList.drop 234 = dktJ1_fixAfterInsertion_10 := dk_seg dksJ1_fixAfterInsertion_9 22 rfl rfl
theorem dksJ1_fixAfterInsertion_11 : cJ1_fixAfterInsertion.data.toList.drop 258 = dktJ1_fixAfterInsertion_11 := dk_seg dksJ1_fixAfterInsertion_10 24 rfl rfl
theorem dJ1_fixAfterInsertion_0 : decode cJ1_fixAfterInsertion 0 = .ok (.aload_n 1, 1) := dk_43 (dk_at dksJ1_fixAfterInsertion_0 0 rfl rfl)
theorem dJ1_fixAfterInsertion_1 : decode cJ1_fixAfterInsertion 1 = .ok (.iconst 0, 1) := dk_3 (dk_at dksJ1_fixAfterInsertion_0 1 rfl rfl)
theorem dJ1_fixAfterInsertion_2 : decode cJ1_fixAfterInsertion 2 = .ok (.putfield 290, 3) := dk_181 1 34 (dk_at dksJ1_fixAfterInsertion_0 2 rfl rfl)
theorem dJ1_fixAfterInsertion_5 : decode cJ1_fixAfterInsertion 5 = .ok (.aload_n 1, 1) := dk_43 (dk_at dksJ1_fixAfterInsertion_0 5 rfl rfl)
theorem dJ1_fixAfterInsertion_6 : decode cJ1_fixAfterInsertion 6 = .ok (.ifnull 252, 3) := dk_198 0 252 (dk_at dksJ1_fixAfterInsertion_0 6 rfl rfl)
theorem dJ1_fixAfterInsertion_9 : decode cJ1_fixAfterInsertion 9 = .ok (.aload_n 1, 1) := dk_43 (dk_at dksJ1_fixAfterInsertion_0 9 rfl rfl)
theorem dJ1_fixAfterInsertion_10 : decode cJ1_fixAfterInsertion 10 = .ok (.aload_n 0, 1) := dk_42 (dk_at dksJ1_fixAfterInsertion_0 10 rfl rfl)
theorem dJ1_fixAfterInsertion_11 : decode cJ1_fixAfterInsertion 11 = .ok (.getfield 101, 3) := dk_180 0 101 (dk_at dksJ1_fixAfterInsertion_0 11 rfl rfl)
theorem dJ1_fixAfterInsertion_14 : decode cJ1_fixAfterInsertion 14 = .ok (.if_acmp .eq 244, 3) := dk_165 0 244 (dk_at dksJ1_fixAfterInsertion_0 14 rfl rfl)
theorem dJ1_fixAfterInsertion_17 : decode cJ1_fixAfterInsertion 17 = .ok (.aload_n 1, 1) := dk_43 (dk_at dksJ1_fixAfterInsertion_0 17 rfl rfl)
theorem dJ1_fixAfterInsertion_18 : decode cJ1_fixAfterInsertion 18 = .ok (.getfield 124, 3) := dk_180 0 124 (dk_at dksJ1_fixAfterInsertion_0 18 rfl rfl)
theorem dJ1_fixAfterInsertion_21 : decode cJ1_fixAfterInsertion 21 = .ok (.getfield 290, 3) := dk_180 1 34 (dk_at dksJ1_fixAfterInsertion_0 21 rfl rfl)
theorem dJ1_fixAfterInsertion_24 : decode cJ1_fixAfterInsertion 24 = .ok (.ifCond .ne 234, 3) := dk_154 0 234 (dk_at dksJ1_fixAfterInsertion_1 0 rfl rfl)
theorem dJ1_fixAfterInsertion_27 : decode cJ1_fixAfterInsertion 27 = .ok (.aload_n 1, 1) := dk_43 (dk_at dksJ1_fixAfterInsertion_1 3 rfl rfl)
theorem dJ1_fixAfterInsertion_28 : decode cJ1_fixAfterInsertion 28 = .ok (.invokestatic 294, 3) := dk_184 1 38 (dk_at dksJ1_fixAfterInsertion_1 4 rfl rfl)
theorem dJ1_fixAfterInsertion_31 : decode cJ1_fixAfterInsertion 31 = .ok (.aload_n 1, 1) := dk_43 (dk_at dksJ1_fixAfterInsertion_1 7 rfl rfl)
theorem dJ1_fixAfterInsertion_32 : decode cJ1_fixAfterInsertion 32 = .ok (.invokestatic 294, 3) := dk_184 1 38 (dk_at dksJ1_fixAfterInsertion_1 8 rfl rfl)
theorem dJ1_fixAfterInsertion_35 : decode cJ1_fixAfterInsertion 35 = .ok (.invokestatic 294, 3) := dk_184 1 38 (dk_at dksJ1_fixAfterInsertion_1 11 rfl rfl)
theorem dJ1_fixAfterInsertion_38 : decode cJ1_fixAfterInsertion 38 = .ok (.invokestatic 297, 3) := dk_184 1 41 (dk_at dksJ1_fixAfterInsertion_1 14 rfl rfl)
theorem dJ1_fixAfterInsertion_41 : decode cJ1_fixAfterInsertion 41 = .ok (.if_acmp .ne 110, 3) := dk_166 0 110 (dk_at dksJ1_fixAfterInsertion_1 17 rfl rfl)
theorem dJ1_fixAfterInsertion_44 : decode cJ1_fixAfterInsertion 44 = .ok (.aload_n 1, 1) := dk_43 (dk_at dksJ1_fixAfterInsertion_1 20 rfl rfl)
theorem dJ1_fixAfterInsertion_45 : decode cJ1_fixAfterInsertion 45 = .ok (.invokestatic 294, 3) := dk_184 1 38 (dk_at dksJ1_fixAfterInsertion_1 21 rfl rfl)
theorem dJ1_fixAfterInsertion_48 : decode cJ1_fixAfterInsertion 48 = .ok (.invokestatic 294, 3) := dk_184 1 38 (dk_at dksJ1_fixAfterInsertion_2 0 rfl rfl)
theorem dJ1_fixAfterInsertion_51 : decode cJ1_fixAfterInsertion 51 = .ok (.invokestatic 300, 3) := dk_184 1 44 (dk_at dksJ1_fixAfterInsertion_2 3 rfl rfl)
theorem dJ1_fixAfterInsertion_54 : decode cJ1_fixAfterInsertion 54 = .ok (.astore_n 2, 1) := dk_77 (dk_at dksJ1_fixAfterInsertion_2 6 rfl rfl)
theorem dJ1_fixAfterInsertion_55 : decode cJ1_fixAfterInsertion 55 = .ok (.aload_n 2, 1) := dk_44 (dk_at dksJ1_fixAfterInsertion_2 7 rfl rfl)
theorem dJ1_fixAfterInsertion_56 : decode cJ1_fixAfterInsertion 56 = .ok (.invokestatic 303, 3) := dk_184 1 47 (dk_at dksJ1_fixAfterInsertion_2 8 rfl rfl)
theorem dJ1_fixAfterInsertion_59 : decode cJ1_fixAfterInsertion 59 = .ok (.ifCond .ne 38, 3) := dk_154 0 38 (dk_at dksJ1_fixAfterInsertion_2 11 rfl rfl)
theorem dJ1_fixAfterInsertion_62 : decode cJ1_fixAfterInsertion 62 = .ok (.aload_n 1, 1) := dk_43 (dk_at dksJ1_fixAfterInsertion_2 14 rfl rfl)
theorem dJ1_fixAfterInsertion_63 : decode cJ1_fixAfterInsertion 63 = .ok (.invokestatic 294, 3) := dk_184 1 38 (dk_at dksJ1_fixAfterInsertion_2 15 rfl rfl)
theorem dJ1_fixAfterInsertion_66 : decode cJ1_fixAfterInsertion 66 = .ok (.iconst 1, 1) := dk_4 (dk_at dksJ1_fixAfterInsertion_2 18 rfl rfl)
theorem dJ1_fixAfterInsertion_67 : decode cJ1_fixAfterInsertion 67 = .ok (.invokestatic 307, 3) := dk_184 1 51 (dk_at dksJ1_fixAfterInsertion_2 19 rfl rfl)
theorem dJ1_fixAfterInsertion_70 : decode cJ1_fixAfterInsertion 70 = .ok (.aload_n 2, 1) := dk_44 (dk_at dksJ1_fixAfterInsertion_2 22 rfl rfl)
theorem dJ1_fixAfterInsertion_71 : decode cJ1_fixAfterInsertion 71 = .ok (.iconst 1, 1) := dk_4 (dk_at dksJ1_fixAfterInsertion_2 23 rfl rfl)
theorem dJ1_fixAfterInsertion_72 : decode cJ1_fixAfterInsertion 72 = .ok (.invokestatic 307, 3) := dk_184 1 51 (dk_at dksJ1_fixAfterInsertion_3 0 rfl rfl)
theorem dJ1_fixAfterInsertion_75 : decode cJ1_fixAfterInsertion 75 = .ok (.aload_n 1, 1) := dk_43 (dk_at dksJ1_fixAfterInsertion_3 3 rfl rfl)
theorem dJ1_fixAfterInsertion_76 : decode cJ1_fixAfterInsertion 76 = .ok (.invokestatic 294, 3) := dk_184 1 38 (dk_at dksJ1_fixAfterInsertion_3 4 rfl rfl)
theorem dJ1_fixAfterInsertion_79 : decode cJ1_fixAfterInsertion 79 = .ok (.invokestatic 294, 3) := dk_184 1 38 (dk_at dksJ1_fixAfterInsertion_3 7 rfl rfl)
theorem dJ1_fixAfterInsertion_82 : decode cJ1_fixAfterInsertion 82 = .ok (.iconst 0, 1) := dk_3 (dk_at dksJ1_fixAfterInsertion_3 10 rfl rfl)
theorem dJ1_fixAfterInsertion_83 : decode cJ1_fixAfterInsertion 83 = .ok (.invokestatic 307, 3) := dk_184 1 51 (dk_at dksJ1_fixAfterInsertion_3 11 rfl rfl)
theorem dJ1_fixAfterInsertion_86 : decode cJ1_fixAfterInsertion 86 = .ok (.aload_n 1, 1) := dk_43 (dk_at dksJ1_fixAfterInsertion_3 14 rfl rfl)
theorem dJ1_fixAfterInsertion_87 : decode cJ1_fixAfterInsertion 87 = .ok (.invokestatic 294, 3) := dk_184 1 38 (dk_at dksJ1_fixAfterInsertion_3 15 rfl rfl)
theorem dJ1_fixAfterInsertion_90 : decode cJ1_fixAfterInsertion 90 = .ok (.invokestatic 294, 3) := dk_184 1 38 (dk_at dksJ1_fixAfterInsertion_3 18 rfl rfl)
theorem dJ1_fixAfterInsertion_93 : decode cJ1_fixAfterInsertion 93 = .ok (.astore_n 1, 1) := dk_76 (dk_at dksJ1_fixAfterInsertion_3 21 rfl rfl)
theorem dJ1_fixAfterInsertion_94 : decode cJ1_fixAfterInsertion 94 = .ok (.goto 54, 3) := dk_167 0 54 (dk_at dksJ1_fixAfterInsertion_4 0 rfl rfl)
theorem dJ1_fixAfterInsertion_97 : decode cJ1_fixAfterInsertion 97 = .ok (.aload_n 1, 1) := dk_43 (dk_at dksJ1_fixAfterInsertion_4 3 rfl rfl)
theorem dJ1_fixAfterInsertion_98 : decode cJ1_fixAfterInsertion 98 = .ok (.aload_n 1, 1) := dk_43 (dk_at dksJ1_fixAfterInsertion_4 4 rfl rfl)
theorem dJ1_fixAfterInsertion_99 : decode cJ1_fixAfterInsertion 99 = .ok (.invokestatic 294, 3) := dk_184 1 38 (dk_at dksJ1_fixAfterInsertion_4 5 rfl rfl)
theorem dJ1_fixAfterInsertion_102 : decode cJ1_fixAfterInsertion 102 = .ok (.invokestatic 300, 3) := dk_184 1 44 (dk_at dksJ1_fixAfterInsertion_4 8 rfl rfl)
theorem dJ1_fixAfterInsertion_105 : decode cJ1_fixAfterInsertion 105 = .ok (.if_acmp .ne 13, 3) := dk_166 0 13 (dk_at dksJ1_fixAfterInsertion_4 11 rfl rfl)
theorem dJ1_fixAfterInsertion_108 : decode cJ1_fixAfterInsertion 108 = .ok (.aload_n 1, 1) := dk_43 (dk_at dksJ1_fixAfterInsertion_4 14 rfl rfl)
theorem dJ1_fixAfterInsertion_109 : decode cJ1_fixAfterInsertion 109 = .ok (.invokestatic 294, 3) := dk_184 1 38 (dk_at dksJ1_fixAfterInsertion_4 15 rfl rfl)
theorem dJ1_fixAfterInsertion_112 : decode cJ1_fixAfterInsertion 112 = .ok (.astore_n 1, 1) := dk_76 (dk_at dksJ1_fixAfterInsertion_4 18 rfl rfl)
theorem dJ1_fixAfterInsertion_113 : decode cJ1_fixAfterInsertion 113 = .ok (.aload_n 0, 1) := dk_42 (dk_at dksJ1_fixAfterInsertion_4 19 rfl rfl)
theorem dJ1_fixAfterInsertion_114 : decode cJ1_fixAfterInsertion 114 = .ok (.aload_n 1, 1) := dk_43 (dk_at dksJ1_fixAfterInsertion_4 20 rfl rfl)
theorem dJ1_fixAfterInsertion_115 : decode cJ1_fixAfterInsertion 115 = .ok (.invokevirtual 311, 3) := dk_182 1 55 (dk_at dksJ1_fixAfterInsertion_4 21 rfl rfl)
theorem dJ1_fixAfterInsertion_118 : decode cJ1_fixAfterInsertion 118 = .ok (.aload_n 1, 1) := dk_43 (dk_at dksJ1_fixAfterInsertion_5 0 rfl rfl)
theorem dJ1_fixAfterInsertion_119 : decode cJ1_fixAfterInsertion 119 = .ok (.invokestatic 294, 3) := dk_184 1 38 (dk_at dksJ1_fixAfterInsertion_5 1 rfl rfl)
theorem dJ1_fixAfterInsertion_122 : decode cJ1_fixAfterInsertion 122 = .ok (.iconst 1, 1) := dk_4 (dk_at dksJ1_fixAfterInsertion_5 4 rfl rfl)
theorem dJ1_fixAfterInsertion_123 : decode cJ1_fixAfterInsertion 123 = .ok (.invokestatic 307, 3) := dk_184 1 51 (dk_at dksJ1_fixAfterInsertion_5 5 rfl rfl)
theorem dJ1_fixAfterInsertion_126 : decode cJ1_fixAfterInsertion 126 = .ok (.aload_n 1, 1) := dk_43 (dk_at dksJ1_fixAfterInsertion_5 8 rfl rfl)
theorem dJ1_fixAfterInsertion_127 : decode cJ1_fixAfterInsertion 127 = .ok (.invokestatic 294, 3) := dk_184 1 38 (dk_at dksJ1_fixAfterInsertion_5 9 rfl rfl)
theorem dJ1_fixAfterInsertion_130 : decode cJ1_fixAfterInsertion 130 = .ok (.invokestatic 294, 3) := dk_184 1 38 (dk_at dksJ1_fixAfterInsertion_5 12 rfl rfl)
theorem dJ1_fixAfterInsertion_133 : decode cJ1_fixAfterInsertion 133 = .ok (.iconst 0, 1) := dk_3 (dk_at dksJ1_fixAfterInsertion_5 15 rfl rfl)
theorem dJ1_fixAfterInsertion_134 : decode cJ1_fixAfterInsertion 134 = .ok (.invokestatic 307, 3) := dk_184 1 51 (dk_at dksJ1_fixAfterInsertion_5 16 rfl rfl)
theorem dJ1_fixAfterInsertion_137 : decode cJ1_fixAfterInsertion 137 = .ok (.aload_n 0, 1) := dk_42 (dk_at dksJ1_fixAfterInsertion_5 19 rfl rfl)
theorem dJ1_fixAfterInsertion_138 : decode cJ1_fixAfterInsertion 138 = .ok (.aload_n 1, 1) := dk_43 (dk_at dksJ1_fixAfterInsertion_5 20 rfl rfl)
theorem dJ1_fixAfterInsertion_139 : decode cJ1_fixAfterInsertion 139 = .ok (.invokestatic 294, 3) := dk_184 1 38 (dk_at dksJ1_fixAfterInsertion_5 21 rfl rfl)
theorem dJ1_fixAfterInsertion_142 : decode cJ1_fixAfterInsertion 142 = .ok (.invokestatic 294, 3) := dk_184 1 38 (dk_at dksJ1_fixAfterInsertion_6 0 rfl rfl)
theorem dJ1_fixAfterInsertion_145 : decode cJ1_fixAfterInsertion 145 = .ok (.invokevirtual 314, 3) := dk_182 1 58 (dk_at dksJ1_fixAfterInsertion_6 3 rfl rfl)
theorem dJ1_fixAfterInsertion_148 : decode cJ1_fixAfterInsertion 148 = .ok (.goto (-143), 3) := dk_167 255 113 (dk_at dksJ1_fixAfterInsertion_6 6 rfl rfl)
theorem dJ1_fixAfterInsertion_151 : decode cJ1_fixAfterInsertion 151 = .ok (.aload_n 1, 1) := dk_43 (dk_at dksJ1_fixAfterInsertion_6 9 rfl rfl)
theorem dJ1_fixAfterInsertion_152 : decode cJ1_fixAfterInsertion 152 = .ok (.invokestatic 294, 3) := dk_184 1 38 (dk_at dksJ1_fixAfterInsertion_6 10 rfl rfl)
theorem dJ1_fixAfterInsertion_155 : decode cJ1_fixAfterInsertion 155 = .ok (.invokestatic 294, 3) := dk_184 1 38 (dk_at dksJ1_fixAfterInsertion_6 13 rfl rfl)
theorem dJ1_fixAfterInsertion_158 : decode cJ1_fixAfterInsertion 158 = .ok (.invokestatic 297, 3) := dk_184 1 41 (dk_at dksJ1_fixAfterInsertion_6 16 rfl rfl)
theorem dJ1_fixAfterInsertion_161 : decode cJ1_fixAfterInsertion 161 = .ok (.astore_n 2, 1) := dk_77 (dk_at dksJ1_fixAfterInsertion_6 19 rfl rfl)
theorem dJ1_fixAfterInsertion_162 : decode cJ1_fixAfterInsertion 162 = .ok (.aload_n 2, 1) := dk_44 (dk_at dksJ1_fixAfterInsertion_6 20 rfl rfl)
theorem dJ1_fixAfterInsertion_163 : decode cJ1_fixAfterInsertion 163 = .ok (.invokestatic 303, 3) := dk_184 1 47 (dk_at dksJ1_fixAfterInsertion_6 21 rfl rfl)
theorem dJ1_fixAfterInsertion_166 : decode cJ1_fixAfterInsertion 166 = .ok (.ifCond .ne 38, 3) := dk_154 0 38 (dk_at dksJ1_fixAfterInsertion_7 0 rfl rfl)
theorem dJ1_fixAfterInsertion_169 : decode cJ1_fixAfterInsertion 169 = .ok (.aload_n 1, 1) := dk_43 (dk_at dksJ1_fixAfterInsertion_7 3 rfl rfl)
theorem dJ1_fixAfterInsertion_170 : decode cJ1_fixAfterInsertion 170 = .ok (.invokestatic 294, 3) := dk_184 1 38 (dk_at dksJ1_fixAfterInsertion_7 4 rfl rfl)
theorem dJ1_fixAfterInsertion_173 : decode cJ1_fixAfterInsertion 173 = .ok (.iconst 1, 1) := dk_4 (dk_at dksJ1_fixAfterInsertion_7 7 rfl rfl)
theorem dJ1_fixAfterInsertion_174 : decode cJ1_fixAfterInsertion 174 = .ok (.invokestatic 307, 3) := dk_184 1 51 (dk_at dksJ1_fixAfterInsertion_7 8 rfl rfl)
theorem dJ1_fixAfterInsertion_177 : decode cJ1_fixAfterInsertion 177 = .ok (.aload_n 2, 1) := dk_44 (dk_at dksJ1_fixAfterInsertion_7 11 rfl rfl)
theorem dJ1_fixAfterInsertion_178 : decode cJ1_fixAfterInsertion 178 = .ok (.iconst 1, 1) := dk_4 (dk_at dksJ1_fixAfterInsertion_7 12 rfl rfl)
theorem dJ1_fixAfterInsertion_179 : decode cJ1_fixAfterInsertion 179 = .ok (.invokestatic 307, 3) := dk_184 1 51 (dk_at dksJ1_fixAfterInsertion_7 13 rfl rfl)
theorem dJ1_fixAfterInsertion_182 : decode cJ1_fixAfterInsertion 182 = .ok (.aload_n 1, 1) := dk_43 (dk_at dksJ1_fixAfterInsertion_7 16 rfl rfl)
theorem dJ1_fixAfterInsertion_183 : decode cJ1_fixAfterInsertion 183 = .ok (.invokestatic 294, 3) := dk_184 1 38 (dk_at dksJ1_fixAfterInsertion_7 17 rfl rfl)
theorem dJ1_fixAfterInsertion_186 : decode cJ1_fixAfterInsertion 186 = .ok (.invokestatic 294, 3) := dk_184 1 38 (dk_at dksJ1_fixAfterInsertion_7 20 rfl rfl)
theorem dJ1_fixAfterInsertion_189 : decode cJ1_fixAfterInsertion 189 = .ok (.iconst 0, 1) := dk_3 (dk_at dksJ1_fixAfterInsertion_7 23 rfl rfl)
theorem dJ1_fixAfterInsertion_190 : decode cJ1_fixAfterInsertion 190 = .ok (.invokestatic 307, 3) := dk_184 1 51 (dk_at dksJ1_fixAfterInsertion_8 0 rfl rfl)
theorem dJ1_fixAfterInsertion_193 : decode cJ1_fixAfterInsertion 193 = .ok (.aload_n 1, 1) := dk_43 (dk_at dksJ1_fixAfterInsertion_8 3 rfl rfl)
theorem dJ1_fixAfterInsertion_194 : decode cJ1_fixAfterInsertion 194 = .ok (.invokestatic 294, 3) := dk_184 1 38 (dk_at dksJ1_fixAfterInsertion_8 4 rfl rfl)
theorem dJ1_fixAfterInsertion_197 : decode cJ1_fixAfterInsertion 197 = .ok (.invokestatic 294, 3) := dk_184 1 38 (dk_at dksJ1_fixAfterInsertion_8 7 rfl rfl)
theorem dJ1_fixAfterInsertion_200 : decode cJ1_fixAfterInsertion 200 = .ok (.astore_n 1, 1) := dk_76 (dk_at dksJ1_fixAfterInsertion_8 10 rfl rfl)
theorem dJ1_fixAfterInsertion_201 : decode cJ1_fixAfterInsertion 201 = .ok (.goto 54, 3) := dk_167 0 54 (dk_at dksJ1_fixAfterInsertion_8 11 rfl rfl)
theorem dJ1_fixAfterInsertion_204 : decode cJ1_fixAfterInsertion 204 = .ok (.aload_n 1, 1) := dk_43 (dk_at dksJ1_fixAfterInsertion_8 14 rfl rfl)
theorem dJ1_fixAfterInsertion_205 : decode cJ1_fixAfterInsertion 205 = .ok (.aload_n 1, 1) := dk_43 (dk_at dksJ1_fixAfterInsertion_8 15 rfl rfl)
theorem dJ1_fixAfterInsertion_206 : decode cJ1_fixAfterInsertion 206 = .ok (.invokestatic 294, 3) := dk_184 1 38 (dk_at dksJ1_fixAfterInsertion_8 16 rfl rfl)
theorem dJ1_fixAfterInsertion_209 : decode cJ1_fixAfterInsertion 209 = .ok (.invokestatic 297, 3) := dk_184 1 41 (dk_at dksJ1_fixAfterInsertion_8 19 rfl rfl)
theorem dJ1_fixAfterInsertion_212 : decode cJ1_fixAfterInsertion 212 = .ok (.if_acmp .ne 13, 3) := dk_166 0 13 (dk_at dksJ1_fixAfterInsertion_9 0 rfl rfl)
theorem dJ1_fixAfterInsertion_215 : decode cJ1_fixAfterInsertion 215 = .ok (.aload_n 1, 1) := dk_43 (dk_at dksJ1_fixAfterInsertion_9 3 rfl rfl)
theorem dJ1_fixAfterInsertion_216 : decode cJ1_fixAfterInsertion 216 = .ok (.invokestatic 294, 3) := dk_184 1 38 (dk_at dksJ1_fixAfterInsertion_9 4 rfl rfl)
theorem dJ1_fixAfterInsertion_219 : decode cJ1_fixAfterInsertion 219 = .ok (.astore_n 1, 1) := dk_76 (dk_at dksJ1_fixAfterInsertion_9 7 rfl rfl)
theorem dJ1_fixAfterInsertion_220 : decode cJ1_fixAfterInsertion 220 = .ok (.aload_n 0, 1) := dk_42 (dk_at dksJ1_fixAfterInsertion_9 8 rfl rfl)
theorem dJ1_fixAfterInsertion_221 : decode cJ1_fixAfterInsertion 221 = .ok (.aload_n 1, 1) := dk_43 (dk_at dksJ1_fixAfterInsertion_9 9 rfl rfl)
theorem dJ1_fixAfterInsertion_222 : decode cJ1_fixAfterInsertion 222 = .ok (.invokevirtual 314, 3) := dk_182 1 58 (dk_at dksJ1_fixAfterInsertion_9 10 rfl rfl)
theorem dJ1_fixAfterInsertion_225 : decode cJ1_fixAfterInsertion 225 = .ok (.aload_n 1, 1) := dk_43 (dk_at dksJ1_fixAfterInsertion_9 13 rfl rfl)
theorem dJ1_fixAfterInsertion_226 : decode cJ1_fixAfterInsertion 226 = .ok (.invokestatic 294, 3) := dk_184 1 38 (dk_at dksJ1_fixAfterInsertion_9 14 rfl rfl)
theorem dJ1_fixAfterInsertion_229 : decode cJ1_fixAfterInsertion 229 = .ok (.iconst 1, 1) := dk_4 (dk_at dksJ1_fixAfterInsertion_9 17 rfl rfl)
theorem dJ1_fixAfterInsertion_230 : decode cJ1_fixAfterInsertion 230 = .ok (.invokestatic 307, 3) := dk_184 1 51 (dk_at dksJ1_fixAfterInsertion_9 18 rfl rfl)
theorem dJ1_fixAfterInsertion_233 : decode cJ1_fixAfterInsertion 233 = .ok (.aload_n 1, 1) := dk_43 (dk_at dksJ1_fixAfterInsertion_9 21 rfl rfl)
theorem dJ1_fixAfterInsertion_234 : decode cJ1_fixAfterInsertion 234 = .ok (.invokestatic 294, 3) := dk_184 1 38 (dk_at dksJ1_fixAfterInsertion_10 0 rfl rfl)
theorem dJ1_fixAfterInsertion_237 : decode cJ1_fixAfterInsertion 237 = .ok (.invokestatic 294, 3) := dk_184 1 38 (dk_at dksJ1_fixAfterInsertion_10 3 rfl rfl)
theorem dJ1_fixAfterInsertion_240 : decode cJ1_fixAfterInsertion 240 = .ok (.iconst 0, 1) := dk_3 (dk_at dksJ1_fixAfterInsertion_10 6 rfl rfl)
theorem dJ1_fixAfterInsertion_241 : decode cJ1_fixAfterInsertion 241 = .ok (.invokestatic 307, 3) := dk_184 1 51 (dk_at dksJ1_fixAfterInsertion_10 7 rfl rfl)
theorem dJ1_fixAfterInsertion_244 : decode cJ1_fixAfterInsertion 244 = .ok (.aload_n 0, 1) := dk_42 (dk_at dksJ1_fixAfterInsertion_10 10 rfl rfl)
theorem dJ1_fixAfterInsertion_245 : decode cJ1_fixAfterInsertion 245 = .ok (.aload_n 1, 1) := dk_43 (dk_at dksJ1_fixAfterInsertion_10 11 rfl rfl)
theorem dJ1_fixAfterInsertion_246 : decode cJ1_fixAfterInsertion 246 = .ok (.invokestatic 294, 3) := dk_184 1 38 (dk_at dksJ1_fixAfterInsertion_10 12 rfl rfl)
theorem dJ1_fixAfterInsertion_249 : decode cJ1_fixAfterInsertion 249 = .ok (.invokestatic 294, 3) := dk_184 1 38 (dk_at dksJ1_fixAfterInsertion_10 15 rfl rfl)
theorem dJ1_fixAfterInsertion_252 : decode cJ1_fixAfterInsertion 252 = .ok (.invokevirtual 311, 3) := dk_182 1 55 (dk_at dksJ1_fixAfterInsertion_10 18 rfl rfl)
theorem dJ1_fixAfterInsertion_255 : decode cJ1_fixAfterInsertion 255 = .ok (.goto (-250), 3) := dk_167 255 6 (dk_at dksJ1_fixAfterInsertion_10 21 rfl rfl)
theorem dJ1_fixAfterInsertion_258 : decode cJ1_fixAfterInsertion 258 = .ok (.aload_n 0, 1) := dk_42 (dk_at dksJ1_fixAfterInsertion_11 0 rfl rfl)
theorem dJ1_fixAfterInsertion_259 : decode cJ1_fixAfterInsertion 259 = .ok (.getfield 101, 3) := dk_180 0 101 (dk_at dksJ1_fixAfterInsertion_11 1 rfl rfl)
theorem dJ1_fixAfterInsertion_262 : decode cJ1_fixAfterInsertion 262 = .ok (.iconst 1, 1) := dk_4 (dk_at dksJ1_fixAfterInsertion_11 4 rfl rfl)
theorem dJ1_fixAfterInsertion_263 : decode cJ1_fixAfterInsertion 263 = .ok (.putfield 290, 3) := dk_181 1 34 (dk_at dksJ1_fixAfterInsertion_11 5 rfl rfl)
theorem dJ1_fixAfterInsertion_266 : decode cJ1_fixAfterInsertion 266 = .ok (.return_, 1) := dk_177 (dk_at dksJ1_fixAfterInsertion_11 8 rfl rfl)
abbrev cJ41_init : ByteArray := prog_97_method_1_code
def yJ41_init : MethodName := ⟨RJ41, "<init>", "(Ljava/lang/Object;Ljava/lang/Object;Ljava/util/TreeMap$Entry;)V"⟩
def dkwJ41_init_1 : List UInt8 := [177]
abbrev dktJ41_init_1 : List UInt8 := dkwJ41_init_1 ++ []
def dkwJ41_init_0 : List UInt8 := [42, 183, 0, 3, 42, 4, 181, 0, 9, 42, 43, 181, 0, 15, 42, 44, 181, 0, 19, 42, 45, 181, 0, 22]
abbrev dktJ41_init_0 : List UInt8 := dkwJ41_init_0 ++ dktJ41_init_1
theorem dksJ41_init_0 : cJ41_init.data.toList.drop 0 = dktJ41_init_0 := by decide +kernel
theorem dksJ41_init_1 : cJ41_init.data.toList.drop 24 = dktJ41_init_1 := dk_seg dksJ41_init_0 24 rfl rfl
theorem dJ41_init_0 : decode cJ41_init 0 = .ok (.aload_n 0, 1) := dk_42 (dk_at dksJ41_init_0 0 rfl rfl)
theorem dJ41_init_1 : decode cJ41_init 1 = .ok (.invokespecial 3, 3) := dk_183 0 3 (dk_at dksJ41_init_0 1 rfl rfl)
theorem dJ41_init_4 : decode cJ41_init 4 = .ok (.aload_n 0, 1) := dk_42 (dk_at dksJ41_init_0 4 rfl rfl)
theorem dJ41_init_5 : decode cJ41_init 5 = .ok (.iconst 1, 1) := dk_4 (dk_at dksJ41_init_0 5 rfl rfl)
theorem dJ41_init_6 : decode cJ41_init 6 = .ok (.putfield 9, 3) := dk_181 0 9 (dk_at dksJ41_init_0 6 rfl rfl)
theorem dJ41_init_9 : decode cJ41_init 9 = .ok (.aload_n 0, 1) := dk_42 (dk_at dksJ41_init_0 9 rfl rfl)
theorem dJ41_init_10 : decode cJ41_init 10 = .ok (.aload_n 1, 1) := dk_43 (dk_at dksJ41_init_0 10 rfl rfl)
theorem dJ41_init_11 : decode cJ41_init 11 = .ok (.putfield 15, 3) := dk_181 0 15 (dk_at dksJ41_init_0 11 rfl rfl)
theorem dJ41_init_14 : decode cJ41_init 14 = .ok (.aload_n 0, 1) := dk_42 (dk_at dksJ41_init_0 14 rfl rfl)
theorem dJ41_init_15 : decode cJ41_init 15 = .ok (.aload_n 2, 1) := dk_44 (dk_at dksJ41_init_0 15 rfl rfl)
theorem dJ41_init_16 : decode cJ41_init 16 = .ok (.putfield 19, 3) := dk_181 0 19 (dk_at dksJ41_init_0 16 rfl rfl)
theorem dJ41_init_19 : decode cJ41_init 19 = .ok (.aload_n 0, 1) := dk_42 (dk_at dksJ41_init_0 19 rfl rfl)
theorem dJ41_init_20 : decode cJ41_init 20 = .ok (.aload_n 3, 1) := dk_45 (dk_at dksJ41_init_0 20 rfl rfl)
theorem dJ41_init_21 : decode cJ41_init 21 = .ok (.putfield 22, 3) := dk_181 0 22 (dk_at dksJ41_init_0 21 rfl rfl)
theorem dJ41_init_24 : decode cJ41_init 24 = .ok (.return_, 1) := dk_177 (dk_at dksJ41_init_1 0 rfl rfl)
abbrev cJ1_addEntry : ByteArray := prog_96_method_29_code
def yJ1_addEntry : MethodName := ⟨RJ1, "addEntry", "(Ljava/lang/Object;Ljava/lang/Object;Ljava/util/TreeMap$Entry;Z)V"⟩
def dkwJ1_addEntry_2 : List UInt8 := [181, 0, 7, 42, 89, 180, 0, 13, 4, 96, 181, 0, 13, 177]
abbrev dktJ1_addEntry_2 : List UInt8 := dkwJ1_addEntry_2 ++ []
def dkwJ1_addEntry_1 : List UInt8 := [167, 0, 9, 45, 25, 5, 181, 0, 114, 42, 25, 5, 182, 0, 170, 42, 89, 180, 0, 7, 4, 96]
abbrev dktJ1_addEntry_1 : List UInt8 := dkwJ1_addEntry_1 ++ dktJ1_addEntry_2
def dkwJ1_addEntry_0 : List UInt8 := [187, 0, 59, 89, 43, 44, 45, 183, 0, 167, 58, 5, 21, 4, 153, 0, 12, 45, 25, 5, 181, 0, 111]
abbrev dktJ1_addEntry_0 : List UInt8 := dkwJ1_addEntry_0 ++ dktJ1_addEntry_1
theorem dksJ1_addEntry_0 : cJ1_addEntry.data.toList.drop 0 = dktJ1_addEntry_0 := by decide +kernel
theorem dksJ1_addEntry_1 : cJ1_addEntry.data.toList.drop 23 = dktJ1_addEntry_1 := dk_seg dksJ1_addEntry_0 23 rfl rfl
theorem dksJ1_addEntry_2 : cJ1_addEntry.data.toList.drop 45 = dktJ1_addEntry_2 := dk_seg dksJ1_addEntry_1 22 rfl rfl
theorem dJ1_addEntry_0 : decode cJ1_addEntry 0 = .ok (.new 59, 3) := dk_187 0 59 (dk_at dksJ1_addEntry_0 0 rfl rfl)
theorem dJ1_addEntry_3 : decode cJ1_addEntry 3 = .ok (.dup, 1) := dk_89 (dk_at dksJ1_addEntry_0 3 rfl rfl)
theorem dJ1_addEntry_4 : decode cJ1_addEntry 4 = .ok (.aload_n 1, 1) := dk_43 (dk_at dksJ1_addEntry_0 4 rfl rfl)
theorem dJ1_addEntry_5 : decode cJ1_addEntry 5 = .ok (.aload_n 2, 1) := dk_44 (dk_at dksJ1_addEntry_0 5 rfl rfl)
theorem dJ1_addEntry_6 : decode cJ1_addEntry 6 = .ok (.aload_n 3, 1) := dk_45 (dk_at dksJ1_addEntry_0 6 rfl rfl)
theorem dJ1_addEntry_7 : decode cJ1_addEntry 7 = .ok (.invokespecial 167, 3) := dk_183 0 167 (dk_at dksJ1_addEntry_0 7 rfl rfl)
theorem dJ1_addEntry_10 : decode cJ1_addEntry 10 = .ok (.astore 5, 2) := dk_58 5 (dk_at dksJ1_addEntry_0 10 rfl rfl)
theorem dJ1_addEntry_12 : decode cJ1_addEntry 12 = .ok (.iload 4, 2) := dk_21 4 (dk_at dksJ1_addEntry_0 12 rfl rfl)
theorem dJ1_addEntry_14 : decode cJ1_addEntry 14 = .ok (.ifCond .eq 12, 3) := dk_153 0 12 (dk_at dksJ1_addEntry_0 14 rfl rfl)
theorem dJ1_addEntry_17 : decode cJ1_addEntry 17 = .ok (.aload_n 3, 1) := dk_45 (dk_at dksJ1_addEntry_0 17 rfl rfl)
theorem dJ1_addEntry_18 : decode cJ1_addEntry 18 = .ok (.aload 5, 2) := dk_25 5 (dk_at dksJ1_addEntry_0 18 rfl rfl)
theorem dJ1_addEntry_20 : decode cJ1_addEntry 20 = .ok (.putfield 111, 3) := dk_181 0 111 (dk_at dksJ1_addEntry_0 20 rfl rfl)
theorem dJ1_addEntry_23 : decode cJ1_addEntry 23 = .ok (.goto 9, 3) := dk_167 0 9 (dk_at dksJ1_addEntry_1 0 rfl rfl)
theorem dJ1_addEntry_26 : decode cJ1_addEntry 26 = .ok (.aload_n 3, 1) := dk_45 (dk_at dksJ1_addEntry_1 3 rfl rfl)
theorem dJ1_addEntry_27 : decode cJ1_addEntry 27 = .ok (.aload 5, 2) := dk_25 5 (dk_at dksJ1_addEntry_1 4 rfl rfl)
theorem dJ1_addEntry_29 : decode cJ1_addEntry 29 = .ok (.putfield 114, 3) := dk_181 0 114 (dk_at dksJ1_addEntry_1 6 rfl rfl)
theorem dJ1_addEntry_32 : decode cJ1_addEntry 32 = .ok (.aload_n 0, 1) := dk_42 (dk_at dksJ1_addEntry_1 9 rfl rfl)
theorem dJ1_addEntry_33 : decode cJ1_addEntry 33 = .ok (.aload 5, 2) := dk_25 5 (dk_at dksJ1_addEntry_1 10 rfl rfl)
theorem dJ1_addEntry_35 : decode cJ1_addEntry 35 = .ok (.invokevirtual 170, 3) := dk_182 0 170 (dk_at dksJ1_addEntry_1 12 rfl rfl)
theorem dJ1_addEntry_38 : decode cJ1_addEntry 38 = .ok (.aload_n 0, 1) := dk_42 (dk_at dksJ1_addEntry_1 15 rfl rfl)
theorem dJ1_addEntry_39 : decode cJ1_addEntry 39 = .ok (.dup, 1) := dk_89 (dk_at dksJ1_addEntry_1 16 rfl rfl)
theorem dJ1_addEntry_40 : decode cJ1_addEntry 40 = .ok (.getfield 7, 3) := dk_180 0 7 (dk_at dksJ1_addEntry_1 17 rfl rfl)
theorem dJ1_addEntry_43 : decode cJ1_addEntry 43 = .ok (.iconst 1, 1) := dk_4 (dk_at dksJ1_addEntry_1 20 rfl rfl)
theorem dJ1_addEntry_44 : decode cJ1_addEntry 44 = .ok (.iadd, 1) := dk_96 (dk_at dksJ1_addEntry_1 21 rfl rfl)
theorem dJ1_addEntry_45 : decode cJ1_addEntry 45 = .ok (.putfield 7, 3) := dk_181 0 7 (dk_at dksJ1_addEntry_2 0 rfl rfl)
theorem dJ1_addEntry_48 : decode cJ1_addEntry 48 = .ok (.aload_n 0, 1) := dk_42 (dk_at dksJ1_addEntry_2 3 rfl rfl)
theorem dJ1_addEntry_49 : decode cJ1_addEntry 49 = .ok (.dup, 1) := dk_89 (dk_at dksJ1_addEntry_2 4 rfl rfl)
theorem dJ1_addEntry_50 : decode cJ1_addEntry 50 = .ok (.getfield 13, 3) := dk_180 0 13 (dk_at dksJ1_addEntry_2 5 rfl rfl)
theorem dJ1_addEntry_53 : decode cJ1_addEntry 53 = .ok (.iconst 1, 1) := dk_4 (dk_at dksJ1_addEntry_2 8 rfl rfl)
theorem dJ1_addEntry_54 : decode cJ1_addEntry 54 = .ok (.iadd, 1) := dk_96 (dk_at dksJ1_addEntry_2 9 rfl rfl)
theorem dJ1_addEntry_55 : decode cJ1_addEntry 55 = .ok (.putfield 13, 3) := dk_181 0 13 (dk_at dksJ1_addEntry_2 10 rfl rfl)
theorem dJ1_addEntry_58 : decode cJ1_addEntry 58 = .ok (.return_, 1) := dk_177 (dk_at dksJ1_addEntry_2 13 rfl rfl)
abbrev cJ1_compare : ByteArray := prog_96_method_67_code
def yJ1_compare : MethodName := ⟨RJ1, "compare", "(Ljava/lang/Object;Ljava/lang/Object;)I"⟩
def dkwJ1_compare_1 : List UInt8 := [43, 44, 185, 0, 117, 3, 0, 172]
abbrev dktJ1_compare_1 : List UInt8 := dkwJ1_compare_1 ++ []
def dkwJ1_compare_0 : List UInt8 := [42, 180, 0, 16, 199, 0, 16, 43, 192, 0, 99, 44, 185, 0, 107, 2, 0, 167, 0, 14, 42, 180, 0, 16]
abbrev dktJ1_compare_0 : List UInt8 := dkwJ1_compare_0 ++ dktJ1_compare_1
theorem dksJ1_compare_0 : cJ1_compare.data.toList.drop 0 = dktJ1_compare_0 := by decide +kernel
theorem dksJ1_compare_1 : cJ1_compare.data.toList.drop 24 = dktJ1_compare_1 := dk_seg dksJ1_compare_0 24 rfl rfl
theorem dJ1_compare_0 : decode cJ1_compare 0 = .ok (.aload_n 0, 1) := dk_42 (dk_at dksJ1_compare_0 0 rfl rfl)
theorem dJ1_compare_1 : decode cJ1_compare 1 = .ok (.getfield 16, 3) := dk_180 0 16 (dk_at dksJ1_compare_0 1 rfl rfl)
theorem dJ1_compare_4 : decode cJ1_compare 4 = .ok (.ifnonnull 16, 3) := dk_199 0 16 (dk_at dksJ1_compare_0 4 rfl rfl)
theorem dJ1_compare_7 : decode cJ1_compare 7 = .ok (.aload_n 1, 1) := dk_43 (dk_at dksJ1_compare_0 7 rfl rfl)
theorem dJ1_compare_8 : decode cJ1_compare 8 = .ok (.checkcast 99, 3) := dk_192 0 99 (dk_at dksJ1_compare_0 8 rfl rfl)
theorem dJ1_compare_11 : decode cJ1_compare 11 = .ok (.aload_n 2, 1) := dk_44 (dk_at dksJ1_compare_0 11 rfl rfl)
theorem dJ1_compare_12 : decode cJ1_compare 12 = .ok (.invokeinterface 107 2, 5) := by decide +kernel
theorem dJ1_compare_17 : decode cJ1_compare 17 = .ok (.goto 14, 3) := dk_167 0 14 (dk_at dksJ1_compare_0 17 rfl rfl)
theorem dJ1_compare_20 : decode cJ1_compare 20 = .ok (.aload_n 0, 1) := dk_42 (dk_at dksJ1_compare_0 20 rfl rfl)
theorem dJ1_compare_21 : decode cJ1_compare 21 = .ok (.getfield 16, 3) := dk_180 0 16 (dk_at dksJ1_compare_0 21 rfl rfl)
theorem dJ1_compare_24 : decode cJ1_compare 24 = .ok (.aload_n 1, 1) := dk_43 (dk_at dksJ1_compare_1 0 rfl rfl)
theorem dJ1_compare_25 : decode cJ1_compare 25 = .ok (.aload_n 2, 1) := dk_44 (dk_at dksJ1_compare_1 1 rfl rfl)
theorem dJ1_compare_26 : decode cJ1_compare 26 = .ok (.invokeinterface 117 3, 5) := by decide +kernel
theorem dJ1_compare_31 : decode cJ1_compare 31 = .ok (.ireturn, 1) := dk_172 (dk_at dksJ1_compare_1 7 rfl rfl)
abbrev cJ1_addEntryToEmptyMap : ByteArray := prog_96_method_30_code
def yJ1_addEntryToEmptyMap : MethodName := ⟨RJ1, "addEntryToEmptyMap", "(Ljava/lang/Object;Ljava/lang/Object;)V"⟩
def dkwJ1_addEntryToEmptyMap_1 : List UInt8 := [181, 0, 7, 42, 89, 180, 0, 13, 4, 96, 181, 0, 13, 177]
abbrev dktJ1_addEntryToEmptyMap_1 : List UInt8 := dkwJ1_addEntryToEmptyMap_1 ++ []
def dkwJ1_addEntryToEmptyMap_0 : List UInt8 := [42, 43, 43, 182, 0, 123, 87, 42, 187, 0, 59, 89, 43, 44, 1, 183, 0, 167, 181, 0, 101, 42, 4]
abbrev dktJ1_addEntryToEmptyMap_0 : List UInt8 := dkwJ1_addEntryToEmptyMap_0 ++ dktJ1_addEntryToEmptyMap_1
theorem dksJ1_addEntryToEmptyMap_0 : cJ1_addEntryToEmptyMap.data.toList.drop 0 = dktJ1_addEntryToEmptyMap_0 := by decide +kernel
theorem dksJ1_addEntryToEmptyMap_1 : cJ1_addEntryToEmptyMap.data.toList.drop 23 = dktJ1_addEntryToEmptyMap_1 := dk_seg dksJ1_addEntryToEmptyMap_0 23 rfl rfl
theorem dJ1_addEntryToEmptyMap_0 : decode cJ1_addEntryToEmptyMap 0 = .ok (.aload_n 0, 1) := dk_42 (dk_at dksJ1_addEntryToEmptyMap_0 0 rfl rfl)
theorem dJ1_addEntryToEmptyMap_1 : decode cJ1_addEntryToEmptyMap 1 = .ok (.aload_n 1, 1) := dk_43 (dk_at dksJ1_addEntryToEmptyMap_0 1 rfl rfl)
theorem dJ1_addEntryToEmptyMap_2 : decode cJ1_addEntryToEmptyMap 2 = .ok (.aload_n 1, 1) := dk_43 (dk_at dksJ1_addEntryToEmptyMap_0 2 rfl rfl)
theorem dJ1_addEntryToEmptyMap_3 : decode cJ1_addEntryToEmptyMap 3 = .ok (.invokevirtual 123, 3) := dk_182 0 123 (dk_at dksJ1_addEntryToEmptyMap_0 3 rfl rfl)
theorem dJ1_addEntryToEmptyMap_6 : decode cJ1_addEntryToEmptyMap 6 = .ok (.pop, 1) := dk_87 (dk_at dksJ1_addEntryToEmptyMap_0 6 rfl rfl)
theorem dJ1_addEntryToEmptyMap_7 : decode cJ1_addEntryToEmptyMap 7 = .ok (.aload_n 0, 1) := dk_42 (dk_at dksJ1_addEntryToEmptyMap_0 7 rfl rfl)
theorem dJ1_addEntryToEmptyMap_8 : decode cJ1_addEntryToEmptyMap 8 = .ok (.new 59, 3) := dk_187 0 59 (dk_at dksJ1_addEntryToEmptyMap_0 8 rfl rfl)
theorem dJ1_addEntryToEmptyMap_11 : decode cJ1_addEntryToEmptyMap 11 = .ok (.dup, 1) := dk_89 (dk_at dksJ1_addEntryToEmptyMap_0 11 rfl rfl)
theorem dJ1_addEntryToEmptyMap_12 : decode cJ1_addEntryToEmptyMap 12 = .ok (.aload_n 1, 1) := dk_43 (dk_at dksJ1_addEntryToEmptyMap_0 12 rfl rfl)
theorem dJ1_addEntryToEmptyMap_13 : decode cJ1_addEntryToEmptyMap 13 = .ok (.aload_n 2, 1) := dk_44 (dk_at dksJ1_addEntryToEmptyMap_0 13 rfl rfl)
theorem dJ1_addEntryToEmptyMap_14 : decode cJ1_addEntryToEmptyMap 14 = .ok (.aconst_null, 1) := dk_1 (dk_at dksJ1_addEntryToEmptyMap_0 14 rfl rfl)
theorem dJ1_addEntryToEmptyMap_15 : decode cJ1_addEntryToEmptyMap 15 = .ok (.invokespecial 167, 3) := dk_183 0 167 (dk_at dksJ1_addEntryToEmptyMap_0 15 rfl rfl)
theorem dJ1_addEntryToEmptyMap_18 : decode cJ1_addEntryToEmptyMap 18 = .ok (.putfield 101, 3) := dk_181 0 101 (dk_at dksJ1_addEntryToEmptyMap_0 18 rfl rfl)
theorem dJ1_addEntryToEmptyMap_21 : decode cJ1_addEntryToEmptyMap 21 = .ok (.aload_n 0, 1) := dk_42 (dk_at dksJ1_addEntryToEmptyMap_0 21 rfl rfl)
theorem dJ1_addEntryToEmptyMap_22 : decode cJ1_addEntryToEmptyMap 22 = .ok (.iconst 1, 1) := dk_4 (dk_at dksJ1_addEntryToEmptyMap_0 22 rfl rfl)
theorem dJ1_addEntryToEmptyMap_23 : decode cJ1_addEntryToEmptyMap 23 = .ok (.putfield 7, 3) := dk_181 0 7 (dk_at dksJ1_addEntryToEmptyMap_1 0 rfl rfl)
theorem dJ1_addEntryToEmptyMap_26 : decode cJ1_addEntryToEmptyMap 26 = .ok (.aload_n 0, 1) := dk_42 (dk_at dksJ1_addEntryToEmptyMap_1 3 rfl rfl)
theorem dJ1_addEntryToEmptyMap_27 : decode cJ1_addEntryToEmptyMap 27 = .ok (.dup, 1) := dk_89 (dk_at dksJ1_addEntryToEmptyMap_1 4 rfl rfl)
theorem dJ1_addEntryToEmptyMap_28 : decode cJ1_addEntryToEmptyMap 28 = .ok (.getfield 13, 3) := dk_180 0 13 (dk_at dksJ1_addEntryToEmptyMap_1 5 rfl rfl)
theorem dJ1_addEntryToEmptyMap_31 : decode cJ1_addEntryToEmptyMap 31 = .ok (.iconst 1, 1) := dk_4 (dk_at dksJ1_addEntryToEmptyMap_1 8 rfl rfl)
theorem dJ1_addEntryToEmptyMap_32 : decode cJ1_addEntryToEmptyMap 32 = .ok (.iadd, 1) := dk_96 (dk_at dksJ1_addEntryToEmptyMap_1 9 rfl rfl)
theorem dJ1_addEntryToEmptyMap_33 : decode cJ1_addEntryToEmptyMap 33 = .ok (.putfield 13, 3) := dk_181 0 13 (dk_at dksJ1_addEntryToEmptyMap_1 10 rfl rfl)
theorem dJ1_addEntryToEmptyMap_36 : decode cJ1_addEntryToEmptyMap 36 = .ok (.return_, 1) := dk_177 (dk_at dksJ1_addEntryToEmptyMap_1 13 rfl rfl)
abbrev cJ1_put_2 : ByteArray := prog_96_method_31_code
def yJ1_put_2 : MethodName := ⟨RJ1, "put", "(Ljava/lang/Object;Ljava/lang/Object;Z)Ljava/lang/Object;"⟩
def dkwJ1_put_2_9 : List UInt8 := [4, 167, 0, 4, 3, 182, 0, 139, 1, 176]
abbrev dktJ1_put_2_9 : List UInt8 := dkwJ1_put_2_9 ++ []
def dkwJ1_put_2_8 : List UInt8 := [25, 4, 44, 181, 0, 58, 25, 9, 176, 25, 4, 199, 255, 181, 42, 43, 44, 25, 6, 21, 5, 156, 0, 7]
abbrev dktJ1_put_2_8 : List UInt8 := dkwJ1_put_2_8 ++ dktJ1_put_2_9
def dkwJ1_put_2_7 : List UInt8 := [180, 0, 114, 58, 4, 167, 0, 28, 25, 4, 180, 0, 58, 58, 9, 29, 154, 0, 8, 25, 9, 199, 0, 9]
abbrev dktJ1_put_2_7 : List UInt8 := dkwJ1_put_2_7 ++ dktJ1_put_2_8
def dkwJ1_put_2_6 : List UInt8 := [21, 5, 156, 0, 13, 25, 4, 180, 0, 111, 58, 4, 167, 0, 43, 21, 5, 158, 0, 13, 25, 4]
abbrev dktJ1_put_2_6 : List UInt8 := dkwJ1_put_2_6 ++ dktJ1_put_2_7
def dkwJ1_put_2_5 : List UInt8 := [192, 0, 99, 58, 8, 25, 4, 58, 6, 25, 8, 25, 4, 180, 0, 105, 185, 0, 107, 2, 0, 54, 5]
abbrev dktJ1_put_2_5 : List UInt8 := dkwJ1_put_2_5 ++ dktJ1_put_2_6
def dkwJ1_put_2_4 : List UInt8 := [25, 4, 44, 181, 0, 58, 25, 8, 176, 25, 4, 199, 255, 180, 167, 0, 92, 43, 184, 0, 95, 87, 43]
abbrev dktJ1_put_2_4 : List UInt8 := dkwJ1_put_2_4 ++ dktJ1_put_2_5
def dkwJ1_put_2_3 : List UInt8 := [180, 0, 114, 58, 4, 167, 0, 28, 25, 4, 180, 0, 58, 58, 8, 29, 154, 0, 8, 25, 8, 199, 0, 9]
abbrev dktJ1_put_2_3 : List UInt8 := dkwJ1_put_2_3 ++ dktJ1_put_2_4
def dkwJ1_put_2_2 : List UInt8 := [54, 5, 21, 5, 156, 0, 13, 25, 4, 180, 0, 111, 58, 4, 167, 0, 43, 21, 5, 158, 0, 13, 25, 4]
abbrev dktJ1_put_2_2 : List UInt8 := dkwJ1_put_2_2 ++ dktJ1_put_2_3
def dkwJ1_put_2_1 : List UInt8 := [58, 7, 25, 7, 198, 0, 85, 25, 4, 58, 6, 25, 7, 43, 25, 4, 180, 0, 105, 185, 0, 117, 3, 0]
abbrev dktJ1_put_2_1 : List UInt8 := dkwJ1_put_2_1 ++ dktJ1_put_2_2
def dkwJ1_put_2_0 : List UInt8 := [42, 180, 0, 101, 58, 4, 25, 4, 199, 0, 11, 42, 43, 44, 182, 0, 135, 1, 176, 42, 180, 0, 16]
abbrev dktJ1_put_2_0 : List UInt8 := dkwJ1_put_2_0 ++ dktJ1_put_2_1
theorem dksJ1_put_2_0 : cJ1_put_2.data.toList.drop 0 = dktJ1_put_2_0 := by decide +kernel
theorem dksJ1_put_2_1 : cJ1_put_2.data.toList.drop 23 = dktJ1_put_2_1 := dk_seg dksJ1_put_2_0 23 rfl rfl
theorem dksJ1_put_2_2 : cJ1_put_2.data.toList.drop 47 = dktJ1_put_2_2 := dk_seg dksJ1_put_2_1 24 rfl rfl
theorem dksJ1_put_2_3 : cJ1_put_2.data.toList.drop 71 = dktJ1_put_2_3 := dk_seg dksJ1_put_2_2 24 rfl rfl
theorem dksJ1_put_2_4 : cJ1_put_2.data.toList.drop 95 = dktJ1_put_2_4 := dk_seg dksJ1_put_2_3 24 rfl rfl
theorem dksJ1_put_2_5 : cJ1_put_2.data.toList.drop 118 = dktJ1_put_2_5 := dk_seg dksJ1_put_2_4 23 rfl rfl
theorem dksJ1_put_2_6 : cJ1_put_2.data.toList.drop 141 = dktJ1_put_2_6 := dk_seg dksJ1_put_2_5 23 rfl rfl
theorem dksJ1_put_2_7 : cJ1_put_2.data.toList.drop 163 = dktJ1_put_2_7 := dk_seg dksJ1_put_2_6 22 rfl rfl
theorem dksJ1_put_2_8 : cJ1_put_2.data.toList.drop 187 = dktJ1_put_2_8 := dk_seg dksJ1_put_2_7 24 rfl rfl
theorem dksJ1_put_2_9 : cJ1_put_2.data.toList.drop 211 = dktJ1_put_2_9 := dk_seg dksJ1_put_2_8 24 rfl rfl
theorem dJ1_put_2_0 : decode cJ1_put_2 0 = .ok (.aload_n 0, 1) := dk_42 (dk_at dksJ1_put_2_0 0 rfl rfl)
theorem dJ1_put_2_1 : decode cJ1_put_2 1 = .ok (.getfield 101, 3) := dk_180 0 101 (dk_at dksJ1_put_2_0 1 rfl rfl)
theorem dJ1_put_2_4 : decode cJ1_put_2 4 = .ok (.astore 4, 2) := dk_58 4 (dk_at dksJ1_put_2_0 4 rfl rfl)
theorem dJ1_put_2_6 : decode cJ1_put_2 6 = .ok (.aload 4, 2) := dk_25 4 (dk_at dksJ1_put_2_0 6 rfl rfl)
theorem dJ1_put_2_8 : decode cJ1_put_2 8 = .ok (.ifnonnull 11, 3) := dk_199 0 11 (dk_at dksJ1_put_2_0 8 rfl rfl)
theorem dJ1_put_2_11 : decode cJ1_put_2 11 = .ok (.aload_n 0, 1) := dk_42 (dk_at dksJ1_put_2_0 11 rfl rfl)
theorem dJ1_put_2_12 : decode cJ1_put_2 12 = .ok (.aload_n 1, 1) := dk_43 (dk_at dksJ1_put_2_0 12 rfl rfl)
theorem dJ1_put_2_13 : decode cJ1_put_2 13 = .ok (.aload_n 2, 1) := dk_44 (dk_at dksJ1_put_2_0 13 rfl rfl)
theorem dJ1_put_2_14 : decode cJ1_put_2 14 = .ok (.invokevirtual 135, 3) := dk_182 0 135 (dk_at dksJ1_put_2_0 14 rfl rfl)
theorem dJ1_put_2_17 : decode cJ1_put_2 17 = .ok (.aconst_null, 1) := dk_1 (dk_at dksJ1_put_2_0 17 rfl rfl)
theorem dJ1_put_2_18 : decode cJ1_put_2 18 = .ok (.areturn, 1) := dk_176 (dk_at dksJ1_put_2_0 18 rfl rfl)
theorem dJ1_put_2_19 : decode cJ1_put_2 19 = .ok (.aload_n 0, 1) := dk_42 (dk_at dksJ1_put_2_0 19 rfl rfl)
theorem dJ1_put_2_20 : decode cJ1_put_2 20 = .ok (.getfield 16, 3) := dk_180 0 16 (dk_at dksJ1_put_2_0 20 rfl rfl)
theorem dJ1_put_2_23 : decode cJ1_put_2 23 = .ok (.astore 7, 2) := dk_58 7 (dk_at dksJ1_put_2_1 0 rfl rfl)
theorem dJ1_put_2_25 : decode cJ1_put_2 25 = .ok (.aload 7, 2) := dk_25 7 (dk_at dksJ1_put_2_1 2 rfl rfl)
theorem dJ1_put_2_27 : decode cJ1_put_2 27 = .ok (.ifnull 85, 3) := dk_198 0 85 (dk_at dksJ1_put_2_1 4 rfl rfl)
theorem dJ1_put_2_30 : decode cJ1_put_2 30 = .ok (.aload 4, 2) := dk_25 4 (dk_at dksJ1_put_2_1 7 rfl rfl)
theorem dJ1_put_2_32 : decode cJ1_put_2 32 = .ok (.astore 6, 2) := dk_58 6 (dk_at dksJ1_put_2_1 9 rfl rfl)
theorem dJ1_put_2_34 : decode cJ1_put_2 34 = .ok (.aload 7, 2) := dk_25 7 (dk_at dksJ1_put_2_1 11 rfl rfl)
theorem dJ1_put_2_36 : decode cJ1_put_2 36 = .ok (.aload_n 1, 1) := dk_43 (dk_at dksJ1_put_2_1 13 rfl rfl)
theorem dJ1_put_2_37 : decode cJ1_put_2 37 = .ok (.aload 4, 2) := dk_25 4 (dk_at dksJ1_put_2_1 14 rfl rfl)
theorem dJ1_put_2_39 : decode cJ1_put_2 39 = .ok (.getfield 105, 3) := dk_180 0 105 (dk_at dksJ1_put_2_1 16 rfl rfl)
theorem dJ1_put_2_42 : decode cJ1_put_2 42 = .ok (.invokeinterface 117 3, 5) := by decide +kernel
theorem dJ1_put_2_47 : decode cJ1_put_2 47 = .ok (.istore 5, 2) := dk_54 5 (dk_at dksJ1_put_2_2 0 rfl rfl)
theorem dJ1_put_2_49 : decode cJ1_put_2 49 = .ok (.iload 5, 2) := dk_21 5 (dk_at dksJ1_put_2_2 2 rfl rfl)
theorem dJ1_put_2_51 : decode cJ1_put_2 51 = .ok (.ifCond .ge 13, 3) := dk_156 0 13 (dk_at dksJ1_put_2_2 4 rfl rfl)
theorem dJ1_put_2_54 : decode cJ1_put_2 54 = .ok (.aload 4, 2) := dk_25 4 (dk_at dksJ1_put_2_2 7 rfl rfl)
theorem dJ1_put_2_56 : decode cJ1_put_2 56 = .ok (.getfield 111, 3) := dk_180 0 111 (dk_at dksJ1_put_2_2 9 rfl rfl)
theorem dJ1_put_2_59 : decode cJ1_put_2 59 = .ok (.astore 4, 2) := dk_58 4 (dk_at dksJ1_put_2_2 12 rfl rfl)
theorem dJ1_put_2_61 : decode cJ1_put_2 61 = .ok (.goto 43, 3) := dk_167 0 43 (dk_at dksJ1_put_2_2 14 rfl rfl)
theorem dJ1_put_2_64 : decode cJ1_put_2 64 = .ok (.iload 5, 2) := dk_21 5 (dk_at dksJ1_put_2_2 17 rfl rfl)
theorem dJ1_put_2_66 : decode cJ1_put_2 66 = .ok (.ifCond .le 13, 3) := dk_158 0 13 (dk_at dksJ1_put_2_2 19 rfl rfl)
theorem dJ1_put_2_69 : decode cJ1_put_2 69 = .ok (.aload 4, 2) := dk_25 4 (dk_at dksJ1_put_2_2 22 rfl rfl)
theorem dJ1_put_2_71 : decode cJ1_put_2 71 = .ok (.getfield 114, 3) := dk_180 0 114 (dk_at dksJ1_put_2_3 0 rfl rfl)
theorem dJ1_put_2_74 : decode cJ1_put_2 74 = .ok (.astore 4, 2) := dk_58 4 (dk_at dksJ1_put_2_3 3 rfl rfl)
theorem dJ1_put_2_76 : decode cJ1_put_2 76 = .ok (.goto 28, 3) := dk_167 0 28 (dk_at dksJ1_put_2_3 5 rfl rfl)
theorem dJ1_put_2_79 : decode cJ1_put_2 79 = .ok (.aload 4, 2) := dk_25 4 (dk_at dksJ1_put_2_3 8 rfl rfl)
theorem dJ1_put_2_81 : decode cJ1_put_2 81 = .ok (.getfield 58, 3) := dk_180 0 58 (dk_at dksJ1_put_2_3 10 rfl rfl)
theorem dJ1_put_2_84 : decode cJ1_put_2 84 = .ok (.astore 8, 2) := dk_58 8 (dk_at dksJ1_put_2_3 13 rfl rfl)
theorem dJ1_put_2_86 : decode cJ1_put_2 86 = .ok (.iload_n 3, 1) := dk_29 (dk_at dksJ1_put_2_3 15 rfl rfl)
theorem dJ1_put_2_87 : decode cJ1_put_2 87 = .ok (.ifCond .ne 8, 3) := dk_154 0 8 (dk_at dksJ1_put_2_3 16 rfl rfl)
theorem dJ1_put_2_90 : decode cJ1_put_2 90 = .ok (.aload 8, 2) := dk_25 8 (dk_at dksJ1_put_2_3 19 rfl rfl)
theorem dJ1_put_2_92 : decode cJ1_put_2 92 = .ok (.ifnonnull 9, 3) := dk_199 0 9 (dk_at dksJ1_put_2_3 21 rfl rfl)
theorem dJ1_put_2_95 : decode cJ1_put_2 95 = .ok (.aload 4, 2) := dk_25 4 (dk_at dksJ1_put_2_4 0 rfl rfl)
theorem dJ1_put_2_97 : decode cJ1_put_2 97 = .ok (.aload_n 2, 1) := dk_44 (dk_at dksJ1_put_2_4 2 rfl rfl)
theorem dJ1_put_2_98 : decode cJ1_put_2 98 = .ok (.putfield 58, 3) := dk_181 0 58 (dk_at dksJ1_put_2_4 3 rfl rfl)
theorem dJ1_put_2_101 : decode cJ1_put_2 101 = .ok (.aload 8, 2) := dk_25 8 (dk_at dksJ1_put_2_4 6 rfl rfl)
theorem dJ1_put_2_103 : decode cJ1_put_2 103 = .ok (.areturn, 1) := dk_176 (dk_at dksJ1_put_2_4 8 rfl rfl)
theorem dJ1_put_2_104 : decode cJ1_put_2 104 = .ok (.aload 4, 2) := dk_25 4 (dk_at dksJ1_put_2_4 9 rfl rfl)
theorem dJ1_put_2_106 : decode cJ1_put_2 106 = .ok (.ifnonnull (-76), 3) := dk_199 255 180 (dk_at dksJ1_put_2_4 11 rfl rfl)
theorem dJ1_put_2_109 : decode cJ1_put_2 109 = .ok (.goto 92, 3) := dk_167 0 92 (dk_at dksJ1_put_2_4 14 rfl rfl)
theorem dJ1_put_2_112 : decode cJ1_put_2 112 = .ok (.aload_n 1, 1) := dk_43 (dk_at dksJ1_put_2_4 17 rfl rfl)
theorem dJ1_put_2_113 : decode cJ1_put_2 113 = .ok (.invokestatic 95, 3) := dk_184 0 95 (dk_at dksJ1_put_2_4 18 rfl rfl)
theorem dJ1_put_2_116 : decode cJ1_put_2 116 = .ok (.pop, 1) := dk_87 (dk_at dksJ1_put_2_4 21 rfl rfl)
theorem dJ1_put_2_117 : decode cJ1_put_2 117 = .ok (.aload_n 1, 1) := dk_43 (dk_at dksJ1_put_2_4 22 rfl rfl)
theorem dJ1_put_2_118 : decode cJ1_put_2 118 = .ok (.checkcast 99, 3) := dk_192 0 99 (dk_at dksJ1_put_2_5 0 rfl rfl)
theorem dJ1_put_2_121 : decode cJ1_put_2 121 = .ok (.astore 8, 2) := dk_58 8 (dk_at dksJ1_put_2_5 3 rfl rfl)
theorem dJ1_put_2_123 : decode cJ1_put_2 123 = .ok (.aload 4, 2) := dk_25 4 (dk_at dksJ1_put_2_5 5 rfl rfl)
theorem dJ1_put_2_125 : decode cJ1_put_2 125 = .ok (.astore 6, 2) := dk_58 6 (dk_at dksJ1_put_2_5 7 rfl rfl)
theorem dJ1_put_2_127 : decode cJ1_put_2 127 = .ok (.aload 8, 2) := dk_25 8 (dk_at dksJ1_put_2_5 9 rfl rfl)
theorem dJ1_put_2_129 : decode cJ1_put_2 129 = .ok (.aload 4, 2) := dk_25 4 (dk_at dksJ1_put_2_5 11 rfl rfl)
theorem dJ1_put_2_131 : decode cJ1_put_2 131 = .ok (.getfield 105, 3) := dk_180 0 105 (dk_at dksJ1_put_2_5 13 rfl rfl)
theorem dJ1_put_2_134 : decode cJ1_put_2 134 = .ok (.invokeinterface 107 2, 5) := by decide +kernel
theorem dJ1_put_2_139 : decode cJ1_put_2 139 = .ok (.istore 5, 2) := dk_54 5 (dk_at dksJ1_put_2_5 21 rfl rfl)
theorem dJ1_put_2_141 : decode cJ1_put_2 141 = .ok (.iload 5, 2) := dk_21 5 (dk_at dksJ1_put_2_6 0 rfl rfl)
theorem dJ1_put_2_143 : decode cJ1_put_2 143 = .ok (.ifCond .ge 13, 3) := dk_156 0 13 (dk_at dksJ1_put_2_6 2 rfl rfl)
theorem dJ1_put_2_146 : decode cJ1_put_2 146 = .ok (.aload 4, 2) := dk_25 4 (dk_at dksJ1_put_2_6 5 rfl rfl)
theorem dJ1_put_2_148 : decode cJ1_put_2 148 = .ok (.getfield 111, 3) := dk_180 0 111 (dk_at dksJ1_put_2_6 7 rfl rfl)
theorem dJ1_put_2_151 : decode cJ1_put_2 151 = .ok (.astore 4, 2) := dk_58 4 (dk_at dksJ1_put_2_6 10 rfl rfl)
theorem dJ1_put_2_153 : decode cJ1_put_2 153 = .ok (.goto 43, 3) := dk_167 0 43 (dk_at dksJ1_put_2_6 12 rfl rfl)
theorem dJ1_put_2_156 : decode cJ1_put_2 156 = .ok (.iload 5, 2) := dk_21 5 (dk_at dksJ1_put_2_6 15 rfl rfl)
theorem dJ1_put_2_158 : decode cJ1_put_2 158 = .ok (.ifCond .le 13, 3) := dk_158 0 13 (dk_at dksJ1_put_2_6 17 rfl rfl)
theorem dJ1_put_2_161 : decode cJ1_put_2 161 = .ok (.aload 4, 2) := dk_25 4 (dk_at dksJ1_put_2_6 20 rfl rfl)
theorem dJ1_put_2_163 : decode cJ1_put_2 163 = .ok (.getfield 114, 3) := dk_180 0 114 (dk_at dksJ1_put_2_7 0 rfl rfl)
theorem dJ1_put_2_166 : decode cJ1_put_2 166 = .ok (.astore 4, 2) := dk_58 4 (dk_at dksJ1_put_2_7 3 rfl rfl)
theorem dJ1_put_2_168 : decode cJ1_put_2 168 = .ok (.goto 28, 3) := dk_167 0 28 (dk_at dksJ1_put_2_7 5 rfl rfl)
theorem dJ1_put_2_171 : decode cJ1_put_2 171 = .ok (.aload 4, 2) := dk_25 4 (dk_at dksJ1_put_2_7 8 rfl rfl)
theorem dJ1_put_2_173 : decode cJ1_put_2 173 = .ok (.getfield 58, 3) := dk_180 0 58 (dk_at dksJ1_put_2_7 10 rfl rfl)
theorem dJ1_put_2_176 : decode cJ1_put_2 176 = .ok (.astore 9, 2) := dk_58 9 (dk_at dksJ1_put_2_7 13 rfl rfl)
theorem dJ1_put_2_178 : decode cJ1_put_2 178 = .ok (.iload_n 3, 1) := dk_29 (dk_at dksJ1_put_2_7 15 rfl rfl)
theorem dJ1_put_2_179 : decode cJ1_put_2 179 = .ok (.ifCond .ne 8, 3) := dk_154 0 8 (dk_at dksJ1_put_2_7 16 rfl rfl)
theorem dJ1_put_2_182 : decode cJ1_put_2 182 = .ok (.aload 9, 2) := dk_25 9 (dk_at dksJ1_put_2_7 19 rfl rfl)
theorem dJ1_put_2_184 : decode cJ1_put_2 184 = .ok (.ifnonnull 9, 3) := dk_199 0 9 (dk_at dksJ1_put_2_7 21 rfl rfl)
theorem dJ1_put_2_187 : decode cJ1_put_2 187 = .ok (.aload 4, 2) := dk_25 4 (dk_at dksJ1_put_2_8 0 rfl rfl)
theorem dJ1_put_2_189 : decode cJ1_put_2 189 = .ok (.aload_n 2, 1) := dk_44 (dk_at dksJ1_put_2_8 2 rfl rfl)
theorem dJ1_put_2_190 : decode cJ1_put_2 190 = .ok (.putfield 58, 3) := dk_181 0 58 (dk_at dksJ1_put_2_8 3 rfl rfl)
theorem dJ1_put_2_193 : decode cJ1_put_2 193 = .ok (.aload 9, 2) := dk_25 9 (dk_at dksJ1_put_2_8 6 rfl rfl)
theorem dJ1_put_2_195 : decode cJ1_put_2 195 = .ok (.areturn, 1) := dk_176 (dk_at dksJ1_put_2_8 8 rfl rfl)
theorem dJ1_put_2_196 : decode cJ1_put_2 196 = .ok (.aload 4, 2) := dk_25 4 (dk_at dksJ1_put_2_8 9 rfl rfl)
theorem dJ1_put_2_198 : decode cJ1_put_2 198 = .ok (.ifnonnull (-75), 3) := dk_199 255 181 (dk_at dksJ1_put_2_8 11 rfl rfl)
theorem dJ1_put_2_201 : decode cJ1_put_2 201 = .ok (.aload_n 0, 1) := dk_42 (dk_at dksJ1_put_2_8 14 rfl rfl)
theorem dJ1_put_2_202 : decode cJ1_put_2 202 = .ok (.aload_n 1, 1) := dk_43 (dk_at dksJ1_put_2_8 15 rfl rfl)
theorem dJ1_put_2_203 : decode cJ1_put_2 203 = .ok (.aload_n 2, 1) := dk_44 (dk_at dksJ1_put_2_8 16 rfl rfl)
theorem dJ1_put_2_204 : decode cJ1_put_2 204 = .ok (.aload 6, 2) := dk_25 6 (dk_at dksJ1_put_2_8 17 rfl rfl)
theorem dJ1_put_2_206 : decode cJ1_put_2 206 = .ok (.iload 5, 2) := dk_21 5 (dk_at dksJ1_put_2_8 19 rfl rfl)
theorem dJ1_put_2_208 : decode cJ1_put_2 208 = .ok (.ifCond .ge 7, 3) := dk_156 0 7 (dk_at dksJ1_put_2_8 21 rfl rfl)
theorem dJ1_put_2_211 : decode cJ1_put_2 211 = .ok (.iconst 1, 1) := dk_4 (dk_at dksJ1_put_2_9 0 rfl rfl)
theorem dJ1_put_2_212 : decode cJ1_put_2 212 = .ok (.goto 4, 3) := dk_167 0 4 (dk_at dksJ1_put_2_9 1 rfl rfl)
theorem dJ1_put_2_215 : decode cJ1_put_2 215 = .ok (.iconst 0, 1) := dk_3 (dk_at dksJ1_put_2_9 4 rfl rfl)
theorem dJ1_put_2_216 : decode cJ1_put_2 216 = .ok (.invokevirtual 139, 3) := dk_182 0 139 (dk_at dksJ1_put_2_9 5 rfl rfl)
theorem dJ1_put_2_219 : decode cJ1_put_2 219 = .ok (.aconst_null, 1) := dk_1 (dk_at dksJ1_put_2_9 8 rfl rfl)
theorem dJ1_put_2_220 : decode cJ1_put_2 220 = .ok (.areturn, 1) := dk_176 (dk_at dksJ1_put_2_9 9 rfl rfl)
abbrev cJ1_put : ByteArray := prog_96_method_21_code
def yJ1_put : MethodName := ⟨RJ1, "put", "(Ljava/lang/Object;Ljava/lang/Object;)Ljava/lang/Object;"⟩
def dkwJ1_put_0 : List UInt8 := [42, 43, 44, 4, 182, 0, 127, 176]
abbrev dktJ1_put_0 : List UInt8 := dkwJ1_put_0 ++ []
theorem dksJ1_put_0 : cJ1_put.data.toList.drop 0 = dktJ1_put_0 := by decide +kernel
theorem dJ1_put_0 : decode cJ1_put 0 = .ok (.aload_n 0, 1) := dk_42 (dk_at dksJ1_put_0 0 rfl rfl)
theorem dJ1_put_1 : decode cJ1_put 1 = .ok (.aload_n 1, 1) := dk_43 (dk_at dksJ1_put_0 1 rfl rfl)
theorem dJ1_put_2 : decode cJ1_put 2 = .ok (.aload_n 2, 1) := dk_44 (dk_at dksJ1_put_0 2 rfl rfl)
theorem dJ1_put_3 : decode cJ1_put 3 = .ok (.iconst 1, 1) := dk_4 (dk_at dksJ1_put_0 3 rfl rfl)
theorem dJ1_put_4 : decode cJ1_put 4 = .ok (.invokevirtual 127, 3) := dk_182 0 127 (dk_at dksJ1_put_0 4 rfl rfl)
theorem dJ1_put_7 : decode cJ1_put 7 = .ok (.areturn, 1) := dk_176 (dk_at dksJ1_put_0 7 rfl rfl)
abbrev cX2_draw : ByteArray := prog_14_method_7_code
def yX2_draw : MethodName := ⟨RX2, "draw", "(LLionGate$Lion;I)V"⟩
def dkwX2_draw_2 : List UInt8 := [181, 0, 76, 42, 180, 0, 70, 16, 20, 160, 0, 8, 42, 182, 0, 139, 87, 42, 45, 182, 0, 143, 177]
abbrev dktX2_draw_2 : List UInt8 := dkwX2_draw_2 ++ []
def dkwX2_draw_1 : List UInt8 := [180, 0, 48, 184, 0, 52, 43, 45, 182, 0, 135, 182, 0, 58, 87, 42, 89, 180, 0, 76, 4, 96]
abbrev dktX2_draw_1 : List UInt8 := dkwX2_draw_1 ++ dktX2_draw_2
def dkwX2_draw_0 : List UInt8 := [187, 0, 99, 89, 42, 180, 0, 76, 43, 180, 0, 48, 28, 183, 0, 132, 78, 42, 180, 0, 12, 43]
abbrev dktX2_draw_0 : List UInt8 := dkwX2_draw_0 ++ dktX2_draw_1
theorem dksX2_draw_0 : cX2_draw.data.toList.drop 0 = dktX2_draw_0 := by decide +kernel
theorem dksX2_draw_1 : cX2_draw.data.toList.drop 22 = dktX2_draw_1 := dk_seg dksX2_draw_0 22 rfl rfl
theorem dksX2_draw_2 : cX2_draw.data.toList.drop 44 = dktX2_draw_2 := dk_seg dksX2_draw_1 22 rfl rfl
theorem dX2_draw_0 : decode cX2_draw 0 = .ok (.new 99, 3) := dk_187 0 99 (dk_at dksX2_draw_0 0 rfl rfl)
theorem dX2_draw_3 : decode cX2_draw 3 = .ok (.dup, 1) := dk_89 (dk_at dksX2_draw_0 3 rfl rfl)
theorem dX2_draw_4 : decode cX2_draw 4 = .ok (.aload_n 0, 1) := dk_42 (dk_at dksX2_draw_0 4 rfl rfl)
theorem dX2_draw_5 : decode cX2_draw 5 = .ok (.getfield 76, 3) := dk_180 0 76 (dk_at dksX2_draw_0 5 rfl rfl)
theorem dX2_draw_8 : decode cX2_draw 8 = .ok (.aload_n 1, 1) := dk_43 (dk_at dksX2_draw_0 8 rfl rfl)
theorem dX2_draw_9 : decode cX2_draw 9 = .ok (.getfield 48, 3) := dk_180 0 48 (dk_at dksX2_draw_0 9 rfl rfl)
theorem dX2_draw_12 : decode cX2_draw 12 = .ok (.iload_n 2, 1) := dk_28 (dk_at dksX2_draw_0 12 rfl rfl)
theorem dX2_draw_13 : decode cX2_draw 13 = .ok (.invokespecial 132, 3) := dk_183 0 132 (dk_at dksX2_draw_0 13 rfl rfl)
theorem dX2_draw_16 : decode cX2_draw 16 = .ok (.astore_n 3, 1) := dk_78 (dk_at dksX2_draw_0 16 rfl rfl)
theorem dX2_draw_17 : decode cX2_draw 17 = .ok (.aload_n 0, 1) := dk_42 (dk_at dksX2_draw_0 17 rfl rfl)
theorem dX2_draw_18 : decode cX2_draw 18 = .ok (.getfield 12, 3) := dk_180 0 12 (dk_at dksX2_draw_0 18 rfl rfl)
theorem dX2_draw_21 : decode cX2_draw 21 = .ok (.aload_n 1, 1) := dk_43 (dk_at dksX2_draw_0 21 rfl rfl)
theorem dX2_draw_22 : decode cX2_draw 22 = .ok (.getfield 48, 3) := dk_180 0 48 (dk_at dksX2_draw_1 0 rfl rfl)
theorem dX2_draw_25 : decode cX2_draw 25 = .ok (.invokestatic 52, 3) := dk_184 0 52 (dk_at dksX2_draw_1 3 rfl rfl)
theorem dX2_draw_28 : decode cX2_draw 28 = .ok (.aload_n 1, 1) := dk_43 (dk_at dksX2_draw_1 6 rfl rfl)
theorem dX2_draw_29 : decode cX2_draw 29 = .ok (.aload_n 3, 1) := dk_45 (dk_at dksX2_draw_1 7 rfl rfl)
theorem dX2_draw_30 : decode cX2_draw 30 = .ok (.invokevirtual 135, 3) := dk_182 0 135 (dk_at dksX2_draw_1 8 rfl rfl)
theorem dX2_draw_33 : decode cX2_draw 33 = .ok (.invokevirtual 58, 3) := dk_182 0 58 (dk_at dksX2_draw_1 11 rfl rfl)
theorem dX2_draw_36 : decode cX2_draw 36 = .ok (.pop, 1) := dk_87 (dk_at dksX2_draw_1 14 rfl rfl)
theorem dX2_draw_37 : decode cX2_draw 37 = .ok (.aload_n 0, 1) := dk_42 (dk_at dksX2_draw_1 15 rfl rfl)
theorem dX2_draw_38 : decode cX2_draw 38 = .ok (.dup, 1) := dk_89 (dk_at dksX2_draw_1 16 rfl rfl)
theorem dX2_draw_39 : decode cX2_draw 39 = .ok (.getfield 76, 3) := dk_180 0 76 (dk_at dksX2_draw_1 17 rfl rfl)
theorem dX2_draw_42 : decode cX2_draw 42 = .ok (.iconst 1, 1) := dk_4 (dk_at dksX2_draw_1 20 rfl rfl)
theorem dX2_draw_43 : decode cX2_draw 43 = .ok (.iadd, 1) := dk_96 (dk_at dksX2_draw_1 21 rfl rfl)
theorem dX2_draw_44 : decode cX2_draw 44 = .ok (.putfield 76, 3) := dk_181 0 76 (dk_at dksX2_draw_2 0 rfl rfl)
theorem dX2_draw_47 : decode cX2_draw 47 = .ok (.aload_n 0, 1) := dk_42 (dk_at dksX2_draw_2 3 rfl rfl)
theorem dX2_draw_48 : decode cX2_draw 48 = .ok (.getfield 70, 3) := dk_180 0 70 (dk_at dksX2_draw_2 4 rfl rfl)
theorem dX2_draw_51 : decode cX2_draw 51 = .ok (.bipush 20, 2) := dk_16 20 (dk_at dksX2_draw_2 7 rfl rfl)
theorem dX2_draw_53 : decode cX2_draw 53 = .ok (.if_icmp .ne 8, 3) := dk_160 0 8 (dk_at dksX2_draw_2 9 rfl rfl)
theorem dX2_draw_56 : decode cX2_draw 56 = .ok (.aload_n 0, 1) := dk_42 (dk_at dksX2_draw_2 12 rfl rfl)
theorem dX2_draw_57 : decode cX2_draw 57 = .ok (.invokevirtual 139, 3) := dk_182 0 139 (dk_at dksX2_draw_2 13 rfl rfl)
theorem dX2_draw_60 : decode cX2_draw 60 = .ok (.pop, 1) := dk_87 (dk_at dksX2_draw_2 16 rfl rfl)
theorem dX2_draw_61 : decode cX2_draw 61 = .ok (.aload_n 0, 1) := dk_42 (dk_at dksX2_draw_2 17 rfl rfl)
theorem dX2_draw_62 : decode cX2_draw 62 = .ok (.aload_n 3, 1) := dk_45 (dk_at dksX2_draw_2 18 rfl rfl)
theorem dX2_draw_63 : decode cX2_draw 63 = .ok (.invokevirtual 143, 3) := dk_182 0 143 (dk_at dksX2_draw_2 19 rfl rfl)
theorem dX2_draw_66 : decode cX2_draw 66 = .ok (.return_, 1) := dk_177 (dk_at dksX2_draw_2 22 rfl rfl)
abbrev cX2_addLion : ByteArray := prog_14_method_11_code
def yX2_addLion : MethodName := ⟨RX2, "addLion", "(III)I"⟩
def dkwX2_addLion_4 : List UInt8 := [180, 0, 73, 4, 100, 172]
abbrev dktX2_addLion_4 : List UInt8 := dkwX2_addLion_4 ++ []
def dkwX2_addLion_3 : List UInt8 := [180, 0, 73, 28, 29, 1, 183, 0, 170, 27, 182, 0, 148, 42, 89, 180, 0, 73, 4, 96, 181, 0, 73, 42]
abbrev dktX2_addLion_3 : List UInt8 := dkwX2_addLion_3 ++ dktX2_addLion_4
def dkwX2_addLion_2 : List UInt8 := [182, 0, 160, 16, 10, 162, 0, 7, 4, 167, 0, 4, 3, 16, 115, 184, 0, 166, 42, 187, 0, 46, 89, 42]
abbrev dktX2_addLion_2 : List UInt8 := dkwX2_addLion_2 ++ dktX2_addLion_3
def dkwX2_addLion_1 : List UInt8 := [3, 16, 97, 184, 0, 166, 29, 3, 17, 3, 231, 184, 0, 162, 16, 97, 184, 0, 166, 42, 180, 0, 12]
abbrev dktX2_addLion_1 : List UInt8 := dkwX2_addLion_1 ++ dktX2_addLion_2
def dkwX2_addLion_0 : List UInt8 := [27, 3, 16, 99, 184, 0, 162, 153, 0, 17, 28, 4, 16, 9, 184, 0, 162, 153, 0, 7, 4, 167, 0, 4]
abbrev dktX2_addLion_0 : List UInt8 := dkwX2_addLion_0 ++ dktX2_addLion_1
theorem dksX2_addLion_0 : cX2_addLion.data.toList.drop 0 = dktX2_addLion_0 := by decide +kernel
theorem dksX2_addLion_1 : cX2_addLion.data.toList.drop 24 = dktX2_addLion_1 := dk_seg dksX2_addLion_0 24 rfl rfl
theorem dksX2_addLion_2 : cX2_addLion.data.toList.drop 47 = dktX2_addLion_2 := dk_seg dksX2_addLion_1 23 rfl rfl
theorem dksX2_addLion_3 : cX2_addLion.data.toList.drop 71 = dktX2_addLion_3 := dk_seg dksX2_addLion_2 24 rfl rfl
theorem dksX2_addLion_4 : cX2_addLion.data.toList.drop 95 = dktX2_addLion_4 := dk_seg dksX2_addLion_3 24 rfl rfl
theorem dX2_addLion_0 : decode cX2_addLion 0 = .ok (.iload_n 1, 1) := dk_27 (dk_at dksX2_addLion_0 0 rfl rfl)
theorem dX2_addLion_1 : decode cX2_addLion 1 = .ok (.iconst 0, 1) := dk_3 (dk_at dksX2_addLion_0 1 rfl rfl)
theorem dX2_addLion_2 : decode cX2_addLion 2 = .ok (.bipush 99, 2) := dk_16 99 (dk_at dksX2_addLion_0 2 rfl rfl)
theorem dX2_addLion_4 : decode cX2_addLion 4 = .ok (.invokestatic 162, 3) := dk_184 0 162 (dk_at dksX2_addLion_0 4 rfl rfl)
theorem dX2_addLion_7 : decode cX2_addLion 7 = .ok (.ifCond .eq 17, 3) := dk_153 0 17 (dk_at dksX2_addLion_0 7 rfl rfl)
theorem dX2_addLion_10 : decode cX2_addLion 10 = .ok (.iload_n 2, 1) := dk_28 (dk_at dksX2_addLion_0 10 rfl rfl)
theorem dX2_addLion_11 : decode cX2_addLion 11 = .ok (.iconst 1, 1) := dk_4 (dk_at dksX2_addLion_0 11 rfl rfl)
theorem dX2_addLion_12 : decode cX2_addLion 12 = .ok (.bipush 9, 2) := dk_16 9 (dk_at dksX2_addLion_0 12 rfl rfl)
theorem dX2_addLion_14 : decode cX2_addLion 14 = .ok (.invokestatic 162, 3) := dk_184 0 162 (dk_at dksX2_addLion_0 14 rfl rfl)
theorem dX2_addLion_17 : decode cX2_addLion 17 = .ok (.ifCond .eq 7, 3) := dk_153 0 7 (dk_at dksX2_addLion_0 17 rfl rfl)
theorem dX2_addLion_20 : decode cX2_addLion 20 = .ok (.iconst 1, 1) := dk_4 (dk_at dksX2_addLion_0 20 rfl rfl)
theorem dX2_addLion_21 : decode cX2_addLion 21 = .ok (.goto 4, 3) := dk_167 0 4 (dk_at dksX2_addLion_0 21 rfl rfl)
theorem dX2_addLion_24 : decode cX2_addLion 24 = .ok (.iconst 0, 1) := dk_3 (dk_at dksX2_addLion_1 0 rfl rfl)
theorem dX2_addLion_25 : decode cX2_addLion 25 = .ok (.bipush 97, 2) := dk_16 97 (dk_at dksX2_addLion_1 1 rfl rfl)
theorem dX2_addLion_27 : decode cX2_addLion 27 = .ok (.invokestatic 166, 3) := dk_184 0 166 (dk_at dksX2_addLion_1 3 rfl rfl)
theorem dX2_addLion_30 : decode cX2_addLion 30 = .ok (.iload_n 3, 1) := dk_29 (dk_at dksX2_addLion_1 6 rfl rfl)
theorem dX2_addLion_31 : decode cX2_addLion 31 = .ok (.iconst 0, 1) := dk_3 (dk_at dksX2_addLion_1 7 rfl rfl)
theorem dX2_addLion_32 : decode cX2_addLion 32 = .ok (.sipush 999, 3) := dk_17 3 231 (dk_at dksX2_addLion_1 8 rfl rfl)
theorem dX2_addLion_35 : decode cX2_addLion 35 = .ok (.invokestatic 162, 3) := dk_184 0 162 (dk_at dksX2_addLion_1 11 rfl rfl)
theorem dX2_addLion_38 : decode cX2_addLion 38 = .ok (.bipush 97, 2) := dk_16 97 (dk_at dksX2_addLion_1 14 rfl rfl)
theorem dX2_addLion_40 : decode cX2_addLion 40 = .ok (.invokestatic 166, 3) := dk_184 0 166 (dk_at dksX2_addLion_1 16 rfl rfl)
theorem dX2_addLion_43 : decode cX2_addLion 43 = .ok (.aload_n 0, 1) := dk_42 (dk_at dksX2_addLion_1 19 rfl rfl)
theorem dX2_addLion_44 : decode cX2_addLion 44 = .ok (.getfield 12, 3) := dk_180 0 12 (dk_at dksX2_addLion_1 20 rfl rfl)
theorem dX2_addLion_47 : decode cX2_addLion 47 = .ok (.invokevirtual 160, 3) := dk_182 0 160 (dk_at dksX2_addLion_2 0 rfl rfl)
theorem dX2_addLion_50 : decode cX2_addLion 50 = .ok (.bipush 10, 2) := dk_16 10 (dk_at dksX2_addLion_2 3 rfl rfl)
theorem dX2_addLion_52 : decode cX2_addLion 52 = .ok (.if_icmp .ge 7, 3) := dk_162 0 7 (dk_at dksX2_addLion_2 5 rfl rfl)
theorem dX2_addLion_55 : decode cX2_addLion 55 = .ok (.iconst 1, 1) := dk_4 (dk_at dksX2_addLion_2 8 rfl rfl)
theorem dX2_addLion_56 : decode cX2_addLion 56 = .ok (.goto 4, 3) := dk_167 0 4 (dk_at dksX2_addLion_2 9 rfl rfl)
theorem dX2_addLion_59 : decode cX2_addLion 59 = .ok (.iconst 0, 1) := dk_3 (dk_at dksX2_addLion_2 12 rfl rfl)
theorem dX2_addLion_60 : decode cX2_addLion 60 = .ok (.bipush 115, 2) := dk_16 115 (dk_at dksX2_addLion_2 13 rfl rfl)
theorem dX2_addLion_62 : decode cX2_addLion 62 = .ok (.invokestatic 166, 3) := dk_184 0 166 (dk_at dksX2_addLion_2 15 rfl rfl)
theorem dX2_addLion_65 : decode cX2_addLion 65 = .ok (.aload_n 0, 1) := dk_42 (dk_at dksX2_addLion_2 18 rfl rfl)
theorem dX2_addLion_66 : decode cX2_addLion 66 = .ok (.new 46, 3) := dk_187 0 46 (dk_at dksX2_addLion_2 19 rfl rfl)
theorem dX2_addLion_69 : decode cX2_addLion 69 = .ok (.dup, 1) := dk_89 (dk_at dksX2_addLion_2 22 rfl rfl)
theorem dX2_addLion_70 : decode cX2_addLion 70 = .ok (.aload_n 0, 1) := dk_42 (dk_at dksX2_addLion_2 23 rfl rfl)
theorem dX2_addLion_71 : decode cX2_addLion 71 = .ok (.getfield 73, 3) := dk_180 0 73 (dk_at dksX2_addLion_3 0 rfl rfl)
theorem dX2_addLion_74 : decode cX2_addLion 74 = .ok (.iload_n 2, 1) := dk_28 (dk_at dksX2_addLion_3 3 rfl rfl)
theorem dX2_addLion_75 : decode cX2_addLion 75 = .ok (.iload_n 3, 1) := dk_29 (dk_at dksX2_addLion_3 4 rfl rfl)
theorem dX2_addLion_76 : decode cX2_addLion 76 = .ok (.aconst_null, 1) := dk_1 (dk_at dksX2_addLion_3 5 rfl rfl)
theorem dX2_addLion_77 : decode cX2_addLion 77 = .ok (.invokespecial 170, 3) := dk_183 0 170 (dk_at dksX2_addLion_3 6 rfl rfl)
theorem dX2_addLion_80 : decode cX2_addLion 80 = .ok (.iload_n 1, 1) := dk_27 (dk_at dksX2_addLion_3 9 rfl rfl)
theorem dX2_addLion_81 : decode cX2_addLion 81 = .ok (.invokevirtual 148, 3) := dk_182 0 148 (dk_at dksX2_addLion_3 10 rfl rfl)
theorem dX2_addLion_84 : decode cX2_addLion 84 = .ok (.aload_n 0, 1) := dk_42 (dk_at dksX2_addLion_3 13 rfl rfl)
theorem dX2_addLion_85 : decode cX2_addLion 85 = .ok (.dup, 1) := dk_89 (dk_at dksX2_addLion_3 14 rfl rfl)
theorem dX2_addLion_86 : decode cX2_addLion 86 = .ok (.getfield 73, 3) := dk_180 0 73 (dk_at dksX2_addLion_3 15 rfl rfl)
theorem dX2_addLion_89 : decode cX2_addLion 89 = .ok (.iconst 1, 1) := dk_4 (dk_at dksX2_addLion_3 18 rfl rfl)
theorem dX2_addLion_90 : decode cX2_addLion 90 = .ok (.iadd, 1) := dk_96 (dk_at dksX2_addLion_3 19 rfl rfl)
theorem dX2_addLion_91 : decode cX2_addLion 91 = .ok (.putfield 73, 3) := dk_181 0 73 (dk_at dksX2_addLion_3 20 rfl rfl)
theorem dX2_addLion_94 : decode cX2_addLion 94 = .ok (.aload_n 0, 1) := dk_42 (dk_at dksX2_addLion_3 23 rfl rfl)
theorem dX2_addLion_95 : decode cX2_addLion 95 = .ok (.getfield 73, 3) := dk_180 0 73 (dk_at dksX2_addLion_4 0 rfl rfl)
theorem dX2_addLion_98 : decode cX2_addLion 98 = .ok (.iconst 1, 1) := dk_4 (dk_at dksX2_addLion_4 3 rfl rfl)
theorem dX2_addLion_99 : decode cX2_addLion 99 = .ok (.isub, 1) := dk_100 (dk_at dksX2_addLion_4 4 rfl rfl)
theorem dX2_addLion_100 : decode cX2_addLion 100 = .ok (.ireturn, 1) := dk_172 (dk_at dksX2_addLion_4 5 rfl rfl)
