set_option maxRecDepth 100000
abbrev cX2_serve : ByteArray := prog_14_method_14_code
def yX2_serve : MethodName := ⟨RX2, "serve", "()I"⟩
def dkwX2_serve_5 : List UInt8 := [180, 0, 201, 164, 0, 7, 4, 167, 0, 4, 3, 96, 181, 0, 88, 43, 180, 0, 48, 172]
abbrev dktX2_serve_5 : List UInt8 := dkwX2_serve_5 ++ []
def dkwX2_serve_4 : List UInt8 := [89, 180, 0, 91, 43, 180, 0, 198, 96, 181, 0, 91, 42, 89, 180, 0, 88, 42, 180, 0, 82, 43]
abbrev dktX2_serve_4 : List UInt8 := dkwX2_serve_4 ++ dktX2_serve_5
def dkwX2_serve_3 : List UInt8 := [42, 89, 180, 0, 82, 43, 180, 0, 198, 96, 181, 0, 82, 42, 89, 180, 0, 85, 4, 96, 181, 0, 85, 42]
abbrev dktX2_serve_3 : List UInt8 := dkwX2_serve_3 ++ dktX2_serve_4
def dkwX2_serve_2 : List UInt8 := [182, 0, 195, 42, 180, 0, 12, 42, 182, 0, 156, 180, 0, 98, 184, 0, 52, 182, 0, 185, 192, 0, 46, 76]
abbrev dktX2_serve_2 : List UInt8 := dkwX2_serve_2 ++ dktX2_serve_3
def dkwX2_serve_1 : List UInt8 := [42, 180, 0, 82, 16, 24, 112, 182, 0, 191, 158, 0, 7, 4, 167, 0, 4, 3, 16, 117, 184, 0, 166, 42]
abbrev dktX2_serve_1 : List UInt8 := dkwX2_serve_1 ++ dktX2_serve_2
def dkwX2_serve_0 : List UInt8 := [42, 180, 0, 12, 182, 0, 188, 154, 0, 7, 4, 167, 0, 4, 3, 16, 101, 184, 0, 166, 42, 180, 0, 21]
abbrev dktX2_serve_0 : List UInt8 := dkwX2_serve_0 ++ dktX2_serve_1
theorem dksX2_serve_0 : cX2_serve.data.toList.drop 0 = dktX2_serve_0 := by decide +kernel
theorem dksX2_serve_1 : cX2_serve.data.toList.drop 24 = dktX2_serve_1 := dk_seg dksX2_serve_0 24 rfl rfl
theorem dksX2_serve_2 : cX2_serve.data.toList.drop 48 = dktX2_serve_2 := dk_seg dksX2_serve_1 24 rfl rfl
theorem dksX2_serve_3 : cX2_serve.data.toList.drop 72 = dktX2_serve_3 := dk_seg dksX2_serve_2 24 rfl rfl
theorem dksX2_serve_4 : cX2_serve.data.toList.drop 96 = dktX2_serve_4 := dk_seg dksX2_serve_3 24 rfl rfl
theorem dksX2_serve_5 : cX2_serve.data.toList.drop 118 = dktX2_serve_5 := dk_seg dksX2_serve_4 22 rfl rfl
theorem dX2_serve_0 : decode cX2_serve 0 = .ok (.aload_n 0, 1) := dk_42 (dk_at dksX2_serve_0 0 rfl rfl)
theorem dX2_serve_1 : decode cX2_serve 1 = .ok (.getfield 12, 3) := dk_180 0 12 (dk_at dksX2_serve_0 1 rfl rfl)
theorem dX2_serve_4 : decode cX2_serve 4 = .ok (.invokevirtual 188, 3) := dk_182 0 188 (dk_at dksX2_serve_0 4 rfl rfl)
theorem dX2_serve_7 : decode cX2_serve 7 = .ok (.ifCond .ne 7, 3) := dk_154 0 7 (dk_at dksX2_serve_0 7 rfl rfl)
theorem dX2_serve_10 : decode cX2_serve 10 = .ok (.iconst 1, 1) := dk_4 (dk_at dksX2_serve_0 10 rfl rfl)
theorem dX2_serve_11 : decode cX2_serve 11 = .ok (.goto 4, 3) := dk_167 0 4 (dk_at dksX2_serve_0 11 rfl rfl)
theorem dX2_serve_14 : decode cX2_serve 14 = .ok (.iconst 0, 1) := dk_3 (dk_at dksX2_serve_0 14 rfl rfl)
theorem dX2_serve_15 : decode cX2_serve 15 = .ok (.bipush 101, 2) := dk_16 101 (dk_at dksX2_serve_0 15 rfl rfl)
theorem dX2_serve_17 : decode cX2_serve 17 = .ok (.invokestatic 166, 3) := dk_184 0 166 (dk_at dksX2_serve_0 17 rfl rfl)
theorem dX2_serve_20 : decode cX2_serve 20 = .ok (.aload_n 0, 1) := dk_42 (dk_at dksX2_serve_0 20 rfl rfl)
theorem dX2_serve_21 : decode cX2_serve 21 = .ok (.getfield 21, 3) := dk_180 0 21 (dk_at dksX2_serve_0 21 rfl rfl)
theorem dX2_serve_24 : decode cX2_serve 24 = .ok (.aload_n 0, 1) := dk_42 (dk_at dksX2_serve_1 0 rfl rfl)
theorem dX2_serve_25 : decode cX2_serve 25 = .ok (.getfield 82, 3) := dk_180 0 82 (dk_at dksX2_serve_1 1 rfl rfl)
theorem dX2_serve_28 : decode cX2_serve 28 = .ok (.bipush 24, 2) := dk_16 24 (dk_at dksX2_serve_1 4 rfl rfl)
theorem dX2_serve_30 : decode cX2_serve 30 = .ok (.irem, 1) := dk_112 (dk_at dksX2_serve_1 6 rfl rfl)
theorem dX2_serve_31 : decode cX2_serve 31 = .ok (.invokevirtual 191, 3) := dk_182 0 191 (dk_at dksX2_serve_1 7 rfl rfl)
theorem dX2_serve_34 : decode cX2_serve 34 = .ok (.ifCond .le 7, 3) := dk_158 0 7 (dk_at dksX2_serve_1 10 rfl rfl)
theorem dX2_serve_37 : decode cX2_serve 37 = .ok (.iconst 1, 1) := dk_4 (dk_at dksX2_serve_1 13 rfl rfl)
theorem dX2_serve_38 : decode cX2_serve 38 = .ok (.goto 4, 3) := dk_167 0 4 (dk_at dksX2_serve_1 14 rfl rfl)
theorem dX2_serve_41 : decode cX2_serve 41 = .ok (.iconst 0, 1) := dk_3 (dk_at dksX2_serve_1 17 rfl rfl)
theorem dX2_serve_42 : decode cX2_serve 42 = .ok (.bipush 117, 2) := dk_16 117 (dk_at dksX2_serve_1 18 rfl rfl)
theorem dX2_serve_44 : decode cX2_serve 44 = .ok (.invokestatic 166, 3) := dk_184 0 166 (dk_at dksX2_serve_1 20 rfl rfl)
theorem dX2_serve_47 : decode cX2_serve 47 = .ok (.aload_n 0, 1) := dk_42 (dk_at dksX2_serve_1 23 rfl rfl)
theorem dX2_serve_48 : decode cX2_serve 48 = .ok (.invokevirtual 195, 3) := dk_182 0 195 (dk_at dksX2_serve_2 0 rfl rfl)
theorem dX2_serve_51 : decode cX2_serve 51 = .ok (.aload_n 0, 1) := dk_42 (dk_at dksX2_serve_2 3 rfl rfl)
theorem dX2_serve_52 : decode cX2_serve 52 = .ok (.getfield 12, 3) := dk_180 0 12 (dk_at dksX2_serve_2 4 rfl rfl)
theorem dX2_serve_55 : decode cX2_serve 55 = .ok (.aload_n 0, 1) := dk_42 (dk_at dksX2_serve_2 7 rfl rfl)
theorem dX2_serve_56 : decode cX2_serve 56 = .ok (.invokevirtual 156, 3) := dk_182 0 156 (dk_at dksX2_serve_2 8 rfl rfl)
theorem dX2_serve_59 : decode cX2_serve 59 = .ok (.getfield 98, 3) := dk_180 0 98 (dk_at dksX2_serve_2 11 rfl rfl)
theorem dX2_serve_62 : decode cX2_serve 62 = .ok (.invokestatic 52, 3) := dk_184 0 52 (dk_at dksX2_serve_2 14 rfl rfl)
theorem dX2_serve_65 : decode cX2_serve 65 = .ok (.invokevirtual 185, 3) := dk_182 0 185 (dk_at dksX2_serve_2 17 rfl rfl)
theorem dX2_serve_68 : decode cX2_serve 68 = .ok (.checkcast 46, 3) := dk_192 0 46 (dk_at dksX2_serve_2 20 rfl rfl)
theorem dX2_serve_71 : decode cX2_serve 71 = .ok (.astore_n 1, 1) := dk_76 (dk_at dksX2_serve_2 23 rfl rfl)
theorem dX2_serve_72 : decode cX2_serve 72 = .ok (.aload_n 0, 1) := dk_42 (dk_at dksX2_serve_3 0 rfl rfl)
theorem dX2_serve_73 : decode cX2_serve 73 = .ok (.dup, 1) := dk_89 (dk_at dksX2_serve_3 1 rfl rfl)
theorem dX2_serve_74 : decode cX2_serve 74 = .ok (.getfield 82, 3) := dk_180 0 82 (dk_at dksX2_serve_3 2 rfl rfl)
theorem dX2_serve_77 : decode cX2_serve 77 = .ok (.aload_n 1, 1) := dk_43 (dk_at dksX2_serve_3 5 rfl rfl)
theorem dX2_serve_78 : decode cX2_serve 78 = .ok (.getfield 198, 3) := dk_180 0 198 (dk_at dksX2_serve_3 6 rfl rfl)
theorem dX2_serve_81 : decode cX2_serve 81 = .ok (.iadd, 1) := dk_96 (dk_at dksX2_serve_3 9 rfl rfl)
theorem dX2_serve_82 : decode cX2_serve 82 = .ok (.putfield 82, 3) := dk_181 0 82 (dk_at dksX2_serve_3 10 rfl rfl)
theorem dX2_serve_85 : decode cX2_serve 85 = .ok (.aload_n 0, 1) := dk_42 (dk_at dksX2_serve_3 13 rfl rfl)
theorem dX2_serve_86 : decode cX2_serve 86 = .ok (.dup, 1) := dk_89 (dk_at dksX2_serve_3 14 rfl rfl)
theorem dX2_serve_87 : decode cX2_serve 87 = .ok (.getfield 85, 3) := dk_180 0 85 (dk_at dksX2_serve_3 15 rfl rfl)
theorem dX2_serve_90 : decode cX2_serve 90 = .ok (.iconst 1, 1) := dk_4 (dk_at dksX2_serve_3 18 rfl rfl)
theorem dX2_serve_91 : decode cX2_serve 91 = .ok (.iadd, 1) := dk_96 (dk_at dksX2_serve_3 19 rfl rfl)
theorem dX2_serve_92 : decode cX2_serve 92 = .ok (.putfield 85, 3) := dk_181 0 85 (dk_at dksX2_serve_3 20 rfl rfl)
theorem dX2_serve_95 : decode cX2_serve 95 = .ok (.aload_n 0, 1) := dk_42 (dk_at dksX2_serve_3 23 rfl rfl)
theorem dX2_serve_96 : decode cX2_serve 96 = .ok (.dup, 1) := dk_89 (dk_at dksX2_serve_4 0 rfl rfl)
theorem dX2_serve_97 : decode cX2_serve 97 = .ok (.getfield 91, 3) := dk_180 0 91 (dk_at dksX2_serve_4 1 rfl rfl)
theorem dX2_serve_100 : decode cX2_serve 100 = .ok (.aload_n 1, 1) := dk_43 (dk_at dksX2_serve_4 4 rfl rfl)
theorem dX2_serve_101 : decode cX2_serve 101 = .ok (.getfield 198, 3) := dk_180 0 198 (dk_at dksX2_serve_4 5 rfl rfl)
theorem dX2_serve_104 : decode cX2_serve 104 = .ok (.iadd, 1) := dk_96 (dk_at dksX2_serve_4 8 rfl rfl)
theorem dX2_serve_105 : decode cX2_serve 105 = .ok (.putfield 91, 3) := dk_181 0 91 (dk_at dksX2_serve_4 9 rfl rfl)
theorem dX2_serve_108 : decode cX2_serve 108 = .ok (.aload_n 0, 1) := dk_42 (dk_at dksX2_serve_4 12 rfl rfl)
theorem dX2_serve_109 : decode cX2_serve 109 = .ok (.dup, 1) := dk_89 (dk_at dksX2_serve_4 13 rfl rfl)
theorem dX2_serve_110 : decode cX2_serve 110 = .ok (.getfield 88, 3) := dk_180 0 88 (dk_at dksX2_serve_4 14 rfl rfl)
theorem dX2_serve_113 : decode cX2_serve 113 = .ok (.aload_n 0, 1) := dk_42 (dk_at dksX2_serve_4 17 rfl rfl)
theorem dX2_serve_114 : decode cX2_serve 114 = .ok (.getfield 82, 3) := dk_180 0 82 (dk_at dksX2_serve_4 18 rfl rfl)
theorem dX2_serve_117 : decode cX2_serve 117 = .ok (.aload_n 1, 1) := dk_43 (dk_at dksX2_serve_4 21 rfl rfl)
theorem dX2_serve_118 : decode cX2_serve 118 = .ok (.getfield 201, 3) := dk_180 0 201 (dk_at dksX2_serve_5 0 rfl rfl)
theorem dX2_serve_121 : decode cX2_serve 121 = .ok (.if_icmp .le 7, 3) := dk_164 0 7 (dk_at dksX2_serve_5 3 rfl rfl)
theorem dX2_serve_124 : decode cX2_serve 124 = .ok (.iconst 1, 1) := dk_4 (dk_at dksX2_serve_5 6 rfl rfl)
theorem dX2_serve_125 : decode cX2_serve 125 = .ok (.goto 4, 3) := dk_167 0 4 (dk_at dksX2_serve_5 7 rfl rfl)
theorem dX2_serve_128 : decode cX2_serve 128 = .ok (.iconst 0, 1) := dk_3 (dk_at dksX2_serve_5 10 rfl rfl)
theorem dX2_serve_129 : decode cX2_serve 129 = .ok (.iadd, 1) := dk_96 (dk_at dksX2_serve_5 11 rfl rfl)
theorem dX2_serve_130 : decode cX2_serve 130 = .ok (.putfield 88, 3) := dk_181 0 88 (dk_at dksX2_serve_5 12 rfl rfl)
theorem dX2_serve_133 : decode cX2_serve 133 = .ok (.aload_n 1, 1) := dk_43 (dk_at dksX2_serve_5 15 rfl rfl)
theorem dX2_serve_134 : decode cX2_serve 134 = .ok (.getfield 48, 3) := dk_180 0 48 (dk_at dksX2_serve_5 16 rfl rfl)
theorem dX2_serve_137 : decode cX2_serve 137 = .ok (.ireturn, 1) := dk_172 (dk_at dksX2_serve_5 19 rfl rfl)
abbrev cJ25_equals : ByteArray := prog_41_method_13_code
def yJ25_equals : MethodName := ⟨RJ25, "equals", "([B[B)Z"⟩
def dkwJ25_equals_1 : List UInt8 := [3, 172, 132, 2, 1, 167, 255, 236, 4, 172, 3, 172]
abbrev dktJ25_equals_1 : List UInt8 := dkwJ25_equals_1 ++ []
def dkwJ25_equals_0 : List UInt8 := [42, 190, 43, 190, 160, 0, 30, 3, 61, 28, 42, 190, 162, 0, 20, 42, 28, 51, 43, 28, 51, 159, 0, 5]
abbrev dktJ25_equals_0 : List UInt8 := dkwJ25_equals_0 ++ dktJ25_equals_1
theorem dksJ25_equals_0 : cJ25_equals.data.toList.drop 0 = dktJ25_equals_0 := by decide +kernel
theorem dksJ25_equals_1 : cJ25_equals.data.toList.drop 24 = dktJ25_equals_1 := dk_seg dksJ25_equals_0 24 rfl rfl
theorem dJ25_equals_0 : decode cJ25_equals 0 = .ok (.aload_n 0, 1) := dk_42 (dk_at dksJ25_equals_0 0 rfl rfl)
theorem dJ25_equals_1 : decode cJ25_equals 1 = .ok (.arraylength, 1) := dk_190 (dk_at dksJ25_equals_0 1 rfl rfl)
theorem dJ25_equals_2 : decode cJ25_equals 2 = .ok (.aload_n 1, 1) := dk_43 (dk_at dksJ25_equals_0 2 rfl rfl)
theorem dJ25_equals_3 : decode cJ25_equals 3 = .ok (.arraylength, 1) := dk_190 (dk_at dksJ25_equals_0 3 rfl rfl)
theorem dJ25_equals_4 : decode cJ25_equals 4 = .ok (.if_icmp .ne 30, 3) := dk_160 0 30 (dk_at dksJ25_equals_0 4 rfl rfl)
theorem dJ25_equals_7 : decode cJ25_equals 7 = .ok (.iconst 0, 1) := dk_3 (dk_at dksJ25_equals_0 7 rfl rfl)
theorem dJ25_equals_8 : decode cJ25_equals 8 = .ok (.istore_n 2, 1) := dk_61 (dk_at dksJ25_equals_0 8 rfl rfl)
theorem dJ25_equals_9 : decode cJ25_equals 9 = .ok (.iload_n 2, 1) := dk_28 (dk_at dksJ25_equals_0 9 rfl rfl)
theorem dJ25_equals_10 : decode cJ25_equals 10 = .ok (.aload_n 0, 1) := dk_42 (dk_at dksJ25_equals_0 10 rfl rfl)
theorem dJ25_equals_11 : decode cJ25_equals 11 = .ok (.arraylength, 1) := dk_190 (dk_at dksJ25_equals_0 11 rfl rfl)
theorem dJ25_equals_12 : decode cJ25_equals 12 = .ok (.if_icmp .ge 20, 3) := dk_162 0 20 (dk_at dksJ25_equals_0 12 rfl rfl)
theorem dJ25_equals_15 : decode cJ25_equals 15 = .ok (.aload_n 0, 1) := dk_42 (dk_at dksJ25_equals_0 15 rfl rfl)
theorem dJ25_equals_16 : decode cJ25_equals 16 = .ok (.iload_n 2, 1) := dk_28 (dk_at dksJ25_equals_0 16 rfl rfl)
theorem dJ25_equals_17 : decode cJ25_equals 17 = .ok (.baload, 1) := dk_51 (dk_at dksJ25_equals_0 17 rfl rfl)
theorem dJ25_equals_18 : decode cJ25_equals 18 = .ok (.aload_n 1, 1) := dk_43 (dk_at dksJ25_equals_0 18 rfl rfl)
theorem dJ25_equals_19 : decode cJ25_equals 19 = .ok (.iload_n 2, 1) := dk_28 (dk_at dksJ25_equals_0 19 rfl rfl)
theorem dJ25_equals_20 : decode cJ25_equals 20 = .ok (.baload, 1) := dk_51 (dk_at dksJ25_equals_0 20 rfl rfl)
theorem dJ25_equals_21 : decode cJ25_equals 21 = .ok (.if_icmp .eq 5, 3) := dk_159 0 5 (dk_at dksJ25_equals_0 21 rfl rfl)
theorem dJ25_equals_24 : decode cJ25_equals 24 = .ok (.iconst 0, 1) := dk_3 (dk_at dksJ25_equals_1 0 rfl rfl)
theorem dJ25_equals_25 : decode cJ25_equals 25 = .ok (.ireturn, 1) := dk_172 (dk_at dksJ25_equals_1 1 rfl rfl)
theorem dJ25_equals_26 : decode cJ25_equals 26 = .ok (.iinc 2 1, 3) := dk_132 2 1 (dk_at dksJ25_equals_1 2 rfl rfl)
theorem dJ25_equals_29 : decode cJ25_equals 29 = .ok (.goto (-20), 3) := dk_167 255 236 (dk_at dksJ25_equals_1 5 rfl rfl)
theorem dJ25_equals_32 : decode cJ25_equals 32 = .ok (.iconst 1, 1) := dk_4 (dk_at dksJ25_equals_1 8 rfl rfl)
theorem dJ25_equals_33 : decode cJ25_equals 33 = .ok (.ireturn, 1) := dk_172 (dk_at dksJ25_equals_1 9 rfl rfl)
theorem dJ25_equals_34 : decode cJ25_equals 34 = .ok (.iconst 0, 1) := dk_3 (dk_at dksJ25_equals_1 10 rfl rfl)
theorem dJ25_equals_35 : decode cJ25_equals 35 = .ok (.ireturn, 1) := dk_172 (dk_at dksJ25_equals_1 11 rfl rfl)
abbrev cJ9_equals : ByteArray := prog_38_method_66_code
def yJ9_equals : MethodName := ⟨RJ9, "equals", "(Ljava/lang/Object;)Z"⟩
def dkwJ9_equals_2 : List UInt8 := [184, 2, 29, 153, 0, 7, 4, 167, 0, 4, 3, 172]
abbrev dktJ9_equals_2 : List UInt8 := dkwJ9_equals_2 ++ []
def dkwJ9_equals_1 : List UInt8 := [153, 0, 14, 42, 180, 0, 15, 44, 180, 0, 15, 160, 0, 21, 42, 180, 0, 9, 44, 180, 0, 9]
abbrev dktJ9_equals_1 : List UInt8 := dkwJ9_equals_1 ++ dktJ9_equals_2
def dkwJ9_equals_0 : List UInt8 := [42, 43, 166, 0, 5, 4, 172, 43, 193, 0, 10, 153, 0, 43, 43, 192, 0, 10, 77, 178, 0, 38]
abbrev dktJ9_equals_0 : List UInt8 := dkwJ9_equals_0 ++ dktJ9_equals_1
theorem dksJ9_equals_0 : cJ9_equals.data.toList.drop 0 = dktJ9_equals_0 := by decide +kernel
theorem dksJ9_equals_1 : cJ9_equals.data.toList.drop 22 = dktJ9_equals_1 := dk_seg dksJ9_equals_0 22 rfl rfl
theorem dksJ9_equals_2 : cJ9_equals.data.toList.drop 44 = dktJ9_equals_2 := dk_seg dksJ9_equals_1 22 rfl rfl
theorem dJ9_equals_0 : decode cJ9_equals 0 = .ok (.aload_n 0, 1) := dk_42 (dk_at dksJ9_equals_0 0 rfl rfl)
theorem dJ9_equals_1 : decode cJ9_equals 1 = .ok (.aload_n 1, 1) := dk_43 (dk_at dksJ9_equals_0 1 rfl rfl)
theorem dJ9_equals_2 : decode cJ9_equals 2 = .ok (.if_acmp .ne 5, 3) := dk_166 0 5 (dk_at dksJ9_equals_0 2 rfl rfl)
theorem dJ9_equals_5 : decode cJ9_equals 5 = .ok (.iconst 1, 1) := dk_4 (dk_at dksJ9_equals_0 5 rfl rfl)
theorem dJ9_equals_6 : decode cJ9_equals 6 = .ok (.ireturn, 1) := dk_172 (dk_at dksJ9_equals_0 6 rfl rfl)
theorem dJ9_equals_7 : decode cJ9_equals 7 = .ok (.aload_n 1, 1) := dk_43 (dk_at dksJ9_equals_0 7 rfl rfl)
theorem dJ9_equals_8 : decode cJ9_equals 8 = .ok (.instanceof 10, 3) := dk_193 0 10 (dk_at dksJ9_equals_0 8 rfl rfl)
theorem dJ9_equals_11 : decode cJ9_equals 11 = .ok (.ifCond .eq 43, 3) := dk_153 0 43 (dk_at dksJ9_equals_0 11 rfl rfl)
theorem dJ9_equals_14 : decode cJ9_equals 14 = .ok (.aload_n 1, 1) := dk_43 (dk_at dksJ9_equals_0 14 rfl rfl)
theorem dJ9_equals_15 : decode cJ9_equals 15 = .ok (.checkcast 10, 3) := dk_192 0 10 (dk_at dksJ9_equals_0 15 rfl rfl)
theorem dJ9_equals_18 : decode cJ9_equals 18 = .ok (.astore_n 2, 1) := dk_77 (dk_at dksJ9_equals_0 18 rfl rfl)
theorem dJ9_equals_19 : decode cJ9_equals 19 = .ok (.getstatic 38, 3) := dk_178 0 38 (dk_at dksJ9_equals_0 19 rfl rfl)
theorem dJ9_equals_22 : decode cJ9_equals 22 = .ok (.ifCond .eq 14, 3) := dk_153 0 14 (dk_at dksJ9_equals_1 0 rfl rfl)
theorem dJ9_equals_25 : decode cJ9_equals 25 = .ok (.aload_n 0, 1) := dk_42 (dk_at dksJ9_equals_1 3 rfl rfl)
theorem dJ9_equals_26 : decode cJ9_equals 26 = .ok (.getfield 15, 3) := dk_180 0 15 (dk_at dksJ9_equals_1 4 rfl rfl)
theorem dJ9_equals_29 : decode cJ9_equals 29 = .ok (.aload_n 2, 1) := dk_44 (dk_at dksJ9_equals_1 7 rfl rfl)
theorem dJ9_equals_30 : decode cJ9_equals 30 = .ok (.getfield 15, 3) := dk_180 0 15 (dk_at dksJ9_equals_1 8 rfl rfl)
theorem dJ9_equals_33 : decode cJ9_equals 33 = .ok (.if_icmp .ne 21, 3) := dk_160 0 21 (dk_at dksJ9_equals_1 11 rfl rfl)
theorem dJ9_equals_36 : decode cJ9_equals 36 = .ok (.aload_n 0, 1) := dk_42 (dk_at dksJ9_equals_1 14 rfl rfl)
theorem dJ9_equals_37 : decode cJ9_equals 37 = .ok (.getfield 9, 3) := dk_180 0 9 (dk_at dksJ9_equals_1 15 rfl rfl)
theorem dJ9_equals_40 : decode cJ9_equals 40 = .ok (.aload_n 2, 1) := dk_44 (dk_at dksJ9_equals_1 18 rfl rfl)
theorem dJ9_equals_41 : decode cJ9_equals 41 = .ok (.getfield 9, 3) := dk_180 0 9 (dk_at dksJ9_equals_1 19 rfl rfl)
theorem dJ9_equals_44 : decode cJ9_equals 44 = .ok (.invokestatic 541, 3) := dk_184 2 29 (dk_at dksJ9_equals_2 0 rfl rfl)
theorem dJ9_equals_47 : decode cJ9_equals 47 = .ok (.ifCond .eq 7, 3) := dk_153 0 7 (dk_at dksJ9_equals_2 3 rfl rfl)
theorem dJ9_equals_50 : decode cJ9_equals 50 = .ok (.iconst 1, 1) := dk_4 (dk_at dksJ9_equals_2 6 rfl rfl)
theorem dJ9_equals_51 : decode cJ9_equals 51 = .ok (.goto 4, 3) := dk_167 0 4 (dk_at dksJ9_equals_2 7 rfl rfl)
theorem dJ9_equals_54 : decode cJ9_equals 54 = .ok (.iconst 0, 1) := dk_3 (dk_at dksJ9_equals_2 10 rfl rfl)
theorem dJ9_equals_55 : decode cJ9_equals 55 = .ok (.ireturn, 1) := dk_172 (dk_at dksJ9_equals_2 11 rfl rfl)
abbrev cJ9_isLatin1 : ByteArray := prog_38_method_154_code
def yJ9_isLatin1 : MethodName := ⟨RJ9, "isLatin1", "()Z"⟩
def dkwJ9_isLatin1_0 : List UInt8 := [178, 0, 38, 153, 0, 14, 42, 180, 0, 15, 154, 0, 7, 4, 167, 0, 4, 3, 172]
abbrev dktJ9_isLatin1_0 : List UInt8 := dkwJ9_isLatin1_0 ++ []
theorem dksJ9_isLatin1_0 : cJ9_isLatin1.data.toList.drop 0 = dktJ9_isLatin1_0 := by decide +kernel
theorem dJ9_isLatin1_0 : decode cJ9_isLatin1 0 = .ok (.getstatic 38, 3) := dk_178 0 38 (dk_at dksJ9_isLatin1_0 0 rfl rfl)
theorem dJ9_isLatin1_3 : decode cJ9_isLatin1 3 = .ok (.ifCond .eq 14, 3) := dk_153 0 14 (dk_at dksJ9_isLatin1_0 3 rfl rfl)
theorem dJ9_isLatin1_6 : decode cJ9_isLatin1 6 = .ok (.aload_n 0, 1) := dk_42 (dk_at dksJ9_isLatin1_0 6 rfl rfl)
theorem dJ9_isLatin1_7 : decode cJ9_isLatin1 7 = .ok (.getfield 15, 3) := dk_180 0 15 (dk_at dksJ9_isLatin1_0 7 rfl rfl)
theorem dJ9_isLatin1_10 : decode cJ9_isLatin1 10 = .ok (.ifCond .ne 7, 3) := dk_154 0 7 (dk_at dksJ9_isLatin1_0 10 rfl rfl)
theorem dJ9_isLatin1_13 : decode cJ9_isLatin1 13 = .ok (.iconst 1, 1) := dk_4 (dk_at dksJ9_isLatin1_0 13 rfl rfl)
theorem dJ9_isLatin1_14 : decode cJ9_isLatin1 14 = .ok (.goto 4, 3) := dk_167 0 4 (dk_at dksJ9_isLatin1_0 14 rfl rfl)
theorem dJ9_isLatin1_17 : decode cJ9_isLatin1 17 = .ok (.iconst 0, 1) := dk_3 (dk_at dksJ9_isLatin1_0 17 rfl rfl)
theorem dJ9_isLatin1_18 : decode cJ9_isLatin1 18 = .ok (.ireturn, 1) := dk_172 (dk_at dksJ9_isLatin1_0 18 rfl rfl)
abbrev cJ21_hashCode_2 : ByteArray := prog_109_method_6_code
def yJ21_hashCode_2 : MethodName := ⟨RJ21, "hashCode", "(I[BII)I"⟩
def dkwJ21_hashCode_2_1 : List UInt8 := [59, 132, 5, 1, 167, 255, 236, 26, 172]
abbrev dktJ21_hashCode_2_1 : List UInt8 := dkwJ21_hashCode_2_1 ++ []
def dkwJ21_hashCode_2_0 : List UInt8 := [28, 29, 96, 54, 4, 28, 54, 5, 21, 5, 21, 4, 162, 0, 19, 16, 31, 26, 104, 43, 21, 5, 51, 96]
abbrev dktJ21_hashCode_2_0 : List UInt8 := dkwJ21_hashCode_2_0 ++ dktJ21_hashCode_2_1
theorem dksJ21_hashCode_2_0 : cJ21_hashCode_2.data.toList.drop 0 = dktJ21_hashCode_2_0 := by decide +kernel
theorem dksJ21_hashCode_2_1 : cJ21_hashCode_2.data.toList.drop 24 = dktJ21_hashCode_2_1 := dk_seg dksJ21_hashCode_2_0 24 rfl rfl
theorem dJ21_hashCode_2_0 : decode cJ21_hashCode_2 0 = .ok (.iload_n 2, 1) := dk_28 (dk_at dksJ21_hashCode_2_0 0 rfl rfl)
theorem dJ21_hashCode_2_1 : decode cJ21_hashCode_2 1 = .ok (.iload_n 3, 1) := dk_29 (dk_at dksJ21_hashCode_2_0 1 rfl rfl)
theorem dJ21_hashCode_2_2 : decode cJ21_hashCode_2 2 = .ok (.iadd, 1) := dk_96 (dk_at dksJ21_hashCode_2_0 2 rfl rfl)
theorem dJ21_hashCode_2_3 : decode cJ21_hashCode_2 3 = .ok (.istore 4, 2) := dk_54 4 (dk_at dksJ21_hashCode_2_0 3 rfl rfl)
theorem dJ21_hashCode_2_5 : decode cJ21_hashCode_2 5 = .ok (.iload_n 2, 1) := dk_28 (dk_at dksJ21_hashCode_2_0 5 rfl rfl)
theorem dJ21_hashCode_2_6 : decode cJ21_hashCode_2 6 = .ok (.istore 5, 2) := dk_54 5 (dk_at dksJ21_hashCode_2_0 6 rfl rfl)
theorem dJ21_hashCode_2_8 : decode cJ21_hashCode_2 8 = .ok (.iload 5, 2) := dk_21 5 (dk_at dksJ21_hashCode_2_0 8 rfl rfl)
theorem dJ21_hashCode_2_10 : decode cJ21_hashCode_2 10 = .ok (.iload 4, 2) := dk_21 4 (dk_at dksJ21_hashCode_2_0 10 rfl rfl)
theorem dJ21_hashCode_2_12 : decode cJ21_hashCode_2 12 = .ok (.if_icmp .ge 19, 3) := dk_162 0 19 (dk_at dksJ21_hashCode_2_0 12 rfl rfl)
theorem dJ21_hashCode_2_15 : decode cJ21_hashCode_2 15 = .ok (.bipush 31, 2) := dk_16 31 (dk_at dksJ21_hashCode_2_0 15 rfl rfl)
theorem dJ21_hashCode_2_17 : decode cJ21_hashCode_2 17 = .ok (.iload_n 0, 1) := dk_26 (dk_at dksJ21_hashCode_2_0 17 rfl rfl)
theorem dJ21_hashCode_2_18 : decode cJ21_hashCode_2 18 = .ok (.imul, 1) := dk_104 (dk_at dksJ21_hashCode_2_0 18 rfl rfl)
theorem dJ21_hashCode_2_19 : decode cJ21_hashCode_2 19 = .ok (.aload_n 1, 1) := dk_43 (dk_at dksJ21_hashCode_2_0 19 rfl rfl)
theorem dJ21_hashCode_2_20 : decode cJ21_hashCode_2 20 = .ok (.iload 5, 2) := dk_21 5 (dk_at dksJ21_hashCode_2_0 20 rfl rfl)
theorem dJ21_hashCode_2_22 : decode cJ21_hashCode_2 22 = .ok (.baload, 1) := dk_51 (dk_at dksJ21_hashCode_2_0 22 rfl rfl)
theorem dJ21_hashCode_2_23 : decode cJ21_hashCode_2 23 = .ok (.iadd, 1) := dk_96 (dk_at dksJ21_hashCode_2_0 23 rfl rfl)
theorem dJ21_hashCode_2_24 : decode cJ21_hashCode_2 24 = .ok (.istore_n 0, 1) := dk_59 (dk_at dksJ21_hashCode_2_1 0 rfl rfl)
theorem dJ21_hashCode_2_25 : decode cJ21_hashCode_2 25 = .ok (.iinc 5 1, 3) := dk_132 5 1 (dk_at dksJ21_hashCode_2_1 1 rfl rfl)
theorem dJ21_hashCode_2_28 : decode cJ21_hashCode_2 28 = .ok (.goto (-20), 3) := dk_167 255 236 (dk_at dksJ21_hashCode_2_1 4 rfl rfl)
theorem dJ21_hashCode_2_31 : decode cJ21_hashCode_2 31 = .ok (.iload_n 0, 1) := dk_26 (dk_at dksJ21_hashCode_2_1 7 rfl rfl)
theorem dJ21_hashCode_2_32 : decode cJ21_hashCode_2 32 = .ok (.ireturn, 1) := dk_172 (dk_at dksJ21_hashCode_2_1 8 rfl rfl)
abbrev cJ21_hashCode_4 : ByteArray := prog_109_method_9_code
def yJ21_hashCode_4 : MethodName := ⟨RJ21, "hashCode", "(I[III)I"⟩
def dkwJ21_hashCode_4_1 : List UInt8 := [59, 132, 5, 1, 167, 255, 236, 26, 172]
abbrev dktJ21_hashCode_4_1 : List UInt8 := dkwJ21_hashCode_4_1 ++ []
def dkwJ21_hashCode_4_0 : List UInt8 := [28, 29, 96, 54, 4, 28, 54, 5, 21, 5, 21, 4, 162, 0, 19, 16, 31, 26, 104, 43, 21, 5, 46, 96]
abbrev dktJ21_hashCode_4_0 : List UInt8 := dkwJ21_hashCode_4_0 ++ dktJ21_hashCode_4_1
theorem dksJ21_hashCode_4_0 : cJ21_hashCode_4.data.toList.drop 0 = dktJ21_hashCode_4_0 := by decide +kernel
theorem dksJ21_hashCode_4_1 : cJ21_hashCode_4.data.toList.drop 24 = dktJ21_hashCode_4_1 := dk_seg dksJ21_hashCode_4_0 24 rfl rfl
theorem dJ21_hashCode_4_0 : decode cJ21_hashCode_4 0 = .ok (.iload_n 2, 1) := dk_28 (dk_at dksJ21_hashCode_4_0 0 rfl rfl)
theorem dJ21_hashCode_4_1 : decode cJ21_hashCode_4 1 = .ok (.iload_n 3, 1) := dk_29 (dk_at dksJ21_hashCode_4_0 1 rfl rfl)
theorem dJ21_hashCode_4_2 : decode cJ21_hashCode_4 2 = .ok (.iadd, 1) := dk_96 (dk_at dksJ21_hashCode_4_0 2 rfl rfl)
theorem dJ21_hashCode_4_3 : decode cJ21_hashCode_4 3 = .ok (.istore 4, 2) := dk_54 4 (dk_at dksJ21_hashCode_4_0 3 rfl rfl)
theorem dJ21_hashCode_4_5 : decode cJ21_hashCode_4 5 = .ok (.iload_n 2, 1) := dk_28 (dk_at dksJ21_hashCode_4_0 5 rfl rfl)
theorem dJ21_hashCode_4_6 : decode cJ21_hashCode_4 6 = .ok (.istore 5, 2) := dk_54 5 (dk_at dksJ21_hashCode_4_0 6 rfl rfl)
theorem dJ21_hashCode_4_8 : decode cJ21_hashCode_4 8 = .ok (.iload 5, 2) := dk_21 5 (dk_at dksJ21_hashCode_4_0 8 rfl rfl)
theorem dJ21_hashCode_4_10 : decode cJ21_hashCode_4 10 = .ok (.iload 4, 2) := dk_21 4 (dk_at dksJ21_hashCode_4_0 10 rfl rfl)
theorem dJ21_hashCode_4_12 : decode cJ21_hashCode_4 12 = .ok (.if_icmp .ge 19, 3) := dk_162 0 19 (dk_at dksJ21_hashCode_4_0 12 rfl rfl)
theorem dJ21_hashCode_4_15 : decode cJ21_hashCode_4 15 = .ok (.bipush 31, 2) := dk_16 31 (dk_at dksJ21_hashCode_4_0 15 rfl rfl)
theorem dJ21_hashCode_4_17 : decode cJ21_hashCode_4 17 = .ok (.iload_n 0, 1) := dk_26 (dk_at dksJ21_hashCode_4_0 17 rfl rfl)
theorem dJ21_hashCode_4_18 : decode cJ21_hashCode_4 18 = .ok (.imul, 1) := dk_104 (dk_at dksJ21_hashCode_4_0 18 rfl rfl)
theorem dJ21_hashCode_4_19 : decode cJ21_hashCode_4 19 = .ok (.aload_n 1, 1) := dk_43 (dk_at dksJ21_hashCode_4_0 19 rfl rfl)
theorem dJ21_hashCode_4_20 : decode cJ21_hashCode_4 20 = .ok (.iload 5, 2) := dk_21 5 (dk_at dksJ21_hashCode_4_0 20 rfl rfl)
theorem dJ21_hashCode_4_22 : decode cJ21_hashCode_4 22 = .ok (.iaload, 1) := dk_46 (dk_at dksJ21_hashCode_4_0 22 rfl rfl)
theorem dJ21_hashCode_4_23 : decode cJ21_hashCode_4 23 = .ok (.iadd, 1) := dk_96 (dk_at dksJ21_hashCode_4_0 23 rfl rfl)
theorem dJ21_hashCode_4_24 : decode cJ21_hashCode_4 24 = .ok (.istore_n 0, 1) := dk_59 (dk_at dksJ21_hashCode_4_1 0 rfl rfl)
theorem dJ21_hashCode_4_25 : decode cJ21_hashCode_4 25 = .ok (.iinc 5 1, 3) := dk_132 5 1 (dk_at dksJ21_hashCode_4_1 1 rfl rfl)
theorem dJ21_hashCode_4_28 : decode cJ21_hashCode_4 28 = .ok (.goto (-20), 3) := dk_167 255 236 (dk_at dksJ21_hashCode_4_1 4 rfl rfl)
theorem dJ21_hashCode_4_31 : decode cJ21_hashCode_4 31 = .ok (.iload_n 0, 1) := dk_26 (dk_at dksJ21_hashCode_4_1 7 rfl rfl)
theorem dJ21_hashCode_4_32 : decode cJ21_hashCode_4 32 = .ok (.ireturn, 1) := dk_172 (dk_at dksJ21_hashCode_4_1 8 rfl rfl)
abbrev cJ21_signedHashCode : ByteArray := prog_109_method_5_code
def yJ21_signedHashCode : MethodName := ⟨RJ21, "signedHashCode", "(I[BII)I"⟩
def dkwJ21_signedHashCode_1 : List UInt8 := [17, 0, 255, 126, 96, 59, 132, 5, 1, 167, 255, 232, 26, 172]
abbrev dktJ21_signedHashCode_1 : List UInt8 := dkwJ21_signedHashCode_1 ++ []
def dkwJ21_signedHashCode_0 : List UInt8 := [28, 29, 96, 54, 4, 28, 54, 5, 21, 5, 21, 4, 162, 0, 23, 16, 31, 26, 104, 43, 21, 5, 51]
abbrev dktJ21_signedHashCode_0 : List UInt8 := dkwJ21_signedHashCode_0 ++ dktJ21_signedHashCode_1
theorem dksJ21_signedHashCode_0 : cJ21_signedHashCode.data.toList.drop 0 = dktJ21_signedHashCode_0 := by decide +kernel
theorem dksJ21_signedHashCode_1 : cJ21_signedHashCode.data.toList.drop 23 = dktJ21_signedHashCode_1 := dk_seg dksJ21_signedHashCode_0 23 rfl rfl
theorem dJ21_signedHashCode_0 : decode cJ21_signedHashCode 0 = .ok (.iload_n 2, 1) := dk_28 (dk_at dksJ21_signedHashCode_0 0 rfl rfl)
theorem dJ21_signedHashCode_1 : decode cJ21_signedHashCode 1 = .ok (.iload_n 3, 1) := dk_29 (dk_at dksJ21_signedHashCode_0 1 rfl rfl)
theorem dJ21_signedHashCode_2 : decode cJ21_signedHashCode 2 = .ok (.iadd, 1) := dk_96 (dk_at dksJ21_signedHashCode_0 2 rfl rfl)
theorem dJ21_signedHashCode_3 : decode cJ21_signedHashCode 3 = .ok (.istore 4, 2) := dk_54 4 (dk_at dksJ21_signedHashCode_0 3 rfl rfl)
theorem dJ21_signedHashCode_5 : decode cJ21_signedHashCode 5 = .ok (.iload_n 2, 1) := dk_28 (dk_at dksJ21_signedHashCode_0 5 rfl rfl)
theorem dJ21_signedHashCode_6 : decode cJ21_signedHashCode 6 = .ok (.istore 5, 2) := dk_54 5 (dk_at dksJ21_signedHashCode_0 6 rfl rfl)
theorem dJ21_signedHashCode_8 : decode cJ21_signedHashCode 8 = .ok (.iload 5, 2) := dk_21 5 (dk_at dksJ21_signedHashCode_0 8 rfl rfl)
theorem dJ21_signedHashCode_10 : decode cJ21_signedHashCode 10 = .ok (.iload 4, 2) := dk_21 4 (dk_at dksJ21_signedHashCode_0 10 rfl rfl)
theorem dJ21_signedHashCode_12 : decode cJ21_signedHashCode 12 = .ok (.if_icmp .ge 23, 3) := dk_162 0 23 (dk_at dksJ21_signedHashCode_0 12 rfl rfl)
theorem dJ21_signedHashCode_15 : decode cJ21_signedHashCode 15 = .ok (.bipush 31, 2) := dk_16 31 (dk_at dksJ21_signedHashCode_0 15 rfl rfl)
theorem dJ21_signedHashCode_17 : decode cJ21_signedHashCode 17 = .ok (.iload_n 0, 1) := dk_26 (dk_at dksJ21_signedHashCode_0 17 rfl rfl)
theorem dJ21_signedHashCode_18 : decode cJ21_signedHashCode 18 = .ok (.imul, 1) := dk_104 (dk_at dksJ21_signedHashCode_0 18 rfl rfl)
theorem dJ21_signedHashCode_19 : decode cJ21_signedHashCode 19 = .ok (.aload_n 1, 1) := dk_43 (dk_at dksJ21_signedHashCode_0 19 rfl rfl)
theorem dJ21_signedHashCode_20 : decode cJ21_signedHashCode 20 = .ok (.iload 5, 2) := dk_21 5 (dk_at dksJ21_signedHashCode_0 20 rfl rfl)
theorem dJ21_signedHashCode_22 : decode cJ21_signedHashCode 22 = .ok (.baload, 1) := dk_51 (dk_at dksJ21_signedHashCode_0 22 rfl rfl)
theorem dJ21_signedHashCode_23 : decode cJ21_signedHashCode 23 = .ok (.sipush 255, 3) := dk_17 0 255 (dk_at dksJ21_signedHashCode_1 0 rfl rfl)
theorem dJ21_signedHashCode_26 : decode cJ21_signedHashCode 26 = .ok (.iand, 1) := dk_126 (dk_at dksJ21_signedHashCode_1 3 rfl rfl)
theorem dJ21_signedHashCode_27 : decode cJ21_signedHashCode 27 = .ok (.iadd, 1) := dk_96 (dk_at dksJ21_signedHashCode_1 4 rfl rfl)
theorem dJ21_signedHashCode_28 : decode cJ21_signedHashCode 28 = .ok (.istore_n 0, 1) := dk_59 (dk_at dksJ21_signedHashCode_1 5 rfl rfl)
theorem dJ21_signedHashCode_29 : decode cJ21_signedHashCode 29 = .ok (.iinc 5 1, 3) := dk_132 5 1 (dk_at dksJ21_signedHashCode_1 6 rfl rfl)
theorem dJ21_signedHashCode_32 : decode cJ21_signedHashCode 32 = .ok (.goto (-24), 3) := dk_167 255 232 (dk_at dksJ21_signedHashCode_1 9 rfl rfl)
theorem dJ21_signedHashCode_35 : decode cJ21_signedHashCode 35 = .ok (.iload_n 0, 1) := dk_26 (dk_at dksJ21_signedHashCode_1 12 rfl rfl)
theorem dJ21_signedHashCode_36 : decode cJ21_signedHashCode 36 = .ok (.ireturn, 1) := dk_172 (dk_at dksJ21_signedHashCode_1 13 rfl rfl)
abbrev cJ21_vectorizedHashCode : ByteArray := prog_109_method_4_code
def yJ21_vectorizedHashCode : MethodName := ⟨RJ21, "vectorizedHashCode", "(Ljava/lang/Object;IIII)I"⟩
def dkwJ21_vectorizedHashCode_6 : List UInt8 := [183, 0, 91, 18, 92, 182, 0, 94, 21, 4, 182, 0, 98, 182, 0, 101, 183, 0, 105, 191, 172]
abbrev dktJ21_vectorizedHashCode_6 : List UInt8 := dkwJ21_vectorizedHashCode_6 ++ []
def dkwJ21_vectorizedHashCode_5 : List UInt8 := [167, 0, 44, 29, 42, 192, 0, 82, 27, 28, 184, 0, 84, 167, 0, 31, 187, 0, 87, 89, 187, 0, 89, 89]
abbrev dktJ21_vectorizedHashCode_5 : List UInt8 := dkwJ21_vectorizedHashCode_5 ++ dktJ21_vectorizedHashCode_6
def dkwJ21_vectorizedHashCode_4 : List UInt8 := [29, 42, 192, 0, 60, 27, 28, 184, 0, 75, 167, 0, 57, 29, 42, 192, 0, 77, 27, 28, 184, 0, 79]
abbrev dktJ21_vectorizedHashCode_4 : List UInt8 := dkwJ21_vectorizedHashCode_4 ++ dktJ21_vectorizedHashCode_5
def dkwJ21_vectorizedHashCode_3 : List UInt8 := [192, 0, 60, 27, 28, 184, 0, 66, 167, 0, 83, 29, 42, 192, 0, 69, 27, 28, 184, 0, 71, 167, 0, 70]
abbrev dktJ21_vectorizedHashCode_3 : List UInt8 := dkwJ21_vectorizedHashCode_3 ++ dktJ21_vectorizedHashCode_4
def dkwJ21_vectorizedHashCode_2 : List UInt8 := [29, 42, 192, 0, 60, 27, 28, 184, 0, 62, 167, 0, 103, 42, 193, 0, 60, 153, 0, 16, 29, 42]
abbrev dktJ21_vectorizedHashCode_2 : List UInt8 := dkwJ21_vectorizedHashCode_2 ++ dktJ21_vectorizedHashCode_3
def dkwJ21_vectorizedHashCode_1 : List UInt8 := [170, 0, 0, 0, 0, 127, 0, 0, 0, 4, 0, 0, 0, 10, 0, 0, 0, 42, 0, 0, 0, 55, 0, 0, 0, 127, 0, 0, 0, 127, 0, 0, 0, 88, 0, 0, 0, 101, 0, 0, 0, 114]
abbrev dktJ21_vectorizedHashCode_1 : List UInt8 := dkwJ21_vectorizedHashCode_1 ++ dktJ21_vectorizedHashCode_2
def dkwJ21_vectorizedHashCode_0 : List UInt8 := [21, 4]
abbrev dktJ21_vectorizedHashCode_0 : List UInt8 := dkwJ21_vectorizedHashCode_0 ++ dktJ21_vectorizedHashCode_1
theorem dksJ21_vectorizedHashCode_0 : cJ21_vectorizedHashCode.data.toList.drop 0 = dktJ21_vectorizedHashCode_0 := by decide +kernel
theorem dksJ21_vectorizedHashCode_1 : cJ21_vectorizedHashCode.data.toList.drop 2 = dktJ21_vectorizedHashCode_1 := dk_seg dksJ21_vectorizedHashCode_0 2 rfl rfl
theorem dksJ21_vectorizedHashCode_2 : cJ21_vectorizedHashCode.data.toList.drop 44 = dktJ21_vectorizedHashCode_2 := dk_seg dksJ21_vectorizedHashCode_1 42 rfl rfl
theorem dksJ21_vectorizedHashCode_3 : cJ21_vectorizedHashCode.data.toList.drop 66 = dktJ21_vectorizedHashCode_3 := dk_seg dksJ21_vectorizedHashCode_2 22 rfl rfl
theorem dksJ21_vectorizedHashCode_4 : cJ21_vectorizedHashCode.data.toList.drop 90 = dktJ21_vectorizedHashCode_4 := dk_seg dksJ21_vectorizedHashCode_3 24 rfl rfl
theorem dksJ21_vectorizedHashCode_5 : cJ21_vectorizedHashCode.data.toList.drop 113 = dktJ21_vectorizedHashCode_5 := dk_seg dksJ21_vectorizedHashCode_4 23 rfl rfl
theorem dksJ21_vectorizedHashCode_6 : cJ21_vectorizedHashCode.data.toList.drop 137 = dktJ21_vectorizedHashCode_6 := dk_seg dksJ21_vectorizedHashCode_5 24 rfl rfl
theorem dJ21_vectorizedHashCode_0 : decode cJ21_vectorizedHashCode 0 = .ok (.iload 4, 2) := dk_21 4 (dk_at dksJ21_vectorizedHashCode_0 0 rfl rfl)
theorem dJ21_vectorizedHashCode_2 : decode cJ21_vectorizedHashCode 2 = .ok (.tableswitch 127 4 10 #[42, 55, 127, 127, 88, 101, 114], 42) := by decide +kernel
theorem dJ21_vectorizedHashCode_44 : decode cJ21_vectorizedHashCode 44 = .ok (.iload_n 3, 1) := dk_29 (dk_at dksJ21_vectorizedHashCode_2 0 rfl rfl)
theorem dJ21_vectorizedHashCode_45 : decode cJ21_vectorizedHashCode 45 = .ok (.aload_n 0, 1) := dk_42 (dk_at dksJ21_vectorizedHashCode_2 1 rfl rfl)
theorem dJ21_vectorizedHashCode_46 : decode cJ21_vectorizedHashCode 46 = .ok (.checkcast 60, 3) := dk_192 0 60 (dk_at dksJ21_vectorizedHashCode_2 2 rfl rfl)
theorem dJ21_vectorizedHashCode_49 : decode cJ21_vectorizedHashCode 49 = .ok (.iload_n 1, 1) := dk_27 (dk_at dksJ21_vectorizedHashCode_2 5 rfl rfl)
theorem dJ21_vectorizedHashCode_50 : decode cJ21_vectorizedHashCode 50 = .ok (.iload_n 2, 1) := dk_28 (dk_at dksJ21_vectorizedHashCode_2 6 rfl rfl)
theorem dJ21_vectorizedHashCode_51 : decode cJ21_vectorizedHashCode 51 = .ok (.invokestatic 62, 3) := dk_184 0 62 (dk_at dksJ21_vectorizedHashCode_2 7 rfl rfl)
theorem dJ21_vectorizedHashCode_54 : decode cJ21_vectorizedHashCode 54 = .ok (.goto 103, 3) := dk_167 0 103 (dk_at dksJ21_vectorizedHashCode_2 10 rfl rfl)
theorem dJ21_vectorizedHashCode_57 : decode cJ21_vectorizedHashCode 57 = .ok (.aload_n 0, 1) := dk_42 (dk_at dksJ21_vectorizedHashCode_2 13 rfl rfl)
theorem dJ21_vectorizedHashCode_58 : decode cJ21_vectorizedHashCode 58 = .ok (.instanceof 60, 3) := dk_193 0 60 (dk_at dksJ21_vectorizedHashCode_2 14 rfl rfl)
theorem dJ21_vectorizedHashCode_61 : decode cJ21_vectorizedHashCode 61 = .ok (.ifCond .eq 16, 3) := dk_153 0 16 (dk_at dksJ21_vectorizedHashCode_2 17 rfl rfl)
theorem dJ21_vectorizedHashCode_64 : decode cJ21_vectorizedHashCode 64 = .ok (.iload_n 3, 1) := dk_29 (dk_at dksJ21_vectorizedHashCode_2 20 rfl rfl)
theorem dJ21_vectorizedHashCode_65 : decode cJ21_vectorizedHashCode 65 = .ok (.aload_n 0, 1) := dk_42 (dk_at dksJ21_vectorizedHashCode_2 21 rfl rfl)
theorem dJ21_vectorizedHashCode_66 : decode cJ21_vectorizedHashCode 66 = .ok (.checkcast 60, 3) := dk_192 0 60 (dk_at dksJ21_vectorizedHashCode_3 0 rfl rfl)
theorem dJ21_vectorizedHashCode_69 : decode cJ21_vectorizedHashCode 69 = .ok (.iload_n 1, 1) := dk_27 (dk_at dksJ21_vectorizedHashCode_3 3 rfl rfl)
theorem dJ21_vectorizedHashCode_70 : decode cJ21_vectorizedHashCode 70 = .ok (.iload_n 2, 1) := dk_28 (dk_at dksJ21_vectorizedHashCode_3 4 rfl rfl)
theorem dJ21_vectorizedHashCode_71 : decode cJ21_vectorizedHashCode 71 = .ok (.invokestatic 66, 3) := dk_184 0 66 (dk_at dksJ21_vectorizedHashCode_3 5 rfl rfl)
theorem dJ21_vectorizedHashCode_77 : decode cJ21_vectorizedHashCode 77 = .ok (.iload_n 3, 1) := dk_29 (dk_at dksJ21_vectorizedHashCode_3 11 rfl rfl)
theorem dJ21_vectorizedHashCode_78 : decode cJ21_vectorizedHashCode 78 = .ok (.aload_n 0, 1) := dk_42 (dk_at dksJ21_vectorizedHashCode_3 12 rfl rfl)
theorem dJ21_vectorizedHashCode_79 : decode cJ21_vectorizedHashCode 79 = .ok (.checkcast 69, 3) := dk_192 0 69 (dk_at dksJ21_vectorizedHashCode_3 13 rfl rfl)
theorem dJ21_vectorizedHashCode_90 : decode cJ21_vectorizedHashCode 90 = .ok (.iload_n 3, 1) := dk_29 (dk_at dksJ21_vectorizedHashCode_4 0 rfl rfl)
theorem dJ21_vectorizedHashCode_91 : decode cJ21_vectorizedHashCode 91 = .ok (.aload_n 0, 1) := dk_42 (dk_at dksJ21_vectorizedHashCode_4 1 rfl rfl)
theorem dJ21_vectorizedHashCode_92 : decode cJ21_vectorizedHashCode 92 = .ok (.checkcast 60, 3) := dk_192 0 60 (dk_at dksJ21_vectorizedHashCode_4 2 rfl rfl)
theorem dJ21_vectorizedHashCode_95 : decode cJ21_vectorizedHashCode 95 = .ok (.iload_n 1, 1) := dk_27 (dk_at dksJ21_vectorizedHashCode_4 5 rfl rfl)
theorem dJ21_vectorizedHashCode_96 : decode cJ21_vectorizedHashCode 96 = .ok (.iload_n 2, 1) := dk_28 (dk_at dksJ21_vectorizedHashCode_4 6 rfl rfl)
theorem dJ21_vectorizedHashCode_97 : decode cJ21_vectorizedHashCode 97 = .ok (.invokestatic 75, 3) := dk_184 0 75 (dk_at dksJ21_vectorizedHashCode_4 7 rfl rfl)
theorem dJ21_vectorizedHashCode_100 : decode cJ21_vectorizedHashCode 100 = .ok (.goto 57, 3) := dk_167 0 57 (dk_at dksJ21_vectorizedHashCode_4 10 rfl rfl)
theorem dJ21_vectorizedHashCode_103 : decode cJ21_vectorizedHashCode 103 = .ok (.iload_n 3, 1) := dk_29 (dk_at dksJ21_vectorizedHashCode_4 13 rfl rfl)
theorem dJ21_vectorizedHashCode_104 : decode cJ21_vectorizedHashCode 104 = .ok (.aload_n 0, 1) := dk_42 (dk_at dksJ21_vectorizedHashCode_4 14 rfl rfl)
theorem dJ21_vectorizedHashCode_105 : decode cJ21_vectorizedHashCode 105 = .ok (.checkcast 77, 3) := dk_192 0 77 (dk_at dksJ21_vectorizedHashCode_4 15 rfl rfl)
theorem dJ21_vectorizedHashCode_116 : decode cJ21_vectorizedHashCode 116 = .ok (.iload_n 3, 1) := dk_29 (dk_at dksJ21_vectorizedHashCode_5 3 rfl rfl)
theorem dJ21_vectorizedHashCode_117 : decode cJ21_vectorizedHashCode 117 = .ok (.aload_n 0, 1) := dk_42 (dk_at dksJ21_vectorizedHashCode_5 4 rfl rfl)
theorem dJ21_vectorizedHashCode_118 : decode cJ21_vectorizedHashCode 118 = .ok (.checkcast 82, 3) := dk_192 0 82 (dk_at dksJ21_vectorizedHashCode_5 5 rfl rfl)
theorem dJ21_vectorizedHashCode_121 : decode cJ21_vectorizedHashCode 121 = .ok (.iload_n 1, 1) := dk_27 (dk_at dksJ21_vectorizedHashCode_5 8 rfl rfl)
theorem dJ21_vectorizedHashCode_122 : decode cJ21_vectorizedHashCode 122 = .ok (.iload_n 2, 1) := dk_28 (dk_at dksJ21_vectorizedHashCode_5 9 rfl rfl)
theorem dJ21_vectorizedHashCode_123 : decode cJ21_vectorizedHashCode 123 = .ok (.invokestatic 84, 3) := dk_184 0 84 (dk_at dksJ21_vectorizedHashCode_5 10 rfl rfl)
theorem dJ21_vectorizedHashCode_126 : decode cJ21_vectorizedHashCode 126 = .ok (.goto 31, 3) := dk_167 0 31 (dk_at dksJ21_vectorizedHashCode_5 13 rfl rfl)
theorem dJ21_vectorizedHashCode_129 : decode cJ21_vectorizedHashCode 129 = .ok (.new 87, 3) := dk_187 0 87 (dk_at dksJ21_vectorizedHashCode_5 16 rfl rfl)
theorem dJ21_vectorizedHashCode_157 : decode cJ21_vectorizedHashCode 157 = .ok (.ireturn, 1) := dk_172 (dk_at dksJ21_vectorizedHashCode_6 20 rfl rfl)
abbrev cJ25_hashCode : ByteArray := prog_41_method_21_code
def yJ25_hashCode : MethodName := ⟨RJ25, "hashCode", "([B)I"⟩
def dkwJ25_hashCode_2 : List UInt8 := [3, 167, 0, 22, 42, 3, 51, 17, 0, 255, 126, 167, 0, 12, 42, 3, 42, 190, 3, 7, 184, 0, 84, 172]
abbrev dktJ25_hashCode_2 : List UInt8 := dkwJ25_hashCode_2 ++ []
def dkwJ25_hashCode_1 : List UInt8 := [171, 0, 0, 0, 0, 40, 0, 0, 0, 2, 0, 0, 0, 0, 0, 0, 0, 26, 0, 0, 0, 1, 0, 0, 0, 30]
abbrev dktJ25_hashCode_1 : List UInt8 := dkwJ25_hashCode_1 ++ dktJ25_hashCode_2
def dkwJ25_hashCode_0 : List UInt8 := [42, 190]
abbrev dktJ25_hashCode_0 : List UInt8 := dkwJ25_hashCode_0 ++ dktJ25_hashCode_1
theorem dksJ25_hashCode_0 : cJ25_hashCode.data.toList.drop 0 = dktJ25_hashCode_0 := by decide +kernel
theorem dksJ25_hashCode_1 : cJ25_hashCode.data.toList.drop 2 = dktJ25_hashCode_1 := dk_seg dksJ25_hashCode_0 2 rfl rfl
theorem dksJ25_hashCode_2 : cJ25_hashCode.data.toList.drop 28 = dktJ25_hashCode_2 := dk_seg dksJ25_hashCode_1 26 rfl rfl
theorem dJ25_hashCode_0 : decode cJ25_hashCode 0 = .ok (.aload_n 0, 1) := dk_42 (dk_at dksJ25_hashCode_0 0 rfl rfl)
theorem dJ25_hashCode_1 : decode cJ25_hashCode 1 = .ok (.arraylength, 1) := dk_190 (dk_at dksJ25_hashCode_0 1 rfl rfl)
theorem dJ25_hashCode_2 : decode cJ25_hashCode 2 = .ok (.lookupswitch 40 #[(0, 26), (1, 30)], 26) := by decide +kernel
theorem dJ25_hashCode_28 : decode cJ25_hashCode 28 = .ok (.iconst 0, 1) := dk_3 (dk_at dksJ25_hashCode_2 0 rfl rfl)
theorem dJ25_hashCode_29 : decode cJ25_hashCode 29 = .ok (.goto 22, 3) := dk_167 0 22 (dk_at dksJ25_hashCode_2 1 rfl rfl)
theorem dJ25_hashCode_32 : decode cJ25_hashCode 32 = .ok (.aload_n 0, 1) := dk_42 (dk_at dksJ25_hashCode_2 4 rfl rfl)
theorem dJ25_hashCode_33 : decode cJ25_hashCode 33 = .ok (.iconst 0, 1) := dk_3 (dk_at dksJ25_hashCode_2 5 rfl rfl)
theorem dJ25_hashCode_34 : decode cJ25_hashCode 34 = .ok (.baload, 1) := dk_51 (dk_at dksJ25_hashCode_2 6 rfl rfl)
theorem dJ25_hashCode_35 : decode cJ25_hashCode 35 = .ok (.sipush 255, 3) := dk_17 0 255 (dk_at dksJ25_hashCode_2 7 rfl rfl)
theorem dJ25_hashCode_38 : decode cJ25_hashCode 38 = .ok (.iand, 1) := dk_126 (dk_at dksJ25_hashCode_2 10 rfl rfl)
theorem dJ25_hashCode_39 : decode cJ25_hashCode 39 = .ok (.goto 12, 3) := dk_167 0 12 (dk_at dksJ25_hashCode_2 11 rfl rfl)
theorem dJ25_hashCode_42 : decode cJ25_hashCode 42 = .ok (.aload_n 0, 1) := dk_42 (dk_at dksJ25_hashCode_2 14 rfl rfl)
theorem dJ25_hashCode_43 : decode cJ25_hashCode 43 = .ok (.iconst 0, 1) := dk_3 (dk_at dksJ25_hashCode_2 15 rfl rfl)
theorem dJ25_hashCode_44 : decode cJ25_hashCode 44 = .ok (.aload_n 0, 1) := dk_42 (dk_at dksJ25_hashCode_2 16 rfl rfl)
theorem dJ25_hashCode_45 : decode cJ25_hashCode 45 = .ok (.arraylength, 1) := dk_190 (dk_at dksJ25_hashCode_2 17 rfl rfl)
theorem dJ25_hashCode_46 : decode cJ25_hashCode 46 = .ok (.iconst 0, 1) := dk_3 (dk_at dksJ25_hashCode_2 18 rfl rfl)
theorem dJ25_hashCode_47 : decode cJ25_hashCode 47 = .ok (.iconst 4, 1) := dk_7 (dk_at dksJ25_hashCode_2 19 rfl rfl)
theorem dJ25_hashCode_48 : decode cJ25_hashCode 48 = .ok (.invokestatic 84, 3) := dk_184 0 84 (dk_at dksJ25_hashCode_2 20 rfl rfl)
theorem dJ25_hashCode_51 : decode cJ25_hashCode 51 = .ok (.ireturn, 1) := dk_172 (dk_at dksJ25_hashCode_2 23 rfl rfl)
abbrev cJ9_hashCode : ByteArray := prog_38_method_78_code
def yJ9_hashCode : MethodName := ⟨RJ9, "hashCode", "()I"⟩
def dkwJ9_hashCode_2 : List UInt8 := [181, 0, 23, 167, 0, 8, 42, 27, 181, 0, 19, 27, 172]
abbrev dktJ9_hashCode_2 : List UInt8 := dkwJ9_hashCode_2 ++ []
def dkwJ9_hashCode_1 : List UInt8 := [180, 0, 9, 184, 2, 116, 167, 0, 10, 42, 180, 0, 9, 184, 2, 120, 60, 27, 154, 0, 11, 42, 4]
abbrev dktJ9_hashCode_1 : List UInt8 := dkwJ9_hashCode_1 ++ dktJ9_hashCode_2
def dkwJ9_hashCode_0 : List UInt8 := [42, 180, 0, 19, 60, 27, 154, 0, 52, 42, 180, 0, 23, 154, 0, 45, 42, 182, 1, 236, 153, 0, 13, 42]
abbrev dktJ9_hashCode_0 : List UInt8 := dkwJ9_hashCode_0 ++ dktJ9_hashCode_1
theorem dksJ9_hashCode_0 : cJ9_hashCode.data.toList.drop 0 = dktJ9_hashCode_0 := by decide +kernel
theorem dksJ9_hashCode_1 : cJ9_hashCode.data.toList.drop 24 = dktJ9_hashCode_1 := dk_seg dksJ9_hashCode_0 24 rfl rfl
theorem dksJ9_hashCode_2 : cJ9_hashCode.data.toList.drop 47 = dktJ9_hashCode_2 := dk_seg dksJ9_hashCode_1 23 rfl rfl
theorem dJ9_hashCode_0 : decode cJ9_hashCode 0 = .ok (.aload_n 0, 1) := dk_42 (dk_at dksJ9_hashCode_0 0 rfl rfl)
theorem dJ9_hashCode_1 : decode cJ9_hashCode 1 = .ok (.getfield 19, 3) := dk_180 0 19 (dk_at dksJ9_hashCode_0 1 rfl rfl)
theorem dJ9_hashCode_4 : decode cJ9_hashCode 4 = .ok (.istore_n 1, 1) := dk_60 (dk_at dksJ9_hashCode_0 4 rfl rfl)
theorem dJ9_hashCode_5 : decode cJ9_hashCode 5 = .ok (.iload_n 1, 1) := dk_27 (dk_at dksJ9_hashCode_0 5 rfl rfl)
theorem dJ9_hashCode_6 : decode cJ9_hashCode 6 = .ok (.ifCond .ne 52, 3) := dk_154 0 52 (dk_at dksJ9_hashCode_0 6 rfl rfl)
theorem dJ9_hashCode_9 : decode cJ9_hashCode 9 = .ok (.aload_n 0, 1) := dk_42 (dk_at dksJ9_hashCode_0 9 rfl rfl)
theorem dJ9_hashCode_10 : decode cJ9_hashCode 10 = .ok (.getfield 23, 3) := dk_180 0 23 (dk_at dksJ9_hashCode_0 10 rfl rfl)
theorem dJ9_hashCode_13 : decode cJ9_hashCode 13 = .ok (.ifCond .ne 45, 3) := dk_154 0 45 (dk_at dksJ9_hashCode_0 13 rfl rfl)
theorem dJ9_hashCode_16 : decode cJ9_hashCode 16 = .ok (.aload_n 0, 1) := dk_42 (dk_at dksJ9_hashCode_0 16 rfl rfl)
theorem dJ9_hashCode_17 : decode cJ9_hashCode 17 = .ok (.invokevirtual 492, 3) := dk_182 1 236 (dk_at dksJ9_hashCode_0 17 rfl rfl)
theorem dJ9_hashCode_20 : decode cJ9_hashCode 20 = .ok (.ifCond .eq 13, 3) := dk_153 0 13 (dk_at dksJ9_hashCode_0 20 rfl rfl)
theorem dJ9_hashCode_23 : decode cJ9_hashCode 23 = .ok (.aload_n 0, 1) := dk_42 (dk_at dksJ9_hashCode_0 23 rfl rfl)
theorem dJ9_hashCode_24 : decode cJ9_hashCode 24 = .ok (.getfield 9, 3) := dk_180 0 9 (dk_at dksJ9_hashCode_1 0 rfl rfl)
theorem dJ9_hashCode_27 : decode cJ9_hashCode 27 = .ok (.invokestatic 628, 3) := dk_184 2 116 (dk_at dksJ9_hashCode_1 3 rfl rfl)
theorem dJ9_hashCode_30 : decode cJ9_hashCode 30 = .ok (.goto 10, 3) := dk_167 0 10 (dk_at dksJ9_hashCode_1 6 rfl rfl)
theorem dJ9_hashCode_33 : decode cJ9_hashCode 33 = .ok (.aload_n 0, 1) := dk_42 (dk_at dksJ9_hashCode_1 9 rfl rfl)
theorem dJ9_hashCode_34 : decode cJ9_hashCode 34 = .ok (.getfield 9, 3) := dk_180 0 9 (dk_at dksJ9_hashCode_1 10 rfl rfl)
theorem dJ9_hashCode_37 : decode cJ9_hashCode 37 = .ok (.invokestatic 632, 3) := dk_184 2 120 (dk_at dksJ9_hashCode_1 13 rfl rfl)
theorem dJ9_hashCode_40 : decode cJ9_hashCode 40 = .ok (.istore_n 1, 1) := dk_60 (dk_at dksJ9_hashCode_1 16 rfl rfl)
theorem dJ9_hashCode_41 : decode cJ9_hashCode 41 = .ok (.iload_n 1, 1) := dk_27 (dk_at dksJ9_hashCode_1 17 rfl rfl)
theorem dJ9_hashCode_42 : decode cJ9_hashCode 42 = .ok (.ifCond .ne 11, 3) := dk_154 0 11 (dk_at dksJ9_hashCode_1 18 rfl rfl)
theorem dJ9_hashCode_45 : decode cJ9_hashCode 45 = .ok (.aload_n 0, 1) := dk_42 (dk_at dksJ9_hashCode_1 21 rfl rfl)
theorem dJ9_hashCode_46 : decode cJ9_hashCode 46 = .ok (.iconst 1, 1) := dk_4 (dk_at dksJ9_hashCode_1 22 rfl rfl)
theorem dJ9_hashCode_47 : decode cJ9_hashCode 47 = .ok (.putfield 23, 3) := dk_181 0 23 (dk_at dksJ9_hashCode_2 0 rfl rfl)
theorem dJ9_hashCode_50 : decode cJ9_hashCode 50 = .ok (.goto 8, 3) := dk_167 0 8 (dk_at dksJ9_hashCode_2 3 rfl rfl)
theorem dJ9_hashCode_53 : decode cJ9_hashCode 53 = .ok (.aload_n 0, 1) := dk_42 (dk_at dksJ9_hashCode_2 6 rfl rfl)
theorem dJ9_hashCode_54 : decode cJ9_hashCode 54 = .ok (.iload_n 1, 1) := dk_27 (dk_at dksJ9_hashCode_2 7 rfl rfl)
theorem dJ9_hashCode_55 : decode cJ9_hashCode 55 = .ok (.putfield 19, 3) := dk_181 0 19 (dk_at dksJ9_hashCode_2 8 rfl rfl)
theorem dJ9_hashCode_58 : decode cJ9_hashCode 58 = .ok (.iload_n 1, 1) := dk_27 (dk_at dksJ9_hashCode_2 11 rfl rfl)
theorem dJ9_hashCode_59 : decode cJ9_hashCode 59 = .ok (.ireturn, 1) := dk_172 (dk_at dksJ9_hashCode_2 12 rfl rfl)
abbrev cX5_applyTo : ByteArray := prog_4_method_3_code
def yX5_applyTo : MethodName := ⟨RX5, "applyTo", "(LLionGate$Queue;)I"⟩
def dkwX5_applyTo_12 : List UInt8 := [182, 0, 67, 172, 43, 42, 3, 182, 0, 43, 182, 0, 70, 172]
abbrev dktX5_applyTo_12 : List UInt8 := dkwX5_applyTo_12 ++ []
def dkwX5_applyTo_11 : List UInt8 := [172, 43, 42, 3, 182, 0, 43, 42, 4, 182, 0, 43, 182, 0, 63, 172, 43, 42, 3, 182, 0, 43]
abbrev dktX5_applyTo_11 : List UInt8 := dkwX5_applyTo_11 ++ dktX5_applyTo_12
def dkwX5_applyTo_10 : List UInt8 := [3, 182, 0, 53, 172, 43, 42, 3, 182, 0, 43, 182, 0, 57, 172, 43, 182, 0, 59, 172, 43, 182, 0, 61]
abbrev dktX5_applyTo_10 : List UInt8 := dkwX5_applyTo_10 ++ dktX5_applyTo_11
def dkwX5_applyTo_9 : List UInt8 := [182, 0, 43, 42, 4, 182, 0, 43, 4, 182, 0, 53, 172, 43, 42, 3, 182, 0, 43, 42, 4, 182, 0, 43]
abbrev dktX5_applyTo_9 : List UInt8 := dkwX5_applyTo_9 ++ dktX5_applyTo_10
def dkwX5_applyTo_8 : List UInt8 := [43, 42, 3, 182, 0, 43, 42, 4, 182, 0, 43, 42, 5, 182, 0, 43, 182, 0, 47, 172, 43, 42, 3]
abbrev dktX5_applyTo_8 : List UInt8 := dkwX5_applyTo_8 ++ dktX5_applyTo_9
def dkwX5_applyTo_7 : List UInt8 := [170, 0, 0, 0, 0, 0, 0, 145, 0, 0, 0, 0, 0, 0, 0, 7, 0, 0, 0, 48, 0, 0, 0, 68, 0, 0, 0, 84, 0, 0, 0, 100, 0, 0, 0, 110, 0, 0, 0, 115, 0, 0, 0, 120, 0, 0, 0, 135]
abbrev dktX5_applyTo_7 : List UInt8 := dkwX5_applyTo_7 ++ dktX5_applyTo_8
def dkwX5_applyTo_6 : List UInt8 := [62, 167, 0, 15, 44, 18, 41, 182, 0, 25, 153, 0, 6, 16, 7, 62, 29]
abbrev dktX5_applyTo_6 : List UInt8 := dkwX5_applyTo_6 ++ dktX5_applyTo_7
def dkwX5_applyTo_5 : List UInt8 := [18, 37, 182, 0, 25, 153, 0, 35, 8, 62, 167, 0, 30, 44, 18, 39, 182, 0, 25, 153, 0, 21, 16, 6]
abbrev dktX5_applyTo_5 : List UInt8 := dkwX5_applyTo_5 ++ dktX5_applyTo_6
def dkwX5_applyTo_4 : List UInt8 := [153, 0, 63, 6, 62, 167, 0, 58, 44, 18, 35, 182, 0, 25, 153, 0, 49, 7, 62, 167, 0, 44, 44]
abbrev dktX5_applyTo_4 : List UInt8 := dkwX5_applyTo_4 ++ dktX5_applyTo_5
def dkwX5_applyTo_3 : List UInt8 := [62, 167, 0, 86, 44, 18, 31, 182, 0, 25, 153, 0, 77, 5, 62, 167, 0, 72, 44, 18, 33, 182, 0, 25]
abbrev dktX5_applyTo_3 : List UInt8 := dkwX5_applyTo_3 ++ dktX5_applyTo_4
def dkwX5_applyTo_2 : List UInt8 := [44, 18, 23, 182, 0, 25, 153, 0, 105, 3, 62, 167, 0, 100, 44, 18, 29, 182, 0, 25, 153, 0, 91, 4]
abbrev dktX5_applyTo_2 : List UInt8 := dkwX5_applyTo_2 ++ dktX5_applyTo_3
def dkwX5_applyTo_1 : List UInt8 := [171, 0, 0, 0, 184, 0, 0, 0, 8, 188, 85, 106, 242, 0, 0, 0, 157, 0, 50, 176, 28, 0, 0, 0, 73, 0, 53, 127, 46, 0, 0, 0, 87, 0, 56, 123, 223, 0, 0, 0, 101, 6, 33, 78, 183, 0, 0, 0, 115, 6, 97, 48, 171, 0, 0, 0, 143, 6, 132, 51, 15, 0, 0, 0, 129, 99, 163, 178, 138, 0, 0, 0, 172]
abbrev dktX5_applyTo_1 : List UInt8 := dkwX5_applyTo_1 ++ dktX5_applyTo_2
def dkwX5_applyTo_0 : List UInt8 := [42, 180, 0, 7, 77, 2, 62, 44, 182, 0, 17]
abbrev dktX5_applyTo_0 : List UInt8 := dkwX5_applyTo_0 ++ dktX5_applyTo_1
theorem dksX5_applyTo_0 : cX5_applyTo.data.toList.drop 0 = dktX5_applyTo_0 := by decide +kernel
theorem dksX5_applyTo_1 : cX5_applyTo.data.toList.drop 11 = dktX5_applyTo_1 := dk_seg dksX5_applyTo_0 11 rfl rfl
theorem dksX5_applyTo_2 : cX5_applyTo.data.toList.drop 84 = dktX5_applyTo_2 := dk_seg dksX5_applyTo_1 73 rfl rfl
theorem dksX5_applyTo_3 : cX5_applyTo.data.toList.drop 108 = dktX5_applyTo_3 := dk_seg dksX5_applyTo_2 24 rfl rfl
theorem dksX5_applyTo_4 : cX5_applyTo.data.toList.drop 132 = dktX5_applyTo_4 := dk_seg dksX5_applyTo_3 24 rfl rfl
theorem dksX5_applyTo_5 : cX5_applyTo.data.toList.drop 155 = dktX5_applyTo_5 := dk_seg dksX5_applyTo_4 23 rfl rfl
theorem dksX5_applyTo_6 : cX5_applyTo.data.toList.drop 179 = dktX5_applyTo_6 := dk_seg dksX5_applyTo_5 24 rfl rfl
theorem dksX5_applyTo_7 : cX5_applyTo.data.toList.drop 196 = dktX5_applyTo_7 := dk_seg dksX5_applyTo_6 17 rfl rfl
theorem dksX5_applyTo_8 : cX5_applyTo.data.toList.drop 244 = dktX5_applyTo_8 := dk_seg dksX5_applyTo_7 48 rfl rfl
theorem dksX5_applyTo_9 : cX5_applyTo.data.toList.drop 267 = dktX5_applyTo_9 := dk_seg dksX5_applyTo_8 23 rfl rfl
theorem dksX5_applyTo_10 : cX5_applyTo.data.toList.drop 291 = dktX5_applyTo_10 := dk_seg dksX5_applyTo_9 24 rfl rfl
theorem dksX5_applyTo_11 : cX5_applyTo.data.toList.drop 315 = dktX5_applyTo_11 := dk_seg dksX5_applyTo_10 24 rfl rfl
theorem dksX5_applyTo_12 : cX5_applyTo.data.toList.drop 337 = dktX5_applyTo_12 := dk_seg dksX5_applyTo_11 22 rfl rfl
theorem dX5_applyTo_0 : decode cX5_applyTo 0 = .ok (.aload_n 0, 1) := dk_42 (dk_at dksX5_applyTo_0 0 rfl rfl)
theorem dX5_applyTo_1 : decode cX5_applyTo 1 = .ok (.getfield 7, 3) := dk_180 0 7 (dk_at dksX5_applyTo_0 1 rfl rfl)
theorem dX5_applyTo_4 : decode cX5_applyTo 4 = .ok (.astore_n 2, 1) := dk_77 (dk_at dksX5_applyTo_0 4 rfl rfl)
theorem dX5_applyTo_5 : decode cX5_applyTo 5 = .ok (.iconst (-1), 1) := dk_2 (dk_at dksX5_applyTo_0 5 rfl rfl)
theorem dX5_applyTo_6 : decode cX5_applyTo 6 = .ok (.istore_n 3, 1) := dk_62 (dk_at dksX5_applyTo_0 6 rfl rfl)
theorem dX5_applyTo_7 : decode cX5_applyTo 7 = .ok (.aload_n 2, 1) := dk_44 (dk_at dksX5_applyTo_0 7 rfl rfl)
theorem dX5_applyTo_8 : decode cX5_applyTo 8 = .ok (.invokevirtual 17, 3) := dk_182 0 17 (dk_at dksX5_applyTo_0 8 rfl rfl)
theorem dX5_applyTo_11 : decode cX5_applyTo 11 = .ok (.lookupswitch 184 #[(-1135252750, 157), (3321884, 73), (3505966, 87), (3701727, 101), (102846135, 115), (107032747, 143), (109327119, 129), (1671672458, 172)], 73) := by decide +kernel
theorem dX5_applyTo_84 : decode cX5_applyTo 84 = .ok (.aload_n 2, 1) := dk_44 (dk_at dksX5_applyTo_2 0 rfl rfl)
theorem dX5_applyTo_85 : decode cX5_applyTo 85 = .ok (.ldc 23, 2) := dk_18 23 (dk_at dksX5_applyTo_2 1 rfl rfl)
theorem dX5_applyTo_87 : decode cX5_applyTo 87 = .ok (.invokevirtual 25, 3) := dk_182 0 25 (dk_at dksX5_applyTo_2 3 rfl rfl)
theorem dX5_applyTo_90 : decode cX5_applyTo 90 = .ok (.ifCond .eq 105, 3) := dk_153 0 105 (dk_at dksX5_applyTo_2 6 rfl rfl)
theorem dX5_applyTo_93 : decode cX5_applyTo 93 = .ok (.iconst 0, 1) := dk_3 (dk_at dksX5_applyTo_2 9 rfl rfl)
theorem dX5_applyTo_94 : decode cX5_applyTo 94 = .ok (.istore_n 3, 1) := dk_62 (dk_at dksX5_applyTo_2 10 rfl rfl)
theorem dX5_applyTo_95 : decode cX5_applyTo 95 = .ok (.goto 100, 3) := dk_167 0 100 (dk_at dksX5_applyTo_2 11 rfl rfl)
theorem dX5_applyTo_98 : decode cX5_applyTo 98 = .ok (.aload_n 2, 1) := dk_44 (dk_at dksX5_applyTo_2 14 rfl rfl)
theorem dX5_applyTo_99 : decode cX5_applyTo 99 = .ok (.ldc 29, 2) := dk_18 29 (dk_at dksX5_applyTo_2 15 rfl rfl)
theorem dX5_applyTo_101 : decode cX5_applyTo 101 = .ok (.invokevirtual 25, 3) := dk_182 0 25 (dk_at dksX5_applyTo_2 17 rfl rfl)
theorem dX5_applyTo_104 : decode cX5_applyTo 104 = .ok (.ifCond .eq 91, 3) := dk_153 0 91 (dk_at dksX5_applyTo_2 20 rfl rfl)
theorem dX5_applyTo_107 : decode cX5_applyTo 107 = .ok (.iconst 1, 1) := dk_4 (dk_at dksX5_applyTo_2 23 rfl rfl)
theorem dX5_applyTo_108 : decode cX5_applyTo 108 = .ok (.istore_n 3, 1) := dk_62 (dk_at dksX5_applyTo_3 0 rfl rfl)
theorem dX5_applyTo_109 : decode cX5_applyTo 109 = .ok (.goto 86, 3) := dk_167 0 86 (dk_at dksX5_applyTo_3 1 rfl rfl)
theorem dX5_applyTo_112 : decode cX5_applyTo 112 = .ok (.aload_n 2, 1) := dk_44 (dk_at dksX5_applyTo_3 4 rfl rfl)
theorem dX5_applyTo_113 : decode cX5_applyTo 113 = .ok (.ldc 31, 2) := dk_18 31 (dk_at dksX5_applyTo_3 5 rfl rfl)
theorem dX5_applyTo_115 : decode cX5_applyTo 115 = .ok (.invokevirtual 25, 3) := dk_182 0 25 (dk_at dksX5_applyTo_3 7 rfl rfl)
theorem dX5_applyTo_118 : decode cX5_applyTo 118 = .ok (.ifCond .eq 77, 3) := dk_153 0 77 (dk_at dksX5_applyTo_3 10 rfl rfl)
theorem dX5_applyTo_121 : decode cX5_applyTo 121 = .ok (.iconst 2, 1) := dk_5 (dk_at dksX5_applyTo_3 13 rfl rfl)
theorem dX5_applyTo_122 : decode cX5_applyTo 122 = .ok (.istore_n 3, 1) := dk_62 (dk_at dksX5_applyTo_3 14 rfl rfl)
theorem dX5_applyTo_123 : decode cX5_applyTo 123 = .ok (.goto 72, 3) := dk_167 0 72 (dk_at dksX5_applyTo_3 15 rfl rfl)
theorem dX5_applyTo_126 : decode cX5_applyTo 126 = .ok (.aload_n 2, 1) := dk_44 (dk_at dksX5_applyTo_3 18 rfl rfl)
theorem dX5_applyTo_127 : decode cX5_applyTo 127 = .ok (.ldc 33, 2) := dk_18 33 (dk_at dksX5_applyTo_3 19 rfl rfl)
theorem dX5_applyTo_129 : decode cX5_applyTo 129 = .ok (.invokevirtual 25, 3) := dk_182 0 25 (dk_at dksX5_applyTo_3 21 rfl rfl)
theorem dX5_applyTo_132 : decode cX5_applyTo 132 = .ok (.ifCond .eq 63, 3) := dk_153 0 63 (dk_at dksX5_applyTo_4 0 rfl rfl)
theorem dX5_applyTo_135 : decode cX5_applyTo 135 = .ok (.iconst 3, 1) := dk_6 (dk_at dksX5_applyTo_4 3 rfl rfl)
theorem dX5_applyTo_136 : decode cX5_applyTo 136 = .ok (.istore_n 3, 1) := dk_62 (dk_at dksX5_applyTo_4 4 rfl rfl)
theorem dX5_applyTo_137 : decode cX5_applyTo 137 = .ok (.goto 58, 3) := dk_167 0 58 (dk_at dksX5_applyTo_4 5 rfl rfl)
theorem dX5_applyTo_140 : decode cX5_applyTo 140 = .ok (.aload_n 2, 1) := dk_44 (dk_at dksX5_applyTo_4 8 rfl rfl)
theorem dX5_applyTo_141 : decode cX5_applyTo 141 = .ok (.ldc 35, 2) := dk_18 35 (dk_at dksX5_applyTo_4 9 rfl rfl)
theorem dX5_applyTo_143 : decode cX5_applyTo 143 = .ok (.invokevirtual 25, 3) := dk_182 0 25 (dk_at dksX5_applyTo_4 11 rfl rfl)
theorem dX5_applyTo_146 : decode cX5_applyTo 146 = .ok (.ifCond .eq 49, 3) := dk_153 0 49 (dk_at dksX5_applyTo_4 14 rfl rfl)
theorem dX5_applyTo_149 : decode cX5_applyTo 149 = .ok (.iconst 4, 1) := dk_7 (dk_at dksX5_applyTo_4 17 rfl rfl)
theorem dX5_applyTo_150 : decode cX5_applyTo 150 = .ok (.istore_n 3, 1) := dk_62 (dk_at dksX5_applyTo_4 18 rfl rfl)
theorem dX5_applyTo_151 : decode cX5_applyTo 151 = .ok (.goto 44, 3) := dk_167 0 44 (dk_at dksX5_applyTo_4 19 rfl rfl)
theorem dX5_applyTo_154 : decode cX5_applyTo 154 = .ok (.aload_n 2, 1) := dk_44 (dk_at dksX5_applyTo_4 22 rfl rfl)
theorem dX5_applyTo_155 : decode cX5_applyTo 155 = .ok (.ldc 37, 2) := dk_18 37 (dk_at dksX5_applyTo_5 0 rfl rfl)
theorem dX5_applyTo_157 : decode cX5_applyTo 157 = .ok (.invokevirtual 25, 3) := dk_182 0 25 (dk_at dksX5_applyTo_5 2 rfl rfl)
theorem dX5_applyTo_160 : decode cX5_applyTo 160 = .ok (.ifCond .eq 35, 3) := dk_153 0 35 (dk_at dksX5_applyTo_5 5 rfl rfl)
theorem dX5_applyTo_163 : decode cX5_applyTo 163 = .ok (.iconst 5, 1) := dk_8 (dk_at dksX5_applyTo_5 8 rfl rfl)
theorem dX5_applyTo_164 : decode cX5_applyTo 164 = .ok (.istore_n 3, 1) := dk_62 (dk_at dksX5_applyTo_5 9 rfl rfl)
theorem dX5_applyTo_165 : decode cX5_applyTo 165 = .ok (.goto 30, 3) := dk_167 0 30 (dk_at dksX5_applyTo_5 10 rfl rfl)
theorem dX5_applyTo_168 : decode cX5_applyTo 168 = .ok (.aload_n 2, 1) := dk_44 (dk_at dksX5_applyTo_5 13 rfl rfl)
theorem dX5_applyTo_169 : decode cX5_applyTo 169 = .ok (.ldc 39, 2) := dk_18 39 (dk_at dksX5_applyTo_5 14 rfl rfl)
theorem dX5_applyTo_171 : decode cX5_applyTo 171 = .ok (.invokevirtual 25, 3) := dk_182 0 25 (dk_at dksX5_applyTo_5 16 rfl rfl)
theorem dX5_applyTo_174 : decode cX5_applyTo 174 = .ok (.ifCond .eq 21, 3) := dk_153 0 21 (dk_at dksX5_applyTo_5 19 rfl rfl)
theorem dX5_applyTo_177 : decode cX5_applyTo 177 = .ok (.bipush 6, 2) := dk_16 6 (dk_at dksX5_applyTo_5 22 rfl rfl)
theorem dX5_applyTo_179 : decode cX5_applyTo 179 = .ok (.istore_n 3, 1) := dk_62 (dk_at dksX5_applyTo_6 0 rfl rfl)
theorem dX5_applyTo_180 : decode cX5_applyTo 180 = .ok (.goto 15, 3) := dk_167 0 15 (dk_at dksX5_applyTo_6 1 rfl rfl)
theorem dX5_applyTo_183 : decode cX5_applyTo 183 = .ok (.aload_n 2, 1) := dk_44 (dk_at dksX5_applyTo_6 4 rfl rfl)
theorem dX5_applyTo_184 : decode cX5_applyTo 184 = .ok (.ldc 41, 2) := dk_18 41 (dk_at dksX5_applyTo_6 5 rfl rfl)
theorem dX5_applyTo_186 : decode cX5_applyTo 186 = .ok (.invokevirtual 25, 3) := dk_182 0 25 (dk_at dksX5_applyTo_6 7 rfl rfl)
theorem dX5_applyTo_189 : decode cX5_applyTo 189 = .ok (.ifCond .eq 6, 3) := dk_153 0 6 (dk_at dksX5_applyTo_6 10 rfl rfl)
theorem dX5_applyTo_192 : decode cX5_applyTo 192 = .ok (.bipush 7, 2) := dk_16 7 (dk_at dksX5_applyTo_6 13 rfl rfl)
theorem dX5_applyTo_194 : decode cX5_applyTo 194 = .ok (.istore_n 3, 1) := dk_62 (dk_at dksX5_applyTo_6 15 rfl rfl)
theorem dX5_applyTo_195 : decode cX5_applyTo 195 = .ok (.iload_n 3, 1) := dk_29 (dk_at dksX5_applyTo_6 16 rfl rfl)
theorem dX5_applyTo_196 : decode cX5_applyTo 196 = .ok (.tableswitch 145 0 7 #[48, 68, 84, 100, 110, 115, 120, 135], 48) := by decide +kernel
theorem dX5_applyTo_244 : decode cX5_applyTo 244 = .ok (.aload_n 1, 1) := dk_43 (dk_at dksX5_applyTo_8 0 rfl rfl)
theorem dX5_applyTo_245 : decode cX5_applyTo 245 = .ok (.aload_n 0, 1) := dk_42 (dk_at dksX5_applyTo_8 1 rfl rfl)
theorem dX5_applyTo_246 : decode cX5_applyTo 246 = .ok (.iconst 0, 1) := dk_3 (dk_at dksX5_applyTo_8 2 rfl rfl)
theorem dX5_applyTo_247 : decode cX5_applyTo 247 = .ok (.invokevirtual 43, 3) := dk_182 0 43 (dk_at dksX5_applyTo_8 3 rfl rfl)
theorem dX5_applyTo_250 : decode cX5_applyTo 250 = .ok (.aload_n 0, 1) := dk_42 (dk_at dksX5_applyTo_8 6 rfl rfl)
theorem dX5_applyTo_251 : decode cX5_applyTo 251 = .ok (.iconst 1, 1) := dk_4 (dk_at dksX5_applyTo_8 7 rfl rfl)
theorem dX5_applyTo_252 : decode cX5_applyTo 252 = .ok (.invokevirtual 43, 3) := dk_182 0 43 (dk_at dksX5_applyTo_8 8 rfl rfl)
theorem dX5_applyTo_255 : decode cX5_applyTo 255 = .ok (.aload_n 0, 1) := dk_42 (dk_at dksX5_applyTo_8 11 rfl rfl)
theorem dX5_applyTo_256 : decode cX5_applyTo 256 = .ok (.iconst 2, 1) := dk_5 (dk_at dksX5_applyTo_8 12 rfl rfl)
theorem dX5_applyTo_257 : decode cX5_applyTo 257 = .ok (.invokevirtual 43, 3) := dk_182 0 43 (dk_at dksX5_applyTo_8 13 rfl rfl)
theorem dX5_applyTo_260 : decode cX5_applyTo 260 = .ok (.invokevirtual 47, 3) := dk_182 0 47 (dk_at dksX5_applyTo_8 16 rfl rfl)
theorem dX5_applyTo_263 : decode cX5_applyTo 263 = .ok (.ireturn, 1) := dk_172 (dk_at dksX5_applyTo_8 19 rfl rfl)
theorem dX5_applyTo_264 : decode cX5_applyTo 264 = .ok (.aload_n 1, 1) := dk_43 (dk_at dksX5_applyTo_8 20 rfl rfl)
theorem dX5_applyTo_265 : decode cX5_applyTo 265 = .ok (.aload_n 0, 1) := dk_42 (dk_at dksX5_applyTo_8 21 rfl rfl)
theorem dX5_applyTo_266 : decode cX5_applyTo 266 = .ok (.iconst 0, 1) := dk_3 (dk_at dksX5_applyTo_8 22 rfl rfl)
theorem dX5_applyTo_267 : decode cX5_applyTo 267 = .ok (.invokevirtual 43, 3) := dk_182 0 43 (dk_at dksX5_applyTo_9 0 rfl rfl)
theorem dX5_applyTo_270 : decode cX5_applyTo 270 = .ok (.aload_n 0, 1) := dk_42 (dk_at dksX5_applyTo_9 3 rfl rfl)
theorem dX5_applyTo_271 : decode cX5_applyTo 271 = .ok (.iconst 1, 1) := dk_4 (dk_at dksX5_applyTo_9 4 rfl rfl)
theorem dX5_applyTo_272 : decode cX5_applyTo 272 = .ok (.invokevirtual 43, 3) := dk_182 0 43 (dk_at dksX5_applyTo_9 5 rfl rfl)
theorem dX5_applyTo_275 : decode cX5_applyTo 275 = .ok (.iconst 1, 1) := dk_4 (dk_at dksX5_applyTo_9 8 rfl rfl)
theorem dX5_applyTo_276 : decode cX5_applyTo 276 = .ok (.invokevirtual 53, 3) := dk_182 0 53 (dk_at dksX5_applyTo_9 9 rfl rfl)
theorem dX5_applyTo_279 : decode cX5_applyTo 279 = .ok (.ireturn, 1) := dk_172 (dk_at dksX5_applyTo_9 12 rfl rfl)
theorem dX5_applyTo_280 : decode cX5_applyTo 280 = .ok (.aload_n 1, 1) := dk_43 (dk_at dksX5_applyTo_9 13 rfl rfl)
theorem dX5_applyTo_281 : decode cX5_applyTo 281 = .ok (.aload_n 0, 1) := dk_42 (dk_at dksX5_applyTo_9 14 rfl rfl)
theorem dX5_applyTo_282 : decode cX5_applyTo 282 = .ok (.iconst 0, 1) := dk_3 (dk_at dksX5_applyTo_9 15 rfl rfl)
theorem dX5_applyTo_283 : decode cX5_applyTo 283 = .ok (.invokevirtual 43, 3) := dk_182 0 43 (dk_at dksX5_applyTo_9 16 rfl rfl)
theorem dX5_applyTo_286 : decode cX5_applyTo 286 = .ok (.aload_n 0, 1) := dk_42 (dk_at dksX5_applyTo_9 19 rfl rfl)
theorem dX5_applyTo_287 : decode cX5_applyTo 287 = .ok (.iconst 1, 1) := dk_4 (dk_at dksX5_applyTo_9 20 rfl rfl)
theorem dX5_applyTo_288 : decode cX5_applyTo 288 = .ok (.invokevirtual 43, 3) := dk_182 0 43 (dk_at dksX5_applyTo_9 21 rfl rfl)
theorem dX5_applyTo_291 : decode cX5_applyTo 291 = .ok (.iconst 0, 1) := dk_3 (dk_at dksX5_applyTo_10 0 rfl rfl)
theorem dX5_applyTo_292 : decode cX5_applyTo 292 = .ok (.invokevirtual 53, 3) := dk_182 0 53 (dk_at dksX5_applyTo_10 1 rfl rfl)
theorem dX5_applyTo_295 : decode cX5_applyTo 295 = .ok (.ireturn, 1) := dk_172 (dk_at dksX5_applyTo_10 4 rfl rfl)
theorem dX5_applyTo_296 : decode cX5_applyTo 296 = .ok (.aload_n 1, 1) := dk_43 (dk_at dksX5_applyTo_10 5 rfl rfl)
theorem dX5_applyTo_297 : decode cX5_applyTo 297 = .ok (.aload_n 0, 1) := dk_42 (dk_at dksX5_applyTo_10 6 rfl rfl)
theorem dX5_applyTo_298 : decode cX5_applyTo 298 = .ok (.iconst 0, 1) := dk_3 (dk_at dksX5_applyTo_10 7 rfl rfl)
theorem dX5_applyTo_299 : decode cX5_applyTo 299 = .ok (.invokevirtual 43, 3) := dk_182 0 43 (dk_at dksX5_applyTo_10 8 rfl rfl)
theorem dX5_applyTo_302 : decode cX5_applyTo 302 = .ok (.invokevirtual 57, 3) := dk_182 0 57 (dk_at dksX5_applyTo_10 11 rfl rfl)
theorem dX5_applyTo_305 : decode cX5_applyTo 305 = .ok (.ireturn, 1) := dk_172 (dk_at dksX5_applyTo_10 14 rfl rfl)
theorem dX5_applyTo_306 : decode cX5_applyTo 306 = .ok (.aload_n 1, 1) := dk_43 (dk_at dksX5_applyTo_10 15 rfl rfl)
theorem dX5_applyTo_307 : decode cX5_applyTo 307 = .ok (.invokevirtual 59, 3) := dk_182 0 59 (dk_at dksX5_applyTo_10 16 rfl rfl)
theorem dX5_applyTo_310 : decode cX5_applyTo 310 = .ok (.ireturn, 1) := dk_172 (dk_at dksX5_applyTo_10 19 rfl rfl)
theorem dX5_applyTo_311 : decode cX5_applyTo 311 = .ok (.aload_n 1, 1) := dk_43 (dk_at dksX5_applyTo_10 20 rfl rfl)
theorem dX5_applyTo_312 : decode cX5_applyTo 312 = .ok (.invokevirtual 61, 3) := dk_182 0 61 (dk_at dksX5_applyTo_10 21 rfl rfl)
theorem dX5_applyTo_315 : decode cX5_applyTo 315 = .ok (.ireturn, 1) := dk_172 (dk_at dksX5_applyTo_11 0 rfl rfl)
theorem dX5_applyTo_316 : decode cX5_applyTo 316 = .ok (.aload_n 1, 1) := dk_43 (dk_at dksX5_applyTo_11 1 rfl rfl)
theorem dX5_applyTo_317 : decode cX5_applyTo 317 = .ok (.aload_n 0, 1) := dk_42 (dk_at dksX5_applyTo_11 2 rfl rfl)
theorem dX5_applyTo_318 : decode cX5_applyTo 318 = .ok (.iconst 0, 1) := dk_3 (dk_at dksX5_applyTo_11 3 rfl rfl)
theorem dX5_applyTo_319 : decode cX5_applyTo 319 = .ok (.invokevirtual 43, 3) := dk_182 0 43 (dk_at dksX5_applyTo_11 4 rfl rfl)
theorem dX5_applyTo_322 : decode cX5_applyTo 322 = .ok (.aload_n 0, 1) := dk_42 (dk_at dksX5_applyTo_11 7 rfl rfl)
theorem dX5_applyTo_323 : decode cX5_applyTo 323 = .ok (.iconst 1, 1) := dk_4 (dk_at dksX5_applyTo_11 8 rfl rfl)
theorem dX5_applyTo_324 : decode cX5_applyTo 324 = .ok (.invokevirtual 43, 3) := dk_182 0 43 (dk_at dksX5_applyTo_11 9 rfl rfl)
theorem dX5_applyTo_327 : decode cX5_applyTo 327 = .ok (.invokevirtual 63, 3) := dk_182 0 63 (dk_at dksX5_applyTo_11 12 rfl rfl)
theorem dX5_applyTo_330 : decode cX5_applyTo 330 = .ok (.ireturn, 1) := dk_172 (dk_at dksX5_applyTo_11 15 rfl rfl)
theorem dX5_applyTo_331 : decode cX5_applyTo 331 = .ok (.aload_n 1, 1) := dk_43 (dk_at dksX5_applyTo_11 16 rfl rfl)
theorem dX5_applyTo_332 : decode cX5_applyTo 332 = .ok (.aload_n 0, 1) := dk_42 (dk_at dksX5_applyTo_11 17 rfl rfl)
theorem dX5_applyTo_333 : decode cX5_applyTo 333 = .ok (.iconst 0, 1) := dk_3 (dk_at dksX5_applyTo_11 18 rfl rfl)
theorem dX5_applyTo_334 : decode cX5_applyTo 334 = .ok (.invokevirtual 43, 3) := dk_182 0 43 (dk_at dksX5_applyTo_11 19 rfl rfl)
theorem dX5_applyTo_337 : decode cX5_applyTo 337 = .ok (.invokevirtual 67, 3) := dk_182 0 67 (dk_at dksX5_applyTo_12 0 rfl rfl)
theorem dX5_applyTo_340 : decode cX5_applyTo 340 = .ok (.ireturn, 1) := dk_172 (dk_at dksX5_applyTo_12 3 rfl rfl)
theorem dX5_applyTo_341 : decode cX5_applyTo 341 = .ok (.aload_n 1, 1) := dk_43 (dk_at dksX5_applyTo_12 4 rfl rfl)
theorem dX5_applyTo_342 : decode cX5_applyTo 342 = .ok (.aload_n 0, 1) := dk_42 (dk_at dksX5_applyTo_12 5 rfl rfl)
theorem dX5_applyTo_343 : decode cX5_applyTo 343 = .ok (.iconst 0, 1) := dk_3 (dk_at dksX5_applyTo_12 6 rfl rfl)
theorem dX5_applyTo_344 : decode cX5_applyTo 344 = .ok (.invokevirtual 43, 3) := dk_182 0 43 (dk_at dksX5_applyTo_12 7 rfl rfl)
theorem dX5_applyTo_347 : decode cX5_applyTo 347 = .ok (.invokevirtual 70, 3) := dk_182 0 70 (dk_at dksX5_applyTo_12 10 rfl rfl)
theorem dX5_applyTo_350 : decode cX5_applyTo 350 = .ok (.ireturn, 1) := dk_172 (dk_at dksX5_applyTo_12 13 rfl rfl)
abbrev cX7_asPublicException : ByteArray := prog_6_method_3_code
def yX7_asPublicException : MethodName := ⟨RX7, "asPublicException", "()Ljava/lang/RuntimeException;"⟩
def dkwX7_asPublicException_3 : List UInt8 := [187, 0, 24, 89, 183, 0, 26, 176, 187, 0, 27, 89, 183, 0, 29, 176]
abbrev dktX7_asPublicException_3 : List UInt8 := dkwX7_asPublicException_3 ++ []
def dkwX7_asPublicException_2 : List UInt8 := [187, 0, 13, 89, 183, 0, 15, 176, 187, 0, 18, 89, 183, 0, 20, 176, 187, 0, 21, 89, 183, 0, 23, 176]
abbrev dktX7_asPublicException_2 : List UInt8 := dkwX7_asPublicException_2 ++ dktX7_asPublicException_3
def dkwX7_asPublicException_1 : List UInt8 := [171, 0, 0, 0, 0, 0, 0, 76, 0, 0, 0, 4, 0, 0, 0, 97, 0, 0, 0, 52, 0, 0, 0, 101, 0, 0, 0, 68, 0, 0, 0, 105, 0, 0, 0, 44, 0, 0, 0, 115, 0, 0, 0, 60]
abbrev dktX7_asPublicException_1 : List UInt8 := dkwX7_asPublicException_1 ++ dktX7_asPublicException_2
def dkwX7_asPublicException_0 : List UInt8 := [42, 180, 0, 7]
abbrev dktX7_asPublicException_0 : List UInt8 := dkwX7_asPublicException_0 ++ dktX7_asPublicException_1
theorem dksX7_asPublicException_0 : cX7_asPublicException.data.toList.drop 0 = dktX7_asPublicException_0 := by decide +kernel
theorem dksX7_asPublicException_1 : cX7_asPublicException.data.toList.drop 4 = dktX7_asPublicException_1 := dk_seg dksX7_asPublicException_0 4 rfl rfl
theorem dksX7_asPublicException_2 : cX7_asPublicException.data.toList.drop 48 = dktX7_asPublicException_2 := dk_seg dksX7_asPublicException_1 44 rfl rfl
theorem dksX7_asPublicException_3 : cX7_asPublicException.data.toList.drop 72 = dktX7_asPublicException_3 := dk_seg dksX7_asPublicException_2 24 rfl rfl
theorem dX7_asPublicException_0 : decode cX7_asPublicException 0 = .ok (.aload_n 0, 1) := dk_42 (dk_at dksX7_asPublicException_0 0 rfl rfl)
theorem dX7_asPublicException_1 : decode cX7_asPublicException 1 = .ok (.getfield 7, 3) := dk_180 0 7 (dk_at dksX7_asPublicException_0 1 rfl rfl)
theorem dX7_asPublicException_4 : decode cX7_asPublicException 4 = .ok (.lookupswitch 76 #[(97, 52), (101, 68), (105, 44), (115, 60)], 44) := by decide +kernel
theorem dX7_asPublicException_48 : decode cX7_asPublicException 48 = .ok (.new 13, 3) := dk_187 0 13 (dk_at dksX7_asPublicException_2 0 rfl rfl)
theorem dX7_asPublicException_51 : decode cX7_asPublicException 51 = .ok (.dup, 1) := dk_89 (dk_at dksX7_asPublicException_2 3 rfl rfl)
theorem dX7_asPublicException_52 : decode cX7_asPublicException 52 = .ok (.invokespecial 15, 3) := dk_183 0 15 (dk_at dksX7_asPublicException_2 4 rfl rfl)
theorem dX7_asPublicException_55 : decode cX7_asPublicException 55 = .ok (.areturn, 1) := dk_176 (dk_at dksX7_asPublicException_2 7 rfl rfl)
theorem dX7_asPublicException_56 : decode cX7_asPublicException 56 = .ok (.new 18, 3) := dk_187 0 18 (dk_at dksX7_asPublicException_2 8 rfl rfl)
theorem dX7_asPublicException_59 : decode cX7_asPublicException 59 = .ok (.dup, 1) := dk_89 (dk_at dksX7_asPublicException_2 11 rfl rfl)
theorem dX7_asPublicException_60 : decode cX7_asPublicException 60 = .ok (.invokespecial 20, 3) := dk_183 0 20 (dk_at dksX7_asPublicException_2 12 rfl rfl)
theorem dX7_asPublicException_63 : decode cX7_asPublicException 63 = .ok (.areturn, 1) := dk_176 (dk_at dksX7_asPublicException_2 15 rfl rfl)
theorem dX7_asPublicException_64 : decode cX7_asPublicException 64 = .ok (.new 21, 3) := dk_187 0 21 (dk_at dksX7_asPublicException_2 16 rfl rfl)
theorem dX7_asPublicException_67 : decode cX7_asPublicException 67 = .ok (.dup, 1) := dk_89 (dk_at dksX7_asPublicException_2 19 rfl rfl)
theorem dX7_asPublicException_68 : decode cX7_asPublicException 68 = .ok (.invokespecial 23, 3) := dk_183 0 23 (dk_at dksX7_asPublicException_2 20 rfl rfl)
theorem dX7_asPublicException_71 : decode cX7_asPublicException 71 = .ok (.areturn, 1) := dk_176 (dk_at dksX7_asPublicException_2 23 rfl rfl)
theorem dX7_asPublicException_72 : decode cX7_asPublicException 72 = .ok (.new 24, 3) := dk_187 0 24 (dk_at dksX7_asPublicException_3 0 rfl rfl)
theorem dX7_asPublicException_75 : decode cX7_asPublicException 75 = .ok (.dup, 1) := dk_89 (dk_at dksX7_asPublicException_3 3 rfl rfl)
theorem dX7_asPublicException_76 : decode cX7_asPublicException 76 = .ok (.invokespecial 26, 3) := dk_183 0 26 (dk_at dksX7_asPublicException_3 4 rfl rfl)
theorem dX7_asPublicException_79 : decode cX7_asPublicException 79 = .ok (.areturn, 1) := dk_176 (dk_at dksX7_asPublicException_3 7 rfl rfl)
theorem dX7_asPublicException_80 : decode cX7_asPublicException 80 = .ok (.new 27, 3) := dk_187 0 27 (dk_at dksX7_asPublicException_3 8 rfl rfl)
theorem dX7_asPublicException_83 : decode cX7_asPublicException 83 = .ok (.dup, 1) := dk_89 (dk_at dksX7_asPublicException_3 11 rfl rfl)
theorem dX7_asPublicException_84 : decode cX7_asPublicException 84 = .ok (.invokespecial 29, 3) := dk_183 0 29 (dk_at dksX7_asPublicException_3 12 rfl rfl)
theorem dX7_asPublicException_87 : decode cX7_asPublicException 87 = .ok (.areturn, 1) := dk_176 (dk_at dksX7_asPublicException_3 15 rfl rfl)
abbrev cX3_copy : ByteArray := prog_10_method_2_code
def yX3_copy : MethodName := ⟨RX3, "copy", "()LLionGate$Keepers;"⟩
def dkwX3_copy_2 : List UInt8 := [167, 255, 226, 43, 176]
abbrev dktX3_copy_2 : List UInt8 := dkwX3_copy_2 ++ []
def dkwX3_copy_1 : List UInt8 := [153, 0, 27, 44, 185, 0, 31, 1, 0, 192, 0, 35, 78, 43, 180, 0, 12, 45, 185, 0, 37, 2, 0, 87]
abbrev dktX3_copy_1 : List UInt8 := dkwX3_copy_1 ++ dktX3_copy_2
def dkwX3_copy_0 : List UInt8 := [187, 0, 13, 89, 183, 0, 18, 76, 42, 180, 0, 12, 185, 0, 19, 1, 0, 77, 44, 185, 0, 25, 1, 0]
abbrev dktX3_copy_0 : List UInt8 := dkwX3_copy_0 ++ dktX3_copy_1
theorem dksX3_copy_0 : cX3_copy.data.toList.drop 0 = dktX3_copy_0 := by decide +kernel
theorem dksX3_copy_1 : cX3_copy.data.toList.drop 24 = dktX3_copy_1 := dk_seg dksX3_copy_0 24 rfl rfl
theorem dksX3_copy_2 : cX3_copy.data.toList.drop 48 = dktX3_copy_2 := dk_seg dksX3_copy_1 24 rfl rfl
theorem dX3_copy_0 : decode cX3_copy 0 = .ok (.new 13, 3) := dk_187 0 13 (dk_at dksX3_copy_0 0 rfl rfl)
theorem dX3_copy_3 : decode cX3_copy 3 = .ok (.dup, 1) := dk_89 (dk_at dksX3_copy_0 3 rfl rfl)
theorem dX3_copy_4 : decode cX3_copy 4 = .ok (.invokespecial 18, 3) := dk_183 0 18 (dk_at dksX3_copy_0 4 rfl rfl)
theorem dX3_copy_7 : decode cX3_copy 7 = .ok (.astore_n 1, 1) := dk_76 (dk_at dksX3_copy_0 7 rfl rfl)
theorem dX3_copy_8 : decode cX3_copy 8 = .ok (.aload_n 0, 1) := dk_42 (dk_at dksX3_copy_0 8 rfl rfl)
theorem dX3_copy_9 : decode cX3_copy 9 = .ok (.getfield 12, 3) := dk_180 0 12 (dk_at dksX3_copy_0 9 rfl rfl)
theorem dX3_copy_12 : decode cX3_copy 12 = .ok (.invokeinterface 19 1, 5) := by decide +kernel
theorem dX3_copy_17 : decode cX3_copy 17 = .ok (.astore_n 2, 1) := dk_77 (dk_at dksX3_copy_0 17 rfl rfl)
theorem dX3_copy_18 : decode cX3_copy 18 = .ok (.aload_n 2, 1) := dk_44 (dk_at dksX3_copy_0 18 rfl rfl)
theorem dX3_copy_19 : decode cX3_copy 19 = .ok (.invokeinterface 25 1, 5) := by decide +kernel
theorem dX3_copy_24 : decode cX3_copy 24 = .ok (.ifCond .eq 27, 3) := dk_153 0 27 (dk_at dksX3_copy_1 0 rfl rfl)
theorem dX3_copy_27 : decode cX3_copy 27 = .ok (.aload_n 2, 1) := dk_44 (dk_at dksX3_copy_1 3 rfl rfl)
theorem dX3_copy_28 : decode cX3_copy 28 = .ok (.invokeinterface 31 1, 5) := by decide +kernel
theorem dX3_copy_33 : decode cX3_copy 33 = .ok (.checkcast 35, 3) := dk_192 0 35 (dk_at dksX3_copy_1 9 rfl rfl)
theorem dX3_copy_36 : decode cX3_copy 36 = .ok (.astore_n 3, 1) := dk_78 (dk_at dksX3_copy_1 12 rfl rfl)
theorem dX3_copy_37 : decode cX3_copy 37 = .ok (.aload_n 1, 1) := dk_43 (dk_at dksX3_copy_1 13 rfl rfl)
theorem dX3_copy_38 : decode cX3_copy 38 = .ok (.getfield 12, 3) := dk_180 0 12 (dk_at dksX3_copy_1 14 rfl rfl)
theorem dX3_copy_41 : decode cX3_copy 41 = .ok (.aload_n 3, 1) := dk_45 (dk_at dksX3_copy_1 17 rfl rfl)
theorem dX3_copy_42 : decode cX3_copy 42 = .ok (.invokeinterface 37 2, 5) := by decide +kernel
theorem dX3_copy_47 : decode cX3_copy 47 = .ok (.pop, 1) := dk_87 (dk_at dksX3_copy_1 23 rfl rfl)
theorem dX3_copy_48 : decode cX3_copy 48 = .ok (.goto (-30), 3) := dk_167 255 226 (dk_at dksX3_copy_2 0 rfl rfl)
theorem dX3_copy_51 : decode cX3_copy 51 = .ok (.aload_n 1, 1) := dk_43 (dk_at dksX3_copy_2 3 rfl rfl)
theorem dX3_copy_52 : decode cX3_copy 52 = .ok (.areturn, 1) := dk_176 (dk_at dksX3_copy_2 4 rfl rfl)
abbrev cX2_copy : ByteArray := prog_14_method_2_code
def yX2_copy : MethodName := ⟨RX2, "copy", "()LLionGate$Queue;"⟩
def dkwX2_copy_6 : List UInt8 := [181, 0, 91, 43, 176]
abbrev dktX2_copy_6 : List UInt8 := dkwX2_copy_6 ++ []
def dkwX2_copy_5 : List UInt8 := [181, 0, 82, 43, 42, 180, 0, 85, 181, 0, 85, 43, 42, 180, 0, 88, 181, 0, 88, 43, 42, 180, 0, 91]
abbrev dktX2_copy_5 : List UInt8 := dkwX2_copy_5 ++ dktX2_copy_6
def dkwX2_copy_4 : List UInt8 := [181, 0, 73, 43, 42, 180, 0, 76, 181, 0, 76, 43, 42, 180, 0, 79, 181, 0, 79, 43, 42, 180, 0, 82]
abbrev dktX2_copy_4 : List UInt8 := dkwX2_copy_4 ++ dktX2_copy_5
def dkwX2_copy_3 : List UInt8 := [181, 0, 21, 43, 42, 180, 0, 66, 181, 0, 66, 43, 42, 180, 0, 70, 181, 0, 70, 43, 42, 180, 0, 73]
abbrev dktX2_copy_3 : List UInt8 := dkwX2_copy_3 ++ dktX2_copy_4
def dkwX2_copy_2 : List UInt8 := [180, 0, 48, 184, 0, 52, 45, 182, 0, 58, 87, 167, 255, 221, 43, 42, 180, 0, 21, 182, 0, 62]
abbrev dktX2_copy_2 : List UInt8 := dkwX2_copy_2 ++ dktX2_copy_3
def dkwX2_copy_1 : List UInt8 := [185, 0, 36, 1, 0, 153, 0, 32, 44, 185, 0, 42, 1, 0, 192, 0, 46, 78, 43, 180, 0, 12, 45]
abbrev dktX2_copy_1 : List UInt8 := dkwX2_copy_1 ++ dktX2_copy_2
def dkwX2_copy_0 : List UInt8 := [187, 0, 13, 89, 183, 0, 25, 76, 42, 180, 0, 12, 182, 0, 26, 185, 0, 30, 1, 0, 77, 44]
abbrev dktX2_copy_0 : List UInt8 := dkwX2_copy_0 ++ dktX2_copy_1
theorem dksX2_copy_0 : cX2_copy.data.toList.drop 0 = dktX2_copy_0 := by decide +kernel
theorem dksX2_copy_1 : cX2_copy.data.toList.drop 22 = dktX2_copy_1 := dk_seg dksX2_copy_0 22 rfl rfl
theorem dksX2_copy_2 : cX2_copy.data.toList.drop 45 = dktX2_copy_2 := dk_seg dksX2_copy_1 23 rfl rfl
theorem dksX2_copy_3 : cX2_copy.data.toList.drop 67 = dktX2_copy_3 := dk_seg dksX2_copy_2 22 rfl rfl
theorem dksX2_copy_4 : cX2_copy.data.toList.drop 91 = dktX2_copy_4 := dk_seg dksX2_copy_3 24 rfl rfl
theorem dksX2_copy_5 : cX2_copy.data.toList.drop 115 = dktX2_copy_5 := dk_seg dksX2_copy_4 24 rfl rfl
theorem dksX2_copy_6 : cX2_copy.data.toList.drop 139 = dktX2_copy_6 := dk_seg dksX2_copy_5 24 rfl rfl
theorem dX2_copy_0 : decode cX2_copy 0 = .ok (.new 13, 3) := dk_187 0 13 (dk_at dksX2_copy_0 0 rfl rfl)
theorem dX2_copy_3 : decode cX2_copy 3 = .ok (.dup, 1) := dk_89 (dk_at dksX2_copy_0 3 rfl rfl)
theorem dX2_copy_4 : decode cX2_copy 4 = .ok (.invokespecial 25, 3) := dk_183 0 25 (dk_at dksX2_copy_0 4 rfl rfl)
theorem dX2_copy_7 : decode cX2_copy 7 = .ok (.astore_n 1, 1) := dk_76 (dk_at dksX2_copy_0 7 rfl rfl)
theorem dX2_copy_8 : decode cX2_copy 8 = .ok (.aload_n 0, 1) := dk_42 (dk_at dksX2_copy_0 8 rfl rfl)
theorem dX2_copy_9 : decode cX2_copy 9 = .ok (.getfield 12, 3) := dk_180 0 12 (dk_at dksX2_copy_0 9 rfl rfl)
theorem dX2_copy_12 : decode cX2_copy 12 = .ok (.invokevirtual 26, 3) := dk_182 0 26 (dk_at dksX2_copy_0 12 rfl rfl)
theorem dX2_copy_15 : decode cX2_copy 15 = .ok (.invokeinterface 30 1, 5) := by decide +kernel
theorem dX2_copy_20 : decode cX2_copy 20 = .ok (.astore_n 2, 1) := dk_77 (dk_at dksX2_copy_0 20 rfl rfl)
theorem dX2_copy_21 : decode cX2_copy 21 = .ok (.aload_n 2, 1) := dk_44 (dk_at dksX2_copy_0 21 rfl rfl)
theorem dX2_copy_22 : decode cX2_copy 22 = .ok (.invokeinterface 36 1, 5) := by decide +kernel
theorem dX2_copy_27 : decode cX2_copy 27 = .ok (.ifCond .eq 32, 3) := dk_153 0 32 (dk_at dksX2_copy_1 5 rfl rfl)
theorem dX2_copy_30 : decode cX2_copy 30 = .ok (.aload_n 2, 1) := dk_44 (dk_at dksX2_copy_1 8 rfl rfl)
theorem dX2_copy_31 : decode cX2_copy 31 = .ok (.invokeinterface 42 1, 5) := by decide +kernel
theorem dX2_copy_36 : decode cX2_copy 36 = .ok (.checkcast 46, 3) := dk_192 0 46 (dk_at dksX2_copy_1 14 rfl rfl)
theorem dX2_copy_39 : decode cX2_copy 39 = .ok (.astore_n 3, 1) := dk_78 (dk_at dksX2_copy_1 17 rfl rfl)
theorem dX2_copy_40 : decode cX2_copy 40 = .ok (.aload_n 1, 1) := dk_43 (dk_at dksX2_copy_1 18 rfl rfl)
theorem dX2_copy_41 : decode cX2_copy 41 = .ok (.getfield 12, 3) := dk_180 0 12 (dk_at dksX2_copy_1 19 rfl rfl)
theorem dX2_copy_44 : decode cX2_copy 44 = .ok (.aload_n 3, 1) := dk_45 (dk_at dksX2_copy_1 22 rfl rfl)
theorem dX2_copy_45 : decode cX2_copy 45 = .ok (.getfield 48, 3) := dk_180 0 48 (dk_at dksX2_copy_2 0 rfl rfl)
theorem dX2_copy_48 : decode cX2_copy 48 = .ok (.invokestatic 52, 3) := dk_184 0 52 (dk_at dksX2_copy_2 3 rfl rfl)
theorem dX2_copy_51 : decode cX2_copy 51 = .ok (.aload_n 3, 1) := dk_45 (dk_at dksX2_copy_2 6 rfl rfl)
theorem dX2_copy_52 : decode cX2_copy 52 = .ok (.invokevirtual 58, 3) := dk_182 0 58 (dk_at dksX2_copy_2 7 rfl rfl)
theorem dX2_copy_55 : decode cX2_copy 55 = .ok (.pop, 1) := dk_87 (dk_at dksX2_copy_2 10 rfl rfl)
theorem dX2_copy_56 : decode cX2_copy 56 = .ok (.goto (-35), 3) := dk_167 255 221 (dk_at dksX2_copy_2 11 rfl rfl)
theorem dX2_copy_59 : decode cX2_copy 59 = .ok (.aload_n 1, 1) := dk_43 (dk_at dksX2_copy_2 14 rfl rfl)
theorem dX2_copy_60 : decode cX2_copy 60 = .ok (.aload_n 0, 1) := dk_42 (dk_at dksX2_copy_2 15 rfl rfl)
theorem dX2_copy_61 : decode cX2_copy 61 = .ok (.getfield 21, 3) := dk_180 0 21 (dk_at dksX2_copy_2 16 rfl rfl)
theorem dX2_copy_64 : decode cX2_copy 64 = .ok (.invokevirtual 62, 3) := dk_182 0 62 (dk_at dksX2_copy_2 19 rfl rfl)
theorem dX2_copy_67 : decode cX2_copy 67 = .ok (.putfield 21, 3) := dk_181 0 21 (dk_at dksX2_copy_3 0 rfl rfl)
theorem dX2_copy_70 : decode cX2_copy 70 = .ok (.aload_n 1, 1) := dk_43 (dk_at dksX2_copy_3 3 rfl rfl)
theorem dX2_copy_71 : decode cX2_copy 71 = .ok (.aload_n 0, 1) := dk_42 (dk_at dksX2_copy_3 4 rfl rfl)
theorem dX2_copy_72 : decode cX2_copy 72 = .ok (.getfield 66, 3) := dk_180 0 66 (dk_at dksX2_copy_3 5 rfl rfl)
theorem dX2_copy_75 : decode cX2_copy 75 = .ok (.putfield 66, 3) := dk_181 0 66 (dk_at dksX2_copy_3 8 rfl rfl)
theorem dX2_copy_78 : decode cX2_copy 78 = .ok (.aload_n 1, 1) := dk_43 (dk_at dksX2_copy_3 11 rfl rfl)
theorem dX2_copy_79 : decode cX2_copy 79 = .ok (.aload_n 0, 1) := dk_42 (dk_at dksX2_copy_3 12 rfl rfl)
theorem dX2_copy_80 : decode cX2_copy 80 = .ok (.getfield 70, 3) := dk_180 0 70 (dk_at dksX2_copy_3 13 rfl rfl)
theorem dX2_copy_83 : decode cX2_copy 83 = .ok (.putfield 70, 3) := dk_181 0 70 (dk_at dksX2_copy_3 16 rfl rfl)
theorem dX2_copy_86 : decode cX2_copy 86 = .ok (.aload_n 1, 1) := dk_43 (dk_at dksX2_copy_3 19 rfl rfl)
theorem dX2_copy_87 : decode cX2_copy 87 = .ok (.aload_n 0, 1) := dk_42 (dk_at dksX2_copy_3 20 rfl rfl)
theorem dX2_copy_88 : decode cX2_copy 88 = .ok (.getfield 73, 3) := dk_180 0 73 (dk_at dksX2_copy_3 21 rfl rfl)
theorem dX2_copy_91 : decode cX2_copy 91 = .ok (.putfield 73, 3) := dk_181 0 73 (dk_at dksX2_copy_4 0 rfl rfl)
theorem dX2_copy_94 : decode cX2_copy 94 = .ok (.aload_n 1, 1) := dk_43 (dk_at dksX2_copy_4 3 rfl rfl)
theorem dX2_copy_95 : decode cX2_copy 95 = .ok (.aload_n 0, 1) := dk_42 (dk_at dksX2_copy_4 4 rfl rfl)
theorem dX2_copy_96 : decode cX2_copy 96 = .ok (.getfield 76, 3) := dk_180 0 76 (dk_at dksX2_copy_4 5 rfl rfl)
theorem dX2_copy_99 : decode cX2_copy 99 = .ok (.putfield 76, 3) := dk_181 0 76 (dk_at dksX2_copy_4 8 rfl rfl)
theorem dX2_copy_102 : decode cX2_copy 102 = .ok (.aload_n 1, 1) := dk_43 (dk_at dksX2_copy_4 11 rfl rfl)
theorem dX2_copy_103 : decode cX2_copy 103 = .ok (.aload_n 0, 1) := dk_42 (dk_at dksX2_copy_4 12 rfl rfl)
theorem dX2_copy_104 : decode cX2_copy 104 = .ok (.getfield 79, 3) := dk_180 0 79 (dk_at dksX2_copy_4 13 rfl rfl)
theorem dX2_copy_107 : decode cX2_copy 107 = .ok (.putfield 79, 3) := dk_181 0 79 (dk_at dksX2_copy_4 16 rfl rfl)
theorem dX2_copy_110 : decode cX2_copy 110 = .ok (.aload_n 1, 1) := dk_43 (dk_at dksX2_copy_4 19 rfl rfl)
theorem dX2_copy_111 : decode cX2_copy 111 = .ok (.aload_n 0, 1) := dk_42 (dk_at dksX2_copy_4 20 rfl rfl)
theorem dX2_copy_112 : decode cX2_copy 112 = .ok (.getfield 82, 3) := dk_180 0 82 (dk_at dksX2_copy_4 21 rfl rfl)
theorem dX2_copy_115 : decode cX2_copy 115 = .ok (.putfield 82, 3) := dk_181 0 82 (dk_at dksX2_copy_5 0 rfl rfl)
theorem dX2_copy_118 : decode cX2_copy 118 = .ok (.aload_n 1, 1) := dk_43 (dk_at dksX2_copy_5 3 rfl rfl)
theorem dX2_copy_119 : decode cX2_copy 119 = .ok (.aload_n 0, 1) := dk_42 (dk_at dksX2_copy_5 4 rfl rfl)
theorem dX2_copy_120 : decode cX2_copy 120 = .ok (.getfield 85, 3) := dk_180 0 85 (dk_at dksX2_copy_5 5 rfl rfl)
theorem dX2_copy_123 : decode cX2_copy 123 = .ok (.putfield 85, 3) := dk_181 0 85 (dk_at dksX2_copy_5 8 rfl rfl)
theorem dX2_copy_126 : decode cX2_copy 126 = .ok (.aload_n 1, 1) := dk_43 (dk_at dksX2_copy_5 11 rfl rfl)
theorem dX2_copy_127 : decode cX2_copy 127 = .ok (.aload_n 0, 1) := dk_42 (dk_at dksX2_copy_5 12 rfl rfl)
theorem dX2_copy_128 : decode cX2_copy 128 = .ok (.getfield 88, 3) := dk_180 0 88 (dk_at dksX2_copy_5 13 rfl rfl)
theorem dX2_copy_131 : decode cX2_copy 131 = .ok (.putfield 88, 3) := dk_181 0 88 (dk_at dksX2_copy_5 16 rfl rfl)
theorem dX2_copy_134 : decode cX2_copy 134 = .ok (.aload_n 1, 1) := dk_43 (dk_at dksX2_copy_5 19 rfl rfl)
theorem dX2_copy_135 : decode cX2_copy 135 = .ok (.aload_n 0, 1) := dk_42 (dk_at dksX2_copy_5 20 rfl rfl)
theorem dX2_copy_136 : decode cX2_copy 136 = .ok (.getfield 91, 3) := dk_180 0 91 (dk_at dksX2_copy_5 21 rfl rfl)
theorem dX2_copy_139 : decode cX2_copy 139 = .ok (.putfield 91, 3) := dk_181 0 91 (dk_at dksX2_copy_6 0 rfl rfl)
theorem dX2_copy_142 : decode cX2_copy 142 = .ok (.aload_n 1, 1) := dk_43 (dk_at dksX2_copy_6 3 rfl rfl)
theorem dX2_copy_143 : decode cX2_copy 143 = .ok (.areturn, 1) := dk_176 (dk_at dksX2_copy_6 4 rfl rfl)
abbrev cX1_change : ByteArray := prog_1_method_6_code
def yX1_change : MethodName := ⟨RX1, "change", "(Ljava/lang/String;[I)I"⟩
def dkwX1_change_1 : List UInt8 := [182, 0, 119, 172, 58, 4, 25, 4, 182, 0, 123, 191]
abbrev dktX1_change_1 : List UInt8 := dkwX1_change_1 ++ []
def dkwX1_change_0 : List UInt8 := [42, 180, 0, 66, 182, 0, 106, 78, 42, 45, 187, 0, 110, 89, 43, 44, 183, 0, 112, 45, 182, 0, 115]
abbrev dktX1_change_0 : List UInt8 := dkwX1_change_0 ++ dktX1_change_1
theorem dksX1_change_0 : cX1_change.data.toList.drop 0 = dktX1_change_0 := by decide +kernel
theorem dksX1_change_1 : cX1_change.data.toList.drop 23 = dktX1_change_1 := dk_seg dksX1_change_0 23 rfl rfl
theorem dX1_change_0 : decode cX1_change 0 = .ok (.aload_n 0, 1) := dk_42 (dk_at dksX1_change_0 0 rfl rfl)
theorem dX1_change_1 : decode cX1_change 1 = .ok (.getfield 66, 3) := dk_180 0 66 (dk_at dksX1_change_0 1 rfl rfl)
theorem dX1_change_4 : decode cX1_change 4 = .ok (.invokevirtual 106, 3) := dk_182 0 106 (dk_at dksX1_change_0 4 rfl rfl)
theorem dX1_change_7 : decode cX1_change 7 = .ok (.astore_n 3, 1) := dk_78 (dk_at dksX1_change_0 7 rfl rfl)
theorem dX1_change_8 : decode cX1_change 8 = .ok (.aload_n 0, 1) := dk_42 (dk_at dksX1_change_0 8 rfl rfl)
theorem dX1_change_9 : decode cX1_change 9 = .ok (.aload_n 3, 1) := dk_45 (dk_at dksX1_change_0 9 rfl rfl)
theorem dX1_change_10 : decode cX1_change 10 = .ok (.new 110, 3) := dk_187 0 110 (dk_at dksX1_change_0 10 rfl rfl)
theorem dX1_change_13 : decode cX1_change 13 = .ok (.dup, 1) := dk_89 (dk_at dksX1_change_0 13 rfl rfl)
theorem dX1_change_14 : decode cX1_change 14 = .ok (.aload_n 1, 1) := dk_43 (dk_at dksX1_change_0 14 rfl rfl)
theorem dX1_change_15 : decode cX1_change 15 = .ok (.aload_n 2, 1) := dk_44 (dk_at dksX1_change_0 15 rfl rfl)
theorem dX1_change_16 : decode cX1_change 16 = .ok (.invokespecial 112, 3) := dk_183 0 112 (dk_at dksX1_change_0 16 rfl rfl)
theorem dX1_change_19 : decode cX1_change 19 = .ok (.aload_n 3, 1) := dk_45 (dk_at dksX1_change_0 19 rfl rfl)
theorem dX1_change_20 : decode cX1_change 20 = .ok (.invokevirtual 115, 3) := dk_182 0 115 (dk_at dksX1_change_0 20 rfl rfl)
theorem dX1_change_23 : decode cX1_change 23 = .ok (.invokevirtual 119, 3) := dk_182 0 119 (dk_at dksX1_change_1 0 rfl rfl)
theorem dX1_change_26 : decode cX1_change 26 = .ok (.ireturn, 1) := dk_172 (dk_at dksX1_change_1 3 rfl rfl)
theorem dX1_change_27 : decode cX1_change 27 = .ok (.astore 4, 2) := dk_58 4 (dk_at dksX1_change_1 4 rfl rfl)
theorem dX1_change_29 : decode cX1_change 29 = .ok (.aload 4, 2) := dk_25 4 (dk_at dksX1_change_1 6 rfl rfl)
theorem dX1_change_31 : decode cX1_change 31 = .ok (.invokevirtual 123, 3) := dk_182 0 123 (dk_at dksX1_change_1 8 rfl rfl)
theorem dX1_change_34 : decode cX1_change 34 = .ok (.athrow, 1) := dk_191 (dk_at dksX1_change_1 11 rfl rfl)
abbrev cX1_purge : ByteArray := prog_1_method_12_code
def yX1_purge : MethodName := ⟨RX1, "purge", "()I"⟩
def dkwX1_purge_0 : List UInt8 := [42, 18, 141, 3, 188, 10, 182, 0, 129, 172]
abbrev dktX1_purge_0 : List UInt8 := dkwX1_purge_0 ++ []
theorem dksX1_purge_0 : cX1_purge.data.toList.drop 0 = dktX1_purge_0 := by decide +kernel
theorem dX1_purge_0 : decode cX1_purge 0 = .ok (.aload_n 0, 1) := dk_42 (dk_at dksX1_purge_0 0 rfl rfl)
theorem dX1_purge_1 : decode cX1_purge 1 = .ok (.ldc 141, 2) := dk_18 141 (dk_at dksX1_purge_0 1 rfl rfl)
theorem dX1_purge_3 : decode cX1_purge 3 = .ok (.iconst 0, 1) := dk_3 (dk_at dksX1_purge_0 3 rfl rfl)
theorem dX1_purge_4 : decode cX1_purge 4 = .ok (.newarray .int, 2) := dk_188_10 (dk_at dksX1_purge_0 4 rfl rfl)
theorem dX1_purge_6 : decode cX1_purge 6 = .ok (.invokevirtual 129, 3) := dk_182 0 129 (dk_at dksX1_purge_0 6 rfl rfl)
theorem dX1_purge_9 : decode cX1_purge 9 = .ok (.ireturn, 1) := dk_172 (dk_at dksX1_purge_0 9 rfl rfl)
abbrev cJ9_coder : ByteArray := prog_38_method_152_code
def yJ9_coder : MethodName := ⟨RJ9, "coder", "()B"⟩
def dkwJ9_coder_0 : List UInt8 := [178, 0, 38, 153, 0, 10, 42, 180, 0, 15, 167, 0, 4, 4, 172]
abbrev dktJ9_coder_0 : List UInt8 := dkwJ9_coder_0 ++ []
theorem dksJ9_coder_0 : cJ9_coder.data.toList.drop 0 = dktJ9_coder_0 := by decide +kernel
theorem dJ9_coder_0 : decode cJ9_coder 0 = .ok (.getstatic 38, 3) := dk_178 0 38 (dk_at dksJ9_coder_0 0 rfl rfl)
theorem dJ9_coder_3 : decode cJ9_coder 3 = .ok (.ifCond .eq 10, 3) := dk_153 0 10 (dk_at dksJ9_coder_0 3 rfl rfl)
theorem dJ9_coder_6 : decode cJ9_coder 6 = .ok (.aload_n 0, 1) := dk_42 (dk_at dksJ9_coder_0 6 rfl rfl)
theorem dJ9_coder_7 : decode cJ9_coder 7 = .ok (.getfield 15, 3) := dk_180 0 15 (dk_at dksJ9_coder_0 7 rfl rfl)
theorem dJ9_coder_10 : decode cJ9_coder 10 = .ok (.goto 4, 3) := dk_167 0 4 (dk_at dksJ9_coder_0 10 rfl rfl)
theorem dJ9_coder_13 : decode cJ9_coder 13 = .ok (.iconst 1, 1) := dk_4 (dk_at dksJ9_coder_0 13 rfl rfl)
theorem dJ9_coder_14 : decode cJ9_coder 14 = .ok (.ireturn, 1) := dk_172 (dk_at dksJ9_coder_0 14 rfl rfl)
abbrev cJ9_length : ByteArray := prog_38_method_54_code
def yJ9_length : MethodName := ⟨RJ9, "length", "()I"⟩
def dkwJ9_length_0 : List UInt8 := [42, 180, 0, 9, 190, 42, 182, 1, 79, 122, 172]
abbrev dktJ9_length_0 : List UInt8 := dkwJ9_length_0 ++ []
theorem dksJ9_length_0 : cJ9_length.data.toList.drop 0 = dktJ9_length_0 := by decide +kernel
theorem dJ9_length_0 : decode cJ9_length 0 = .ok (.aload_n 0, 1) := dk_42 (dk_at dksJ9_length_0 0 rfl rfl)
theorem dJ9_length_1 : decode cJ9_length 1 = .ok (.getfield 9, 3) := dk_180 0 9 (dk_at dksJ9_length_0 1 rfl rfl)
theorem dJ9_length_4 : decode cJ9_length 4 = .ok (.arraylength, 1) := dk_190 (dk_at dksJ9_length_0 4 rfl rfl)
theorem dJ9_length_5 : decode cJ9_length 5 = .ok (.aload_n 0, 1) := dk_42 (dk_at dksJ9_length_0 5 rfl rfl)
theorem dJ9_length_6 : decode cJ9_length 6 = .ok (.invokevirtual 335, 3) := dk_182 1 79 (dk_at dksJ9_length_0 6 rfl rfl)
theorem dJ9_length_9 : decode cJ9_length 9 = .ok (.ishr, 1) := dk_122 (dk_at dksJ9_length_0 9 rfl rfl)
theorem dJ9_length_10 : decode cJ9_length 10 = .ok (.ireturn, 1) := dk_172 (dk_at dksJ9_length_0 10 rfl rfl)
abbrev cX1_write : ByteArray := prog_1_method_59_code
def yX1_write : MethodName := ⟨RX1, "write", "(Ljava/lang/String;)I"⟩
def dkwX1_write_0 : List UInt8 := [42, 43, 181, 0, 95, 42, 180, 0, 95, 182, 1, 102, 172]
abbrev dktX1_write_0 : List UInt8 := dkwX1_write_0 ++ []
theorem dksX1_write_0 : cX1_write.data.toList.drop 0 = dktX1_write_0 := by decide +kernel
theorem dX1_write_0 : decode cX1_write 0 = .ok (.aload_n 0, 1) := dk_42 (dk_at dksX1_write_0 0 rfl rfl)
theorem dX1_write_1 : decode cX1_write 1 = .ok (.aload_n 1, 1) := dk_43 (dk_at dksX1_write_0 1 rfl rfl)
theorem dX1_write_2 : decode cX1_write 2 = .ok (.putfield 95, 3) := dk_181 0 95 (dk_at dksX1_write_0 2 rfl rfl)
theorem dX1_write_5 : decode cX1_write 5 = .ok (.aload_n 0, 1) := dk_42 (dk_at dksX1_write_0 5 rfl rfl)
theorem dX1_write_6 : decode cX1_write 6 = .ok (.getfield 95, 3) := dk_180 0 95 (dk_at dksX1_write_0 6 rfl rfl)
theorem dX1_write_9 : decode cX1_write 9 = .ok (.invokevirtual 358, 3) := dk_182 1 102 (dk_at dksX1_write_0 9 rfl rfl)
theorem dX1_write_12 : decode cX1_write 12 = .ok (.ireturn, 1) := dk_172 (dk_at dksX1_write_0 12 rfl rfl)
abbrev cJ7_newCapacity : ByteArray := prog_20_method_10_code
def yJ7_newCapacity : MethodName := ⟨RJ7, "newCapacity", "(I)I"⟩
def dkwJ7_newCapacity_2 : List UInt8 := [183, 0, 124, 191, 21, 5, 42, 180, 0, 22, 122, 172]
abbrev dktJ7_newCapacity_2 : List UInt8 := dkwJ7_newCapacity_2 ++ []
def dkwJ7_newCapacity_1 : List UInt8 := [180, 0, 22, 120, 96, 184, 0, 114, 54, 5, 21, 5, 18, 39, 160, 0, 13, 187, 0, 120, 89, 18, 122]
abbrev dktJ7_newCapacity_1 : List UInt8 := dkwJ7_newCapacity_1 ++ dktJ7_newCapacity_2
def dkwJ7_newCapacity_0 : List UInt8 := [42, 180, 0, 15, 190, 61, 27, 42, 180, 0, 22, 120, 62, 29, 28, 100, 54, 4, 28, 21, 4, 28, 5, 42]
abbrev dktJ7_newCapacity_0 : List UInt8 := dkwJ7_newCapacity_0 ++ dktJ7_newCapacity_1
theorem dksJ7_newCapacity_0 : cJ7_newCapacity.data.toList.drop 0 = dktJ7_newCapacity_0 := by decide +kernel
theorem dksJ7_newCapacity_1 : cJ7_newCapacity.data.toList.drop 24 = dktJ7_newCapacity_1 := dk_seg dksJ7_newCapacity_0 24 rfl rfl
theorem dksJ7_newCapacity_2 : cJ7_newCapacity.data.toList.drop 47 = dktJ7_newCapacity_2 := dk_seg dksJ7_newCapacity_1 23 rfl rfl
theorem dJ7_newCapacity_0 : decode cJ7_newCapacity 0 = .ok (.aload_n 0, 1) := dk_42 (dk_at dksJ7_newCapacity_0 0 rfl rfl)
theorem dJ7_newCapacity_1 : decode cJ7_newCapacity 1 = .ok (.getfield 15, 3) := dk_180 0 15 (dk_at dksJ7_newCapacity_0 1 rfl rfl)
theorem dJ7_newCapacity_4 : decode cJ7_newCapacity 4 = .ok (.arraylength, 1) := dk_190 (dk_at dksJ7_newCapacity_0 4 rfl rfl)
theorem dJ7_newCapacity_5 : decode cJ7_newCapacity 5 = .ok (.istore_n 2, 1) := dk_61 (dk_at dksJ7_newCapacity_0 5 rfl rfl)
theorem dJ7_newCapacity_6 : decode cJ7_newCapacity 6 = .ok (.iload_n 1, 1) := dk_27 (dk_at dksJ7_newCapacity_0 6 rfl rfl)
theorem dJ7_newCapacity_7 : decode cJ7_newCapacity 7 = .ok (.aload_n 0, 1) := dk_42 (dk_at dksJ7_newCapacity_0 7 rfl rfl)
theorem dJ7_newCapacity_8 : decode cJ7_newCapacity 8 = .ok (.getfield 22, 3) := dk_180 0 22 (dk_at dksJ7_newCapacity_0 8 rfl rfl)
theorem dJ7_newCapacity_11 : decode cJ7_newCapacity 11 = .ok (.ishl, 1) := dk_120 (dk_at dksJ7_newCapacity_0 11 rfl rfl)
theorem dJ7_newCapacity_12 : decode cJ7_newCapacity 12 = .ok (.istore_n 3, 1) := dk_62 (dk_at dksJ7_newCapacity_0 12 rfl rfl)
theorem dJ7_newCapacity_13 : decode cJ7_newCapacity 13 = .ok (.iload_n 3, 1) := dk_29 (dk_at dksJ7_newCapacity_0 13 rfl rfl)
theorem dJ7_newCapacity_14 : decode cJ7_newCapacity 14 = .ok (.iload_n 2, 1) := dk_28 (dk_at dksJ7_newCapacity_0 14 rfl rfl)
theorem dJ7_newCapacity_15 : decode cJ7_newCapacity 15 = .ok (.isub, 1) := dk_100 (dk_at dksJ7_newCapacity_0 15 rfl rfl)
theorem dJ7_newCapacity_16 : decode cJ7_newCapacity 16 = .ok (.istore 4, 2) := dk_54 4 (dk_at dksJ7_newCapacity_0 16 rfl rfl)
theorem dJ7_newCapacity_18 : decode cJ7_newCapacity 18 = .ok (.iload_n 2, 1) := dk_28 (dk_at dksJ7_newCapacity_0 18 rfl rfl)
theorem dJ7_newCapacity_19 : decode cJ7_newCapacity 19 = .ok (.iload 4, 2) := dk_21 4 (dk_at dksJ7_newCapacity_0 19 rfl rfl)
theorem dJ7_newCapacity_21 : decode cJ7_newCapacity 21 = .ok (.iload_n 2, 1) := dk_28 (dk_at dksJ7_newCapacity_0 21 rfl rfl)
theorem dJ7_newCapacity_22 : decode cJ7_newCapacity 22 = .ok (.iconst 2, 1) := dk_5 (dk_at dksJ7_newCapacity_0 22 rfl rfl)
theorem dJ7_newCapacity_23 : decode cJ7_newCapacity 23 = .ok (.aload_n 0, 1) := dk_42 (dk_at dksJ7_newCapacity_0 23 rfl rfl)
theorem dJ7_newCapacity_24 : decode cJ7_newCapacity 24 = .ok (.getfield 22, 3) := dk_180 0 22 (dk_at dksJ7_newCapacity_1 0 rfl rfl)
theorem dJ7_newCapacity_27 : decode cJ7_newCapacity 27 = .ok (.ishl, 1) := dk_120 (dk_at dksJ7_newCapacity_1 3 rfl rfl)
theorem dJ7_newCapacity_28 : decode cJ7_newCapacity 28 = .ok (.iadd, 1) := dk_96 (dk_at dksJ7_newCapacity_1 4 rfl rfl)
theorem dJ7_newCapacity_29 : decode cJ7_newCapacity 29 = .ok (.invokestatic 114, 3) := dk_184 0 114 (dk_at dksJ7_newCapacity_1 5 rfl rfl)
theorem dJ7_newCapacity_32 : decode cJ7_newCapacity 32 = .ok (.istore 5, 2) := dk_54 5 (dk_at dksJ7_newCapacity_1 8 rfl rfl)
theorem dJ7_newCapacity_34 : decode cJ7_newCapacity 34 = .ok (.iload 5, 2) := dk_21 5 (dk_at dksJ7_newCapacity_1 10 rfl rfl)
theorem dJ7_newCapacity_36 : decode cJ7_newCapacity 36 = .ok (.ldc 39, 2) := dk_18 39 (dk_at dksJ7_newCapacity_1 12 rfl rfl)
theorem dJ7_newCapacity_38 : decode cJ7_newCapacity 38 = .ok (.if_icmp .ne 13, 3) := dk_160 0 13 (dk_at dksJ7_newCapacity_1 14 rfl rfl)
theorem dJ7_newCapacity_41 : decode cJ7_newCapacity 41 = .ok (.new 120, 3) := dk_187 0 120 (dk_at dksJ7_newCapacity_1 17 rfl rfl)
theorem dJ7_newCapacity_51 : decode cJ7_newCapacity 51 = .ok (.iload 5, 2) := dk_21 5 (dk_at dksJ7_newCapacity_2 4 rfl rfl)
theorem dJ7_newCapacity_53 : decode cJ7_newCapacity 53 = .ok (.aload_n 0, 1) := dk_42 (dk_at dksJ7_newCapacity_2 6 rfl rfl)
theorem dJ7_newCapacity_54 : decode cJ7_newCapacity 54 = .ok (.getfield 22, 3) := dk_180 0 22 (dk_at dksJ7_newCapacity_2 7 rfl rfl)
theorem dJ7_newCapacity_57 : decode cJ7_newCapacity 57 = .ok (.ishr, 1) := dk_122 (dk_at dksJ7_newCapacity_2 10 rfl rfl)
theorem dJ7_newCapacity_58 : decode cJ7_newCapacity 58 = .ok (.ireturn, 1) := dk_172 (dk_at dksJ7_newCapacity_2 11 rfl rfl)
abbrev cJ23_copyOf : ByteArray := prog_62_method_121_code
def yJ23_copyOf : MethodName := ⟨RJ23, "copyOf", "([BI)[B"⟩
def dkwJ23_copyOf_1 : List UInt8 := [27, 184, 1, 48, 184, 0, 150, 44, 176]
abbrev dktJ23_copyOf_1 : List UInt8 := dkwJ23_copyOf_1 ++ []
def dkwJ23_copyOf_0 : List UInt8 := [27, 42, 190, 160, 0, 11, 42, 182, 1, 54, 192, 1, 55, 176, 27, 188, 8, 77, 42, 3, 44, 3, 42, 190]
abbrev dktJ23_copyOf_0 : List UInt8 := dkwJ23_copyOf_0 ++ dktJ23_copyOf_1
theorem dksJ23_copyOf_0 : cJ23_copyOf.data.toList.drop 0 = dktJ23_copyOf_0 := by decide +kernel
theorem dksJ23_copyOf_1 : cJ23_copyOf.data.toList.drop 24 = dktJ23_copyOf_1 := dk_seg dksJ23_copyOf_0 24 rfl rfl
theorem dJ23_copyOf_0 : decode cJ23_copyOf 0 = .ok (.iload_n 1, 1) := dk_27 (dk_at dksJ23_copyOf_0 0 rfl rfl)
theorem dJ23_copyOf_1 : decode cJ23_copyOf 1 = .ok (.aload_n 0, 1) := dk_42 (dk_at dksJ23_copyOf_0 1 rfl rfl)
theorem dJ23_copyOf_2 : decode cJ23_copyOf 2 = .ok (.arraylength, 1) := dk_190 (dk_at dksJ23_copyOf_0 2 rfl rfl)
theorem dJ23_copyOf_3 : decode cJ23_copyOf 3 = .ok (.if_icmp .ne 11, 3) := dk_160 0 11 (dk_at dksJ23_copyOf_0 3 rfl rfl)
theorem dJ23_copyOf_6 : decode cJ23_copyOf 6 = .ok (.aload_n 0, 1) := dk_42 (dk_at dksJ23_copyOf_0 6 rfl rfl)
theorem dJ23_copyOf_7 : decode cJ23_copyOf 7 = .ok (.invokevirtual 310, 3) := dk_182 1 54 (dk_at dksJ23_copyOf_0 7 rfl rfl)
theorem dJ23_copyOf_10 : decode cJ23_copyOf 10 = .ok (.checkcast 311, 3) := dk_192 1 55 (dk_at dksJ23_copyOf_0 10 rfl rfl)
theorem dJ23_copyOf_13 : decode cJ23_copyOf 13 = .ok (.areturn, 1) := dk_176 (dk_at dksJ23_copyOf_0 13 rfl rfl)
theorem dJ23_copyOf_14 : decode cJ23_copyOf 14 = .ok (.iload_n 1, 1) := dk_27 (dk_at dksJ23_copyOf_0 14 rfl rfl)
theorem dJ23_copyOf_15 : decode cJ23_copyOf 15 = .ok (.newarray .byte, 2) := dk_188_8 (dk_at dksJ23_copyOf_0 15 rfl rfl)
theorem dJ23_copyOf_17 : decode cJ23_copyOf 17 = .ok (.astore_n 2, 1) := dk_77 (dk_at dksJ23_copyOf_0 17 rfl rfl)
theorem dJ23_copyOf_18 : decode cJ23_copyOf 18 = .ok (.aload_n 0, 1) := dk_42 (dk_at dksJ23_copyOf_0 18 rfl rfl)
theorem dJ23_copyOf_19 : decode cJ23_copyOf 19 = .ok (.iconst 0, 1) := dk_3 (dk_at dksJ23_copyOf_0 19 rfl rfl)
theorem dJ23_copyOf_20 : decode cJ23_copyOf 20 = .ok (.aload_n 2, 1) := dk_44 (dk_at dksJ23_copyOf_0 20 rfl rfl)
theorem dJ23_copyOf_21 : decode cJ23_copyOf 21 = .ok (.iconst 0, 1) := dk_3 (dk_at dksJ23_copyOf_0 21 rfl rfl)
theorem dJ23_copyOf_22 : decode cJ23_copyOf 22 = .ok (.aload_n 0, 1) := dk_42 (dk_at dksJ23_copyOf_0 22 rfl rfl)
theorem dJ23_copyOf_23 : decode cJ23_copyOf 23 = .ok (.arraylength, 1) := dk_190 (dk_at dksJ23_copyOf_0 23 rfl rfl)
theorem dJ23_copyOf_24 : decode cJ23_copyOf 24 = .ok (.iload_n 1, 1) := dk_27 (dk_at dksJ23_copyOf_1 0 rfl rfl)
theorem dJ23_copyOf_25 : decode cJ23_copyOf 25 = .ok (.invokestatic 304, 3) := dk_184 1 48 (dk_at dksJ23_copyOf_1 1 rfl rfl)
theorem dJ23_copyOf_28 : decode cJ23_copyOf 28 = .ok (.invokestatic 150, 3) := dk_184 0 150 (dk_at dksJ23_copyOf_1 4 rfl rfl)
theorem dJ23_copyOf_31 : decode cJ23_copyOf 31 = .ok (.aload_n 2, 1) := dk_44 (dk_at dksJ23_copyOf_1 7 rfl rfl)
theorem dJ23_copyOf_32 : decode cJ23_copyOf 32 = .ok (.areturn, 1) := dk_176 (dk_at dksJ23_copyOf_1 8 rfl rfl)
abbrev cJ7_ensureCapacityInternal : ByteArray := prog_20_method_9_code
def yJ7_ensureCapacityInternal : MethodName := ⟨RJ7, "ensureCapacityInternal", "(I)V"⟩
def dkwJ7_ensureCapacityInternal_1 : List UInt8 := [182, 0, 104, 42, 180, 0, 22, 120, 184, 0, 108, 181, 0, 15, 177]
abbrev dktJ7_ensureCapacityInternal_1 : List UInt8 := dkwJ7_ensureCapacityInternal_1 ++ []
def dkwJ7_ensureCapacityInternal_0 : List UInt8 := [42, 180, 0, 15, 190, 42, 180, 0, 22, 122, 61, 27, 28, 100, 158, 0, 24, 42, 42, 180, 0, 15, 42, 27]
abbrev dktJ7_ensureCapacityInternal_0 : List UInt8 := dkwJ7_ensureCapacityInternal_0 ++ dktJ7_ensureCapacityInternal_1
theorem dksJ7_ensureCapacityInternal_0 : cJ7_ensureCapacityInternal.data.toList.drop 0 = dktJ7_ensureCapacityInternal_0 := by decide +kernel
theorem dksJ7_ensureCapacityInternal_1 : cJ7_ensureCapacityInternal.data.toList.drop 24 = dktJ7_ensureCapacityInternal_1 := dk_seg dksJ7_ensureCapacityInternal_0 24 rfl rfl
theorem dJ7_ensureCapacityInternal_0 : decode cJ7_ensureCapacityInternal 0 = .ok (.aload_n 0, 1) := dk_42 (dk_at dksJ7_ensureCapacityInternal_0 0 rfl rfl)
theorem dJ7_ensureCapacityInternal_1 : decode cJ7_ensureCapacityInternal 1 = .ok (.getfield 15, 3) := dk_180 0 15 (dk_at dksJ7_ensureCapacityInternal_0 1 rfl rfl)
theorem dJ7_ensureCapacityInternal_4 : decode cJ7_ensureCapacityInternal 4 = .ok (.arraylength, 1) := dk_190 (dk_at dksJ7_ensureCapacityInternal_0 4 rfl rfl)
theorem dJ7_ensureCapacityInternal_5 : decode cJ7_ensureCapacityInternal 5 = .ok (.aload_n 0, 1) := dk_42 (dk_at dksJ7_ensureCapacityInternal_0 5 rfl rfl)
theorem dJ7_ensureCapacityInternal_6 : decode cJ7_ensureCapacityInternal 6 = .ok (.getfield 22, 3) := dk_180 0 22 (dk_at dksJ7_ensureCapacityInternal_0 6 rfl rfl)
theorem dJ7_ensureCapacityInternal_9 : decode cJ7_ensureCapacityInternal 9 = .ok (.ishr, 1) := dk_122 (dk_at dksJ7_ensureCapacityInternal_0 9 rfl rfl)
theorem dJ7_ensureCapacityInternal_10 : decode cJ7_ensureCapacityInternal 10 = .ok (.istore_n 2, 1) := dk_61 (dk_at dksJ7_ensureCapacityInternal_0 10 rfl rfl)
theorem dJ7_ensureCapacityInternal_11 : decode cJ7_ensureCapacityInternal 11 = .ok (.iload_n 1, 1) := dk_27 (dk_at dksJ7_ensureCapacityInternal_0 11 rfl rfl)
theorem dJ7_ensureCapacityInternal_12 : decode cJ7_ensureCapacityInternal 12 = .ok (.iload_n 2, 1) := dk_28 (dk_at dksJ7_ensureCapacityInternal_0 12 rfl rfl)
theorem dJ7_ensureCapacityInternal_13 : decode cJ7_ensureCapacityInternal 13 = .ok (.isub, 1) := dk_100 (dk_at dksJ7_ensureCapacityInternal_0 13 rfl rfl)
theorem dJ7_ensureCapacityInternal_14 : decode cJ7_ensureCapacityInternal 14 = .ok (.ifCond .le 24, 3) := dk_158 0 24 (dk_at dksJ7_ensureCapacityInternal_0 14 rfl rfl)
theorem dJ7_ensureCapacityInternal_17 : decode cJ7_ensureCapacityInternal 17 = .ok (.aload_n 0, 1) := dk_42 (dk_at dksJ7_ensureCapacityInternal_0 17 rfl rfl)
theorem dJ7_ensureCapacityInternal_18 : decode cJ7_ensureCapacityInternal 18 = .ok (.aload_n 0, 1) := dk_42 (dk_at dksJ7_ensureCapacityInternal_0 18 rfl rfl)
theorem dJ7_ensureCapacityInternal_19 : decode cJ7_ensureCapacityInternal 19 = .ok (.getfield 15, 3) := dk_180 0 15 (dk_at dksJ7_ensureCapacityInternal_0 19 rfl rfl)
theorem dJ7_ensureCapacityInternal_22 : decode cJ7_ensureCapacityInternal 22 = .ok (.aload_n 0, 1) := dk_42 (dk_at dksJ7_ensureCapacityInternal_0 22 rfl rfl)
theorem dJ7_ensureCapacityInternal_23 : decode cJ7_ensureCapacityInternal 23 = .ok (.iload_n 1, 1) := dk_27 (dk_at dksJ7_ensureCapacityInternal_0 23 rfl rfl)
theorem dJ7_ensureCapacityInternal_24 : decode cJ7_ensureCapacityInternal 24 = .ok (.invokevirtual 104, 3) := dk_182 0 104 (dk_at dksJ7_ensureCapacityInternal_1 0 rfl rfl)
theorem dJ7_ensureCapacityInternal_27 : decode cJ7_ensureCapacityInternal 27 = .ok (.aload_n 0, 1) := dk_42 (dk_at dksJ7_ensureCapacityInternal_1 3 rfl rfl)
theorem dJ7_ensureCapacityInternal_28 : decode cJ7_ensureCapacityInternal 28 = .ok (.getfield 22, 3) := dk_180 0 22 (dk_at dksJ7_ensureCapacityInternal_1 4 rfl rfl)
theorem dJ7_ensureCapacityInternal_31 : decode cJ7_ensureCapacityInternal 31 = .ok (.ishl, 1) := dk_120 (dk_at dksJ7_ensureCapacityInternal_1 7 rfl rfl)
theorem dJ7_ensureCapacityInternal_32 : decode cJ7_ensureCapacityInternal 32 = .ok (.invokestatic 108, 3) := dk_184 0 108 (dk_at dksJ7_ensureCapacityInternal_1 8 rfl rfl)
theorem dJ7_ensureCapacityInternal_35 : decode cJ7_ensureCapacityInternal 35 = .ok (.putfield 15, 3) := dk_181 0 15 (dk_at dksJ7_ensureCapacityInternal_1 11 rfl rfl)
theorem dJ7_ensureCapacityInternal_38 : decode cJ7_ensureCapacityInternal 38 = .ok (.return_, 1) := dk_177 (dk_at dksJ7_ensureCapacityInternal_1 14 rfl rfl)
abbrev cJ7_isLatin1 : ByteArray := prog_20_method_68_code
def yJ7_isLatin1 : MethodName := ⟨RJ7, "isLatin1", "()Z"⟩
def dkwJ7_isLatin1_0 : List UInt8 := [178, 0, 18, 153, 0, 14, 42, 180, 0, 22, 154, 0, 7, 4, 167, 0, 4, 3, 172]
abbrev dktJ7_isLatin1_0 : List UInt8 := dkwJ7_isLatin1_0 ++ []
theorem dksJ7_isLatin1_0 : cJ7_isLatin1.data.toList.drop 0 = dktJ7_isLatin1_0 := by decide +kernel
theorem dJ7_isLatin1_0 : decode cJ7_isLatin1 0 = .ok (.getstatic 18, 3) := dk_178 0 18 (dk_at dksJ7_isLatin1_0 0 rfl rfl)
theorem dJ7_isLatin1_3 : decode cJ7_isLatin1 3 = .ok (.ifCond .eq 14, 3) := dk_153 0 14 (dk_at dksJ7_isLatin1_0 3 rfl rfl)
theorem dJ7_isLatin1_6 : decode cJ7_isLatin1 6 = .ok (.aload_n 0, 1) := dk_42 (dk_at dksJ7_isLatin1_0 6 rfl rfl)
theorem dJ7_isLatin1_7 : decode cJ7_isLatin1 7 = .ok (.getfield 22, 3) := dk_180 0 22 (dk_at dksJ7_isLatin1_0 7 rfl rfl)
theorem dJ7_isLatin1_10 : decode cJ7_isLatin1 10 = .ok (.ifCond .ne 7, 3) := dk_154 0 7 (dk_at dksJ7_isLatin1_0 10 rfl rfl)
theorem dJ7_isLatin1_13 : decode cJ7_isLatin1 13 = .ok (.iconst 1, 1) := dk_4 (dk_at dksJ7_isLatin1_0 13 rfl rfl)
theorem dJ7_isLatin1_14 : decode cJ7_isLatin1 14 = .ok (.goto 4, 3) := dk_167 0 4 (dk_at dksJ7_isLatin1_0 14 rfl rfl)
theorem dJ7_isLatin1_17 : decode cJ7_isLatin1 17 = .ok (.iconst 0, 1) := dk_3 (dk_at dksJ7_isLatin1_0 17 rfl rfl)
theorem dJ7_isLatin1_18 : decode cJ7_isLatin1 18 = .ok (.ireturn, 1) := dk_172 (dk_at dksJ7_isLatin1_0 18 rfl rfl)
abbrev cJ27_getChars : ByteArray := prog_31_method_12_code
def yJ27_getChars : MethodName := ⟨RJ27, "getChars", "(II[B)I"⟩
def dkwJ27_getChars_5 : List UInt8 := [16, 45, 84, 21, 5, 172]
abbrev dktJ27_getChars_5 : List UInt8 := dkwJ27_getChars_5 ++ []
def dkwJ27_getChars_4 : List UInt8 := [132, 5, 255, 21, 5, 178, 0, 87, 26, 116, 51, 84, 21, 6, 153, 0, 12, 44, 132, 5, 255, 21, 5]
abbrev dktJ27_getChars_4 : List UInt8 := dkwJ27_getChars_4 ++ dktJ27_getChars_5
def dkwJ27_getChars_3 : List UInt8 := [167, 255, 209, 44, 132, 5, 255, 21, 5, 178, 0, 83, 26, 116, 51, 84, 26, 16, 247, 162, 0, 16, 44]
abbrev dktJ27_getChars_3 : List UInt8 := dkwJ27_getChars_3 ++ dktJ27_getChars_4
def dkwJ27_getChars_2 : List UInt8 := [21, 5, 178, 0, 83, 21, 4, 51, 84, 44, 132, 5, 255, 21, 5, 178, 0, 87, 21, 4, 51, 84]
abbrev dktJ27_getChars_2 : List UInt8 := dkwJ27_getChars_2 ++ dktJ27_getChars_3
def dkwJ27_getChars_1 : List UInt8 := [16, 156, 163, 0, 47, 26, 16, 100, 108, 62, 29, 16, 100, 104, 26, 100, 54, 4, 29, 59, 44, 132, 5, 255]
abbrev dktJ27_getChars_1 : List UInt8 := dkwJ27_getChars_1 ++ dktJ27_getChars_2
def dkwJ27_getChars_0 : List UInt8 := [27, 54, 5, 26, 156, 0, 7, 4, 167, 0, 4, 3, 54, 6, 21, 6, 154, 0, 6, 26, 116, 59, 26]
abbrev dktJ27_getChars_0 : List UInt8 := dkwJ27_getChars_0 ++ dktJ27_getChars_1
theorem dksJ27_getChars_0 : cJ27_getChars.data.toList.drop 0 = dktJ27_getChars_0 := by decide +kernel
theorem dksJ27_getChars_1 : cJ27_getChars.data.toList.drop 23 = dktJ27_getChars_1 := dk_seg dksJ27_getChars_0 23 rfl rfl
theorem dksJ27_getChars_2 : cJ27_getChars.data.toList.drop 47 = dktJ27_getChars_2 := dk_seg dksJ27_getChars_1 24 rfl rfl
theorem dksJ27_getChars_3 : cJ27_getChars.data.toList.drop 69 = dktJ27_getChars_3 := dk_seg dksJ27_getChars_2 22 rfl rfl
theorem dksJ27_getChars_4 : cJ27_getChars.data.toList.drop 92 = dktJ27_getChars_4 := dk_seg dksJ27_getChars_3 23 rfl rfl
theorem dksJ27_getChars_5 : cJ27_getChars.data.toList.drop 115 = dktJ27_getChars_5 := dk_seg dksJ27_getChars_4 23 rfl rfl
theorem dJ27_getChars_0 : decode cJ27_getChars 0 = .ok (.iload_n 1, 1) := dk_27 (dk_at dksJ27_getChars_0 0 rfl rfl)
theorem dJ27_getChars_1 : decode cJ27_getChars 1 = .ok (.istore 5, 2) := dk_54 5 (dk_at dksJ27_getChars_0 1 rfl rfl)
theorem dJ27_getChars_3 : decode cJ27_getChars 3 = .ok (.iload_n 0, 1) := dk_26 (dk_at dksJ27_getChars_0 3 rfl rfl)
theorem dJ27_getChars_4 : decode cJ27_getChars 4 = .ok (.ifCond .ge 7, 3) := dk_156 0 7 (dk_at dksJ27_getChars_0 4 rfl rfl)
theorem dJ27_getChars_7 : decode cJ27_getChars 7 = .ok (.iconst 1, 1) := dk_4 (dk_at dksJ27_getChars_0 7 rfl rfl)
theorem dJ27_getChars_8 : decode cJ27_getChars 8 = .ok (.goto 4, 3) := dk_167 0 4 (dk_at dksJ27_getChars_0 8 rfl rfl)
theorem dJ27_getChars_11 : decode cJ27_getChars 11 = .ok (.iconst 0, 1) := dk_3 (dk_at dksJ27_getChars_0 11 rfl rfl)
theorem dJ27_getChars_12 : decode cJ27_getChars 12 = .ok (.istore 6, 2) := dk_54 6 (dk_at dksJ27_getChars_0 12 rfl rfl)
theorem dJ27_getChars_14 : decode cJ27_getChars 14 = .ok (.iload 6, 2) := dk_21 6 (dk_at dksJ27_getChars_0 14 rfl rfl)
theorem dJ27_getChars_16 : decode cJ27_getChars 16 = .ok (.ifCond .ne 6, 3) := dk_154 0 6 (dk_at dksJ27_getChars_0 16 rfl rfl)
theorem dJ27_getChars_19 : decode cJ27_getChars 19 = .ok (.iload_n 0, 1) := dk_26 (dk_at dksJ27_getChars_0 19 rfl rfl)
theorem dJ27_getChars_20 : decode cJ27_getChars 20 = .ok (.ineg, 1) := dk_116 (dk_at dksJ27_getChars_0 20 rfl rfl)
theorem dJ27_getChars_21 : decode cJ27_getChars 21 = .ok (.istore_n 0, 1) := dk_59 (dk_at dksJ27_getChars_0 21 rfl rfl)
theorem dJ27_getChars_22 : decode cJ27_getChars 22 = .ok (.iload_n 0, 1) := dk_26 (dk_at dksJ27_getChars_0 22 rfl rfl)
theorem dJ27_getChars_23 : decode cJ27_getChars 23 = .ok (.bipush (-100), 2) := dk_16 156 (dk_at dksJ27_getChars_1 0 rfl rfl)
theorem dJ27_getChars_25 : decode cJ27_getChars 25 = .ok (.if_icmp .gt 47, 3) := dk_163 0 47 (dk_at dksJ27_getChars_1 2 rfl rfl)
theorem dJ27_getChars_28 : decode cJ27_getChars 28 = .ok (.iload_n 0, 1) := dk_26 (dk_at dksJ27_getChars_1 5 rfl rfl)
theorem dJ27_getChars_29 : decode cJ27_getChars 29 = .ok (.bipush 100, 2) := dk_16 100 (dk_at dksJ27_getChars_1 6 rfl rfl)
theorem dJ27_getChars_31 : decode cJ27_getChars 31 = .ok (.idiv, 1) := dk_108 (dk_at dksJ27_getChars_1 8 rfl rfl)
theorem dJ27_getChars_32 : decode cJ27_getChars 32 = .ok (.istore_n 3, 1) := dk_62 (dk_at dksJ27_getChars_1 9 rfl rfl)
theorem dJ27_getChars_33 : decode cJ27_getChars 33 = .ok (.iload_n 3, 1) := dk_29 (dk_at dksJ27_getChars_1 10 rfl rfl)
theorem dJ27_getChars_34 : decode cJ27_getChars 34 = .ok (.bipush 100, 2) := dk_16 100 (dk_at dksJ27_getChars_1 11 rfl rfl)
theorem dJ27_getChars_36 : decode cJ27_getChars 36 = .ok (.imul, 1) := dk_104 (dk_at dksJ27_getChars_1 13 rfl rfl)
theorem dJ27_getChars_37 : decode cJ27_getChars 37 = .ok (.iload_n 0, 1) := dk_26 (dk_at dksJ27_getChars_1 14 rfl rfl)
theorem dJ27_getChars_38 : decode cJ27_getChars 38 = .ok (.isub, 1) := dk_100 (dk_at dksJ27_getChars_1 15 rfl rfl)
theorem dJ27_getChars_39 : decode cJ27_getChars 39 = .ok (.istore 4, 2) := dk_54 4 (dk_at dksJ27_getChars_1 16 rfl rfl)
theorem dJ27_getChars_41 : decode cJ27_getChars 41 = .ok (.iload_n 3, 1) := dk_29 (dk_at dksJ27_getChars_1 18 rfl rfl)
theorem dJ27_getChars_42 : decode cJ27_getChars 42 = .ok (.istore_n 0, 1) := dk_59 (dk_at dksJ27_getChars_1 19 rfl rfl)
theorem dJ27_getChars_43 : decode cJ27_getChars 43 = .ok (.aload_n 2, 1) := dk_44 (dk_at dksJ27_getChars_1 20 rfl rfl)
theorem dJ27_getChars_44 : decode cJ27_getChars 44 = .ok (.iinc 5 (-1), 3) := dk_132 5 255 (dk_at dksJ27_getChars_1 21 rfl rfl)
theorem dJ27_getChars_47 : decode cJ27_getChars 47 = .ok (.iload 5, 2) := dk_21 5 (dk_at dksJ27_getChars_2 0 rfl rfl)
theorem dJ27_getChars_49 : decode cJ27_getChars 49 = .ok (.getstatic 83, 3) := dk_178 0 83 (dk_at dksJ27_getChars_2 2 rfl rfl)
theorem dJ27_getChars_52 : decode cJ27_getChars 52 = .ok (.iload 4, 2) := dk_21 4 (dk_at dksJ27_getChars_2 5 rfl rfl)
theorem dJ27_getChars_54 : decode cJ27_getChars 54 = .ok (.baload, 1) := dk_51 (dk_at dksJ27_getChars_2 7 rfl rfl)
theorem dJ27_getChars_55 : decode cJ27_getChars 55 = .ok (.bastore, 1) := dk_84 (dk_at dksJ27_getChars_2 8 rfl rfl)
theorem dJ27_getChars_56 : decode cJ27_getChars 56 = .ok (.aload_n 2, 1) := dk_44 (dk_at dksJ27_getChars_2 9 rfl rfl)
theorem dJ27_getChars_57 : decode cJ27_getChars 57 = .ok (.iinc 5 (-1), 3) := dk_132 5 255 (dk_at dksJ27_getChars_2 10 rfl rfl)
theorem dJ27_getChars_60 : decode cJ27_getChars 60 = .ok (.iload 5, 2) := dk_21 5 (dk_at dksJ27_getChars_2 13 rfl rfl)
theorem dJ27_getChars_62 : decode cJ27_getChars 62 = .ok (.getstatic 87, 3) := dk_178 0 87 (dk_at dksJ27_getChars_2 15 rfl rfl)
theorem dJ27_getChars_65 : decode cJ27_getChars 65 = .ok (.iload 4, 2) := dk_21 4 (dk_at dksJ27_getChars_2 18 rfl rfl)
theorem dJ27_getChars_67 : decode cJ27_getChars 67 = .ok (.baload, 1) := dk_51 (dk_at dksJ27_getChars_2 20 rfl rfl)
theorem dJ27_getChars_68 : decode cJ27_getChars 68 = .ok (.bastore, 1) := dk_84 (dk_at dksJ27_getChars_2 21 rfl rfl)
theorem dJ27_getChars_69 : decode cJ27_getChars 69 = .ok (.goto (-47), 3) := dk_167 255 209 (dk_at dksJ27_getChars_3 0 rfl rfl)
theorem dJ27_getChars_72 : decode cJ27_getChars 72 = .ok (.aload_n 2, 1) := dk_44 (dk_at dksJ27_getChars_3 3 rfl rfl)
theorem dJ27_getChars_73 : decode cJ27_getChars 73 = .ok (.iinc 5 (-1), 3) := dk_132 5 255 (dk_at dksJ27_getChars_3 4 rfl rfl)
theorem dJ27_getChars_76 : decode cJ27_getChars 76 = .ok (.iload 5, 2) := dk_21 5 (dk_at dksJ27_getChars_3 7 rfl rfl)
theorem dJ27_getChars_78 : decode cJ27_getChars 78 = .ok (.getstatic 83, 3) := dk_178 0 83 (dk_at dksJ27_getChars_3 9 rfl rfl)
theorem dJ27_getChars_81 : decode cJ27_getChars 81 = .ok (.iload_n 0, 1) := dk_26 (dk_at dksJ27_getChars_3 12 rfl rfl)
theorem dJ27_getChars_82 : decode cJ27_getChars 82 = .ok (.ineg, 1) := dk_116 (dk_at dksJ27_getChars_3 13 rfl rfl)
theorem dJ27_getChars_83 : decode cJ27_getChars 83 = .ok (.baload, 1) := dk_51 (dk_at dksJ27_getChars_3 14 rfl rfl)
theorem dJ27_getChars_84 : decode cJ27_getChars 84 = .ok (.bastore, 1) := dk_84 (dk_at dksJ27_getChars_3 15 rfl rfl)
theorem dJ27_getChars_85 : decode cJ27_getChars 85 = .ok (.iload_n 0, 1) := dk_26 (dk_at dksJ27_getChars_3 16 rfl rfl)
theorem dJ27_getChars_86 : decode cJ27_getChars 86 = .ok (.bipush (-9), 2) := dk_16 247 (dk_at dksJ27_getChars_3 17 rfl rfl)
theorem dJ27_getChars_88 : decode cJ27_getChars 88 = .ok (.if_icmp .ge 16, 3) := dk_162 0 16 (dk_at dksJ27_getChars_3 19 rfl rfl)
theorem dJ27_getChars_91 : decode cJ27_getChars 91 = .ok (.aload_n 2, 1) := dk_44 (dk_at dksJ27_getChars_3 22 rfl rfl)
theorem dJ27_getChars_92 : decode cJ27_getChars 92 = .ok (.iinc 5 (-1), 3) := dk_132 5 255 (dk_at dksJ27_getChars_4 0 rfl rfl)
theorem dJ27_getChars_95 : decode cJ27_getChars 95 = .ok (.iload 5, 2) := dk_21 5 (dk_at dksJ27_getChars_4 3 rfl rfl)
theorem dJ27_getChars_97 : decode cJ27_getChars 97 = .ok (.getstatic 87, 3) := dk_178 0 87 (dk_at dksJ27_getChars_4 5 rfl rfl)
theorem dJ27_getChars_100 : decode cJ27_getChars 100 = .ok (.iload_n 0, 1) := dk_26 (dk_at dksJ27_getChars_4 8 rfl rfl)
theorem dJ27_getChars_101 : decode cJ27_getChars 101 = .ok (.ineg, 1) := dk_116 (dk_at dksJ27_getChars_4 9 rfl rfl)
theorem dJ27_getChars_102 : decode cJ27_getChars 102 = .ok (.baload, 1) := dk_51 (dk_at dksJ27_getChars_4 10 rfl rfl)
theorem dJ27_getChars_103 : decode cJ27_getChars 103 = .ok (.bastore, 1) := dk_84 (dk_at dksJ27_getChars_4 11 rfl rfl)
theorem dJ27_getChars_104 : decode cJ27_getChars 104 = .ok (.iload 6, 2) := dk_21 6 (dk_at dksJ27_getChars_4 12 rfl rfl)
theorem dJ27_getChars_106 : decode cJ27_getChars 106 = .ok (.ifCond .eq 12, 3) := dk_153 0 12 (dk_at dksJ27_getChars_4 14 rfl rfl)
theorem dJ27_getChars_109 : decode cJ27_getChars 109 = .ok (.aload_n 2, 1) := dk_44 (dk_at dksJ27_getChars_4 17 rfl rfl)
theorem dJ27_getChars_110 : decode cJ27_getChars 110 = .ok (.iinc 5 (-1), 3) := dk_132 5 255 (dk_at dksJ27_getChars_4 18 rfl rfl)
theorem dJ27_getChars_113 : decode cJ27_getChars 113 = .ok (.iload 5, 2) := dk_21 5 (dk_at dksJ27_getChars_4 21 rfl rfl)
theorem dJ27_getChars_115 : decode cJ27_getChars 115 = .ok (.bipush 45, 2) := dk_16 45 (dk_at dksJ27_getChars_5 0 rfl rfl)
theorem dJ27_getChars_117 : decode cJ27_getChars 117 = .ok (.bastore, 1) := dk_84 (dk_at dksJ27_getChars_5 2 rfl rfl)
theorem dJ27_getChars_118 : decode cJ27_getChars 118 = .ok (.iload 5, 2) := dk_21 5 (dk_at dksJ27_getChars_5 3 rfl rfl)
theorem dJ27_getChars_120 : decode cJ27_getChars 120 = .ok (.ireturn, 1) := dk_172 (dk_at dksJ27_getChars_5 5 rfl rfl)
