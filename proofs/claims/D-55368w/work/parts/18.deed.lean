/-! deeds: rows of the code, functions, walks, contracts (printed) -/
set_option maxRecDepth 100000
abbrev cX5_init_2 : ByteArray := prog_4_method_2_code
def yX5_init_2 : MethodName := ⟨RX5, "<init>", "(Ljava/lang/String;III)V"⟩
def dkwX5_init_2_1 : List UInt8 := [181, 0, 25, 177]
abbrev dktX5_init_2_1 : List UInt8 := dkwX5_init_2_1 ++ []
def dkwX5_init_2_0 : List UInt8 := [42, 183, 0, 9, 42, 43, 181, 0, 14, 42, 28, 181, 0, 18, 42, 29, 181, 0, 22, 42, 21, 4]
abbrev dktX5_init_2_0 : List UInt8 := dkwX5_init_2_0 ++ dktX5_init_2_1
theorem dksX5_init_2_0 : cX5_init_2.data.toList.drop 0 = dktX5_init_2_0 := by decide +kernel
theorem dksX5_init_2_1 : cX5_init_2.data.toList.drop 22 = dktX5_init_2_1 := dk_seg dksX5_init_2_0 22 rfl rfl
theorem dX5_init_2_0 : decode cX5_init_2 0 = .ok (.aload_n 0, 1) := dk_42 (dk_at dksX5_init_2_0 0 rfl rfl)
theorem dX5_init_2_1 : decode cX5_init_2 1 = .ok (.invokespecial 9, 3) := dk_183 0 9 (dk_at dksX5_init_2_0 1 rfl rfl)
theorem dX5_init_2_4 : decode cX5_init_2 4 = .ok (.aload_n 0, 1) := dk_42 (dk_at dksX5_init_2_0 4 rfl rfl)
theorem dX5_init_2_5 : decode cX5_init_2 5 = .ok (.aload_n 1, 1) := dk_43 (dk_at dksX5_init_2_0 5 rfl rfl)
theorem dX5_init_2_6 : decode cX5_init_2 6 = .ok (.putfield 14, 3) := dk_181 0 14 (dk_at dksX5_init_2_0 6 rfl rfl)
theorem dX5_init_2_9 : decode cX5_init_2 9 = .ok (.aload_n 0, 1) := dk_42 (dk_at dksX5_init_2_0 9 rfl rfl)
theorem dX5_init_2_10 : decode cX5_init_2 10 = .ok (.iload_n 2, 1) := dk_28 (dk_at dksX5_init_2_0 10 rfl rfl)
theorem dX5_init_2_11 : decode cX5_init_2 11 = .ok (.putfield 18, 3) := dk_181 0 18 (dk_at dksX5_init_2_0 11 rfl rfl)
theorem dX5_init_2_14 : decode cX5_init_2 14 = .ok (.aload_n 0, 1) := dk_42 (dk_at dksX5_init_2_0 14 rfl rfl)
theorem dX5_init_2_15 : decode cX5_init_2 15 = .ok (.iload_n 3, 1) := dk_29 (dk_at dksX5_init_2_0 15 rfl rfl)
theorem dX5_init_2_16 : decode cX5_init_2 16 = .ok (.putfield 22, 3) := dk_181 0 22 (dk_at dksX5_init_2_0 16 rfl rfl)
theorem dX5_init_2_19 : decode cX5_init_2 19 = .ok (.aload_n 0, 1) := dk_42 (dk_at dksX5_init_2_0 19 rfl rfl)
theorem dX5_init_2_20 : decode cX5_init_2 20 = .ok (.iload 4, 2) := dk_21 4 (dk_at dksX5_init_2_0 20 rfl rfl)
theorem dX5_init_2_22 : decode cX5_init_2 22 = .ok (.putfield 25, 3) := dk_181 0 25 (dk_at dksX5_init_2_1 0 rfl rfl)
theorem dX5_init_2_25 : decode cX5_init_2 25 = .ok (.return_, 1) := dk_177 (dk_at dksX5_init_2_1 3 rfl rfl)
abbrev cX5_carryOut : ByteArray := prog_4_method_3_code
def yX5_carryOut : MethodName := ⟨RX5, "carryOut", "(LGargoyleTower$World;)I"⟩
def dkwX5_carryOut_16 : List UInt8 := [172]
abbrev dktX5_carryOut_16 : List UInt8 := dkwX5_carryOut_16 ++ []
def dkwX5_carryOut_15 : List UInt8 := [42, 180, 0, 18, 42, 180, 0, 22, 42, 180, 0, 25, 182, 0, 93, 172, 43, 42, 180, 0, 18, 182, 0, 97]
abbrev dktX5_carryOut_15 : List UInt8 := dkwX5_carryOut_15 ++ dktX5_carryOut_16
def dkwX5_carryOut_14 : List UInt8 := [3, 182, 0, 84, 172, 43, 42, 180, 0, 18, 182, 0, 88, 172, 43, 42, 180, 0, 18, 182, 0, 91, 172, 43]
abbrev dktX5_carryOut_14 : List UInt8 := dkwX5_carryOut_14 ++ dktX5_carryOut_15
def dkwX5_carryOut_13 : List UInt8 := [180, 0, 18, 182, 0, 81, 172, 43, 42, 180, 0, 18, 42, 180, 0, 22, 4, 160, 0, 7, 4, 167, 0, 4]
abbrev dktX5_carryOut_13 : List UInt8 := dkwX5_carryOut_13 ++ dktX5_carryOut_14
def dkwX5_carryOut_12 : List UInt8 := [180, 0, 22, 182, 0, 75, 172, 43, 42, 180, 0, 18, 42, 180, 0, 22, 182, 0, 78, 172, 43, 42]
abbrev dktX5_carryOut_12 : List UInt8 := dkwX5_carryOut_12 ++ dktX5_carryOut_13
def dkwX5_carryOut_11 : List UInt8 := [180, 0, 22, 182, 0, 68, 172, 43, 42, 180, 0, 18, 182, 0, 71, 172, 43, 42, 180, 0, 18, 42]
abbrev dktX5_carryOut_11 : List UInt8 := dkwX5_carryOut_11 ++ dktX5_carryOut_12
def dkwX5_carryOut_10 : List UInt8 := [43, 42, 180, 0, 18, 42, 180, 0, 22, 182, 0, 60, 172, 43, 182, 0, 66, 172, 43, 42, 180, 0, 18, 42]
abbrev dktX5_carryOut_10 : List UInt8 := dkwX5_carryOut_10 ++ dktX5_carryOut_11
def dkwX5_carryOut_9 : List UInt8 := [170, 0, 0, 0, 0, 0, 191, 0, 0, 0, 0, 0, 0, 0, 10, 0, 0, 0, 59, 0, 0, 0, 72, 0, 0, 0, 77, 0, 0, 0, 90, 0, 0, 0, 99, 0, 0, 0, 112, 0, 0, 0, 125, 0, 0, 0, 134, 0, 0, 0, 156, 0, 0, 0, 165, 0, 0, 0, 174]
abbrev dktX5_carryOut_9 : List UInt8 := dkwX5_carryOut_9 ++ dktX5_carryOut_10
def dkwX5_carryOut_8 : List UInt8 := [167, 0, 15, 44, 18, 58, 182, 0, 36, 153, 0, 6, 16, 10, 62, 29]
abbrev dktX5_carryOut_8 : List UInt8 := dkwX5_carryOut_8 ++ dktX5_carryOut_9
def dkwX5_carryOut_7 : List UInt8 := [182, 0, 36, 153, 0, 36, 16, 8, 62, 167, 0, 30, 44, 18, 56, 182, 0, 36, 153, 0, 21, 16, 9, 62]
abbrev dktX5_carryOut_7 : List UInt8 := dkwX5_carryOut_7 ++ dktX5_carryOut_8
def dkwX5_carryOut_6 : List UInt8 := [62, 167, 0, 60, 44, 18, 52, 182, 0, 36, 153, 0, 51, 16, 7, 62, 167, 0, 45, 44, 18, 54]
abbrev dktX5_carryOut_6 : List UInt8 := dkwX5_carryOut_6 ++ dktX5_carryOut_7
def dkwX5_carryOut_5 : List UInt8 := [18, 48, 182, 0, 36, 153, 0, 80, 8, 62, 167, 0, 75, 44, 18, 50, 182, 0, 36, 153, 0, 66, 16, 6]
abbrev dktX5_carryOut_5 : List UInt8 := dkwX5_carryOut_5 ++ dktX5_carryOut_6
def dkwX5_carryOut_4 : List UInt8 := [153, 0, 108, 6, 62, 167, 0, 103, 44, 18, 46, 182, 0, 36, 153, 0, 94, 7, 62, 167, 0, 89, 44]
abbrev dktX5_carryOut_4 : List UInt8 := dkwX5_carryOut_4 ++ dktX5_carryOut_5
def dkwX5_carryOut_3 : List UInt8 := [62, 167, 0, 131, 44, 18, 42, 182, 0, 36, 153, 0, 122, 5, 62, 167, 0, 117, 44, 18, 44, 182, 0, 36]
abbrev dktX5_carryOut_3 : List UInt8 := dkwX5_carryOut_3 ++ dktX5_carryOut_4
def dkwX5_carryOut_2 : List UInt8 := [44, 18, 34, 182, 0, 36, 153, 0, 150, 3, 62, 167, 0, 145, 44, 18, 40, 182, 0, 36, 153, 0, 136, 4]
abbrev dktX5_carryOut_2 : List UInt8 := dkwX5_carryOut_2 ++ dktX5_carryOut_3
def dkwX5_carryOut_1 : List UInt8 := [171, 0, 0, 0, 253, 0, 0, 0, 11, 174, 124, 70, 253, 0, 0, 0, 97, 183, 197, 170, 93, 0, 0, 0, 125, 190, 159, 53, 63, 0, 0, 0, 139, 0, 52, 175, 26, 0, 0, 0, 226, 0, 53, 128, 242, 0, 0, 0, 211, 0, 53, 207, 254, 0, 0, 0, 153, 0, 55, 171, 64, 0, 0, 0, 111, 5, 151, 196, 141, 0, 0, 0, 196, 6, 186, 157, 75, 0, 0, 0, 181, 49, 21, 27, 155, 0, 0, 0, 167, 60, 177, 124, 235, 0, 0, 0, 241]
abbrev dktX5_carryOut_1 : List UInt8 := dkwX5_carryOut_1 ++ dktX5_carryOut_2
def dkwX5_carryOut_0 : List UInt8 := [42, 180, 0, 14, 77, 2, 62, 44, 182, 0, 28]
abbrev dktX5_carryOut_0 : List UInt8 := dkwX5_carryOut_0 ++ dktX5_carryOut_1
theorem dksX5_carryOut_0 : cX5_carryOut.data.toList.drop 0 = dktX5_carryOut_0 := by decide +kernel
theorem dksX5_carryOut_1 : cX5_carryOut.data.toList.drop 11 = dktX5_carryOut_1 := dk_seg dksX5_carryOut_0 11 rfl rfl
theorem dksX5_carryOut_2 : cX5_carryOut.data.toList.drop 108 = dktX5_carryOut_2 := dk_seg dksX5_carryOut_1 97 rfl rfl
theorem dksX5_carryOut_3 : cX5_carryOut.data.toList.drop 132 = dktX5_carryOut_3 := dk_seg dksX5_carryOut_2 24 rfl rfl
theorem dksX5_carryOut_4 : cX5_carryOut.data.toList.drop 156 = dktX5_carryOut_4 := dk_seg dksX5_carryOut_3 24 rfl rfl
theorem dksX5_carryOut_5 : cX5_carryOut.data.toList.drop 179 = dktX5_carryOut_5 := dk_seg dksX5_carryOut_4 23 rfl rfl
theorem dksX5_carryOut_6 : cX5_carryOut.data.toList.drop 203 = dktX5_carryOut_6 := dk_seg dksX5_carryOut_5 24 rfl rfl
theorem dksX5_carryOut_7 : cX5_carryOut.data.toList.drop 225 = dktX5_carryOut_7 := dk_seg dksX5_carryOut_6 22 rfl rfl
theorem dksX5_carryOut_8 : cX5_carryOut.data.toList.drop 249 = dktX5_carryOut_8 := dk_seg dksX5_carryOut_7 24 rfl rfl
theorem dksX5_carryOut_9 : cX5_carryOut.data.toList.drop 265 = dktX5_carryOut_9 := dk_seg dksX5_carryOut_8 16 rfl rfl
theorem dksX5_carryOut_10 : cX5_carryOut.data.toList.drop 324 = dktX5_carryOut_10 := dk_seg dksX5_carryOut_9 59 rfl rfl
theorem dksX5_carryOut_11 : cX5_carryOut.data.toList.drop 348 = dktX5_carryOut_11 := dk_seg dksX5_carryOut_10 24 rfl rfl
theorem dksX5_carryOut_12 : cX5_carryOut.data.toList.drop 370 = dktX5_carryOut_12 := dk_seg dksX5_carryOut_11 22 rfl rfl
theorem dksX5_carryOut_13 : cX5_carryOut.data.toList.drop 392 = dktX5_carryOut_13 := dk_seg dksX5_carryOut_12 22 rfl rfl
theorem dksX5_carryOut_14 : cX5_carryOut.data.toList.drop 416 = dktX5_carryOut_14 := dk_seg dksX5_carryOut_13 24 rfl rfl
theorem dksX5_carryOut_15 : cX5_carryOut.data.toList.drop 440 = dktX5_carryOut_15 := dk_seg dksX5_carryOut_14 24 rfl rfl
theorem dksX5_carryOut_16 : cX5_carryOut.data.toList.drop 464 = dktX5_carryOut_16 := dk_seg dksX5_carryOut_15 24 rfl rfl
theorem dX5_carryOut_0 : decode cX5_carryOut 0 = .ok (.aload_n 0, 1) := dk_42 (dk_at dksX5_carryOut_0 0 rfl rfl)
theorem dX5_carryOut_1 : decode cX5_carryOut 1 = .ok (.getfield 14, 3) := dk_180 0 14 (dk_at dksX5_carryOut_0 1 rfl rfl)
theorem dX5_carryOut_4 : decode cX5_carryOut 4 = .ok (.astore_n 2, 1) := dk_77 (dk_at dksX5_carryOut_0 4 rfl rfl)
theorem dX5_carryOut_5 : decode cX5_carryOut 5 = .ok (.iconst (-1), 1) := dk_2 (dk_at dksX5_carryOut_0 5 rfl rfl)
theorem dX5_carryOut_6 : decode cX5_carryOut 6 = .ok (.istore_n 3, 1) := dk_62 (dk_at dksX5_carryOut_0 6 rfl rfl)
theorem dX5_carryOut_7 : decode cX5_carryOut 7 = .ok (.aload_n 2, 1) := dk_44 (dk_at dksX5_carryOut_0 7 rfl rfl)
theorem dX5_carryOut_8 : decode cX5_carryOut 8 = .ok (.invokevirtual 28, 3) := dk_182 0 28 (dk_at dksX5_carryOut_0 8 rfl rfl)
theorem dX5_carryOut_11 : decode cX5_carryOut 11 = .ok (.lookupswitch 253 #[(-1367587075, 97), (-1211782563, 125), (-1096862401, 139), (3452698, 226), (3506418, 211), (3526654, 153), (3648320, 111), (93832333, 196), (112893259, 181), (823466907, 167), (1018264811, 241)], 97) := by decide +kernel
theorem dX5_carryOut_108 : decode cX5_carryOut 108 = .ok (.aload_n 2, 1) := dk_44 (dk_at dksX5_carryOut_2 0 rfl rfl)
theorem dX5_carryOut_109 : decode cX5_carryOut 109 = .ok (.ldc 34, 2) := dk_18 34 (dk_at dksX5_carryOut_2 1 rfl rfl)
theorem dX5_carryOut_111 : decode cX5_carryOut 111 = .ok (.invokevirtual 36, 3) := dk_182 0 36 (dk_at dksX5_carryOut_2 3 rfl rfl)
theorem dX5_carryOut_114 : decode cX5_carryOut 114 = .ok (.ifCond .eq 150, 3) := dk_153 0 150 (dk_at dksX5_carryOut_2 6 rfl rfl)
theorem dX5_carryOut_117 : decode cX5_carryOut 117 = .ok (.iconst 0, 1) := dk_3 (dk_at dksX5_carryOut_2 9 rfl rfl)
theorem dX5_carryOut_118 : decode cX5_carryOut 118 = .ok (.istore_n 3, 1) := dk_62 (dk_at dksX5_carryOut_2 10 rfl rfl)
theorem dX5_carryOut_119 : decode cX5_carryOut 119 = .ok (.goto 145, 3) := dk_167 0 145 (dk_at dksX5_carryOut_2 11 rfl rfl)
theorem dX5_carryOut_122 : decode cX5_carryOut 122 = .ok (.aload_n 2, 1) := dk_44 (dk_at dksX5_carryOut_2 14 rfl rfl)
theorem dX5_carryOut_123 : decode cX5_carryOut 123 = .ok (.ldc 40, 2) := dk_18 40 (dk_at dksX5_carryOut_2 15 rfl rfl)
theorem dX5_carryOut_125 : decode cX5_carryOut 125 = .ok (.invokevirtual 36, 3) := dk_182 0 36 (dk_at dksX5_carryOut_2 17 rfl rfl)
theorem dX5_carryOut_128 : decode cX5_carryOut 128 = .ok (.ifCond .eq 136, 3) := dk_153 0 136 (dk_at dksX5_carryOut_2 20 rfl rfl)
theorem dX5_carryOut_131 : decode cX5_carryOut 131 = .ok (.iconst 1, 1) := dk_4 (dk_at dksX5_carryOut_2 23 rfl rfl)
theorem dX5_carryOut_132 : decode cX5_carryOut 132 = .ok (.istore_n 3, 1) := dk_62 (dk_at dksX5_carryOut_3 0 rfl rfl)
theorem dX5_carryOut_133 : decode cX5_carryOut 133 = .ok (.goto 131, 3) := dk_167 0 131 (dk_at dksX5_carryOut_3 1 rfl rfl)
theorem dX5_carryOut_136 : decode cX5_carryOut 136 = .ok (.aload_n 2, 1) := dk_44 (dk_at dksX5_carryOut_3 4 rfl rfl)
theorem dX5_carryOut_137 : decode cX5_carryOut 137 = .ok (.ldc 42, 2) := dk_18 42 (dk_at dksX5_carryOut_3 5 rfl rfl)
theorem dX5_carryOut_139 : decode cX5_carryOut 139 = .ok (.invokevirtual 36, 3) := dk_182 0 36 (dk_at dksX5_carryOut_3 7 rfl rfl)
theorem dX5_carryOut_142 : decode cX5_carryOut 142 = .ok (.ifCond .eq 122, 3) := dk_153 0 122 (dk_at dksX5_carryOut_3 10 rfl rfl)
theorem dX5_carryOut_145 : decode cX5_carryOut 145 = .ok (.iconst 2, 1) := dk_5 (dk_at dksX5_carryOut_3 13 rfl rfl)
theorem dX5_carryOut_146 : decode cX5_carryOut 146 = .ok (.istore_n 3, 1) := dk_62 (dk_at dksX5_carryOut_3 14 rfl rfl)
theorem dX5_carryOut_147 : decode cX5_carryOut 147 = .ok (.goto 117, 3) := dk_167 0 117 (dk_at dksX5_carryOut_3 15 rfl rfl)
theorem dX5_carryOut_150 : decode cX5_carryOut 150 = .ok (.aload_n 2, 1) := dk_44 (dk_at dksX5_carryOut_3 18 rfl rfl)
theorem dX5_carryOut_151 : decode cX5_carryOut 151 = .ok (.ldc 44, 2) := dk_18 44 (dk_at dksX5_carryOut_3 19 rfl rfl)
theorem dX5_carryOut_153 : decode cX5_carryOut 153 = .ok (.invokevirtual 36, 3) := dk_182 0 36 (dk_at dksX5_carryOut_3 21 rfl rfl)
theorem dX5_carryOut_156 : decode cX5_carryOut 156 = .ok (.ifCond .eq 108, 3) := dk_153 0 108 (dk_at dksX5_carryOut_4 0 rfl rfl)
theorem dX5_carryOut_159 : decode cX5_carryOut 159 = .ok (.iconst 3, 1) := dk_6 (dk_at dksX5_carryOut_4 3 rfl rfl)
theorem dX5_carryOut_160 : decode cX5_carryOut 160 = .ok (.istore_n 3, 1) := dk_62 (dk_at dksX5_carryOut_4 4 rfl rfl)
theorem dX5_carryOut_161 : decode cX5_carryOut 161 = .ok (.goto 103, 3) := dk_167 0 103 (dk_at dksX5_carryOut_4 5 rfl rfl)
theorem dX5_carryOut_164 : decode cX5_carryOut 164 = .ok (.aload_n 2, 1) := dk_44 (dk_at dksX5_carryOut_4 8 rfl rfl)
theorem dX5_carryOut_165 : decode cX5_carryOut 165 = .ok (.ldc 46, 2) := dk_18 46 (dk_at dksX5_carryOut_4 9 rfl rfl)
theorem dX5_carryOut_167 : decode cX5_carryOut 167 = .ok (.invokevirtual 36, 3) := dk_182 0 36 (dk_at dksX5_carryOut_4 11 rfl rfl)
theorem dX5_carryOut_170 : decode cX5_carryOut 170 = .ok (.ifCond .eq 94, 3) := dk_153 0 94 (dk_at dksX5_carryOut_4 14 rfl rfl)
theorem dX5_carryOut_173 : decode cX5_carryOut 173 = .ok (.iconst 4, 1) := dk_7 (dk_at dksX5_carryOut_4 17 rfl rfl)
theorem dX5_carryOut_174 : decode cX5_carryOut 174 = .ok (.istore_n 3, 1) := dk_62 (dk_at dksX5_carryOut_4 18 rfl rfl)
theorem dX5_carryOut_175 : decode cX5_carryOut 175 = .ok (.goto 89, 3) := dk_167 0 89 (dk_at dksX5_carryOut_4 19 rfl rfl)
theorem dX5_carryOut_178 : decode cX5_carryOut 178 = .ok (.aload_n 2, 1) := dk_44 (dk_at dksX5_carryOut_4 22 rfl rfl)
theorem dX5_carryOut_179 : decode cX5_carryOut 179 = .ok (.ldc 48, 2) := dk_18 48 (dk_at dksX5_carryOut_5 0 rfl rfl)
theorem dX5_carryOut_181 : decode cX5_carryOut 181 = .ok (.invokevirtual 36, 3) := dk_182 0 36 (dk_at dksX5_carryOut_5 2 rfl rfl)
theorem dX5_carryOut_184 : decode cX5_carryOut 184 = .ok (.ifCond .eq 80, 3) := dk_153 0 80 (dk_at dksX5_carryOut_5 5 rfl rfl)
theorem dX5_carryOut_187 : decode cX5_carryOut 187 = .ok (.iconst 5, 1) := dk_8 (dk_at dksX5_carryOut_5 8 rfl rfl)
theorem dX5_carryOut_188 : decode cX5_carryOut 188 = .ok (.istore_n 3, 1) := dk_62 (dk_at dksX5_carryOut_5 9 rfl rfl)
theorem dX5_carryOut_189 : decode cX5_carryOut 189 = .ok (.goto 75, 3) := dk_167 0 75 (dk_at dksX5_carryOut_5 10 rfl rfl)
theorem dX5_carryOut_192 : decode cX5_carryOut 192 = .ok (.aload_n 2, 1) := dk_44 (dk_at dksX5_carryOut_5 13 rfl rfl)
theorem dX5_carryOut_193 : decode cX5_carryOut 193 = .ok (.ldc 50, 2) := dk_18 50 (dk_at dksX5_carryOut_5 14 rfl rfl)
theorem dX5_carryOut_195 : decode cX5_carryOut 195 = .ok (.invokevirtual 36, 3) := dk_182 0 36 (dk_at dksX5_carryOut_5 16 rfl rfl)
theorem dX5_carryOut_198 : decode cX5_carryOut 198 = .ok (.ifCond .eq 66, 3) := dk_153 0 66 (dk_at dksX5_carryOut_5 19 rfl rfl)
theorem dX5_carryOut_201 : decode cX5_carryOut 201 = .ok (.bipush 6, 2) := dk_16 6 (dk_at dksX5_carryOut_5 22 rfl rfl)
theorem dX5_carryOut_203 : decode cX5_carryOut 203 = .ok (.istore_n 3, 1) := dk_62 (dk_at dksX5_carryOut_6 0 rfl rfl)
theorem dX5_carryOut_204 : decode cX5_carryOut 204 = .ok (.goto 60, 3) := dk_167 0 60 (dk_at dksX5_carryOut_6 1 rfl rfl)
theorem dX5_carryOut_207 : decode cX5_carryOut 207 = .ok (.aload_n 2, 1) := dk_44 (dk_at dksX5_carryOut_6 4 rfl rfl)
theorem dX5_carryOut_208 : decode cX5_carryOut 208 = .ok (.ldc 52, 2) := dk_18 52 (dk_at dksX5_carryOut_6 5 rfl rfl)
theorem dX5_carryOut_210 : decode cX5_carryOut 210 = .ok (.invokevirtual 36, 3) := dk_182 0 36 (dk_at dksX5_carryOut_6 7 rfl rfl)
theorem dX5_carryOut_213 : decode cX5_carryOut 213 = .ok (.ifCond .eq 51, 3) := dk_153 0 51 (dk_at dksX5_carryOut_6 10 rfl rfl)
theorem dX5_carryOut_216 : decode cX5_carryOut 216 = .ok (.bipush 7, 2) := dk_16 7 (dk_at dksX5_carryOut_6 13 rfl rfl)
theorem dX5_carryOut_218 : decode cX5_carryOut 218 = .ok (.istore_n 3, 1) := dk_62 (dk_at dksX5_carryOut_6 15 rfl rfl)
theorem dX5_carryOut_219 : decode cX5_carryOut 219 = .ok (.goto 45, 3) := dk_167 0 45 (dk_at dksX5_carryOut_6 16 rfl rfl)
theorem dX5_carryOut_222 : decode cX5_carryOut 222 = .ok (.aload_n 2, 1) := dk_44 (dk_at dksX5_carryOut_6 19 rfl rfl)
theorem dX5_carryOut_223 : decode cX5_carryOut 223 = .ok (.ldc 54, 2) := dk_18 54 (dk_at dksX5_carryOut_6 20 rfl rfl)
theorem dX5_carryOut_225 : decode cX5_carryOut 225 = .ok (.invokevirtual 36, 3) := dk_182 0 36 (dk_at dksX5_carryOut_7 0 rfl rfl)
theorem dX5_carryOut_228 : decode cX5_carryOut 228 = .ok (.ifCond .eq 36, 3) := dk_153 0 36 (dk_at dksX5_carryOut_7 3 rfl rfl)
theorem dX5_carryOut_231 : decode cX5_carryOut 231 = .ok (.bipush 8, 2) := dk_16 8 (dk_at dksX5_carryOut_7 6 rfl rfl)
theorem dX5_carryOut_233 : decode cX5_carryOut 233 = .ok (.istore_n 3, 1) := dk_62 (dk_at dksX5_carryOut_7 8 rfl rfl)
theorem dX5_carryOut_234 : decode cX5_carryOut 234 = .ok (.goto 30, 3) := dk_167 0 30 (dk_at dksX5_carryOut_7 9 rfl rfl)
theorem dX5_carryOut_237 : decode cX5_carryOut 237 = .ok (.aload_n 2, 1) := dk_44 (dk_at dksX5_carryOut_7 12 rfl rfl)
theorem dX5_carryOut_238 : decode cX5_carryOut 238 = .ok (.ldc 56, 2) := dk_18 56 (dk_at dksX5_carryOut_7 13 rfl rfl)
theorem dX5_carryOut_240 : decode cX5_carryOut 240 = .ok (.invokevirtual 36, 3) := dk_182 0 36 (dk_at dksX5_carryOut_7 15 rfl rfl)
theorem dX5_carryOut_243 : decode cX5_carryOut 243 = .ok (.ifCond .eq 21, 3) := dk_153 0 21 (dk_at dksX5_carryOut_7 18 rfl rfl)
theorem dX5_carryOut_246 : decode cX5_carryOut 246 = .ok (.bipush 9, 2) := dk_16 9 (dk_at dksX5_carryOut_7 21 rfl rfl)
theorem dX5_carryOut_248 : decode cX5_carryOut 248 = .ok (.istore_n 3, 1) := dk_62 (dk_at dksX5_carryOut_7 23 rfl rfl)
theorem dX5_carryOut_249 : decode cX5_carryOut 249 = .ok (.goto 15, 3) := dk_167 0 15 (dk_at dksX5_carryOut_8 0 rfl rfl)
theorem dX5_carryOut_252 : decode cX5_carryOut 252 = .ok (.aload_n 2, 1) := dk_44 (dk_at dksX5_carryOut_8 3 rfl rfl)
theorem dX5_carryOut_253 : decode cX5_carryOut 253 = .ok (.ldc 58, 2) := dk_18 58 (dk_at dksX5_carryOut_8 4 rfl rfl)
theorem dX5_carryOut_255 : decode cX5_carryOut 255 = .ok (.invokevirtual 36, 3) := dk_182 0 36 (dk_at dksX5_carryOut_8 6 rfl rfl)
theorem dX5_carryOut_258 : decode cX5_carryOut 258 = .ok (.ifCond .eq 6, 3) := dk_153 0 6 (dk_at dksX5_carryOut_8 9 rfl rfl)
theorem dX5_carryOut_261 : decode cX5_carryOut 261 = .ok (.bipush 10, 2) := dk_16 10 (dk_at dksX5_carryOut_8 12 rfl rfl)
theorem dX5_carryOut_263 : decode cX5_carryOut 263 = .ok (.istore_n 3, 1) := dk_62 (dk_at dksX5_carryOut_8 14 rfl rfl)
theorem dX5_carryOut_264 : decode cX5_carryOut 264 = .ok (.iload_n 3, 1) := dk_29 (dk_at dksX5_carryOut_8 15 rfl rfl)
theorem dX5_carryOut_265 : decode cX5_carryOut 265 = .ok (.tableswitch 191 0 10 #[59, 72, 77, 90, 99, 112, 125, 134, 156, 165, 174], 59) := by decide +kernel
theorem dX5_carryOut_324 : decode cX5_carryOut 324 = .ok (.aload_n 1, 1) := dk_43 (dk_at dksX5_carryOut_10 0 rfl rfl)
theorem dX5_carryOut_325 : decode cX5_carryOut 325 = .ok (.aload_n 0, 1) := dk_42 (dk_at dksX5_carryOut_10 1 rfl rfl)
theorem dX5_carryOut_326 : decode cX5_carryOut 326 = .ok (.getfield 18, 3) := dk_180 0 18 (dk_at dksX5_carryOut_10 2 rfl rfl)
theorem dX5_carryOut_329 : decode cX5_carryOut 329 = .ok (.aload_n 0, 1) := dk_42 (dk_at dksX5_carryOut_10 5 rfl rfl)
theorem dX5_carryOut_330 : decode cX5_carryOut 330 = .ok (.getfield 22, 3) := dk_180 0 22 (dk_at dksX5_carryOut_10 6 rfl rfl)
theorem dX5_carryOut_333 : decode cX5_carryOut 333 = .ok (.invokevirtual 60, 3) := dk_182 0 60 (dk_at dksX5_carryOut_10 9 rfl rfl)
theorem dX5_carryOut_336 : decode cX5_carryOut 336 = .ok (.ireturn, 1) := dk_172 (dk_at dksX5_carryOut_10 12 rfl rfl)
theorem dX5_carryOut_337 : decode cX5_carryOut 337 = .ok (.aload_n 1, 1) := dk_43 (dk_at dksX5_carryOut_10 13 rfl rfl)
theorem dX5_carryOut_338 : decode cX5_carryOut 338 = .ok (.invokevirtual 66, 3) := dk_182 0 66 (dk_at dksX5_carryOut_10 14 rfl rfl)
theorem dX5_carryOut_341 : decode cX5_carryOut 341 = .ok (.ireturn, 1) := dk_172 (dk_at dksX5_carryOut_10 17 rfl rfl)
theorem dX5_carryOut_342 : decode cX5_carryOut 342 = .ok (.aload_n 1, 1) := dk_43 (dk_at dksX5_carryOut_10 18 rfl rfl)
theorem dX5_carryOut_343 : decode cX5_carryOut 343 = .ok (.aload_n 0, 1) := dk_42 (dk_at dksX5_carryOut_10 19 rfl rfl)
theorem dX5_carryOut_344 : decode cX5_carryOut 344 = .ok (.getfield 18, 3) := dk_180 0 18 (dk_at dksX5_carryOut_10 20 rfl rfl)
theorem dX5_carryOut_347 : decode cX5_carryOut 347 = .ok (.aload_n 0, 1) := dk_42 (dk_at dksX5_carryOut_10 23 rfl rfl)
theorem dX5_carryOut_348 : decode cX5_carryOut 348 = .ok (.getfield 22, 3) := dk_180 0 22 (dk_at dksX5_carryOut_11 0 rfl rfl)
theorem dX5_carryOut_351 : decode cX5_carryOut 351 = .ok (.invokevirtual 68, 3) := dk_182 0 68 (dk_at dksX5_carryOut_11 3 rfl rfl)
theorem dX5_carryOut_354 : decode cX5_carryOut 354 = .ok (.ireturn, 1) := dk_172 (dk_at dksX5_carryOut_11 6 rfl rfl)
theorem dX5_carryOut_355 : decode cX5_carryOut 355 = .ok (.aload_n 1, 1) := dk_43 (dk_at dksX5_carryOut_11 7 rfl rfl)
theorem dX5_carryOut_356 : decode cX5_carryOut 356 = .ok (.aload_n 0, 1) := dk_42 (dk_at dksX5_carryOut_11 8 rfl rfl)
theorem dX5_carryOut_357 : decode cX5_carryOut 357 = .ok (.getfield 18, 3) := dk_180 0 18 (dk_at dksX5_carryOut_11 9 rfl rfl)
theorem dX5_carryOut_360 : decode cX5_carryOut 360 = .ok (.invokevirtual 71, 3) := dk_182 0 71 (dk_at dksX5_carryOut_11 12 rfl rfl)
theorem dX5_carryOut_363 : decode cX5_carryOut 363 = .ok (.ireturn, 1) := dk_172 (dk_at dksX5_carryOut_11 15 rfl rfl)
theorem dX5_carryOut_364 : decode cX5_carryOut 364 = .ok (.aload_n 1, 1) := dk_43 (dk_at dksX5_carryOut_11 16 rfl rfl)
theorem dX5_carryOut_365 : decode cX5_carryOut 365 = .ok (.aload_n 0, 1) := dk_42 (dk_at dksX5_carryOut_11 17 rfl rfl)
theorem dX5_carryOut_366 : decode cX5_carryOut 366 = .ok (.getfield 18, 3) := dk_180 0 18 (dk_at dksX5_carryOut_11 18 rfl rfl)
theorem dX5_carryOut_369 : decode cX5_carryOut 369 = .ok (.aload_n 0, 1) := dk_42 (dk_at dksX5_carryOut_11 21 rfl rfl)
theorem dX5_carryOut_370 : decode cX5_carryOut 370 = .ok (.getfield 22, 3) := dk_180 0 22 (dk_at dksX5_carryOut_12 0 rfl rfl)
theorem dX5_carryOut_373 : decode cX5_carryOut 373 = .ok (.invokevirtual 75, 3) := dk_182 0 75 (dk_at dksX5_carryOut_12 3 rfl rfl)
theorem dX5_carryOut_376 : decode cX5_carryOut 376 = .ok (.ireturn, 1) := dk_172 (dk_at dksX5_carryOut_12 6 rfl rfl)
theorem dX5_carryOut_377 : decode cX5_carryOut 377 = .ok (.aload_n 1, 1) := dk_43 (dk_at dksX5_carryOut_12 7 rfl rfl)
theorem dX5_carryOut_378 : decode cX5_carryOut 378 = .ok (.aload_n 0, 1) := dk_42 (dk_at dksX5_carryOut_12 8 rfl rfl)
theorem dX5_carryOut_379 : decode cX5_carryOut 379 = .ok (.getfield 18, 3) := dk_180 0 18 (dk_at dksX5_carryOut_12 9 rfl rfl)
theorem dX5_carryOut_382 : decode cX5_carryOut 382 = .ok (.aload_n 0, 1) := dk_42 (dk_at dksX5_carryOut_12 12 rfl rfl)
theorem dX5_carryOut_383 : decode cX5_carryOut 383 = .ok (.getfield 22, 3) := dk_180 0 22 (dk_at dksX5_carryOut_12 13 rfl rfl)
theorem dX5_carryOut_386 : decode cX5_carryOut 386 = .ok (.invokevirtual 78, 3) := dk_182 0 78 (dk_at dksX5_carryOut_12 16 rfl rfl)
theorem dX5_carryOut_389 : decode cX5_carryOut 389 = .ok (.ireturn, 1) := dk_172 (dk_at dksX5_carryOut_12 19 rfl rfl)
theorem dX5_carryOut_390 : decode cX5_carryOut 390 = .ok (.aload_n 1, 1) := dk_43 (dk_at dksX5_carryOut_12 20 rfl rfl)
theorem dX5_carryOut_391 : decode cX5_carryOut 391 = .ok (.aload_n 0, 1) := dk_42 (dk_at dksX5_carryOut_12 21 rfl rfl)
theorem dX5_carryOut_392 : decode cX5_carryOut 392 = .ok (.getfield 18, 3) := dk_180 0 18 (dk_at dksX5_carryOut_13 0 rfl rfl)
theorem dX5_carryOut_395 : decode cX5_carryOut 395 = .ok (.invokevirtual 81, 3) := dk_182 0 81 (dk_at dksX5_carryOut_13 3 rfl rfl)
theorem dX5_carryOut_398 : decode cX5_carryOut 398 = .ok (.ireturn, 1) := dk_172 (dk_at dksX5_carryOut_13 6 rfl rfl)
theorem dX5_carryOut_399 : decode cX5_carryOut 399 = .ok (.aload_n 1, 1) := dk_43 (dk_at dksX5_carryOut_13 7 rfl rfl)
theorem dX5_carryOut_400 : decode cX5_carryOut 400 = .ok (.aload_n 0, 1) := dk_42 (dk_at dksX5_carryOut_13 8 rfl rfl)
theorem dX5_carryOut_401 : decode cX5_carryOut 401 = .ok (.getfield 18, 3) := dk_180 0 18 (dk_at dksX5_carryOut_13 9 rfl rfl)
theorem dX5_carryOut_404 : decode cX5_carryOut 404 = .ok (.aload_n 0, 1) := dk_42 (dk_at dksX5_carryOut_13 12 rfl rfl)
theorem dX5_carryOut_405 : decode cX5_carryOut 405 = .ok (.getfield 22, 3) := dk_180 0 22 (dk_at dksX5_carryOut_13 13 rfl rfl)
theorem dX5_carryOut_408 : decode cX5_carryOut 408 = .ok (.iconst 1, 1) := dk_4 (dk_at dksX5_carryOut_13 16 rfl rfl)
theorem dX5_carryOut_409 : decode cX5_carryOut 409 = .ok (.if_icmp .ne 7, 3) := dk_160 0 7 (dk_at dksX5_carryOut_13 17 rfl rfl)
theorem dX5_carryOut_412 : decode cX5_carryOut 412 = .ok (.iconst 1, 1) := dk_4 (dk_at dksX5_carryOut_13 20 rfl rfl)
theorem dX5_carryOut_413 : decode cX5_carryOut 413 = .ok (.goto 4, 3) := dk_167 0 4 (dk_at dksX5_carryOut_13 21 rfl rfl)
theorem dX5_carryOut_416 : decode cX5_carryOut 416 = .ok (.iconst 0, 1) := dk_3 (dk_at dksX5_carryOut_14 0 rfl rfl)
theorem dX5_carryOut_417 : decode cX5_carryOut 417 = .ok (.invokevirtual 84, 3) := dk_182 0 84 (dk_at dksX5_carryOut_14 1 rfl rfl)
theorem dX5_carryOut_420 : decode cX5_carryOut 420 = .ok (.ireturn, 1) := dk_172 (dk_at dksX5_carryOut_14 4 rfl rfl)
theorem dX5_carryOut_421 : decode cX5_carryOut 421 = .ok (.aload_n 1, 1) := dk_43 (dk_at dksX5_carryOut_14 5 rfl rfl)
theorem dX5_carryOut_422 : decode cX5_carryOut 422 = .ok (.aload_n 0, 1) := dk_42 (dk_at dksX5_carryOut_14 6 rfl rfl)
theorem dX5_carryOut_423 : decode cX5_carryOut 423 = .ok (.getfield 18, 3) := dk_180 0 18 (dk_at dksX5_carryOut_14 7 rfl rfl)
theorem dX5_carryOut_426 : decode cX5_carryOut 426 = .ok (.invokevirtual 88, 3) := dk_182 0 88 (dk_at dksX5_carryOut_14 10 rfl rfl)
theorem dX5_carryOut_429 : decode cX5_carryOut 429 = .ok (.ireturn, 1) := dk_172 (dk_at dksX5_carryOut_14 13 rfl rfl)
theorem dX5_carryOut_430 : decode cX5_carryOut 430 = .ok (.aload_n 1, 1) := dk_43 (dk_at dksX5_carryOut_14 14 rfl rfl)
theorem dX5_carryOut_431 : decode cX5_carryOut 431 = .ok (.aload_n 0, 1) := dk_42 (dk_at dksX5_carryOut_14 15 rfl rfl)
theorem dX5_carryOut_432 : decode cX5_carryOut 432 = .ok (.getfield 18, 3) := dk_180 0 18 (dk_at dksX5_carryOut_14 16 rfl rfl)
theorem dX5_carryOut_435 : decode cX5_carryOut 435 = .ok (.invokevirtual 91, 3) := dk_182 0 91 (dk_at dksX5_carryOut_14 19 rfl rfl)
theorem dX5_carryOut_438 : decode cX5_carryOut 438 = .ok (.ireturn, 1) := dk_172 (dk_at dksX5_carryOut_14 22 rfl rfl)
theorem dX5_carryOut_439 : decode cX5_carryOut 439 = .ok (.aload_n 1, 1) := dk_43 (dk_at dksX5_carryOut_14 23 rfl rfl)
theorem dX5_carryOut_440 : decode cX5_carryOut 440 = .ok (.aload_n 0, 1) := dk_42 (dk_at dksX5_carryOut_15 0 rfl rfl)
theorem dX5_carryOut_441 : decode cX5_carryOut 441 = .ok (.getfield 18, 3) := dk_180 0 18 (dk_at dksX5_carryOut_15 1 rfl rfl)
theorem dX5_carryOut_444 : decode cX5_carryOut 444 = .ok (.aload_n 0, 1) := dk_42 (dk_at dksX5_carryOut_15 4 rfl rfl)
theorem dX5_carryOut_445 : decode cX5_carryOut 445 = .ok (.getfield 22, 3) := dk_180 0 22 (dk_at dksX5_carryOut_15 5 rfl rfl)
theorem dX5_carryOut_448 : decode cX5_carryOut 448 = .ok (.aload_n 0, 1) := dk_42 (dk_at dksX5_carryOut_15 8 rfl rfl)
theorem dX5_carryOut_449 : decode cX5_carryOut 449 = .ok (.getfield 25, 3) := dk_180 0 25 (dk_at dksX5_carryOut_15 9 rfl rfl)
theorem dX5_carryOut_452 : decode cX5_carryOut 452 = .ok (.invokevirtual 93, 3) := dk_182 0 93 (dk_at dksX5_carryOut_15 12 rfl rfl)
theorem dX5_carryOut_455 : decode cX5_carryOut 455 = .ok (.ireturn, 1) := dk_172 (dk_at dksX5_carryOut_15 15 rfl rfl)
theorem dX5_carryOut_456 : decode cX5_carryOut 456 = .ok (.aload_n 1, 1) := dk_43 (dk_at dksX5_carryOut_15 16 rfl rfl)
theorem dX5_carryOut_457 : decode cX5_carryOut 457 = .ok (.aload_n 0, 1) := dk_42 (dk_at dksX5_carryOut_15 17 rfl rfl)
theorem dX5_carryOut_458 : decode cX5_carryOut 458 = .ok (.getfield 18, 3) := dk_180 0 18 (dk_at dksX5_carryOut_15 18 rfl rfl)
theorem dX5_carryOut_461 : decode cX5_carryOut 461 = .ok (.invokevirtual 97, 3) := dk_182 0 97 (dk_at dksX5_carryOut_15 21 rfl rfl)
theorem dX5_carryOut_464 : decode cX5_carryOut 464 = .ok (.ireturn, 1) := dk_172 (dk_at dksX5_carryOut_16 0 rfl rfl)
abbrev cX5_carryOutAs : ByteArray := prog_4_method_4_code
def yX5_carryOutAs : MethodName := ⟨RX5, "carryOutAs", "(ILGargoyleTower$World;)V"⟩
def dkwX5_carryOutAs_1 : List UInt8 := [187, 0, 104, 89, 16, 17, 27, 183, 0, 113, 191, 177]
abbrev dktX5_carryOutAs_1 : List UInt8 := dkwX5_carryOutAs_1 ++ []
def dkwX5_carryOutAs_0 : List UInt8 := [42, 44, 182, 0, 100, 62, 167, 0, 28, 78, 187, 0, 104, 89, 16, 17, 27, 45, 183, 0, 106, 191, 78]
abbrev dktX5_carryOutAs_0 : List UInt8 := dkwX5_carryOutAs_0 ++ dktX5_carryOutAs_1
theorem dksX5_carryOutAs_0 : cX5_carryOutAs.data.toList.drop 0 = dktX5_carryOutAs_0 := by decide +kernel
theorem dksX5_carryOutAs_1 : cX5_carryOutAs.data.toList.drop 23 = dktX5_carryOutAs_1 := dk_seg dksX5_carryOutAs_0 23 rfl rfl
theorem dX5_carryOutAs_0 : decode cX5_carryOutAs 0 = .ok (.aload_n 0, 1) := dk_42 (dk_at dksX5_carryOutAs_0 0 rfl rfl)
theorem dX5_carryOutAs_1 : decode cX5_carryOutAs 1 = .ok (.aload_n 2, 1) := dk_44 (dk_at dksX5_carryOutAs_0 1 rfl rfl)
theorem dX5_carryOutAs_2 : decode cX5_carryOutAs 2 = .ok (.invokevirtual 100, 3) := dk_182 0 100 (dk_at dksX5_carryOutAs_0 2 rfl rfl)
theorem dX5_carryOutAs_5 : decode cX5_carryOutAs 5 = .ok (.istore_n 3, 1) := dk_62 (dk_at dksX5_carryOutAs_0 5 rfl rfl)
theorem dX5_carryOutAs_6 : decode cX5_carryOutAs 6 = .ok (.goto 28, 3) := dk_167 0 28 (dk_at dksX5_carryOutAs_0 6 rfl rfl)
theorem dX5_carryOutAs_9 : decode cX5_carryOutAs 9 = .ok (.astore_n 3, 1) := dk_78 (dk_at dksX5_carryOutAs_0 9 rfl rfl)
theorem dX5_carryOutAs_10 : decode cX5_carryOutAs 10 = .ok (.new 104, 3) := dk_187 0 104 (dk_at dksX5_carryOutAs_0 10 rfl rfl)
theorem dX5_carryOutAs_13 : decode cX5_carryOutAs 13 = .ok (.dup, 1) := dk_89 (dk_at dksX5_carryOutAs_0 13 rfl rfl)
theorem dX5_carryOutAs_14 : decode cX5_carryOutAs 14 = .ok (.bipush 17, 2) := dk_16 17 (dk_at dksX5_carryOutAs_0 14 rfl rfl)
theorem dX5_carryOutAs_16 : decode cX5_carryOutAs 16 = .ok (.iload_n 1, 1) := dk_27 (dk_at dksX5_carryOutAs_0 16 rfl rfl)
theorem dX5_carryOutAs_17 : decode cX5_carryOutAs 17 = .ok (.aload_n 3, 1) := dk_45 (dk_at dksX5_carryOutAs_0 17 rfl rfl)
theorem dX5_carryOutAs_18 : decode cX5_carryOutAs 18 = .ok (.invokespecial 106, 3) := dk_183 0 106 (dk_at dksX5_carryOutAs_0 18 rfl rfl)
theorem dX5_carryOutAs_21 : decode cX5_carryOutAs 21 = .ok (.athrow, 1) := dk_191 (dk_at dksX5_carryOutAs_0 21 rfl rfl)
theorem dX5_carryOutAs_22 : decode cX5_carryOutAs 22 = .ok (.astore_n 3, 1) := dk_78 (dk_at dksX5_carryOutAs_0 22 rfl rfl)
theorem dX5_carryOutAs_23 : decode cX5_carryOutAs 23 = .ok (.new 104, 3) := dk_187 0 104 (dk_at dksX5_carryOutAs_1 0 rfl rfl)
theorem dX5_carryOutAs_26 : decode cX5_carryOutAs 26 = .ok (.dup, 1) := dk_89 (dk_at dksX5_carryOutAs_1 3 rfl rfl)
theorem dX5_carryOutAs_27 : decode cX5_carryOutAs 27 = .ok (.bipush 17, 2) := dk_16 17 (dk_at dksX5_carryOutAs_1 4 rfl rfl)
theorem dX5_carryOutAs_29 : decode cX5_carryOutAs 29 = .ok (.iload_n 1, 1) := dk_27 (dk_at dksX5_carryOutAs_1 6 rfl rfl)
theorem dX5_carryOutAs_30 : decode cX5_carryOutAs 30 = .ok (.invokespecial 113, 3) := dk_183 0 113 (dk_at dksX5_carryOutAs_1 7 rfl rfl)
theorem dX5_carryOutAs_33 : decode cX5_carryOutAs 33 = .ok (.athrow, 1) := dk_191 (dk_at dksX5_carryOutAs_1 10 rfl rfl)
theorem dX5_carryOutAs_34 : decode cX5_carryOutAs 34 = .ok (.return_, 1) := dk_177 (dk_at dksX5_carryOutAs_1 11 rfl rfl)
abbrev cX5_init : ByteArray := prog_4_method_1_code
def yX5_init : MethodName := ⟨RX5, "<init>", "(Ljava/lang/String;II)V"⟩
def dkwX5_init_0 : List UInt8 := [42, 43, 28, 29, 3, 183, 0, 3, 177]
abbrev dktX5_init_0 : List UInt8 := dkwX5_init_0 ++ []
theorem dksX5_init_0 : cX5_init.data.toList.drop 0 = dktX5_init_0 := by decide +kernel
theorem dX5_init_0 : decode cX5_init 0 = .ok (.aload_n 0, 1) := dk_42 (dk_at dksX5_init_0 0 rfl rfl)
theorem dX5_init_1 : decode cX5_init 1 = .ok (.aload_n 1, 1) := dk_43 (dk_at dksX5_init_0 1 rfl rfl)
theorem dX5_init_2 : decode cX5_init 2 = .ok (.iload_n 2, 1) := dk_28 (dk_at dksX5_init_0 2 rfl rfl)
theorem dX5_init_3 : decode cX5_init 3 = .ok (.iload_n 3, 1) := dk_29 (dk_at dksX5_init_0 3 rfl rfl)
theorem dX5_init_4 : decode cX5_init 4 = .ok (.iconst 0, 1) := dk_3 (dk_at dksX5_init_0 4 rfl rfl)
theorem dX5_init_5 : decode cX5_init 5 = .ok (.invokespecial 3, 3) := dk_183 0 3 (dk_at dksX5_init_0 5 rfl rfl)
theorem dX5_init_8 : decode cX5_init 8 = .ok (.return_, 1) := dk_177 (dk_at dksX5_init_0 8 rfl rfl)
theorem q87 : (Jvm.Cond.initialized "GargoyleTower$Deed") ∈ lw_all := lw_g (lw_at lw_m1 13 rfl) rfl
theorem q411 : (Jvm.Cond.castable "java/lang/IndexOutOfBoundsException" "java/lang/IndexOutOfBoundsException") ∈ lw_tbl := lw_at lw_m2 97 rfl
theorem q648 : (Jvm.Cond.castable "java/lang/IllegalArgumentException" "java/lang/IllegalArgumentException") ∈ lw_tbl := lw_at lw_m3 94 rfl
theorem q1111 : (Jvm.Cond.code ({ cls := "GargoyleTower$Deed", name := "<init>", desc := "(Ljava/lang/String;II)V" } : Jvm.MethodName) prog_4_method_1_code (4 : Nat) (Option.none : Option Jvm.ClassFile.FieldType)) ∈ lw_all := lw_g (lw_at lw_m5 77 rfl) rfl
theorem q1112 : (Jvm.Cond.methodLink "GargoyleTower$Deed" (3 : Nat) ({ cls := "GargoyleTower$Deed", name := "<init>", desc := "(Ljava/lang/String;III)V" } : Jvm.MethodName)) ∈ lw_all := lw_g (lw_at lw_m5 78 rfl) rfl
theorem q1113 : (Jvm.Cond.instanceMethod ({ cls := "GargoyleTower$Deed", name := "<init>", desc := "(Ljava/lang/String;III)V" } : Jvm.MethodName)) ∈ lw_all := lw_g (lw_at lw_m5 79 rfl) rfl
theorem q1114 : (Jvm.Cond.code ({ cls := "GargoyleTower$Deed", name := "<init>", desc := "(Ljava/lang/String;III)V" } : Jvm.MethodName) prog_4_method_2_code (5 : Nat) (Option.none : Option Jvm.ClassFile.FieldType)) ∈ lw_all := lw_g (lw_at lw_m5 80 rfl) rfl
theorem q1115 : (Jvm.Cond.methodLink "GargoyleTower$Deed" (9 : Nat) ({ cls := "java/lang/Object", name := "<init>", desc := "()V" } : Jvm.MethodName)) ∈ lw_all := lw_g (lw_at lw_m5 81 rfl) rfl
theorem q1116 : (Jvm.Cond.fieldLink "GargoyleTower$Deed" (14 : Nat) "GargoyleTower$Deed" "word" "Ljava/lang/String;") ∈ lw_all := lw_g (lw_at lw_m5 82 rfl) rfl
theorem q1117 : (Jvm.Cond.fieldLink "GargoyleTower$Deed" (18 : Nat) "GargoyleTower$Deed" "one" "I") ∈ lw_all := lw_g (lw_at lw_m5 83 rfl) rfl
theorem q1118 : (Jvm.Cond.fieldLink "GargoyleTower$Deed" (22 : Nat) "GargoyleTower$Deed" "other" "I") ∈ lw_all := lw_g (lw_at lw_m5 84 rfl) rfl
theorem q1119 : (Jvm.Cond.fieldLink "GargoyleTower$Deed" (25 : Nat) "GargoyleTower$Deed" "third" "I") ∈ lw_all := lw_g (lw_at lw_m5 85 rfl) rfl
theorem q1135 : (Jvm.Cond.instanceMethod ({ cls := "GargoyleTower$Deed", name := "carryOut", desc := "(LGargoyleTower$World;)I" } : Jvm.MethodName)) ∈ lw_all := lw_g (lw_at lw_m5 101 rfl) rfl
theorem q1136 : (Jvm.Cond.selects "GargoyleTower$Deed" ({ cls := "GargoyleTower$Deed", name := "carryOut", desc := "(LGargoyleTower$World;)I" } : Jvm.MethodName) ({ cls := "GargoyleTower$Deed", name := "carryOut", desc := "(LGargoyleTower$World;)I" } : Jvm.MethodName)) ∈ lw_all := lw_g (lw_at lw_m5 102 rfl) rfl
theorem q1137 : (Jvm.Cond.code ({ cls := "GargoyleTower$Deed", name := "carryOut", desc := "(LGargoyleTower$World;)I" } : Jvm.MethodName) prog_4_method_3_code (4 : Nat) (Option.some Jvm.ClassFile.FieldType.int)) ∈ lw_all := lw_g (lw_at lw_m5 103 rfl) rfl
theorem q1138 : (Jvm.Cond.methodLink "GargoyleTower$Deed" (28 : Nat) ({ cls := "java/lang/String", name := "hashCode", desc := "()I" } : Jvm.MethodName)) ∈ lw_all := lw_g (lw_at lw_m5 104 rfl) rfl
theorem q1139 : (Jvm.Cond.instanceMethod ({ cls := "java/lang/String", name := "hashCode", desc := "()I" } : Jvm.MethodName)) ∈ lw_all := lw_g (lw_at lw_m5 105 rfl) rfl
theorem q1140 : (Jvm.Cond.selects "java/lang/String" ({ cls := "java/lang/String", name := "hashCode", desc := "()I" } : Jvm.MethodName) ({ cls := "java/lang/String", name := "hashCode", desc := "()I" } : Jvm.MethodName)) ∈ lw_all := lw_g (lw_at lw_m5 106 rfl) rfl
theorem q1200 : (Jvm.Cond.methodLink "GargoyleTower$Deed" (36 : Nat) ({ cls := "java/lang/String", name := "equals", desc := "(Ljava/lang/Object;)Z" } : Jvm.MethodName)) ∈ lw_all := lw_g (lw_at lw_m5 166 rfl) rfl
theorem q1201 : (Jvm.Cond.instanceMethod ({ cls := "java/lang/String", name := "equals", desc := "(Ljava/lang/Object;)Z" } : Jvm.MethodName)) ∈ lw_all := lw_g (lw_at lw_m5 167 rfl) rfl
theorem q1202 : (Jvm.Cond.selects "java/lang/String" ({ cls := "java/lang/String", name := "equals", desc := "(Ljava/lang/Object;)Z" } : Jvm.MethodName) ({ cls := "java/lang/String", name := "equals", desc := "(Ljava/lang/Object;)Z" } : Jvm.MethodName)) ∈ lw_all := lw_g (lw_at lw_m5 168 rfl) rfl
theorem q1218 : (Jvm.Cond.methodLink "GargoyleTower$Deed" (60 : Nat) ({ cls := "GargoyleTower$World", name := "carve", desc := "(II)I" } : Jvm.MethodName)) ∈ lw_all := lw_g (lw_at lw_m5 184 rfl) rfl
theorem q1219 : (Jvm.Cond.instanceMethod ({ cls := "GargoyleTower$World", name := "carve", desc := "(II)I" } : Jvm.MethodName)) ∈ lw_all := lw_g (lw_at lw_m5 185 rfl) rfl
theorem q1220 : (Jvm.Cond.selects "GargoyleTower$World" ({ cls := "GargoyleTower$World", name := "carve", desc := "(II)I" } : Jvm.MethodName) ({ cls := "GargoyleTower$World", name := "carve", desc := "(II)I" } : Jvm.MethodName)) ∈ lw_all := lw_g (lw_at lw_m5 186 rfl) rfl
theorem q1252 : (Jvm.Cond.castable "GargoyleTower$RefusedException" "GargoyleTower$RefusedException") ∈ lw_tbl := lw_at lw_m5 218 rfl
theorem q1285 : (Jvm.Cond.methodLink "GargoyleTower$Deed" (66 : Nat) ({ cls := "GargoyleTower$World", name := "whet", desc := "()I" } : Jvm.MethodName)) ∈ lw_all := lw_g (lw_at lw_m6 11 rfl) rfl
theorem q1286 : (Jvm.Cond.instanceMethod ({ cls := "GargoyleTower$World", name := "whet", desc := "()I" } : Jvm.MethodName)) ∈ lw_all := lw_g (lw_at lw_m6 12 rfl) rfl
theorem q1287 : (Jvm.Cond.selects "GargoyleTower$World" ({ cls := "GargoyleTower$World", name := "whet", desc := "()I" } : Jvm.MethodName) ({ cls := "GargoyleTower$World", name := "whet", desc := "()I" } : Jvm.MethodName)) ∈ lw_all := lw_g (lw_at lw_m6 13 rfl) rfl
theorem q1293 : (Jvm.Cond.methodLink "GargoyleTower$Deed" (68 : Nat) ({ cls := "GargoyleTower$World", name := "hoist", desc := "(II)I" } : Jvm.MethodName)) ∈ lw_all := lw_g (lw_at lw_m6 19 rfl) rfl
theorem q1294 : (Jvm.Cond.instanceMethod ({ cls := "GargoyleTower$World", name := "hoist", desc := "(II)I" } : Jvm.MethodName)) ∈ lw_all := lw_g (lw_at lw_m6 20 rfl) rfl
theorem q1295 : (Jvm.Cond.selects "GargoyleTower$World" ({ cls := "GargoyleTower$World", name := "hoist", desc := "(II)I" } : Jvm.MethodName) ({ cls := "GargoyleTower$World", name := "hoist", desc := "(II)I" } : Jvm.MethodName)) ∈ lw_all := lw_g (lw_at lw_m6 21 rfl) rfl
theorem q1305 : (Jvm.Cond.methodLink "GargoyleTower$Deed" (71 : Nat) ({ cls := "GargoyleTower$World", name := "lower", desc := "(I)I" } : Jvm.MethodName)) ∈ lw_all := lw_g (lw_at lw_m6 31 rfl) rfl
theorem q1306 : (Jvm.Cond.instanceMethod ({ cls := "GargoyleTower$World", name := "lower", desc := "(I)I" } : Jvm.MethodName)) ∈ lw_all := lw_g (lw_at lw_m6 32 rfl) rfl
theorem q1307 : (Jvm.Cond.selects "GargoyleTower$World" ({ cls := "GargoyleTower$World", name := "lower", desc := "(I)I" } : Jvm.MethodName) ({ cls := "GargoyleTower$World", name := "lower", desc := "(I)I" } : Jvm.MethodName)) ∈ lw_all := lw_g (lw_at lw_m6 33 rfl) rfl
theorem q1313 : (Jvm.Cond.methodLink "GargoyleTower$Deed" (75 : Nat) ({ cls := "GargoyleTower$World", name := "set", desc := "(II)I" } : Jvm.MethodName)) ∈ lw_all := lw_g (lw_at lw_m6 39 rfl) rfl
theorem q1314 : (Jvm.Cond.instanceMethod ({ cls := "GargoyleTower$World", name := "set", desc := "(II)I" } : Jvm.MethodName)) ∈ lw_all := lw_g (lw_at lw_m6 40 rfl) rfl
theorem q1315 : (Jvm.Cond.selects "GargoyleTower$World" ({ cls := "GargoyleTower$World", name := "set", desc := "(II)I" } : Jvm.MethodName) ({ cls := "GargoyleTower$World", name := "set", desc := "(II)I" } : Jvm.MethodName)) ∈ lw_all := lw_g (lw_at lw_m6 41 rfl) rfl
theorem q1322 : (Jvm.Cond.methodLink "GargoyleTower$Deed" (78 : Nat) ({ cls := "GargoyleTower$World", name := "deliver", desc := "(II)I" } : Jvm.MethodName)) ∈ lw_all := lw_g (lw_at lw_m6 48 rfl) rfl
theorem q1323 : (Jvm.Cond.instanceMethod ({ cls := "GargoyleTower$World", name := "deliver", desc := "(II)I" } : Jvm.MethodName)) ∈ lw_all := lw_g (lw_at lw_m6 49 rfl) rfl
theorem q1324 : (Jvm.Cond.selects "GargoyleTower$World" ({ cls := "GargoyleTower$World", name := "deliver", desc := "(II)I" } : Jvm.MethodName) ({ cls := "GargoyleTower$World", name := "deliver", desc := "(II)I" } : Jvm.MethodName)) ∈ lw_all := lw_g (lw_at lw_m6 50 rfl) rfl
theorem q1341 : (Jvm.Cond.methodLink "GargoyleTower$Deed" (81 : Nat) ({ cls := "GargoyleTower$World", name := "pass", desc := "(I)I" } : Jvm.MethodName)) ∈ lw_all := lw_g (lw_at lw_m6 67 rfl) rfl
theorem q1342 : (Jvm.Cond.instanceMethod ({ cls := "GargoyleTower$World", name := "pass", desc := "(I)I" } : Jvm.MethodName)) ∈ lw_all := lw_g (lw_at lw_m6 68 rfl) rfl
theorem q1343 : (Jvm.Cond.selects "GargoyleTower$World" ({ cls := "GargoyleTower$World", name := "pass", desc := "(I)I" } : Jvm.MethodName) ({ cls := "GargoyleTower$World", name := "pass", desc := "(I)I" } : Jvm.MethodName)) ∈ lw_all := lw_g (lw_at lw_m6 69 rfl) rfl
theorem q1377 : (Jvm.Cond.methodLink "GargoyleTower$Deed" (84 : Nat) ({ cls := "GargoyleTower$World", name := "cutBlock", desc := "(IZ)I" } : Jvm.MethodName)) ∈ lw_all := lw_g (lw_at lw_m6 103 rfl) rfl
theorem q1378 : (Jvm.Cond.instanceMethod ({ cls := "GargoyleTower$World", name := "cutBlock", desc := "(IZ)I" } : Jvm.MethodName)) ∈ lw_all := lw_g (lw_at lw_m6 104 rfl) rfl
theorem q1379 : (Jvm.Cond.selects "GargoyleTower$World" ({ cls := "GargoyleTower$World", name := "cutBlock", desc := "(IZ)I" } : Jvm.MethodName) ({ cls := "GargoyleTower$World", name := "cutBlock", desc := "(IZ)I" } : Jvm.MethodName)) ∈ lw_all := lw_g (lw_at lw_m6 105 rfl) rfl
theorem q1382 : (Jvm.Cond.methodLink "GargoyleTower$Deed" (88 : Nat) ({ cls := "GargoyleTower$World", name := "buyRope", desc := "(I)I" } : Jvm.MethodName)) ∈ lw_all := lw_g (lw_at lw_m6 108 rfl) rfl
theorem q1383 : (Jvm.Cond.instanceMethod ({ cls := "GargoyleTower$World", name := "buyRope", desc := "(I)I" } : Jvm.MethodName)) ∈ lw_all := lw_g (lw_at lw_m6 109 rfl) rfl
theorem q1384 : (Jvm.Cond.selects "GargoyleTower$World" ({ cls := "GargoyleTower$World", name := "buyRope", desc := "(I)I" } : Jvm.MethodName) ({ cls := "GargoyleTower$World", name := "buyRope", desc := "(I)I" } : Jvm.MethodName)) ∈ lw_all := lw_g (lw_at lw_m6 110 rfl) rfl
theorem q1388 : (Jvm.Cond.methodLink "GargoyleTower$Deed" (91 : Nat) ({ cls := "GargoyleTower$World", name := "push", desc := "(I)I" } : Jvm.MethodName)) ∈ lw_all := lw_g (lw_at lw_m6 114 rfl) rfl
theorem q1389 : (Jvm.Cond.instanceMethod ({ cls := "GargoyleTower$World", name := "push", desc := "(I)I" } : Jvm.MethodName)) ∈ lw_all := lw_g (lw_at lw_m6 115 rfl) rfl
theorem q1390 : (Jvm.Cond.selects "GargoyleTower$World" ({ cls := "GargoyleTower$World", name := "push", desc := "(I)I" } : Jvm.MethodName) ({ cls := "GargoyleTower$World", name := "push", desc := "(I)I" } : Jvm.MethodName)) ∈ lw_all := lw_g (lw_at lw_m6 116 rfl) rfl
theorem q1392 : (Jvm.Cond.methodLink "GargoyleTower$Deed" (93 : Nat) ({ cls := "GargoyleTower$World", name := "takeCommission", desc := "(III)I" } : Jvm.MethodName)) ∈ lw_all := lw_g (lw_at lw_m6 118 rfl) rfl
theorem q1393 : (Jvm.Cond.instanceMethod ({ cls := "GargoyleTower$World", name := "takeCommission", desc := "(III)I" } : Jvm.MethodName)) ∈ lw_all := lw_g (lw_at lw_m6 119 rfl) rfl
theorem q1394 : (Jvm.Cond.selects "GargoyleTower$World" ({ cls := "GargoyleTower$World", name := "takeCommission", desc := "(III)I" } : Jvm.MethodName) ({ cls := "GargoyleTower$World", name := "takeCommission", desc := "(III)I" } : Jvm.MethodName)) ∈ lw_all := lw_g (lw_at lw_m6 120 rfl) rfl
theorem q1397 : (Jvm.Cond.methodLink "GargoyleTower$Deed" (97 : Nat) ({ cls := "GargoyleTower$World", name := "setSeed", desc := "(I)I" } : Jvm.MethodName)) ∈ lw_all := lw_g (lw_at lw_m6 123 rfl) rfl
theorem q1398 : (Jvm.Cond.instanceMethod ({ cls := "GargoyleTower$World", name := "setSeed", desc := "(I)I" } : Jvm.MethodName)) ∈ lw_all := lw_g (lw_at lw_m6 124 rfl) rfl
theorem q1399 : (Jvm.Cond.selects "GargoyleTower$World" ({ cls := "GargoyleTower$World", name := "setSeed", desc := "(I)I" } : Jvm.MethodName) ({ cls := "GargoyleTower$World", name := "setSeed", desc := "(I)I" } : Jvm.MethodName)) ∈ lw_all := lw_g (lw_at lw_m6 125 rfl) rfl
theorem q2254 : (Jvm.Cond.codeWith ({ cls := "GargoyleTower$Deed", name := "carryOutAs", desc := "(ILGargoyleTower$World;)V" } : Jvm.MethodName) prog_4_method_4_code (4 : Nat) (Option.none : Option Jvm.ClassFile.FieldType) [((0 : Nat), (6 : Nat), (9 : Nat), (104 : Nat)), ((0 : Nat), (6 : Nat), (22 : Nat), (109 : Nat)), ((0 : Nat), (6 : Nat), (22 : Nat), (111 : Nat))]) ∈ lw_all := lw_g (lw_at lw_m10 20 rfl) rfl
theorem q2255 : (Jvm.Cond.classLink "GargoyleTower$Deed" (104 : Nat) "GargoyleTower$RefusedException") ∈ lw_all := lw_g (lw_at lw_m10 21 rfl) rfl
theorem q2256 : (Jvm.Cond.classLink "GargoyleTower$Deed" (109 : Nat) "java/lang/IndexOutOfBoundsException") ∈ lw_all := lw_g (lw_at lw_m10 22 rfl) rfl
theorem q2257 : (Jvm.Cond.classLink "GargoyleTower$Deed" (111 : Nat) "java/lang/IllegalArgumentException") ∈ lw_all := lw_g (lw_at lw_m10 23 rfl) rfl
theorem q2258 : (Jvm.Cond.methodLink "GargoyleTower$Deed" (100 : Nat) ({ cls := "GargoyleTower$Deed", name := "carryOut", desc := "(LGargoyleTower$World;)I" } : Jvm.MethodName)) ∈ lw_all := lw_g (lw_at lw_m10 24 rfl) rfl
theorem q2259 : (Jvm.Cond.methodLink "GargoyleTower$Deed" (106 : Nat) ({ cls := "GargoyleTower$RefusedException", name := "<init>", desc := "(IILGargoyleTower$RefusedException;)V" } : Jvm.MethodName)) ∈ lw_all := lw_g (lw_at lw_m10 25 rfl) rfl
theorem q2260 : (Jvm.Cond.methodLink "GargoyleTower$Deed" (113 : Nat) ({ cls := "GargoyleTower$RefusedException", name := "<init>", desc := "(II)V" } : Jvm.MethodName)) ∈ lw_all := lw_g (lw_at lw_m10 26 rfl) rfl
theorem np62 : gh_np "(IZ)I" 2 := by unfold gh_np; decide +kernel
theorem np63 : gh_np "(LGargoyleTower$World;)I" 1 := by unfold gh_np; decide +kernel
theorem np64 : gh_np "(Ljava/lang/String;III)V" 4 := by unfold gh_np; decide +kernel
theorem mh_X5 : gh_mh "GargoyleTower$Deed" := ⟨by decide, by decide⟩
theorem gh_tout10 {a : Int32} (k0 : ¬ a = (0 : Int32)) (k1 : ¬ a = (1 : Int32)) (k2 : ¬ a = (2 : Int32)) (k3 : ¬ a = (3 : Int32)) (k4 : ¬ a = (4 : Int32)) (k5 : ¬ a = (5 : Int32)) (k6 : ¬ a = (6 : Int32)) (k7 : ¬ a = (7 : Int32)) (k8 : ¬ a = (8 : Int32)) (k9 : ¬ a = (9 : Int32)) (k10 : ¬ a = (10 : Int32)) : a.toInt < 0 ∨ (10 : Int) < a.toInt := gh_tout (n := 10) (by decide) (gh_allS (gh_allS (gh_allS (gh_allS (gh_allS (gh_allS (gh_allS (gh_allS (gh_allS (gh_allS (gh_all0 (p := fun k => ¬ a = nI k) k0) k1) k2) k3) k4) k5) k6) k7) k8) k9) k10)
-- GargoyleTower$Deed.<init>(Ljava/lang/String;III)V
noncomputable def f_X5_init_2 (t0 : Nat) (p1 : Option Nat) (p2 : Int32) (p3 : Int32) (p4 : Int32) : gh_M Unit :=
  gh_bd (gh_putv t0 4 0 (.object "java/lang/String") (va_rf p1)) fun _ =>
  gh_bd (gh_putv t0 4 1 .int (.int p2)) fun _ =>
  gh_bd (gh_putv t0 4 2 .int (.int p3)) fun _ =>
  gh_bd (gh_putv t0 4 3 .int (.int p4)) fun _ =>
  gh_ret ()
theorem w_X5_init_2 {x : gh_C} {g : gh_G} {o : (Unit ⊕ gh_X) × gh_G} {ls : Array Slot} (C : gh_K x cX5_init_2 "GargoyleTower$Deed" 5 none "<init>" 1 20 []) (t0 : Nat) (p1 : Option Nat) (p2 : Int32) (p3 : Int32) (p4 : Int32) (hl : gh_lv ls 5 [(0, va_rf (some t0)), (1, va_rf p1), (2, .int p2), (3, .int p3), (4, .int p4)]) (h : gh_run (f_X5_init_2 t0 p1 p2 p3 p4) g = some o) (hk : (gh_K0 x gh_rV) o) : gh_Wd x g (F0 (gh_cm x) 0 ls []) := by
  unfold f_X5_init_2 at h
  refine gr_aload_n (pc := 0) (i := 0) C rfl (gl_at hl 0 rfl) dX5_init_2_0 ?_
  refine gr_oinit (pc := 1) C q1115 q130 q131 hl.1.1 (Nat.le_of_ble_eq_true rfl) (Nat.le_of_ble_eq_true rfl) (Nat.le_of_ble_eq_true rfl) dX5_init_2_1 ?_
  refine gr_aload_n (pc := 4) (i := 0) C rfl (gl_at hl 0 rfl) dX5_init_2_4 ?_
  refine gr_aload_n (pc := 5) (i := 1) C rfl (gl_at hl 1 rfl) dX5_init_2_5 ?_
  refine gr_putF (pc := 6) C gh_bX5 (k := 0) (Nat.le_of_ble_eq_true rfl) q1116 (fun _ h => h) rfl rfl dX5_init_2_6 h fun g h => ?_
  refine gr_aload_n (pc := 9) (i := 0) C rfl (gl_at hl 0 rfl) dX5_init_2_9 ?_
  refine gr_iload_n (pc := 10) (i := 2) C rfl (gl_at hl 2 rfl) dX5_init_2_10 ?_
  refine gr_putF (pc := 11) C gh_bX5 (k := 1) (Nat.le_of_ble_eq_true rfl) q1117 (fun _ h => h) rfl rfl dX5_init_2_11 h fun g h => ?_
  refine gr_aload_n (pc := 14) (i := 0) C rfl (gl_at hl 0 rfl) dX5_init_2_14 ?_
  refine gr_iload_n (pc := 15) (i := 3) C rfl (gl_at hl 3 rfl) dX5_init_2_15 ?_
  refine gr_putF (pc := 16) C gh_bX5 (k := 2) (Nat.le_of_ble_eq_true rfl) q1118 (fun _ h => h) rfl rfl dX5_init_2_16 h fun g h => ?_
  refine gr_aload_n (pc := 19) (i := 0) C rfl (gl_at hl 0 rfl) dX5_init_2_19 ?_
  refine gr_iload (pc := 20) (i := 4) C (gl_at hl 4 rfl) dX5_init_2_20 ?_
  refine gr_putF (pc := 22) C gh_bX5 (k := 3) (Nat.le_of_ble_eq_true rfl) q1119 (fun _ h => h) rfl rfl dX5_init_2_22 h fun g h => ?_
  exact gr_vret (pc := 25) C dX5_init_2_25 h hk

theorem k_X5_init_2 {l : Launch} (hst : l.stackTraces = false) (t0 : Nat) (p1 : Option Nat) (p2 : Int32) (p3 : Int32) (p4 : Int32) : gh_Ct l yX5_init_2 1 36 (f_X5_init_2 t0 p1 p2 p3 p4) gh_rV [va_rf (some t0), va_rf p1, .int p2, .int p3, .int p4] := gh_intro2 (L1 := 20) hst (by decide +kernel) q1114 q87 rfl ⟨gh_cat _, gh_cat _, rfl, rfl, rfl, trivial⟩ (Nat.le_of_ble_eq_true rfl) fun x o ls hl C h hk => w_X5_init_2 C t0 p1 p2 p3 p4 hl h hk
-- GargoyleTower$Deed.carryOut(LGargoyleTower$World;)I
noncomputable def f_X5_carryOut_417 (s0 : Option Nat) (s1 : Int32) (s2 : Int32) : gh_M Int32 :=
  gh_nn s0 fun a1 =>
  gh_bd (gh_is a1 1) fun _ =>
  gh_bd (f_X2_cutBlock a1 s1 s2) fun v2 =>
  gh_ret v2
theorem w_X5_carryOut_417 {x : gh_C} {g : gh_G} {o : (Int32 ⊕ gh_X) × gh_G} {ls : Array Slot} (C : gh_K x cX5_carryOut "GargoyleTower$Deed" 4 (some .int) "carryOut" 52 1117 []) (s0 : Option Nat) (s1 : Int32) (s2 : Int32) (hl : gh_lv ls 4 []) (h : gh_run (f_X5_carryOut_417 s0 s1 s2) g = some o) (hk : (gh_K0 x gh_rI) o) : gh_Wd x g (F0 (gh_cm x) 417 ls [.int s2, .int s1, va_rf s0]) := by
  unfold f_X5_carryOut_417 at h
  rcases s0 with _ | a1
  · exact gh_stk_inv h
  replace h := gh_nn_ss h
  obtain ⟨⟨fs9, hg9⟩, h⟩ := gh_is_inv h
  refine gh_callI (pc := 417) (rest := []) C (k_X2_cutBlock C.tr a1 s1 s2) (Nat.le_of_ble_eq_true rfl) (Nat.le_of_ble_eq_true rfl) (gh_r4 (Nat.le_of_ble_eq_true rfl)) (fun H9 L9 hp9 => gi_V C hp9 hg9 gh_cX2 q1377 q1378 q1379 q1380 mh_X2 np62 rfl hl.1.1 dX5_carryOut_417 rfl) h (gh_K0_b _ hk) (fun v2 g h => ?_) (fun e g h => ?_)
  rotate_left
  ·
    exact gh_out C (fun _ h => nomatch h) h hk
  exact gr_iret (pc := 420) C dX5_carryOut_420 h hk

noncomputable def f_X5_carryOut_264 (t0 : Nat) (p1 : Option Nat) (p3 : Int32) : gh_M Int32 :=
  if p3 = (0 : Int32) then
  (gh_bd (gh_geti t0 4 1) fun v1 =>
  gh_bd (gh_geti t0 4 2) fun v2 =>
  gh_nn p1 fun a3 =>
  gh_bd (gh_is a3 1) fun _ =>
  gh_bd (f_X2_carve a3 v1 v2) fun v4 =>
  gh_ret v4)
  else if p3 = (1 : Int32) then
  (gh_nn p1 fun a5 =>
  gh_bd (gh_is a5 1) fun _ =>
  gh_bd (f_X2_whet a5) fun v6 =>
  gh_ret v6)
  else if p3 = (2 : Int32) then
  (gh_bd (gh_geti t0 4 1) fun v7 =>
  gh_bd (gh_geti t0 4 2) fun v8 =>
  gh_nn p1 fun a9 =>
  gh_bd (gh_is a9 1) fun _ =>
  gh_bd (f_X2_hoist a9 v7 v8) fun v10 =>
  gh_ret v10)
  else if p3 = (3 : Int32) then
  (gh_bd (gh_geti t0 4 1) fun v11 =>
  gh_nn p1 fun a12 =>
  gh_bd (gh_is a12 1) fun _ =>
  gh_bd (f_X2_lower a12 v11) fun v13 =>
  gh_ret v13)
  else if p3 = (4 : Int32) then
  (gh_bd (gh_geti t0 4 1) fun v14 =>
  gh_bd (gh_geti t0 4 2) fun v15 =>
  gh_nn p1 fun a16 =>
  gh_bd (gh_is a16 1) fun _ =>
  gh_bd (f_X2_set a16 v14 v15) fun v17 =>
  gh_ret v17)
  else if p3 = (5 : Int32) then
  (gh_bd (gh_geti t0 4 1) fun v18 =>
  gh_bd (gh_geti t0 4 2) fun v19 =>
  gh_nn p1 fun a20 =>
  gh_bd (gh_is a20 1) fun _ =>
  gh_bd (f_X2_deliver a20 v18 v19) fun v21 =>
  gh_ret v21)
  else if p3 = (6 : Int32) then
  (gh_bd (gh_geti t0 4 1) fun v22 =>
  gh_nn p1 fun a23 =>
  gh_bd (gh_is a23 1) fun _ =>
  gh_bd (f_X2_pass a23 v22) fun v24 =>
  gh_ret v24)
  else if p3 = (7 : Int32) then
  (gh_bd (gh_geti t0 4 1) fun v25 =>
  gh_bd (gh_geti t0 4 2) fun v26 =>
  if v26 = (1 : Int32) then
  (f_X5_carryOut_417 p1 v25 (1 : Int32))
  else
  (f_X5_carryOut_417 p1 v25 (0 : Int32)))
  else if p3 = (8 : Int32) then
  (gh_bd (gh_geti t0 4 1) fun v27 =>
  gh_nn p1 fun a28 =>
  gh_bd (gh_is a28 1) fun _ =>
  gh_bd (f_X2_buyRope a28 v27) fun v29 =>
  gh_ret v29)
  else if p3 = (9 : Int32) then
  (gh_bd (gh_geti t0 4 1) fun v30 =>
  gh_nn p1 fun a31 =>
  gh_bd (gh_is a31 1) fun _ =>
  gh_bd (f_X2_push a31 v30) fun v32 =>
  gh_ret v32)
  else if p3 = (10 : Int32) then
  (gh_bd (gh_geti t0 4 1) fun v33 =>
  gh_bd (gh_geti t0 4 2) fun v34 =>
  gh_bd (gh_geti t0 4 3) fun v35 =>
  gh_nn p1 fun a36 =>
  gh_bd (gh_is a36 1) fun _ =>
  gh_bd (f_X2_takeCommission a36 v33 v34 v35) fun v37 =>
  gh_ret v37)
  else (gh_bd (gh_geti t0 4 1) fun v38 =>
  gh_nn p1 fun a39 =>
  gh_bd (gh_is a39 1) fun _ =>
  gh_bd (f_X2_setSeed a39 v38) fun v40 =>
  gh_ret v40)
theorem w_X5_carryOut_264 {x : gh_C} {g : gh_G} {o : (Int32 ⊕ gh_X) × gh_G} {ls : Array Slot} (C : gh_K x cX5_carryOut "GargoyleTower$Deed" 4 (some .int) "carryOut" 52 1117 []) (t0 : Nat) (p1 : Option Nat) (p3 : Int32) (hl : gh_lv ls 4 [(0, va_rf (some t0)), (1, va_rf p1), (3, .int p3)]) (h : gh_run (f_X5_carryOut_264 t0 p1 p3) g = some o) (hk : (gh_K0 x gh_rI) o) : gh_Wd x g (F0 (gh_cm x) 264 ls []) := by
  unfold f_X5_carryOut_264 at h
  refine gr_iload_n (pc := 264) (i := 3) C rfl (gl_at hl 2 rfl) dX5_carryOut_264 ?_
  by_cases k0 : p3 = (0 : Int32)
  · replace h := gh_ift h k0
    refine gr_table (pc := 265) (v := (0 : Int32)) (off := 59) (tgt := 324) C k0 (by decide) (by decide) (by decide) rfl dX5_carryOut_265 ?_
    refine gr_aload_n (pc := 324) (i := 1) C rfl (gl_at hl 1 rfl) dX5_carryOut_324 ?_
    refine gr_aload_n (pc := 325) (i := 0) C rfl (gl_at hl 0 rfl) dX5_carryOut_325 ?_
    refine gr_geti (pc := 326) C gh_bX5 (k := 1) (Nat.le_of_ble_eq_true rfl) q1117 (fun _ h => h) dX5_carryOut_326 h fun v1 h => ?_
    refine gr_aload_n (pc := 329) (i := 0) C rfl (gl_at hl 0 rfl) dX5_carryOut_329 ?_
    refine gr_geti (pc := 330) C gh_bX5 (k := 2) (Nat.le_of_ble_eq_true rfl) q1118 (fun _ h => h) dX5_carryOut_330 h fun v2 h => ?_
    rcases p1 with _ | a3
    · exact gh_stk_inv h
    replace h := gh_nn_ss h
    obtain ⟨⟨fs9, hg9⟩, h⟩ := gh_is_inv h
    refine gh_callI (pc := 333) (rest := []) C (k_X2_carve C.tr a3 v1 v2) (Nat.le_of_ble_eq_true rfl) (Nat.le_of_ble_eq_true rfl) (gh_r4 (Nat.le_of_ble_eq_true rfl)) (fun H9 L9 hp9 => gi_V C hp9 hg9 gh_cX2 q1218 q1219 q1220 q1221 mh_X2 np1 rfl hl.1.1 dX5_carryOut_333 rfl) h (gh_K0_b _ hk) (fun v4 g h => ?_) (fun e g h => ?_)
    rotate_left
    ·
      exact gh_out C (fun _ h => nomatch h) h hk
    exact gr_iret (pc := 336) C dX5_carryOut_336 h hk
  replace h := gh_iff h k0
  by_cases k1 : p3 = (1 : Int32)
  · replace h := gh_ift h k1
    refine gr_table (pc := 265) (v := (1 : Int32)) (off := 72) (tgt := 337) C k1 (by decide) (by decide) (by decide) rfl dX5_carryOut_265 ?_
    refine gr_aload_n (pc := 337) (i := 1) C rfl (gl_at hl 1 rfl) dX5_carryOut_337 ?_
    rcases p1 with _ | a5
    · exact gh_stk_inv h
    replace h := gh_nn_ss h
    obtain ⟨⟨fs9, hg9⟩, h⟩ := gh_is_inv h
    refine gh_callI (pc := 338) (rest := []) C (k_X2_whet C.tr a5) (Nat.le_of_ble_eq_true rfl) (Nat.le_of_ble_eq_true rfl) (gh_r4 (Nat.le_of_ble_eq_true rfl)) (fun H9 L9 hp9 => gi_V C hp9 hg9 gh_cX2 q1285 q1286 q1287 q1288 mh_X2 np0 rfl hl.1.1 dX5_carryOut_338 rfl) h (gh_K0_b _ hk) (fun v6 g h => ?_) (fun e g h => ?_)
    rotate_left
    ·
      exact gh_out C (fun _ h => nomatch h) h hk
    exact gr_iret (pc := 341) C dX5_carryOut_341 h hk
  replace h := gh_iff h k1
  by_cases k2 : p3 = (2 : Int32)
  · replace h := gh_ift h k2
    refine gr_table (pc := 265) (v := (2 : Int32)) (off := 77) (tgt := 342) C k2 (by decide) (by decide) (by decide) rfl dX5_carryOut_265 ?_
    refine gr_aload_n (pc := 342) (i := 1) C rfl (gl_at hl 1 rfl) dX5_carryOut_342 ?_
    refine gr_aload_n (pc := 343) (i := 0) C rfl (gl_at hl 0 rfl) dX5_carryOut_343 ?_
    refine gr_geti (pc := 344) C gh_bX5 (k := 1) (Nat.le_of_ble_eq_true rfl) q1117 (fun _ h => h) dX5_carryOut_344 h fun v7 h => ?_
    refine gr_aload_n (pc := 347) (i := 0) C rfl (gl_at hl 0 rfl) dX5_carryOut_347 ?_
    refine gr_geti (pc := 348) C gh_bX5 (k := 2) (Nat.le_of_ble_eq_true rfl) q1118 (fun _ h => h) dX5_carryOut_348 h fun v8 h => ?_
    rcases p1 with _ | a9
    · exact gh_stk_inv h
    replace h := gh_nn_ss h
    obtain ⟨⟨fs9, hg9⟩, h⟩ := gh_is_inv h
    refine gh_callI (pc := 351) (rest := []) C (k_X2_hoist C.tr a9 v7 v8) (Nat.le_of_ble_eq_true rfl) (Nat.le_of_ble_eq_true rfl) (gh_r4 (Nat.le_of_ble_eq_true rfl)) (fun H9 L9 hp9 => gi_V C hp9 hg9 gh_cX2 q1293 q1294 q1295 q1296 mh_X2 np1 rfl hl.1.1 dX5_carryOut_351 rfl) h (gh_K0_b _ hk) (fun v10 g h => ?_) (fun e g h => ?_)
    rotate_left
    ·
      exact gh_out C (fun _ h => nomatch h) h hk
    exact gr_iret (pc := 354) C dX5_carryOut_354 h hk
  replace h := gh_iff h k2
  by_cases k3 : p3 = (3 : Int32)
  · replace h := gh_ift h k3
    refine gr_table (pc := 265) (v := (3 : Int32)) (off := 90) (tgt := 355) C k3 (by decide) (by decide) (by decide) rfl dX5_carryOut_265 ?_
    refine gr_aload_n (pc := 355) (i := 1) C rfl (gl_at hl 1 rfl) dX5_carryOut_355 ?_
    refine gr_aload_n (pc := 356) (i := 0) C rfl (gl_at hl 0 rfl) dX5_carryOut_356 ?_
    refine gr_geti (pc := 357) C gh_bX5 (k := 1) (Nat.le_of_ble_eq_true rfl) q1117 (fun _ h => h) dX5_carryOut_357 h fun v11 h => ?_
    rcases p1 with _ | a12
    · exact gh_stk_inv h
    replace h := gh_nn_ss h
    obtain ⟨⟨fs9, hg9⟩, h⟩ := gh_is_inv h
    refine gh_callI (pc := 360) (rest := []) C (k_X2_lower C.tr a12 v11) (Nat.le_of_ble_eq_true rfl) (Nat.le_of_ble_eq_true rfl) (gh_r4 (Nat.le_of_ble_eq_true rfl)) (fun H9 L9 hp9 => gi_V C hp9 hg9 gh_cX2 q1305 q1306 q1307 q1308 mh_X2 np6 rfl hl.1.1 dX5_carryOut_360 rfl) h (gh_K0_b _ hk) (fun v13 g h => ?_) (fun e g h => ?_)
    rotate_left
    ·
      exact gh_out C (fun _ h => nomatch h) h hk
    exact gr_iret (pc := 363) C dX5_carryOut_363 h hk
  replace h := gh_iff h k3
  by_cases k4 : p3 = (4 : Int32)
  · replace h := gh_ift h k4
    refine gr_table (pc := 265) (v := (4 : Int32)) (off := 99) (tgt := 364) C k4 (by decide) (by decide) (by decide) rfl dX5_carryOut_265 ?_
    refine gr_aload_n (pc := 364) (i := 1) C rfl (gl_at hl 1 rfl) dX5_carryOut_364 ?_
    refine gr_aload_n (pc := 365) (i := 0) C rfl (gl_at hl 0 rfl) dX5_carryOut_365 ?_
    refine gr_geti (pc := 366) C gh_bX5 (k := 1) (Nat.le_of_ble_eq_true rfl) q1117 (fun _ h => h) dX5_carryOut_366 h fun v14 h => ?_
    refine gr_aload_n (pc := 369) (i := 0) C rfl (gl_at hl 0 rfl) dX5_carryOut_369 ?_
    refine gr_geti (pc := 370) C gh_bX5 (k := 2) (Nat.le_of_ble_eq_true rfl) q1118 (fun _ h => h) dX5_carryOut_370 h fun v15 h => ?_
    rcases p1 with _ | a16
    · exact gh_stk_inv h
    replace h := gh_nn_ss h
    obtain ⟨⟨fs9, hg9⟩, h⟩ := gh_is_inv h
    refine gh_callI (pc := 373) (rest := []) C (k_X2_set C.tr a16 v14 v15) (Nat.le_of_ble_eq_true rfl) (Nat.le_of_ble_eq_true rfl) (gh_r4 (Nat.le_of_ble_eq_true rfl)) (fun H9 L9 hp9 => gi_V C hp9 hg9 gh_cX2 q1313 q1314 q1315 q1316 mh_X2 np1 rfl hl.1.1 dX5_carryOut_373 rfl) h (gh_K0_b _ hk) (fun v17 g h => ?_) (fun e g h => ?_)
    rotate_left
    ·
      exact gh_out C (fun _ h => nomatch h) h hk
    exact gr_iret (pc := 376) C dX5_carryOut_376 h hk
  replace h := gh_iff h k4
  by_cases k5 : p3 = (5 : Int32)
  · replace h := gh_ift h k5
    refine gr_table (pc := 265) (v := (5 : Int32)) (off := 112) (tgt := 377) C k5 (by decide) (by decide) (by decide) rfl dX5_carryOut_265 ?_
    refine gr_aload_n (pc := 377) (i := 1) C rfl (gl_at hl 1 rfl) dX5_carryOut_377 ?_
    refine gr_aload_n (pc := 378) (i := 0) C rfl (gl_at hl 0 rfl) dX5_carryOut_378 ?_
    refine gr_geti (pc := 379) C gh_bX5 (k := 1) (Nat.le_of_ble_eq_true rfl) q1117 (fun _ h => h) dX5_carryOut_379 h fun v18 h => ?_
    refine gr_aload_n (pc := 382) (i := 0) C rfl (gl_at hl 0 rfl) dX5_carryOut_382 ?_
    refine gr_geti (pc := 383) C gh_bX5 (k := 2) (Nat.le_of_ble_eq_true rfl) q1118 (fun _ h => h) dX5_carryOut_383 h fun v19 h => ?_
    rcases p1 with _ | a20
    · exact gh_stk_inv h
    replace h := gh_nn_ss h
    obtain ⟨⟨fs9, hg9⟩, h⟩ := gh_is_inv h
    refine gh_callI (pc := 386) (rest := []) C (k_X2_deliver C.tr a20 v18 v19) (Nat.le_of_ble_eq_true rfl) (Nat.le_of_ble_eq_true rfl) (gh_r4 (Nat.le_of_ble_eq_true rfl)) (fun H9 L9 hp9 => gi_V C hp9 hg9 gh_cX2 q1322 q1323 q1324 q1325 mh_X2 np1 rfl hl.1.1 dX5_carryOut_386 rfl) h (gh_K0_b _ hk) (fun v21 g h => ?_) (fun e g h => ?_)
    rotate_left
    ·
      exact gh_out C (fun _ h => nomatch h) h hk
    exact gr_iret (pc := 389) C dX5_carryOut_389 h hk
  replace h := gh_iff h k5
  by_cases k6 : p3 = (6 : Int32)
  · replace h := gh_ift h k6
    refine gr_table (pc := 265) (v := (6 : Int32)) (off := 125) (tgt := 390) C k6 (by decide) (by decide) (by decide) rfl dX5_carryOut_265 ?_
    refine gr_aload_n (pc := 390) (i := 1) C rfl (gl_at hl 1 rfl) dX5_carryOut_390 ?_
    refine gr_aload_n (pc := 391) (i := 0) C rfl (gl_at hl 0 rfl) dX5_carryOut_391 ?_
    refine gr_geti (pc := 392) C gh_bX5 (k := 1) (Nat.le_of_ble_eq_true rfl) q1117 (fun _ h => h) dX5_carryOut_392 h fun v22 h => ?_
    rcases p1 with _ | a23
    · exact gh_stk_inv h
    replace h := gh_nn_ss h
    obtain ⟨⟨fs9, hg9⟩, h⟩ := gh_is_inv h
    refine gh_callI (pc := 395) (rest := []) C (k_X2_pass C.tr a23 v22) (Nat.le_of_ble_eq_true rfl) (Nat.le_of_ble_eq_true rfl) (gh_r4 (Nat.le_of_ble_eq_true rfl)) (fun H9 L9 hp9 => gi_V C hp9 hg9 gh_cX2 q1341 q1342 q1343 q1344 mh_X2 np6 rfl hl.1.1 dX5_carryOut_395 rfl) h (gh_K0_b _ hk) (fun v24 g h => ?_) (fun e g h => ?_)
    rotate_left
    ·
      exact gh_out C (fun _ h => nomatch h) h hk
    exact gr_iret (pc := 398) C dX5_carryOut_398 h hk
  replace h := gh_iff h k6
  by_cases k7 : p3 = (7 : Int32)
  · replace h := gh_ift h k7
    refine gr_table (pc := 265) (v := (7 : Int32)) (off := 134) (tgt := 399) C k7 (by decide) (by decide) (by decide) rfl dX5_carryOut_265 ?_
    refine gr_aload_n (pc := 399) (i := 1) C rfl (gl_at hl 1 rfl) dX5_carryOut_399 ?_
    refine gr_aload_n (pc := 400) (i := 0) C rfl (gl_at hl 0 rfl) dX5_carryOut_400 ?_
    refine gr_geti (pc := 401) C gh_bX5 (k := 1) (Nat.le_of_ble_eq_true rfl) q1117 (fun _ h => h) dX5_carryOut_401 h fun v25 h => ?_
    refine gr_aload_n (pc := 404) (i := 0) C rfl (gl_at hl 0 rfl) dX5_carryOut_404 ?_
    refine gr_geti (pc := 405) C gh_bX5 (k := 2) (Nat.le_of_ble_eq_true rfl) q1118 (fun _ h => h) dX5_carryOut_405 h fun v26 h => ?_
    refine gr_iconst (pc := 408) (v := (1 : Int32)) C rfl dX5_carryOut_408 ?_
    refine gr_icmp_ne (pc := 409) (tgt := 416) C rfl dX5_carryOut_409 (fun c9 => ?_) (fun c9 => ?_)
    · replace h := gh_iff h c9
      refine gr_iconst (pc := 416) (v := (0 : Int32)) C rfl dX5_carryOut_416 ?_
      exact w_X5_carryOut_417 C p1 v25 (0 : Int32) (gl_sub hl [] rfl) h hk
    · replace h := gh_ift h c9
      refine gr_iconst (pc := 412) (v := (1 : Int32)) C rfl dX5_carryOut_412 ?_
      refine gr_goto (pc := 413) (tgt := 417) C rfl dX5_carryOut_413 ?_
      exact w_X5_carryOut_417 C p1 v25 (1 : Int32) (gl_sub hl [] rfl) h hk
  replace h := gh_iff h k7
  by_cases k8 : p3 = (8 : Int32)
  · replace h := gh_ift h k8
    refine gr_table (pc := 265) (v := (8 : Int32)) (off := 156) (tgt := 421) C k8 (by decide) (by decide) (by decide) rfl dX5_carryOut_265 ?_
    refine gr_aload_n (pc := 421) (i := 1) C rfl (gl_at hl 1 rfl) dX5_carryOut_421 ?_
    refine gr_aload_n (pc := 422) (i := 0) C rfl (gl_at hl 0 rfl) dX5_carryOut_422 ?_
    refine gr_geti (pc := 423) C gh_bX5 (k := 1) (Nat.le_of_ble_eq_true rfl) q1117 (fun _ h => h) dX5_carryOut_423 h fun v27 h => ?_
    rcases p1 with _ | a28
    · exact gh_stk_inv h
    replace h := gh_nn_ss h
    obtain ⟨⟨fs9, hg9⟩, h⟩ := gh_is_inv h
    refine gh_callI (pc := 426) (rest := []) C (k_X2_buyRope C.tr a28 v27) (Nat.le_of_ble_eq_true rfl) (Nat.le_of_ble_eq_true rfl) (gh_r4 (Nat.le_of_ble_eq_true rfl)) (fun H9 L9 hp9 => gi_V C hp9 hg9 gh_cX2 q1382 q1383 q1384 q1385 mh_X2 np6 rfl hl.1.1 dX5_carryOut_426 rfl) h (gh_K0_b _ hk) (fun v29 g h => ?_) (fun e g h => ?_)
    rotate_left
    ·
      exact gh_out C (fun _ h => nomatch h) h hk
    exact gr_iret (pc := 429) C dX5_carryOut_429 h hk
  replace h := gh_iff h k8
  by_cases k9 : p3 = (9 : Int32)
  · replace h := gh_ift h k9
    refine gr_table (pc := 265) (v := (9 : Int32)) (off := 165) (tgt := 430) C k9 (by decide) (by decide) (by decide) rfl dX5_carryOut_265 ?_
    refine gr_aload_n (pc := 430) (i := 1) C rfl (gl_at hl 1 rfl) dX5_carryOut_430 ?_
    refine gr_aload_n (pc := 431) (i := 0) C rfl (gl_at hl 0 rfl) dX5_carryOut_431 ?_
    refine gr_geti (pc := 432) C gh_bX5 (k := 1) (Nat.le_of_ble_eq_true rfl) q1117 (fun _ h => h) dX5_carryOut_432 h fun v30 h => ?_
    rcases p1 with _ | a31
    · exact gh_stk_inv h
    replace h := gh_nn_ss h
    obtain ⟨⟨fs9, hg9⟩, h⟩ := gh_is_inv h
    refine gh_callI (pc := 435) (rest := []) C (k_X2_push C.tr a31 v30) (Nat.le_of_ble_eq_true rfl) (Nat.le_of_ble_eq_true rfl) (gh_r4 (Nat.le_of_ble_eq_true rfl)) (fun H9 L9 hp9 => gi_V C hp9 hg9 gh_cX2 q1388 q1389 q1390 q1391 mh_X2 np6 rfl hl.1.1 dX5_carryOut_435 rfl) h (gh_K0_b _ hk) (fun v32 g h => ?_) (fun e g h => ?_)
    rotate_left
    ·
      exact gh_out C (fun _ h => nomatch h) h hk
    exact gr_iret (pc := 438) C dX5_carryOut_438 h hk
  replace h := gh_iff h k9
  by_cases k10 : p3 = (10 : Int32)
  · replace h := gh_ift h k10
    refine gr_table (pc := 265) (v := (10 : Int32)) (off := 174) (tgt := 439) C k10 (by decide) (by decide) (by decide) rfl dX5_carryOut_265 ?_
    refine gr_aload_n (pc := 439) (i := 1) C rfl (gl_at hl 1 rfl) dX5_carryOut_439 ?_
    refine gr_aload_n (pc := 440) (i := 0) C rfl (gl_at hl 0 rfl) dX5_carryOut_440 ?_
    refine gr_geti (pc := 441) C gh_bX5 (k := 1) (Nat.le_of_ble_eq_true rfl) q1117 (fun _ h => h) dX5_carryOut_441 h fun v33 h => ?_
    refine gr_aload_n (pc := 444) (i := 0) C rfl (gl_at hl 0 rfl) dX5_carryOut_444 ?_
    refine gr_geti (pc := 445) C gh_bX5 (k := 2) (Nat.le_of_ble_eq_true rfl) q1118 (fun _ h => h) dX5_carryOut_445 h fun v34 h => ?_
    refine gr_aload_n (pc := 448) (i := 0) C rfl (gl_at hl 0 rfl) dX5_carryOut_448 ?_
    refine gr_geti (pc := 449) C gh_bX5 (k := 3) (Nat.le_of_ble_eq_true rfl) q1119 (fun _ h => h) dX5_carryOut_449 h fun v35 h => ?_
    rcases p1 with _ | a36
    · exact gh_stk_inv h
    replace h := gh_nn_ss h
    obtain ⟨⟨fs9, hg9⟩, h⟩ := gh_is_inv h
    refine gh_callI (pc := 452) (rest := []) C (k_X2_takeCommission C.tr a36 v33 v34 v35) (Nat.le_of_ble_eq_true rfl) (Nat.le_of_ble_eq_true rfl) (gh_r4 (Nat.le_of_ble_eq_true rfl)) (fun H9 L9 hp9 => gi_V C hp9 hg9 gh_cX2 q1392 q1393 q1394 q1395 mh_X2 np11 rfl hl.1.1 dX5_carryOut_452 rfl) h (gh_K0_b _ hk) (fun v37 g h => ?_) (fun e g h => ?_)
    rotate_left
    ·
      exact gh_out C (fun _ h => nomatch h) h hk
    exact gr_iret (pc := 455) C dX5_carryOut_455 h hk
  replace h := gh_iff h k10
  refine gr_tableD (pc := 265) (tgt := 456) C (gh_tout10 k0 k1 k2 k3 k4 k5 k6 k7 k8 k9 k10) rfl dX5_carryOut_265 ?_
  refine gr_aload_n (pc := 456) (i := 1) C rfl (gl_at hl 1 rfl) dX5_carryOut_456 ?_
  refine gr_aload_n (pc := 457) (i := 0) C rfl (gl_at hl 0 rfl) dX5_carryOut_457 ?_
  refine gr_geti (pc := 458) C gh_bX5 (k := 1) (Nat.le_of_ble_eq_true rfl) q1117 (fun _ h => h) dX5_carryOut_458 h fun v38 h => ?_
  rcases p1 with _ | a39
  · exact gh_stk_inv h
  replace h := gh_nn_ss h
  obtain ⟨⟨fs9, hg9⟩, h⟩ := gh_is_inv h
  refine gh_callI (pc := 461) (rest := []) C (k_X2_setSeed C.tr a39 v38) (Nat.le_of_ble_eq_true rfl) (Nat.le_of_ble_eq_true rfl) (gh_r4 (Nat.le_of_ble_eq_true rfl)) (fun H9 L9 hp9 => gi_V C hp9 hg9 gh_cX2 q1397 q1398 q1399 q1400 mh_X2 np6 rfl hl.1.1 dX5_carryOut_461 rfl) h (gh_K0_b _ hk) (fun v40 g h => ?_) (fun e g h => ?_)
  rotate_left
  ·
    exact gh_out C (fun _ h => nomatch h) h hk
  exact gr_iret (pc := 464) C dX5_carryOut_464 h hk

noncomputable def f_X5_carryOut (t0 : Nat) (p1 : Option Nat) : gh_M Int32 :=
  gh_bd (gh_getr t0 4 0) fun v1 =>
  gh_nn v1 fun a2 =>
  gh_bd (gh_is a2 14) fun _ =>
  gh_bd (f_J6_hashCode a2) fun v3 =>
  if v3 = (-1367587075 : Int32) then
  (gh_bd (gh_cst 1) fun v4 =>
  gh_bd (gh_is a2 14) fun _ =>
  gh_bd (f_J6_equals a2 v4) fun v5 =>
  if v5 = 0 then
  (f_X5_carryOut_264 t0 p1 (-1 : Int32))
  else
  (f_X5_carryOut_264 t0 p1 (0 : Int32)))
  else if v3 = (-1211782563 : Int32) then
  (gh_bd (gh_cst 4) fun v6 =>
  gh_bd (gh_is a2 14) fun _ =>
  gh_bd (f_J6_equals a2 v6) fun v7 =>
  if v7 = 0 then
  (f_X5_carryOut_264 t0 p1 (-1 : Int32))
  else
  (f_X5_carryOut_264 t0 p1 (2 : Int32)))
  else if v3 = (-1096862401 : Int32) then
  (gh_bd (gh_cst 5) fun v8 =>
  gh_bd (gh_is a2 14) fun _ =>
  gh_bd (f_J6_equals a2 v8) fun v9 =>
  if v9 = 0 then
  (f_X5_carryOut_264 t0 p1 (-1 : Int32))
  else
  (f_X5_carryOut_264 t0 p1 (3 : Int32)))
  else if v3 = (3452698 : Int32) then
  (gh_bd (gh_cst 7) fun v10 =>
  gh_bd (gh_is a2 14) fun _ =>
  gh_bd (f_J6_equals a2 v10) fun v11 =>
  if v11 = 0 then
  (f_X5_carryOut_264 t0 p1 (-1 : Int32))
  else
  (f_X5_carryOut_264 t0 p1 (9 : Int32)))
  else if v3 = (3506418 : Int32) then
  (gh_bd (gh_cst 3) fun v12 =>
  gh_bd (gh_is a2 14) fun _ =>
  gh_bd (f_J6_equals a2 v12) fun v13 =>
  if v13 = 0 then
  (f_X5_carryOut_264 t0 p1 (-1 : Int32))
  else
  (f_X5_carryOut_264 t0 p1 (8 : Int32)))
  else if v3 = (3526654 : Int32) then
  (gh_bd (gh_cst 6) fun v14 =>
  gh_bd (gh_is a2 14) fun _ =>
  gh_bd (f_J6_equals a2 v14) fun v15 =>
  if v15 = 0 then
  (f_X5_carryOut_264 t0 p1 (-1 : Int32))
  else
  (f_X5_carryOut_264 t0 p1 (4 : Int32)))
  else if v3 = (3648320 : Int32) then
  (gh_bd (gh_cst 2) fun v16 =>
  gh_bd (gh_is a2 14) fun _ =>
  gh_bd (f_J6_equals a2 v16) fun v17 =>
  if v17 = 0 then
  (f_X5_carryOut_264 t0 p1 (-1 : Int32))
  else
  (f_X5_carryOut_264 t0 p1 (1 : Int32)))
  else if v3 = (93832333 : Int32) then
  (gh_bd (gh_cst 0) fun v18 =>
  gh_bd (gh_is a2 14) fun _ =>
  gh_bd (f_J6_equals a2 v18) fun v19 =>
  if v19 = 0 then
  (f_X5_carryOut_264 t0 p1 (-1 : Int32))
  else
  (f_X5_carryOut_264 t0 p1 (7 : Int32)))
  else if v3 = (112893259 : Int32) then
  (gh_bd (gh_cst 11) fun v20 =>
  gh_bd (gh_is a2 14) fun _ =>
  gh_bd (f_J6_equals a2 v20) fun v21 =>
  if v21 = 0 then
  (f_X5_carryOut_264 t0 p1 (-1 : Int32))
  else
  (f_X5_carryOut_264 t0 p1 (6 : Int32)))
  else if v3 = (823466907 : Int32) then
  (gh_bd (gh_cst 9) fun v22 =>
  gh_bd (gh_is a2 14) fun _ =>
  gh_bd (f_J6_equals a2 v22) fun v23 =>
  if v23 = 0 then
  (f_X5_carryOut_264 t0 p1 (-1 : Int32))
  else
  (f_X5_carryOut_264 t0 p1 (5 : Int32)))
  else if v3 = (1018264811 : Int32) then
  (gh_bd (gh_cst 8) fun v24 =>
  gh_bd (gh_is a2 14) fun _ =>
  gh_bd (f_J6_equals a2 v24) fun v25 =>
  if v25 = 0 then
  (f_X5_carryOut_264 t0 p1 (-1 : Int32))
  else
  (f_X5_carryOut_264 t0 p1 (10 : Int32)))
  else (f_X5_carryOut_264 t0 p1 (-1 : Int32))
theorem w_X5_carryOut {x : gh_C} {g : gh_G} {o : (Int32 ⊕ gh_X) × gh_G} {ls : Array Slot} (C : gh_K x cX5_carryOut "GargoyleTower$Deed" 4 (some .int) "carryOut" 52 1117 []) (t0 : Nat) (p1 : Option Nat) (hl : gh_lv ls 4 [(0, va_rf (some t0)), (1, va_rf p1)]) (h : gh_run (f_X5_carryOut t0 p1) g = some o) (hk : (gh_K0 x gh_rI) o) : gh_Wd x g (F0 (gh_cm x) 0 ls []) := by
  unfold f_X5_carryOut at h
  refine gr_aload_n (pc := 0) (i := 0) C rfl (gl_at hl 0 rfl) dX5_carryOut_0 ?_
  refine gr_getr (pc := 1) C gh_bX5 (k := 0) (Nat.le_of_ble_eq_true rfl) q1116 (fun _ h => h) dX5_carryOut_1 h fun v1 h => ?_
  refine gr_astore_n (pc := 4) (i := 2) (l' := [(2, va_rf v1), (0, va_rf (some t0)), (1, va_rf p1)]) C rfl hl (Nat.le_of_ble_eq_true rfl) rfl dX5_carryOut_4 fun ls hl => ?_
  refine gr_iconst (pc := 5) (v := (-1 : Int32)) C rfl dX5_carryOut_5 ?_
  refine gr_istore_n (pc := 6) (i := 3) (l' := [(3, .int (-1 : Int32)), (2, va_rf v1), (0, va_rf (some t0)), (1, va_rf p1)]) C rfl hl (Nat.le_of_ble_eq_true rfl) rfl dX5_carryOut_6 fun ls hl => ?_
  refine gr_aload_n (pc := 7) (i := 2) C rfl (gl_at hl 1 rfl) dX5_carryOut_7 ?_
  rcases v1 with _ | a2
  · exact gh_stk_inv h
  replace h := gh_nn_ss h
  obtain ⟨⟨fs9, hg9⟩, h⟩ := gh_is_inv h
  refine gh_callI (pc := 8) (rest := []) C (k_J6_hashCode C.tr a2) (Nat.le_of_ble_eq_true rfl) (Nat.le_of_ble_eq_true rfl) (gh_r4 (Nat.le_of_ble_eq_true rfl)) (fun H9 L9 hp9 => gi_V C hp9 hg9 gh_cJ6 q1138 q1139 q1140 q1141 mh_J6 np0 rfl hl.1.1 dX5_carryOut_8 rfl) h (gh_K0_b _ hk) (fun v3 g h => ?_) (fun e g h => ?_)
  rotate_left
  ·
    exact gh_out C (fun _ h => nomatch h) h hk
  by_cases k0 : v3 = (-1367587075 : Int32)
  · replace h := gh_ift h k0
    refine gr_lookup (pc := 11) (off := 97) (tgt := 108) C (by decide) (by rw [k0]; decide) rfl dX5_carryOut_11 ?_
    refine gr_aload_n (pc := 108) (i := 2) C rfl (gl_at hl 1 rfl) dX5_carryOut_108 ?_
    refine gr_ldcS (pc := 109) C (index := 34) (j := 1) (tx := "carve ") (by decide +kernel) dX5_carryOut_109 h fun v4 h => ?_
    obtain ⟨⟨fs9, hg9⟩, h⟩ := gh_is_inv h
    refine gh_callI (pc := 111) (rest := []) C (k_J6_equals C.tr a2 v4) (Nat.le_of_ble_eq_true rfl) (Nat.le_of_ble_eq_true rfl) (gh_r4 (Nat.le_of_ble_eq_true rfl)) (fun H9 L9 hp9 => gi_V C hp9 hg9 gh_cJ6 q1200 q1201 q1202 q1203 mh_J6 np48 rfl hl.1.1 dX5_carryOut_111 rfl) h (gh_K0_b _ hk) (fun v5 g h => ?_) (fun e g h => ?_)
    rotate_left
    ·
      exact gh_out C (fun _ h => nomatch h) h hk
    refine gr_if_eq (pc := 114) (tgt := 264) C rfl dX5_carryOut_114 (fun c9 => ?_) (fun c9 => ?_)
    · replace h := gh_ift h c9
      exact w_X5_carryOut_264 C t0 p1 (-1 : Int32) (gl_sub hl [2, 3, 0] rfl) h hk
    · replace h := gh_iff h c9
      refine gr_iconst (pc := 117) (v := (0 : Int32)) C rfl dX5_carryOut_117 ?_
      refine gr_istore_n (pc := 118) (i := 3) (l' := [(3, .int (0 : Int32)), (2, va_rf (some a2)), (0, va_rf (some t0)), (1, va_rf p1)]) C rfl hl (Nat.le_of_ble_eq_true rfl) rfl dX5_carryOut_118 fun ls hl => ?_
      refine gr_goto (pc := 119) (tgt := 264) C rfl dX5_carryOut_119 ?_
      exact w_X5_carryOut_264 C t0 p1 (0 : Int32) (gl_sub hl [2, 3, 0] rfl) h hk
  replace h := gh_iff h k0
  by_cases k1 : v3 = (-1211782563 : Int32)
  · replace h := gh_ift h k1
    refine gr_lookup (pc := 11) (off := 125) (tgt := 136) C (by decide) (by rw [k1]; decide) rfl dX5_carryOut_11 ?_
    refine gr_aload_n (pc := 136) (i := 2) C rfl (gl_at hl 1 rfl) dX5_carryOut_136 ?_
    refine gr_ldcS (pc := 137) C (index := 42) (j := 4) (tx := "hoist ") (by decide +kernel) dX5_carryOut_137 h fun v6 h => ?_
    obtain ⟨⟨fs9, hg9⟩, h⟩ := gh_is_inv h
    refine gh_callI (pc := 139) (rest := []) C (k_J6_equals C.tr a2 v6) (Nat.le_of_ble_eq_true rfl) (Nat.le_of_ble_eq_true rfl) (gh_r4 (Nat.le_of_ble_eq_true rfl)) (fun H9 L9 hp9 => gi_V C hp9 hg9 gh_cJ6 q1200 q1201 q1202 q1203 mh_J6 np48 rfl hl.1.1 dX5_carryOut_139 rfl) h (gh_K0_b _ hk) (fun v7 g h => ?_) (fun e g h => ?_)
    rotate_left
    ·
      exact gh_out C (fun _ h => nomatch h) h hk
    refine gr_if_eq (pc := 142) (tgt := 264) C rfl dX5_carryOut_142 (fun c9 => ?_) (fun c9 => ?_)
    · replace h := gh_ift h c9
      exact w_X5_carryOut_264 C t0 p1 (-1 : Int32) (gl_sub hl [2, 3, 0] rfl) h hk
    · replace h := gh_iff h c9
      refine gr_iconst (pc := 145) (v := (2 : Int32)) C rfl dX5_carryOut_145 ?_
      refine gr_istore_n (pc := 146) (i := 3) (l' := [(3, .int (2 : Int32)), (2, va_rf (some a2)), (0, va_rf (some t0)), (1, va_rf p1)]) C rfl hl (Nat.le_of_ble_eq_true rfl) rfl dX5_carryOut_146 fun ls hl => ?_
      refine gr_goto (pc := 147) (tgt := 264) C rfl dX5_carryOut_147 ?_
      exact w_X5_carryOut_264 C t0 p1 (2 : Int32) (gl_sub hl [2, 3, 0] rfl) h hk
  replace h := gh_iff h k1
  by_cases k2 : v3 = (-1096862401 : Int32)
  · replace h := gh_ift h k2
    refine gr_lookup (pc := 11) (off := 139) (tgt := 150) C (by decide) (by rw [k2]; decide) rfl dX5_carryOut_11 ?_
    refine gr_aload_n (pc := 150) (i := 2) C rfl (gl_at hl 1 rfl) dX5_carryOut_150 ?_
    refine gr_ldcS (pc := 151) C (index := 44) (j := 5) (tx := "lower ") (by decide +kernel) dX5_carryOut_151 h fun v8 h => ?_
    obtain ⟨⟨fs9, hg9⟩, h⟩ := gh_is_inv h
    refine gh_callI (pc := 153) (rest := []) C (k_J6_equals C.tr a2 v8) (Nat.le_of_ble_eq_true rfl) (Nat.le_of_ble_eq_true rfl) (gh_r4 (Nat.le_of_ble_eq_true rfl)) (fun H9 L9 hp9 => gi_V C hp9 hg9 gh_cJ6 q1200 q1201 q1202 q1203 mh_J6 np48 rfl hl.1.1 dX5_carryOut_153 rfl) h (gh_K0_b _ hk) (fun v9 g h => ?_) (fun e g h => ?_)
    rotate_left
    ·
      exact gh_out C (fun _ h => nomatch h) h hk
    refine gr_if_eq (pc := 156) (tgt := 264) C rfl dX5_carryOut_156 (fun c9 => ?_) (fun c9 => ?_)
    · replace h := gh_ift h c9
      exact w_X5_carryOut_264 C t0 p1 (-1 : Int32) (gl_sub hl [2, 3, 0] rfl) h hk
    · replace h := gh_iff h c9
      refine gr_iconst (pc := 159) (v := (3 : Int32)) C rfl dX5_carryOut_159 ?_
      refine gr_istore_n (pc := 160) (i := 3) (l' := [(3, .int (3 : Int32)), (2, va_rf (some a2)), (0, va_rf (some t0)), (1, va_rf p1)]) C rfl hl (Nat.le_of_ble_eq_true rfl) rfl dX5_carryOut_160 fun ls hl => ?_
      refine gr_goto (pc := 161) (tgt := 264) C rfl dX5_carryOut_161 ?_
      exact w_X5_carryOut_264 C t0 p1 (3 : Int32) (gl_sub hl [2, 3, 0] rfl) h hk
  replace h := gh_iff h k2
  by_cases k3 : v3 = (3452698 : Int32)
  · replace h := gh_ift h k3
    refine gr_lookup (pc := 11) (off := 226) (tgt := 237) C (by decide) (by rw [k3]; decide) rfl dX5_carryOut_11 ?_
    refine gr_aload_n (pc := 237) (i := 2) C rfl (gl_at hl 1 rfl) dX5_carryOut_237 ?_
    refine gr_ldcS (pc := 238) C (index := 56) (j := 7) (tx := "push") (by decide +kernel) dX5_carryOut_238 h fun v10 h => ?_
    obtain ⟨⟨fs9, hg9⟩, h⟩ := gh_is_inv h
    refine gh_callI (pc := 240) (rest := []) C (k_J6_equals C.tr a2 v10) (Nat.le_of_ble_eq_true rfl) (Nat.le_of_ble_eq_true rfl) (gh_r4 (Nat.le_of_ble_eq_true rfl)) (fun H9 L9 hp9 => gi_V C hp9 hg9 gh_cJ6 q1200 q1201 q1202 q1203 mh_J6 np48 rfl hl.1.1 dX5_carryOut_240 rfl) h (gh_K0_b _ hk) (fun v11 g h => ?_) (fun e g h => ?_)
    rotate_left
    ·
      exact gh_out C (fun _ h => nomatch h) h hk
    refine gr_if_eq (pc := 243) (tgt := 264) C rfl dX5_carryOut_243 (fun c9 => ?_) (fun c9 => ?_)
    · replace h := gh_ift h c9
      exact w_X5_carryOut_264 C t0 p1 (-1 : Int32) (gl_sub hl [2, 3, 0] rfl) h hk
    · replace h := gh_iff h c9
      refine gr_bipush (pc := 246) (v := (9 : Int32)) C rfl dX5_carryOut_246 ?_
      refine gr_istore_n (pc := 248) (i := 3) (l' := [(3, .int (9 : Int32)), (2, va_rf (some a2)), (0, va_rf (some t0)), (1, va_rf p1)]) C rfl hl (Nat.le_of_ble_eq_true rfl) rfl dX5_carryOut_248 fun ls hl => ?_
      refine gr_goto (pc := 249) (tgt := 264) C rfl dX5_carryOut_249 ?_
      exact w_X5_carryOut_264 C t0 p1 (9 : Int32) (gl_sub hl [2, 3, 0] rfl) h hk
  replace h := gh_iff h k3
  by_cases k4 : v3 = (3506418 : Int32)
  · replace h := gh_ift h k4
    refine gr_lookup (pc := 11) (off := 211) (tgt := 222) C (by decide) (by rw [k4]; decide) rfl dX5_carryOut_11 ?_
    refine gr_aload_n (pc := 222) (i := 2) C rfl (gl_at hl 1 rfl) dX5_carryOut_222 ?_
    refine gr_ldcS (pc := 223) C (index := 54) (j := 3) (tx := "rope") (by decide +kernel) dX5_carryOut_223 h fun v12 h => ?_
    obtain ⟨⟨fs9, hg9⟩, h⟩ := gh_is_inv h
    refine gh_callI (pc := 225) (rest := []) C (k_J6_equals C.tr a2 v12) (Nat.le_of_ble_eq_true rfl) (Nat.le_of_ble_eq_true rfl) (gh_r4 (Nat.le_of_ble_eq_true rfl)) (fun H9 L9 hp9 => gi_V C hp9 hg9 gh_cJ6 q1200 q1201 q1202 q1203 mh_J6 np48 rfl hl.1.1 dX5_carryOut_225 rfl) h (gh_K0_b _ hk) (fun v13 g h => ?_) (fun e g h => ?_)
    rotate_left
    ·
      exact gh_out C (fun _ h => nomatch h) h hk
    refine gr_if_eq (pc := 228) (tgt := 264) C rfl dX5_carryOut_228 (fun c9 => ?_) (fun c9 => ?_)
    · replace h := gh_ift h c9
      exact w_X5_carryOut_264 C t0 p1 (-1 : Int32) (gl_sub hl [2, 3, 0] rfl) h hk
    · replace h := gh_iff h c9
      refine gr_bipush (pc := 231) (v := (8 : Int32)) C rfl dX5_carryOut_231 ?_
      refine gr_istore_n (pc := 233) (i := 3) (l' := [(3, .int (8 : Int32)), (2, va_rf (some a2)), (0, va_rf (some t0)), (1, va_rf p1)]) C rfl hl (Nat.le_of_ble_eq_true rfl) rfl dX5_carryOut_233 fun ls hl => ?_
      refine gr_goto (pc := 234) (tgt := 264) C rfl dX5_carryOut_234 ?_
      exact w_X5_carryOut_264 C t0 p1 (8 : Int32) (gl_sub hl [2, 3, 0] rfl) h hk
  replace h := gh_iff h k4
  by_cases k5 : v3 = (3526654 : Int32)
  · replace h := gh_ift h k5
    refine gr_lookup (pc := 11) (off := 153) (tgt := 164) C (by decide) (by rw [k5]; decide) rfl dX5_carryOut_11 ?_
    refine gr_aload_n (pc := 164) (i := 2) C rfl (gl_at hl 1 rfl) dX5_carryOut_164 ?_
    refine gr_ldcS (pc := 165) C (index := 46) (j := 6) (tx := "set ") (by decide +kernel) dX5_carryOut_165 h fun v14 h => ?_
    obtain ⟨⟨fs9, hg9⟩, h⟩ := gh_is_inv h
    refine gh_callI (pc := 167) (rest := []) C (k_J6_equals C.tr a2 v14) (Nat.le_of_ble_eq_true rfl) (Nat.le_of_ble_eq_true rfl) (gh_r4 (Nat.le_of_ble_eq_true rfl)) (fun H9 L9 hp9 => gi_V C hp9 hg9 gh_cJ6 q1200 q1201 q1202 q1203 mh_J6 np48 rfl hl.1.1 dX5_carryOut_167 rfl) h (gh_K0_b _ hk) (fun v15 g h => ?_) (fun e g h => ?_)
    rotate_left
    ·
      exact gh_out C (fun _ h => nomatch h) h hk
    refine gr_if_eq (pc := 170) (tgt := 264) C rfl dX5_carryOut_170 (fun c9 => ?_) (fun c9 => ?_)
    · replace h := gh_ift h c9
      exact w_X5_carryOut_264 C t0 p1 (-1 : Int32) (gl_sub hl [2, 3, 0] rfl) h hk
    · replace h := gh_iff h c9
      refine gr_iconst (pc := 173) (v := (4 : Int32)) C rfl dX5_carryOut_173 ?_
      refine gr_istore_n (pc := 174) (i := 3) (l' := [(3, .int (4 : Int32)), (2, va_rf (some a2)), (0, va_rf (some t0)), (1, va_rf p1)]) C rfl hl (Nat.le_of_ble_eq_true rfl) rfl dX5_carryOut_174 fun ls hl => ?_
      refine gr_goto (pc := 175) (tgt := 264) C rfl dX5_carryOut_175 ?_
      exact w_X5_carryOut_264 C t0 p1 (4 : Int32) (gl_sub hl [2, 3, 0] rfl) h hk
  replace h := gh_iff h k5
  by_cases k6 : v3 = (3648320 : Int32)
  · replace h := gh_ift h k6
    refine gr_lookup (pc := 11) (off := 111) (tgt := 122) C (by decide) (by rw [k6]; decide) rfl dX5_carryOut_11 ?_
    refine gr_aload_n (pc := 122) (i := 2) C rfl (gl_at hl 1 rfl) dX5_carryOut_122 ?_
    refine gr_ldcS (pc := 123) C (index := 40) (j := 2) (tx := "whet") (by decide +kernel) dX5_carryOut_123 h fun v16 h => ?_
    obtain ⟨⟨fs9, hg9⟩, h⟩ := gh_is_inv h
    refine gh_callI (pc := 125) (rest := []) C (k_J6_equals C.tr a2 v16) (Nat.le_of_ble_eq_true rfl) (Nat.le_of_ble_eq_true rfl) (gh_r4 (Nat.le_of_ble_eq_true rfl)) (fun H9 L9 hp9 => gi_V C hp9 hg9 gh_cJ6 q1200 q1201 q1202 q1203 mh_J6 np48 rfl hl.1.1 dX5_carryOut_125 rfl) h (gh_K0_b _ hk) (fun v17 g h => ?_) (fun e g h => ?_)
    rotate_left
    ·
      exact gh_out C (fun _ h => nomatch h) h hk
    refine gr_if_eq (pc := 128) (tgt := 264) C rfl dX5_carryOut_128 (fun c9 => ?_) (fun c9 => ?_)
    · replace h := gh_ift h c9
      exact w_X5_carryOut_264 C t0 p1 (-1 : Int32) (gl_sub hl [2, 3, 0] rfl) h hk
    · replace h := gh_iff h c9
      refine gr_iconst (pc := 131) (v := (1 : Int32)) C rfl dX5_carryOut_131 ?_
      refine gr_istore_n (pc := 132) (i := 3) (l' := [(3, .int (1 : Int32)), (2, va_rf (some a2)), (0, va_rf (some t0)), (1, va_rf p1)]) C rfl hl (Nat.le_of_ble_eq_true rfl) rfl dX5_carryOut_132 fun ls hl => ?_
      refine gr_goto (pc := 133) (tgt := 264) C rfl dX5_carryOut_133 ?_
      exact w_X5_carryOut_264 C t0 p1 (1 : Int32) (gl_sub hl [2, 3, 0] rfl) h hk
  replace h := gh_iff h k6
  by_cases k7 : v3 = (93832333 : Int32)
  · replace h := gh_ift h k7
    refine gr_lookup (pc := 11) (off := 196) (tgt := 207) C (by decide) (by rw [k7]; decide) rfl dX5_carryOut_11 ?_
    refine gr_aload_n (pc := 207) (i := 2) C rfl (gl_at hl 1 rfl) dX5_carryOut_207 ?_
    refine gr_ldcS (pc := 208) C (index := 52) (j := 0) (tx := "block") (by decide +kernel) dX5_carryOut_208 h fun v18 h => ?_
    obtain ⟨⟨fs9, hg9⟩, h⟩ := gh_is_inv h
    refine gh_callI (pc := 210) (rest := []) C (k_J6_equals C.tr a2 v18) (Nat.le_of_ble_eq_true rfl) (Nat.le_of_ble_eq_true rfl) (gh_r4 (Nat.le_of_ble_eq_true rfl)) (fun H9 L9 hp9 => gi_V C hp9 hg9 gh_cJ6 q1200 q1201 q1202 q1203 mh_J6 np48 rfl hl.1.1 dX5_carryOut_210 rfl) h (gh_K0_b _ hk) (fun v19 g h => ?_) (fun e g h => ?_)
    rotate_left
    ·
      exact gh_out C (fun _ h => nomatch h) h hk
    refine gr_if_eq (pc := 213) (tgt := 264) C rfl dX5_carryOut_213 (fun c9 => ?_) (fun c9 => ?_)
    · replace h := gh_ift h c9
      exact w_X5_carryOut_264 C t0 p1 (-1 : Int32) (gl_sub hl [2, 3, 0] rfl) h hk
    · replace h := gh_iff h c9
      refine gr_bipush (pc := 216) (v := (7 : Int32)) C rfl dX5_carryOut_216 ?_
      refine gr_istore_n (pc := 218) (i := 3) (l' := [(3, .int (7 : Int32)), (2, va_rf (some a2)), (0, va_rf (some t0)), (1, va_rf p1)]) C rfl hl (Nat.le_of_ble_eq_true rfl) rfl dX5_carryOut_218 fun ls hl => ?_
      refine gr_goto (pc := 219) (tgt := 264) C rfl dX5_carryOut_219 ?_
      exact w_X5_carryOut_264 C t0 p1 (7 : Int32) (gl_sub hl [2, 3, 0] rfl) h hk
  replace h := gh_iff h k7
  by_cases k8 : v3 = (112893259 : Int32)
  · replace h := gh_ift h k8
    refine gr_lookup (pc := 11) (off := 181) (tgt := 192) C (by decide) (by rw [k8]; decide) rfl dX5_carryOut_11 ?_
    refine gr_aload_n (pc := 192) (i := 2) C rfl (gl_at hl 1 rfl) dX5_carryOut_192 ?_
    refine gr_ldcS (pc := 193) C (index := 50) (j := 11) (tx := "wait ") (by decide +kernel) dX5_carryOut_193 h fun v20 h => ?_
    obtain ⟨⟨fs9, hg9⟩, h⟩ := gh_is_inv h
    refine gh_callI (pc := 195) (rest := []) C (k_J6_equals C.tr a2 v20) (Nat.le_of_ble_eq_true rfl) (Nat.le_of_ble_eq_true rfl) (gh_r4 (Nat.le_of_ble_eq_true rfl)) (fun H9 L9 hp9 => gi_V C hp9 hg9 gh_cJ6 q1200 q1201 q1202 q1203 mh_J6 np48 rfl hl.1.1 dX5_carryOut_195 rfl) h (gh_K0_b _ hk) (fun v21 g h => ?_) (fun e g h => ?_)
    rotate_left
    ·
      exact gh_out C (fun _ h => nomatch h) h hk
    refine gr_if_eq (pc := 198) (tgt := 264) C rfl dX5_carryOut_198 (fun c9 => ?_) (fun c9 => ?_)
    · replace h := gh_ift h c9
      exact w_X5_carryOut_264 C t0 p1 (-1 : Int32) (gl_sub hl [2, 3, 0] rfl) h hk
    · replace h := gh_iff h c9
      refine gr_bipush (pc := 201) (v := (6 : Int32)) C rfl dX5_carryOut_201 ?_
      refine gr_istore_n (pc := 203) (i := 3) (l' := [(3, .int (6 : Int32)), (2, va_rf (some a2)), (0, va_rf (some t0)), (1, va_rf p1)]) C rfl hl (Nat.le_of_ble_eq_true rfl) rfl dX5_carryOut_203 fun ls hl => ?_
      refine gr_goto (pc := 204) (tgt := 264) C rfl dX5_carryOut_204 ?_
      exact w_X5_carryOut_264 C t0 p1 (6 : Int32) (gl_sub hl [2, 3, 0] rfl) h hk
  replace h := gh_iff h k8
  by_cases k9 : v3 = (823466907 : Int32)
  · replace h := gh_ift h k9
    refine gr_lookup (pc := 11) (off := 167) (tgt := 178) C (by decide) (by rw [k9]; decide) rfl dX5_carryOut_11 ?_
    refine gr_aload_n (pc := 178) (i := 2) C rfl (gl_at hl 1 rfl) dX5_carryOut_178 ?_
    refine gr_ldcS (pc := 179) C (index := 48) (j := 9) (tx := "deliver ") (by decide +kernel) dX5_carryOut_179 h fun v22 h => ?_
    obtain ⟨⟨fs9, hg9⟩, h⟩ := gh_is_inv h
    refine gh_callI (pc := 181) (rest := []) C (k_J6_equals C.tr a2 v22) (Nat.le_of_ble_eq_true rfl) (Nat.le_of_ble_eq_true rfl) (gh_r4 (Nat.le_of_ble_eq_true rfl)) (fun H9 L9 hp9 => gi_V C hp9 hg9 gh_cJ6 q1200 q1201 q1202 q1203 mh_J6 np48 rfl hl.1.1 dX5_carryOut_181 rfl) h (gh_K0_b _ hk) (fun v23 g h => ?_) (fun e g h => ?_)
    rotate_left
    ·
      exact gh_out C (fun _ h => nomatch h) h hk
    refine gr_if_eq (pc := 184) (tgt := 264) C rfl dX5_carryOut_184 (fun c9 => ?_) (fun c9 => ?_)
    · replace h := gh_ift h c9
      exact w_X5_carryOut_264 C t0 p1 (-1 : Int32) (gl_sub hl [2, 3, 0] rfl) h hk
    · replace h := gh_iff h c9
      refine gr_iconst (pc := 187) (v := (5 : Int32)) C rfl dX5_carryOut_187 ?_
      refine gr_istore_n (pc := 188) (i := 3) (l' := [(3, .int (5 : Int32)), (2, va_rf (some a2)), (0, va_rf (some t0)), (1, va_rf p1)]) C rfl hl (Nat.le_of_ble_eq_true rfl) rfl dX5_carryOut_188 fun ls hl => ?_
      refine gr_goto (pc := 189) (tgt := 264) C rfl dX5_carryOut_189 ?_
      exact w_X5_carryOut_264 C t0 p1 (5 : Int32) (gl_sub hl [2, 3, 0] rfl) h hk
  replace h := gh_iff h k9
  by_cases k10 : v3 = (1018264811 : Int32)
  · replace h := gh_ift h k10
    refine gr_lookup (pc := 11) (off := 241) (tgt := 252) C (by decide) (by rw [k10]; decide) rfl dX5_carryOut_11 ?_
    refine gr_aload_n (pc := 252) (i := 2) C rfl (gl_at hl 1 rfl) dX5_carryOut_252 ?_
    refine gr_ldcS (pc := 253) C (index := 58) (j := 8) (tx := "commission") (by decide +kernel) dX5_carryOut_253 h fun v24 h => ?_
    obtain ⟨⟨fs9, hg9⟩, h⟩ := gh_is_inv h
    refine gh_callI (pc := 255) (rest := []) C (k_J6_equals C.tr a2 v24) (Nat.le_of_ble_eq_true rfl) (Nat.le_of_ble_eq_true rfl) (gh_r4 (Nat.le_of_ble_eq_true rfl)) (fun H9 L9 hp9 => gi_V C hp9 hg9 gh_cJ6 q1200 q1201 q1202 q1203 mh_J6 np48 rfl hl.1.1 dX5_carryOut_255 rfl) h (gh_K0_b _ hk) (fun v25 g h => ?_) (fun e g h => ?_)
    rotate_left
    ·
      exact gh_out C (fun _ h => nomatch h) h hk
    refine gr_if_eq (pc := 258) (tgt := 264) C rfl dX5_carryOut_258 (fun c9 => ?_) (fun c9 => ?_)
    · replace h := gh_ift h c9
      exact w_X5_carryOut_264 C t0 p1 (-1 : Int32) (gl_sub hl [2, 3, 0] rfl) h hk
    · replace h := gh_iff h c9
      refine gr_bipush (pc := 261) (v := (10 : Int32)) C rfl dX5_carryOut_261 ?_
      refine gr_istore_n (pc := 263) (i := 3) (l' := [(3, .int (10 : Int32)), (2, va_rf (some a2)), (0, va_rf (some t0)), (1, va_rf p1)]) C rfl hl (Nat.le_of_ble_eq_true rfl) rfl dX5_carryOut_263 fun ls hl => ?_
      exact w_X5_carryOut_264 C t0 p1 (10 : Int32) (gl_sub hl [2, 3, 0] rfl) h hk
  replace h := gh_iff h k10
  refine gr_lookup (pc := 11) (off := 253) (tgt := 264) C (by decide) ((lv_osw k0 (by decide)).trans ((lv_osw k1 (by decide)).trans ((lv_osw k2 (by decide)).trans ((lv_osw k3 (by decide)).trans ((lv_osw k4 (by decide)).trans ((lv_osw k5 (by decide)).trans ((lv_osw k6 (by decide)).trans ((lv_osw k7 (by decide)).trans ((lv_osw k8 (by decide)).trans ((lv_osw k9 (by decide)).trans ((lv_osw k10 (by decide)).trans rfl))))))))))) rfl dX5_carryOut_11 ?_
  exact w_X5_carryOut_264 C t0 p1 (-1 : Int32) (gl_sub hl [2, 3, 0] rfl) h hk

theorem k_X5_carryOut {l : Launch} (hst : l.stackTraces = false) (t0 : Nat) (p1 : Option Nat) : gh_Ct l yX5_carryOut 52 1132 (f_X5_carryOut t0 p1) gh_rI [va_rf (some t0), va_rf p1] := gh_intro2 (L1 := 1117) hst (by decide +kernel) q1137 q87 rfl ⟨gh_cat _, gh_cat _, trivial⟩ (Nat.le_of_ble_eq_true rfl) fun x o ls hl C h hk => w_X5_carryOut C t0 p1 hl h hk
-- GargoyleTower$Deed.carryOutAs(ILGargoyleTower$World;)V
abbrev hh_X5_carryOutAs : List ExceptionTableEntry := tableOf [(0, 6, 9, 104), (0, 6, 22, 109), (0, 6, 22, 111)]
noncomputable def f_X5_carryOutAs_22 (p1 : Int32) (s0 : Option Nat) : gh_M Unit :=
  gh_bd (gh_new 8 8 gh_nX9) fun a1 =>
  gh_bd (f_X9_init a1 (17 : Int32) p1) fun _ =>
  gh_ath a1 gh_thr
theorem w_X5_carryOutAs_22 {x : gh_C} {g : gh_G} {o : (Unit ⊕ gh_X) × gh_G} {ls : Array Slot} (C : gh_K x cX5_carryOutAs "GargoyleTower$Deed" 4 none "carryOutAs" 53 1140 hh_X5_carryOutAs) (p1 : Int32) (s0 : Option Nat) (hl : gh_lv ls 4 [(1, .int p1)]) (h : gh_run (f_X5_carryOutAs_22 p1 s0) g = some o) (hk : (gh_K0 x gh_rV) o) : gh_Wd x g (F0 (gh_cm x) 22 ls [va_rf s0]) := by
  unfold f_X5_carryOutAs_22 at h
  refine gr_astore_n (pc := 22) (i := 3) (l' := [(3, va_rf s0), (1, .int p1)]) C rfl hl (Nat.le_of_ble_eq_true rfl) rfl dX5_carryOutAs_22 fun ls hl => ?_
  refine gr_newo (pc := 23) C gh_bX9 q2255 q1251 q107 gh_dX9 dX5_carryOutAs_23 h (gh_K0_b _ hk) fun a1 g h => ?_
  refine gr_dup (pc := 26) C (gh_cat _) dX5_carryOutAs_26 ?_
  refine gr_bipush (pc := 27) (v := (17 : Int32)) C rfl dX5_carryOutAs_27 ?_
  refine gr_iload_n (pc := 29) (i := 1) C rfl (gl_at hl 1 rfl) dX5_carryOutAs_29 ?_
  refine gh_callV (pc := 30) (rest := [va_rf (some a1)]) C (k_X9_init C.tr a1 (17 : Int32) p1) (Nat.le_of_ble_eq_true rfl) (Nat.le_of_ble_eq_true rfl) (gh_r4 (Nat.le_of_ble_eq_true rfl)) (fun H9 L9 hp9 => gi_I C q2260 rfl q1260 q1261 mh_X9 np30 rfl hl.1.1 dX5_carryOutAs_30 rfl) h (gh_K0_b _ hk) (fun g h => ?_) (fun e g h => ?_)
  rotate_left
  ·
    exact gh_out C (by decide) h hk
  refine gr_ath (pc := 33) C dX5_carryOutAs_33 h fun c8 h => ?_
  obtain ⟨e, he⟩ : ∃ e : gh_X, e = (c8, a1) := ⟨_, rfl⟩
  rw [← he] at h ⊢
  clear he
  exact gh_out C (by decide) h hk

noncomputable def f_X5_carryOutAs_9 (p1 : Int32) (s0 : Option Nat) : gh_M Unit :=
  gh_bd (gh_new 8 8 gh_nX9) fun a1 =>
  gh_bd (f_X9_init_2 a1 (17 : Int32) p1 s0) fun _ =>
  gh_ath a1 gh_thr
theorem w_X5_carryOutAs_9 {x : gh_C} {g : gh_G} {o : (Unit ⊕ gh_X) × gh_G} {ls : Array Slot} (C : gh_K x cX5_carryOutAs "GargoyleTower$Deed" 4 none "carryOutAs" 53 1140 hh_X5_carryOutAs) (p1 : Int32) (s0 : Option Nat) (hl : gh_lv ls 4 [(1, .int p1)]) (h : gh_run (f_X5_carryOutAs_9 p1 s0) g = some o) (hk : (gh_K0 x gh_rV) o) : gh_Wd x g (F0 (gh_cm x) 9 ls [va_rf s0]) := by
  unfold f_X5_carryOutAs_9 at h
  refine gr_astore_n (pc := 9) (i := 3) (l' := [(3, va_rf s0), (1, .int p1)]) C rfl hl (Nat.le_of_ble_eq_true rfl) rfl dX5_carryOutAs_9 fun ls hl => ?_
  refine gr_newo (pc := 10) C gh_bX9 q2255 q1251 q107 gh_dX9 dX5_carryOutAs_10 h (gh_K0_b _ hk) fun a1 g h => ?_
  refine gr_dup (pc := 13) C (gh_cat _) dX5_carryOutAs_13 ?_
  refine gr_bipush (pc := 14) (v := (17 : Int32)) C rfl dX5_carryOutAs_14 ?_
  refine gr_iload_n (pc := 16) (i := 1) C rfl (gl_at hl 1 rfl) dX5_carryOutAs_16 ?_
  refine gr_aload_n (pc := 17) (i := 3) C rfl (gl_at hl 0 rfl) dX5_carryOutAs_17 ?_
  refine gh_callV (pc := 18) (rest := [va_rf (some a1)]) C (k_X9_init_2 C.tr a1 (17 : Int32) p1 s0) (Nat.le_of_ble_eq_true rfl) (Nat.le_of_ble_eq_true rfl) (gh_r4 (Nat.le_of_ble_eq_true rfl)) (fun H9 L9 hp9 => gi_I C q2259 rfl q1263 q1264 mh_X9 np56 rfl hl.1.1 dX5_carryOutAs_18 rfl) h (gh_K0_b _ hk) (fun g h => ?_) (fun e g h => ?_)
  rotate_left
  ·
    exact gh_out C (by decide) h hk
  refine gr_ath (pc := 21) C dX5_carryOutAs_21 h fun c8 h => ?_
  obtain ⟨e, he⟩ : ∃ e : gh_X, e = (c8, a1) := ⟨_, rfl⟩
  rw [← he] at h ⊢
  clear he
  exact gh_out C (by decide) h hk

noncomputable def f_X5_carryOutAs (t0 : Nat) (p1 : Int32) (p2 : Option Nat) : gh_M Unit :=
  gh_bd (gh_is t0 4) fun _ =>
  gh_tc (f_X5_carryOut t0 p2) (fun v1 =>
  gh_ret ())
  (fun e => if e.1 = 8 then (f_X5_carryOutAs_9 p1 (some e.2)) else if e.1 = 16 then (f_X5_carryOutAs_22 p1 (some e.2)) else if e.1 = 17 then (f_X5_carryOutAs_22 p1 (some e.2)) else gh_stk)
theorem w_X5_carryOutAs {x : gh_C} {g : gh_G} {o : (Unit ⊕ gh_X) × gh_G} {ls : Array Slot} (C : gh_K x cX5_carryOutAs "GargoyleTower$Deed" 4 none "carryOutAs" 53 1140 hh_X5_carryOutAs) (t0 : Nat) (p1 : Int32) (p2 : Option Nat) (hl : gh_lv ls 4 [(0, va_rf (some t0)), (1, .int p1), (2, va_rf p2)]) (h : gh_run (f_X5_carryOutAs t0 p1 p2) g = some o) (hk : (gh_K0 x gh_rV) o) : gh_Wd x g (F0 (gh_cm x) 0 ls []) := by
  unfold f_X5_carryOutAs at h
  refine gr_aload_n (pc := 0) (i := 0) C rfl (gl_at hl 0 rfl) dX5_carryOutAs_0 ?_
  refine gr_aload_n (pc := 1) (i := 2) C rfl (gl_at hl 2 rfl) dX5_carryOutAs_1 ?_
  obtain ⟨⟨fs9, hg9⟩, h⟩ := gh_is_inv h
  refine gh_callI (pc := 2) (rest := []) C (k_X5_carryOut C.tr t0 p2) (Nat.le_of_ble_eq_true rfl) (Nat.le_of_ble_eq_true rfl) (gh_r4 (Nat.le_of_ble_eq_true rfl)) (fun H9 L9 hp9 => gi_V C hp9 hg9 gh_cX5 q2258 q1135 q1136 q1137 mh_X5 np63 rfl hl.1.1 dX5_carryOutAs_2 rfl) h (gh_K0_b _ hk) (fun v1 g h => ?_) (fun e g h => ?_)
  rotate_left
  ·
    by_cases c7 : e.1 = 8
    · replace h := gh_ift h c7
      refine gh_catch C (q := (RX9, TX9, 8)) (by rw [c7]; exact gh_cX9) [] ⟨0, 6, 9, 104⟩ [⟨0, 6, 22, 109⟩, ⟨0, 6, 22, 111⟩] rfl (fun _ h => nomatch h) rfl (by decide) q2255 q1252 ?_
      exact w_X5_carryOutAs_9 C p1 (some e.2) (gl_sub hl [1] rfl) h hk
    replace h := gh_iff h c7
    by_cases c7 : e.1 = 16
    · replace h := gh_ift h c7
      refine gh_catch C (q := (RJ14, TJ14, 6)) (by rw [c7]; exact gh_cJ14) [⟨0, 6, 9, 104⟩] ⟨0, 6, 22, 109⟩ [⟨0, 6, 22, 111⟩] rfl (List.forall_mem_cons.mpr ⟨Or.inr ⟨by decide, _, q2255, by decide +kernel⟩, (fun _ h => nomatch h)⟩) rfl (by decide) q2256 q411 ?_
      exact w_X5_carryOutAs_22 C p1 (some e.2) (gl_sub hl [1] rfl) h hk
    replace h := gh_iff h c7
    by_cases c7 : e.1 = 17
    · replace h := gh_ift h c7
      refine gh_catch C (q := (RJ20, TJ20, 6)) (by rw [c7]; exact gh_cJ20) [⟨0, 6, 9, 104⟩, ⟨0, 6, 22, 109⟩] ⟨0, 6, 22, 111⟩ [] rfl (List.forall_mem_cons.mpr ⟨Or.inr ⟨by decide, _, q2255, by decide +kernel⟩, (List.forall_mem_cons.mpr ⟨Or.inr ⟨by decide, _, q2256, by decide +kernel⟩, (fun _ h => nomatch h)⟩)⟩) rfl (by decide) q2257 q648 ?_
      exact w_X5_carryOutAs_22 C p1 (some e.2) (gl_sub hl [1] rfl) h hk
    replace h := gh_iff h c7
    exact gh_stk_inv h
  refine gr_istore_n (pc := 5) (i := 3) (l' := [(3, .int v1), (0, va_rf (some t0)), (1, .int p1), (2, va_rf p2)]) C rfl hl (Nat.le_of_ble_eq_true rfl) rfl dX5_carryOutAs_5 fun ls hl => ?_
  refine gr_goto (pc := 6) (tgt := 34) C rfl dX5_carryOutAs_6 ?_
  exact gr_vret (pc := 34) C dX5_carryOutAs_34 h hk

theorem k_X5_carryOutAs {l : Launch} (hst : l.stackTraces = false) (t0 : Nat) (p1 : Int32) (p2 : Option Nat) : gh_Ct l yX5_carryOutAs 53 1155 (f_X5_carryOutAs t0 p1 p2) gh_rV [va_rf (some t0), .int p1, va_rf p2] := gh_introW2 (L1 := 1140) hst (by decide +kernel) q2254 q87 rfl ⟨gh_cat _, rfl, gh_cat _, trivial⟩ (Nat.le_of_ble_eq_true rfl) fun x o ls hl C h hk => w_X5_carryOutAs C t0 p1 p2 hl h hk
-- GargoyleTower$Deed.<init>(Ljava/lang/String;II)V
noncomputable def f_X5_init (t0 : Nat) (p1 : Option Nat) (p2 : Int32) (p3 : Int32) : gh_M Unit :=
  gh_bd (f_X5_init_2 t0 p1 p2 p3 (0 : Int32)) fun _ =>
  gh_ret ()
theorem w_X5_init {x : gh_C} {g : gh_G} {o : (Unit ⊕ gh_X) × gh_G} {ls : Array Slot} (C : gh_K x cX5_init "GargoyleTower$Deed" 4 none "<init>" 2 44 []) (t0 : Nat) (p1 : Option Nat) (p2 : Int32) (p3 : Int32) (hl : gh_lv ls 4 [(0, va_rf (some t0)), (1, va_rf p1), (2, .int p2), (3, .int p3)]) (h : gh_run (f_X5_init t0 p1 p2 p3) g = some o) (hk : (gh_K0 x gh_rV) o) : gh_Wd x g (F0 (gh_cm x) 0 ls []) := by
  unfold f_X5_init at h
  refine gr_aload_n (pc := 0) (i := 0) C rfl (gl_at hl 0 rfl) dX5_init_0 ?_
  refine gr_aload_n (pc := 1) (i := 1) C rfl (gl_at hl 1 rfl) dX5_init_1 ?_
  refine gr_iload_n (pc := 2) (i := 2) C rfl (gl_at hl 2 rfl) dX5_init_2 ?_
  refine gr_iload_n (pc := 3) (i := 3) C rfl (gl_at hl 3 rfl) dX5_init_3 ?_
  refine gr_iconst (pc := 4) (v := (0 : Int32)) C rfl dX5_init_4 ?_
  refine gh_callV (pc := 5) (rest := []) C (k_X5_init_2 C.tr t0 p1 p2 p3 (0 : Int32)) (Nat.le_of_ble_eq_true rfl) (Nat.le_of_ble_eq_true rfl) (gh_r4 (Nat.le_of_ble_eq_true rfl)) (fun H9 L9 hp9 => gi_I C q1112 rfl q1113 q1114 mh_X5 np64 rfl hl.1.1 dX5_init_5 rfl) h (gh_K0_b _ hk) (fun g h => ?_) (fun e g h => ?_)
  rotate_left
  ·
    exact gh_out C (fun _ h => nomatch h) h hk
  exact gr_vret (pc := 8) C dX5_init_8 h hk

theorem k_X5_init {l : Launch} (hst : l.stackTraces = false) (t0 : Nat) (p1 : Option Nat) (p2 : Int32) (p3 : Int32) : gh_Ct l yX5_init 2 59 (f_X5_init t0 p1 p2 p3) gh_rV [va_rf (some t0), va_rf p1, .int p2, .int p3] := gh_intro2 (L1 := 44) hst (by decide +kernel) q1111 q87 rfl ⟨gh_cat _, gh_cat _, rfl, rfl, trivial⟩ (Nat.le_of_ble_eq_true rfl) fun x o ls hl C h hk => w_X5_init C t0 p1 p2 p3 hl h hk
