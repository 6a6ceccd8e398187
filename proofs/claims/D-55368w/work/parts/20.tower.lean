/-! the tower: rows of the code, functions, walks, contracts (printed) -/
set_option maxRecDepth 100000
abbrev cX1_init : ByteArray := prog_1_method_7_code
def yX1_init : MethodName := ⟨RX1, "<init>", "()V"⟩
def dkwX1_init_1 : List UInt8 := [181, 0, 40, 42, 187, 0, 44, 89, 183, 0, 46, 181, 0, 47, 42, 16, 60, 188, 5, 181, 0, 51, 177]
abbrev dktX1_init_1 : List UInt8 := dkwX1_init_1 ++ []
def dkwX1_init_0 : List UInt8 := [42, 183, 0, 27, 42, 187, 0, 30, 89, 183, 0, 32, 181, 0, 33, 42, 187, 0, 37, 89, 183, 0, 39]
abbrev dktX1_init_0 : List UInt8 := dkwX1_init_0 ++ dktX1_init_1
theorem dksX1_init_0 : cX1_init.data.toList.drop 0 = dktX1_init_0 := by decide +kernel
theorem dksX1_init_1 : cX1_init.data.toList.drop 23 = dktX1_init_1 := dk_seg dksX1_init_0 23 rfl rfl
theorem dX1_init_0 : decode cX1_init 0 = .ok (.aload_n 0, 1) := dk_42 (dk_at dksX1_init_0 0 rfl rfl)
theorem dX1_init_1 : decode cX1_init 1 = .ok (.invokespecial 27, 3) := dk_183 0 27 (dk_at dksX1_init_0 1 rfl rfl)
theorem dX1_init_4 : decode cX1_init 4 = .ok (.aload_n 0, 1) := dk_42 (dk_at dksX1_init_0 4 rfl rfl)
theorem dX1_init_5 : decode cX1_init 5 = .ok (.new 30, 3) := dk_187 0 30 (dk_at dksX1_init_0 5 rfl rfl)
theorem dX1_init_8 : decode cX1_init 8 = .ok (.dup, 1) := dk_89 (dk_at dksX1_init_0 8 rfl rfl)
theorem dX1_init_9 : decode cX1_init 9 = .ok (.invokespecial 32, 3) := dk_183 0 32 (dk_at dksX1_init_0 9 rfl rfl)
theorem dX1_init_12 : decode cX1_init 12 = .ok (.putfield 33, 3) := dk_181 0 33 (dk_at dksX1_init_0 12 rfl rfl)
theorem dX1_init_15 : decode cX1_init 15 = .ok (.aload_n 0, 1) := dk_42 (dk_at dksX1_init_0 15 rfl rfl)
theorem dX1_init_16 : decode cX1_init 16 = .ok (.new 37, 3) := dk_187 0 37 (dk_at dksX1_init_0 16 rfl rfl)
theorem dX1_init_19 : decode cX1_init 19 = .ok (.dup, 1) := dk_89 (dk_at dksX1_init_0 19 rfl rfl)
theorem dX1_init_20 : decode cX1_init 20 = .ok (.invokespecial 39, 3) := dk_183 0 39 (dk_at dksX1_init_0 20 rfl rfl)
theorem dX1_init_23 : decode cX1_init 23 = .ok (.putfield 40, 3) := dk_181 0 40 (dk_at dksX1_init_1 0 rfl rfl)
theorem dX1_init_26 : decode cX1_init 26 = .ok (.aload_n 0, 1) := dk_42 (dk_at dksX1_init_1 3 rfl rfl)
theorem dX1_init_27 : decode cX1_init 27 = .ok (.new 44, 3) := dk_187 0 44 (dk_at dksX1_init_1 4 rfl rfl)
theorem dX1_init_30 : decode cX1_init 30 = .ok (.dup, 1) := dk_89 (dk_at dksX1_init_1 7 rfl rfl)
theorem dX1_init_31 : decode cX1_init 31 = .ok (.invokespecial 46, 3) := dk_183 0 46 (dk_at dksX1_init_1 8 rfl rfl)
theorem dX1_init_34 : decode cX1_init 34 = .ok (.putfield 47, 3) := dk_181 0 47 (dk_at dksX1_init_1 11 rfl rfl)
theorem dX1_init_37 : decode cX1_init 37 = .ok (.aload_n 0, 1) := dk_42 (dk_at dksX1_init_1 14 rfl rfl)
theorem dX1_init_38 : decode cX1_init 38 = .ok (.bipush 60, 2) := dk_16 60 (dk_at dksX1_init_1 15 rfl rfl)
theorem dX1_init_40 : decode cX1_init 40 = .ok (.newarray .char, 2) := dk_188_5 (dk_at dksX1_init_1 17 rfl rfl)
theorem dX1_init_42 : decode cX1_init 42 = .ok (.putfield 51, 3) := dk_181 0 51 (dk_at dksX1_init_1 19 rfl rfl)
theorem dX1_init_45 : decode cX1_init 45 = .ok (.return_, 1) := dk_177 (dk_at dksX1_init_1 22 rfl rfl)
abbrev cX1_coins : ByteArray := prog_1_method_36_code
def yX1_coins : MethodName := ⟨RX1, "coins", "()I"⟩
def dkwX1_coins_0 : List UInt8 := [42, 180, 0, 33, 180, 1, 23, 172]
abbrev dktX1_coins_0 : List UInt8 := dkwX1_coins_0 ++ []
theorem dksX1_coins_0 : cX1_coins.data.toList.drop 0 = dktX1_coins_0 := by decide +kernel
theorem dX1_coins_0 : decode cX1_coins 0 = .ok (.aload_n 0, 1) := dk_42 (dk_at dksX1_coins_0 0 rfl rfl)
theorem dX1_coins_1 : decode cX1_coins 1 = .ok (.getfield 33, 3) := dk_180 0 33 (dk_at dksX1_coins_0 1 rfl rfl)
theorem dX1_coins_4 : decode cX1_coins 4 = .ok (.getfield 279, 3) := dk_180 1 23 (dk_at dksX1_coins_0 4 rfl rfl)
theorem dX1_coins_7 : decode cX1_coins 7 = .ok (.ireturn, 1) := dk_172 (dk_at dksX1_coins_0 7 rfl rfl)
abbrev cX1_paid : ByteArray := prog_1_method_30_code
def yX1_paid : MethodName := ⟨RX1, "paid", "(I)I"⟩
def dkwX1_paid_3 : List UInt8 := [172]
abbrev dktX1_paid_3 : List UInt8 := dkwX1_paid_3 ++ []
def dkwX1_paid_2 : List UInt8 := [25, 4, 180, 0, 231, 27, 160, 0, 11, 25, 4, 180, 0, 237, 167, 0, 4, 3, 96, 61, 167, 255, 202, 28]
abbrev dktX1_paid_2 : List UInt8 := dkwX1_paid_2 ++ dktX1_paid_3
def dkwX1_paid_1 : List UInt8 := [185, 0, 153, 1, 0, 192, 0, 232, 58, 4, 28, 25, 4, 182, 0, 248, 153, 0, 25, 27, 2, 159, 0, 12]
abbrev dktX1_paid_1 : List UInt8 := dkwX1_paid_1 ++ dktX1_paid_2
def dkwX1_paid_0 : List UInt8 := [3, 61, 42, 180, 0, 33, 180, 0, 245, 182, 0, 141, 78, 45, 185, 0, 147, 1, 0, 153, 0, 51, 45]
abbrev dktX1_paid_0 : List UInt8 := dkwX1_paid_0 ++ dktX1_paid_1
theorem dksX1_paid_0 : cX1_paid.data.toList.drop 0 = dktX1_paid_0 := by decide +kernel
theorem dksX1_paid_1 : cX1_paid.data.toList.drop 23 = dktX1_paid_1 := dk_seg dksX1_paid_0 23 rfl rfl
theorem dksX1_paid_2 : cX1_paid.data.toList.drop 47 = dktX1_paid_2 := dk_seg dksX1_paid_1 24 rfl rfl
theorem dksX1_paid_3 : cX1_paid.data.toList.drop 71 = dktX1_paid_3 := dk_seg dksX1_paid_2 24 rfl rfl
theorem dX1_paid_0 : decode cX1_paid 0 = .ok (.iconst 0, 1) := dk_3 (dk_at dksX1_paid_0 0 rfl rfl)
theorem dX1_paid_1 : decode cX1_paid 1 = .ok (.istore_n 2, 1) := dk_61 (dk_at dksX1_paid_0 1 rfl rfl)
theorem dX1_paid_2 : decode cX1_paid 2 = .ok (.aload_n 0, 1) := dk_42 (dk_at dksX1_paid_0 2 rfl rfl)
theorem dX1_paid_3 : decode cX1_paid 3 = .ok (.getfield 33, 3) := dk_180 0 33 (dk_at dksX1_paid_0 3 rfl rfl)
theorem dX1_paid_6 : decode cX1_paid 6 = .ok (.getfield 245, 3) := dk_180 0 245 (dk_at dksX1_paid_0 6 rfl rfl)
theorem dX1_paid_9 : decode cX1_paid 9 = .ok (.invokevirtual 141, 3) := dk_182 0 141 (dk_at dksX1_paid_0 9 rfl rfl)
theorem dX1_paid_12 : decode cX1_paid 12 = .ok (.astore_n 3, 1) := dk_78 (dk_at dksX1_paid_0 12 rfl rfl)
theorem dX1_paid_13 : decode cX1_paid 13 = .ok (.aload_n 3, 1) := dk_45 (dk_at dksX1_paid_0 13 rfl rfl)
theorem dX1_paid_14 : decode cX1_paid 14 = .ok (.invokeinterface 147 1, 5) := by decide +kernel
theorem dX1_paid_19 : decode cX1_paid 19 = .ok (.ifCond .eq 51, 3) := dk_153 0 51 (dk_at dksX1_paid_0 19 rfl rfl)
theorem dX1_paid_22 : decode cX1_paid 22 = .ok (.aload_n 3, 1) := dk_45 (dk_at dksX1_paid_0 22 rfl rfl)
theorem dX1_paid_23 : decode cX1_paid 23 = .ok (.invokeinterface 153 1, 5) := by decide +kernel
theorem dX1_paid_28 : decode cX1_paid 28 = .ok (.checkcast 232, 3) := dk_192 0 232 (dk_at dksX1_paid_1 5 rfl rfl)
theorem dX1_paid_31 : decode cX1_paid 31 = .ok (.astore 4, 2) := dk_58 4 (dk_at dksX1_paid_1 8 rfl rfl)
theorem dX1_paid_33 : decode cX1_paid 33 = .ok (.iload_n 2, 1) := dk_28 (dk_at dksX1_paid_1 10 rfl rfl)
theorem dX1_paid_34 : decode cX1_paid 34 = .ok (.aload 4, 2) := dk_25 4 (dk_at dksX1_paid_1 11 rfl rfl)
theorem dX1_paid_36 : decode cX1_paid 36 = .ok (.invokevirtual 248, 3) := dk_182 0 248 (dk_at dksX1_paid_1 13 rfl rfl)
theorem dX1_paid_39 : decode cX1_paid 39 = .ok (.ifCond .eq 25, 3) := dk_153 0 25 (dk_at dksX1_paid_1 16 rfl rfl)
theorem dX1_paid_42 : decode cX1_paid 42 = .ok (.iload_n 1, 1) := dk_27 (dk_at dksX1_paid_1 19 rfl rfl)
theorem dX1_paid_43 : decode cX1_paid 43 = .ok (.iconst (-1), 1) := dk_2 (dk_at dksX1_paid_1 20 rfl rfl)
theorem dX1_paid_44 : decode cX1_paid 44 = .ok (.if_icmp .eq 12, 3) := dk_159 0 12 (dk_at dksX1_paid_1 21 rfl rfl)
theorem dX1_paid_47 : decode cX1_paid 47 = .ok (.aload 4, 2) := dk_25 4 (dk_at dksX1_paid_2 0 rfl rfl)
theorem dX1_paid_49 : decode cX1_paid 49 = .ok (.getfield 231, 3) := dk_180 0 231 (dk_at dksX1_paid_2 2 rfl rfl)
theorem dX1_paid_52 : decode cX1_paid 52 = .ok (.iload_n 1, 1) := dk_27 (dk_at dksX1_paid_2 5 rfl rfl)
theorem dX1_paid_53 : decode cX1_paid 53 = .ok (.if_icmp .ne 11, 3) := dk_160 0 11 (dk_at dksX1_paid_2 6 rfl rfl)
theorem dX1_paid_56 : decode cX1_paid 56 = .ok (.aload 4, 2) := dk_25 4 (dk_at dksX1_paid_2 9 rfl rfl)
theorem dX1_paid_58 : decode cX1_paid 58 = .ok (.getfield 237, 3) := dk_180 0 237 (dk_at dksX1_paid_2 11 rfl rfl)
theorem dX1_paid_61 : decode cX1_paid 61 = .ok (.goto 4, 3) := dk_167 0 4 (dk_at dksX1_paid_2 14 rfl rfl)
theorem dX1_paid_64 : decode cX1_paid 64 = .ok (.iconst 0, 1) := dk_3 (dk_at dksX1_paid_2 17 rfl rfl)
theorem dX1_paid_65 : decode cX1_paid 65 = .ok (.iadd, 1) := dk_96 (dk_at dksX1_paid_2 18 rfl rfl)
theorem dX1_paid_66 : decode cX1_paid 66 = .ok (.istore_n 2, 1) := dk_61 (dk_at dksX1_paid_2 19 rfl rfl)
theorem dX1_paid_67 : decode cX1_paid 67 = .ok (.goto (-54), 3) := dk_167 255 202 (dk_at dksX1_paid_2 20 rfl rfl)
theorem dX1_paid_70 : decode cX1_paid 70 = .ok (.iload_n 2, 1) := dk_28 (dk_at dksX1_paid_2 23 rfl rfl)
theorem dX1_paid_71 : decode cX1_paid 71 = .ok (.ireturn, 1) := dk_172 (dk_at dksX1_paid_3 0 rfl rfl)
abbrev cX1_isRight : ByteArray := prog_1_method_41_code
def yX1_isRight : MethodName := ⟨RX1, "isRight", "(LGargoyleTower$Block;)Z"⟩
def dkwX1_isRight_6 : List UInt8 := [180, 0, 128, 2, 160, 0, 7, 4, 167, 0, 4, 3, 172]
abbrev dktX1_isRight_6 : List UInt8 := dkwX1_isRight_6 ++ []
def dkwX1_isRight_5 : List UInt8 := [180, 0, 33, 43, 180, 0, 128, 182, 0, 205, 43, 166, 0, 7, 4, 167, 0, 20, 3, 167, 0, 16, 43]
abbrev dktX1_isRight_5 : List UInt8 := dkwX1_isRight_5 ++ dktX1_isRight_6
def dkwX1_isRight_4 : List UInt8 := [182, 1, 65, 153, 0, 7, 4, 167, 0, 50, 3, 167, 0, 46, 43, 182, 1, 68, 154, 0, 22, 42]
abbrev dktX1_isRight_4 : List UInt8 := dkwX1_isRight_4 ++ dktX1_isRight_5
def dkwX1_isRight_3 : List UInt8 := [160, 0, 34, 42, 180, 0, 33, 180, 1, 29, 43, 180, 0, 128, 182, 0, 212, 192, 0, 181, 43, 180, 0, 109]
abbrev dktX1_isRight_3 : List UInt8 := dkwX1_isRight_3 ++ dktX1_isRight_4
def dkwX1_isRight_2 : List UInt8 := [42, 180, 0, 33, 180, 1, 29, 43, 180, 0, 128, 182, 0, 212, 192, 0, 181, 180, 0, 191, 43, 180, 0, 172]
abbrev dktX1_isRight_2 : List UInt8 := dkwX1_isRight_2 ++ dktX1_isRight_3
def dkwX1_isRight_1 : List UInt8 := [171, 0, 0, 0, 0, 0, 0, 120, 0, 0, 0, 2, 0, 0, 0, 1, 0, 0, 0, 28, 0, 0, 0, 2, 0, 0, 0, 90]
abbrev dktX1_isRight_1 : List UInt8 := dkwX1_isRight_1 ++ dktX1_isRight_2
def dkwX1_isRight_0 : List UInt8 := [43, 180, 0, 125]
abbrev dktX1_isRight_0 : List UInt8 := dkwX1_isRight_0 ++ dktX1_isRight_1
theorem dksX1_isRight_0 : cX1_isRight.data.toList.drop 0 = dktX1_isRight_0 := by decide +kernel
theorem dksX1_isRight_1 : cX1_isRight.data.toList.drop 4 = dktX1_isRight_1 := dk_seg dksX1_isRight_0 4 rfl rfl
theorem dksX1_isRight_2 : cX1_isRight.data.toList.drop 32 = dktX1_isRight_2 := dk_seg dksX1_isRight_1 28 rfl rfl
theorem dksX1_isRight_3 : cX1_isRight.data.toList.drop 56 = dktX1_isRight_3 := dk_seg dksX1_isRight_2 24 rfl rfl
theorem dksX1_isRight_4 : cX1_isRight.data.toList.drop 80 = dktX1_isRight_4 := dk_seg dksX1_isRight_3 24 rfl rfl
theorem dksX1_isRight_5 : cX1_isRight.data.toList.drop 102 = dktX1_isRight_5 := dk_seg dksX1_isRight_4 22 rfl rfl
theorem dksX1_isRight_6 : cX1_isRight.data.toList.drop 125 = dktX1_isRight_6 := dk_seg dksX1_isRight_5 23 rfl rfl
theorem dX1_isRight_0 : decode cX1_isRight 0 = .ok (.aload_n 1, 1) := dk_43 (dk_at dksX1_isRight_0 0 rfl rfl)
theorem dX1_isRight_1 : decode cX1_isRight 1 = .ok (.getfield 125, 3) := dk_180 0 125 (dk_at dksX1_isRight_0 1 rfl rfl)
theorem dX1_isRight_4 : decode cX1_isRight 4 = .ok (.lookupswitch 120 #[(1, 28), (2, 90)], 28) := by decide +kernel
theorem dX1_isRight_32 : decode cX1_isRight 32 = .ok (.aload_n 0, 1) := dk_42 (dk_at dksX1_isRight_2 0 rfl rfl)
theorem dX1_isRight_33 : decode cX1_isRight 33 = .ok (.getfield 33, 3) := dk_180 0 33 (dk_at dksX1_isRight_2 1 rfl rfl)
theorem dX1_isRight_36 : decode cX1_isRight 36 = .ok (.getfield 285, 3) := dk_180 1 29 (dk_at dksX1_isRight_2 4 rfl rfl)
theorem dX1_isRight_39 : decode cX1_isRight 39 = .ok (.aload_n 1, 1) := dk_43 (dk_at dksX1_isRight_2 7 rfl rfl)
theorem dX1_isRight_40 : decode cX1_isRight 40 = .ok (.getfield 128, 3) := dk_180 0 128 (dk_at dksX1_isRight_2 8 rfl rfl)
theorem dX1_isRight_43 : decode cX1_isRight 43 = .ok (.invokevirtual 212, 3) := dk_182 0 212 (dk_at dksX1_isRight_2 11 rfl rfl)
theorem dX1_isRight_46 : decode cX1_isRight 46 = .ok (.checkcast 181, 3) := dk_192 0 181 (dk_at dksX1_isRight_2 14 rfl rfl)
theorem dX1_isRight_49 : decode cX1_isRight 49 = .ok (.getfield 191, 3) := dk_180 0 191 (dk_at dksX1_isRight_2 17 rfl rfl)
theorem dX1_isRight_52 : decode cX1_isRight 52 = .ok (.aload_n 1, 1) := dk_43 (dk_at dksX1_isRight_2 20 rfl rfl)
theorem dX1_isRight_53 : decode cX1_isRight 53 = .ok (.getfield 172, 3) := dk_180 0 172 (dk_at dksX1_isRight_2 21 rfl rfl)
theorem dX1_isRight_56 : decode cX1_isRight 56 = .ok (.if_icmp .ne 34, 3) := dk_160 0 34 (dk_at dksX1_isRight_3 0 rfl rfl)
theorem dX1_isRight_59 : decode cX1_isRight 59 = .ok (.aload_n 0, 1) := dk_42 (dk_at dksX1_isRight_3 3 rfl rfl)
theorem dX1_isRight_60 : decode cX1_isRight 60 = .ok (.getfield 33, 3) := dk_180 0 33 (dk_at dksX1_isRight_3 4 rfl rfl)
theorem dX1_isRight_63 : decode cX1_isRight 63 = .ok (.getfield 285, 3) := dk_180 1 29 (dk_at dksX1_isRight_3 7 rfl rfl)
theorem dX1_isRight_66 : decode cX1_isRight 66 = .ok (.aload_n 1, 1) := dk_43 (dk_at dksX1_isRight_3 10 rfl rfl)
theorem dX1_isRight_67 : decode cX1_isRight 67 = .ok (.getfield 128, 3) := dk_180 0 128 (dk_at dksX1_isRight_3 11 rfl rfl)
theorem dX1_isRight_70 : decode cX1_isRight 70 = .ok (.invokevirtual 212, 3) := dk_182 0 212 (dk_at dksX1_isRight_3 14 rfl rfl)
theorem dX1_isRight_73 : decode cX1_isRight 73 = .ok (.checkcast 181, 3) := dk_192 0 181 (dk_at dksX1_isRight_3 17 rfl rfl)
theorem dX1_isRight_76 : decode cX1_isRight 76 = .ok (.aload_n 1, 1) := dk_43 (dk_at dksX1_isRight_3 20 rfl rfl)
theorem dX1_isRight_77 : decode cX1_isRight 77 = .ok (.getfield 109, 3) := dk_180 0 109 (dk_at dksX1_isRight_3 21 rfl rfl)
theorem dX1_isRight_80 : decode cX1_isRight 80 = .ok (.invokevirtual 321, 3) := dk_182 1 65 (dk_at dksX1_isRight_4 0 rfl rfl)
theorem dX1_isRight_83 : decode cX1_isRight 83 = .ok (.ifCond .eq 7, 3) := dk_153 0 7 (dk_at dksX1_isRight_4 3 rfl rfl)
theorem dX1_isRight_86 : decode cX1_isRight 86 = .ok (.iconst 1, 1) := dk_4 (dk_at dksX1_isRight_4 6 rfl rfl)
theorem dX1_isRight_87 : decode cX1_isRight 87 = .ok (.goto 50, 3) := dk_167 0 50 (dk_at dksX1_isRight_4 7 rfl rfl)
theorem dX1_isRight_90 : decode cX1_isRight 90 = .ok (.iconst 0, 1) := dk_3 (dk_at dksX1_isRight_4 10 rfl rfl)
theorem dX1_isRight_91 : decode cX1_isRight 91 = .ok (.goto 46, 3) := dk_167 0 46 (dk_at dksX1_isRight_4 11 rfl rfl)
theorem dX1_isRight_94 : decode cX1_isRight 94 = .ok (.aload_n 1, 1) := dk_43 (dk_at dksX1_isRight_4 14 rfl rfl)
theorem dX1_isRight_95 : decode cX1_isRight 95 = .ok (.invokevirtual 324, 3) := dk_182 1 68 (dk_at dksX1_isRight_4 15 rfl rfl)
theorem dX1_isRight_98 : decode cX1_isRight 98 = .ok (.ifCond .ne 22, 3) := dk_154 0 22 (dk_at dksX1_isRight_4 18 rfl rfl)
theorem dX1_isRight_101 : decode cX1_isRight 101 = .ok (.aload_n 0, 1) := dk_42 (dk_at dksX1_isRight_4 21 rfl rfl)
theorem dX1_isRight_102 : decode cX1_isRight 102 = .ok (.getfield 33, 3) := dk_180 0 33 (dk_at dksX1_isRight_5 0 rfl rfl)
theorem dX1_isRight_105 : decode cX1_isRight 105 = .ok (.aload_n 1, 1) := dk_43 (dk_at dksX1_isRight_5 3 rfl rfl)
theorem dX1_isRight_106 : decode cX1_isRight 106 = .ok (.getfield 128, 3) := dk_180 0 128 (dk_at dksX1_isRight_5 4 rfl rfl)
theorem dX1_isRight_109 : decode cX1_isRight 109 = .ok (.invokevirtual 205, 3) := dk_182 0 205 (dk_at dksX1_isRight_5 7 rfl rfl)
theorem dX1_isRight_112 : decode cX1_isRight 112 = .ok (.aload_n 1, 1) := dk_43 (dk_at dksX1_isRight_5 10 rfl rfl)
theorem dX1_isRight_113 : decode cX1_isRight 113 = .ok (.if_acmp .ne 7, 3) := dk_166 0 7 (dk_at dksX1_isRight_5 11 rfl rfl)
theorem dX1_isRight_116 : decode cX1_isRight 116 = .ok (.iconst 1, 1) := dk_4 (dk_at dksX1_isRight_5 14 rfl rfl)
theorem dX1_isRight_117 : decode cX1_isRight 117 = .ok (.goto 20, 3) := dk_167 0 20 (dk_at dksX1_isRight_5 15 rfl rfl)
theorem dX1_isRight_120 : decode cX1_isRight 120 = .ok (.iconst 0, 1) := dk_3 (dk_at dksX1_isRight_5 18 rfl rfl)
theorem dX1_isRight_121 : decode cX1_isRight 121 = .ok (.goto 16, 3) := dk_167 0 16 (dk_at dksX1_isRight_5 19 rfl rfl)
theorem dX1_isRight_124 : decode cX1_isRight 124 = .ok (.aload_n 1, 1) := dk_43 (dk_at dksX1_isRight_5 22 rfl rfl)
theorem dX1_isRight_125 : decode cX1_isRight 125 = .ok (.getfield 128, 3) := dk_180 0 128 (dk_at dksX1_isRight_6 0 rfl rfl)
theorem dX1_isRight_128 : decode cX1_isRight 128 = .ok (.iconst (-1), 1) := dk_2 (dk_at dksX1_isRight_6 3 rfl rfl)
theorem dX1_isRight_129 : decode cX1_isRight 129 = .ok (.if_icmp .ne 7, 3) := dk_160 0 7 (dk_at dksX1_isRight_6 4 rfl rfl)
theorem dX1_isRight_132 : decode cX1_isRight 132 = .ok (.iconst 1, 1) := dk_4 (dk_at dksX1_isRight_6 7 rfl rfl)
theorem dX1_isRight_133 : decode cX1_isRight 133 = .ok (.goto 4, 3) := dk_167 0 4 (dk_at dksX1_isRight_6 8 rfl rfl)
theorem dX1_isRight_136 : decode cX1_isRight 136 = .ok (.iconst 0, 1) := dk_3 (dk_at dksX1_isRight_6 11 rfl rfl)
theorem dX1_isRight_137 : decode cX1_isRight 137 = .ok (.ireturn, 1) := dk_172 (dk_at dksX1_isRight_6 12 rfl rfl)
abbrev cX1_save : ByteArray := prog_1_method_54_code
def yX1_save : MethodName := ⟨RX1, "save", "()I"⟩
def dkwX1_save_0 : List UInt8 := [42, 187, 0, 30, 89, 42, 180, 0, 33, 183, 0, 74, 181, 1, 149, 42, 180, 0, 33, 180, 1, 97, 172]
abbrev dktX1_save_0 : List UInt8 := dkwX1_save_0 ++ []
theorem dksX1_save_0 : cX1_save.data.toList.drop 0 = dktX1_save_0 := by decide +kernel
theorem dX1_save_0 : decode cX1_save 0 = .ok (.aload_n 0, 1) := dk_42 (dk_at dksX1_save_0 0 rfl rfl)
theorem dX1_save_1 : decode cX1_save 1 = .ok (.new 30, 3) := dk_187 0 30 (dk_at dksX1_save_0 1 rfl rfl)
theorem dX1_save_4 : decode cX1_save 4 = .ok (.dup, 1) := dk_89 (dk_at dksX1_save_0 4 rfl rfl)
theorem dX1_save_5 : decode cX1_save 5 = .ok (.aload_n 0, 1) := dk_42 (dk_at dksX1_save_0 5 rfl rfl)
theorem dX1_save_6 : decode cX1_save 6 = .ok (.getfield 33, 3) := dk_180 0 33 (dk_at dksX1_save_0 6 rfl rfl)
theorem dX1_save_9 : decode cX1_save 9 = .ok (.invokespecial 74, 3) := dk_183 0 74 (dk_at dksX1_save_0 9 rfl rfl)
theorem dX1_save_12 : decode cX1_save 12 = .ok (.putfield 405, 3) := dk_181 1 149 (dk_at dksX1_save_0 12 rfl rfl)
theorem dX1_save_15 : decode cX1_save 15 = .ok (.aload_n 0, 1) := dk_42 (dk_at dksX1_save_0 15 rfl rfl)
theorem dX1_save_16 : decode cX1_save 16 = .ok (.getfield 33, 3) := dk_180 0 33 (dk_at dksX1_save_0 16 rfl rfl)
theorem dX1_save_19 : decode cX1_save 19 = .ok (.getfield 353, 3) := dk_180 1 97 (dk_at dksX1_save_0 19 rfl rfl)
theorem dX1_save_22 : decode cX1_save 22 = .ok (.ireturn, 1) := dk_172 (dk_at dksX1_save_0 22 rfl rfl)
abbrev cX1_change : ByteArray := prog_1_method_8_code
def yX1_change : MethodName := ⟨RX1, "change", "(LGargoyleTower$World;)V"⟩
def dkwX1_change_1 : List UInt8 := [180, 0, 40, 42, 180, 0, 33, 182, 0, 63, 42, 43, 181, 0, 33, 177]
abbrev dktX1_change_1 : List UInt8 := dkwX1_change_1 ++ []
def dkwX1_change_0 : List UInt8 := [42, 180, 0, 40, 182, 0, 55, 16, 8, 160, 0, 14, 42, 180, 0, 40, 182, 0, 59, 192, 0, 30, 77, 42]
abbrev dktX1_change_0 : List UInt8 := dkwX1_change_0 ++ dktX1_change_1
theorem dksX1_change_0 : cX1_change.data.toList.drop 0 = dktX1_change_0 := by decide +kernel
theorem dksX1_change_1 : cX1_change.data.toList.drop 24 = dktX1_change_1 := dk_seg dksX1_change_0 24 rfl rfl
theorem dX1_change_0 : decode cX1_change 0 = .ok (.aload_n 0, 1) := dk_42 (dk_at dksX1_change_0 0 rfl rfl)
theorem dX1_change_1 : decode cX1_change 1 = .ok (.getfield 40, 3) := dk_180 0 40 (dk_at dksX1_change_0 1 rfl rfl)
theorem dX1_change_4 : decode cX1_change 4 = .ok (.invokevirtual 55, 3) := dk_182 0 55 (dk_at dksX1_change_0 4 rfl rfl)
theorem dX1_change_7 : decode cX1_change 7 = .ok (.bipush 8, 2) := dk_16 8 (dk_at dksX1_change_0 7 rfl rfl)
theorem dX1_change_9 : decode cX1_change 9 = .ok (.if_icmp .ne 14, 3) := dk_160 0 14 (dk_at dksX1_change_0 9 rfl rfl)
theorem dX1_change_12 : decode cX1_change 12 = .ok (.aload_n 0, 1) := dk_42 (dk_at dksX1_change_0 12 rfl rfl)
theorem dX1_change_13 : decode cX1_change 13 = .ok (.getfield 40, 3) := dk_180 0 40 (dk_at dksX1_change_0 13 rfl rfl)
theorem dX1_change_16 : decode cX1_change 16 = .ok (.invokevirtual 59, 3) := dk_182 0 59 (dk_at dksX1_change_0 16 rfl rfl)
theorem dX1_change_19 : decode cX1_change 19 = .ok (.checkcast 30, 3) := dk_192 0 30 (dk_at dksX1_change_0 19 rfl rfl)
theorem dX1_change_22 : decode cX1_change 22 = .ok (.astore_n 2, 1) := dk_77 (dk_at dksX1_change_0 22 rfl rfl)
theorem dX1_change_23 : decode cX1_change 23 = .ok (.aload_n 0, 1) := dk_42 (dk_at dksX1_change_0 23 rfl rfl)
theorem dX1_change_24 : decode cX1_change 24 = .ok (.getfield 40, 3) := dk_180 0 40 (dk_at dksX1_change_1 0 rfl rfl)
theorem dX1_change_27 : decode cX1_change 27 = .ok (.aload_n 0, 1) := dk_42 (dk_at dksX1_change_1 3 rfl rfl)
theorem dX1_change_28 : decode cX1_change 28 = .ok (.getfield 33, 3) := dk_180 0 33 (dk_at dksX1_change_1 4 rfl rfl)
theorem dX1_change_31 : decode cX1_change 31 = .ok (.invokevirtual 63, 3) := dk_182 0 63 (dk_at dksX1_change_1 7 rfl rfl)
theorem dX1_change_34 : decode cX1_change 34 = .ok (.aload_n 0, 1) := dk_42 (dk_at dksX1_change_1 10 rfl rfl)
theorem dX1_change_35 : decode cX1_change 35 = .ok (.aload_n 1, 1) := dk_43 (dk_at dksX1_change_1 11 rfl rfl)
theorem dX1_change_36 : decode cX1_change 36 = .ok (.putfield 33, 3) := dk_181 0 33 (dk_at dksX1_change_1 12 rfl rfl)
theorem dX1_change_39 : decode cX1_change 39 = .ok (.return_, 1) := dk_177 (dk_at dksX1_change_1 15 rfl rfl)
abbrev cX1_refused : ByteArray := prog_1_method_9_code
def yX1_refused : MethodName := ⟨RX1, "refused", "(LGargoyleTower$RefusedException;)I"⟩
def dkwX1_refused_0 : List UInt8 := [42, 43, 181, 0, 67, 187, 0, 71, 89, 183, 0, 73, 191]
abbrev dktX1_refused_0 : List UInt8 := dkwX1_refused_0 ++ []
theorem dksX1_refused_0 : cX1_refused.data.toList.drop 0 = dktX1_refused_0 := by decide +kernel
theorem dX1_refused_0 : decode cX1_refused 0 = .ok (.aload_n 0, 1) := dk_42 (dk_at dksX1_refused_0 0 rfl rfl)
theorem dX1_refused_1 : decode cX1_refused 1 = .ok (.aload_n 1, 1) := dk_43 (dk_at dksX1_refused_0 1 rfl rfl)
theorem dX1_refused_2 : decode cX1_refused 2 = .ok (.putfield 67, 3) := dk_181 0 67 (dk_at dksX1_refused_0 2 rfl rfl)
theorem dX1_refused_5 : decode cX1_refused 5 = .ok (.new 71, 3) := dk_187 0 71 (dk_at dksX1_refused_0 5 rfl rfl)
theorem dX1_refused_8 : decode cX1_refused 8 = .ok (.dup, 1) := dk_89 (dk_at dksX1_refused_0 8 rfl rfl)
theorem dX1_refused_9 : decode cX1_refused 9 = .ok (.invokespecial 73, 3) := dk_183 0 73 (dk_at dksX1_refused_0 9 rfl rfl)
theorem dX1_refused_12 : decode cX1_refused 12 = .ok (.athrow, 1) := dk_191 (dk_at dksX1_refused_0 12 rfl rfl)
abbrev cX1_blockOf : ByteArray := prog_1_method_14_code
def yX1_blockOf : MethodName := ⟨RX1, "blockOf", "(II)I"⟩
def dkwX1_blockOf_4 : List UInt8 := [167, 0, 7, 45, 180, 0, 131, 172]
abbrev dktX1_blockOf_4 : List UInt8 := dkwX1_blockOf_4 ++ []
def dkwX1_blockOf_3 : List UInt8 := [180, 0, 119, 167, 0, 28, 45, 180, 0, 122, 167, 0, 21, 45, 180, 0, 125, 167, 0, 14, 45, 180, 0, 128]
abbrev dktX1_blockOf_3 : List UInt8 := dkwX1_blockOf_3 ++ dktX1_blockOf_4
def dkwX1_blockOf_2 : List UInt8 := [45, 180, 0, 109, 167, 0, 50, 45, 180, 0, 115, 153, 0, 7, 4, 167, 0, 39, 3, 167, 0, 35, 45]
abbrev dktX1_blockOf_2 : List UInt8 := dkwX1_blockOf_2 ++ dktX1_blockOf_3
def dkwX1_blockOf_1 : List UInt8 := [170, 0, 0, 0, 0, 0, 0, 90, 0, 0, 0, 0, 0, 0, 0, 5, 0, 0, 0, 40, 0, 0, 0, 47, 0, 0, 0, 62, 0, 0, 0, 69, 0, 0, 0, 76, 0, 0, 0, 83]
abbrev dktX1_blockOf_1 : List UInt8 := dkwX1_blockOf_1 ++ dktX1_blockOf_2
def dkwX1_blockOf_0 : List UInt8 := [42, 180, 0, 33, 27, 182, 0, 102, 78, 28, 3, 16, 6, 184, 0, 10, 184, 0, 105, 28]
abbrev dktX1_blockOf_0 : List UInt8 := dkwX1_blockOf_0 ++ dktX1_blockOf_1
theorem dksX1_blockOf_0 : cX1_blockOf.data.toList.drop 0 = dktX1_blockOf_0 := by decide +kernel
theorem dksX1_blockOf_1 : cX1_blockOf.data.toList.drop 20 = dktX1_blockOf_1 := dk_seg dksX1_blockOf_0 20 rfl rfl
theorem dksX1_blockOf_2 : cX1_blockOf.data.toList.drop 60 = dktX1_blockOf_2 := dk_seg dksX1_blockOf_1 40 rfl rfl
theorem dksX1_blockOf_3 : cX1_blockOf.data.toList.drop 83 = dktX1_blockOf_3 := dk_seg dksX1_blockOf_2 23 rfl rfl
theorem dksX1_blockOf_4 : cX1_blockOf.data.toList.drop 107 = dktX1_blockOf_4 := dk_seg dksX1_blockOf_3 24 rfl rfl
theorem dX1_blockOf_0 : decode cX1_blockOf 0 = .ok (.aload_n 0, 1) := dk_42 (dk_at dksX1_blockOf_0 0 rfl rfl)
theorem dX1_blockOf_1 : decode cX1_blockOf 1 = .ok (.getfield 33, 3) := dk_180 0 33 (dk_at dksX1_blockOf_0 1 rfl rfl)
theorem dX1_blockOf_4 : decode cX1_blockOf 4 = .ok (.iload_n 1, 1) := dk_27 (dk_at dksX1_blockOf_0 4 rfl rfl)
theorem dX1_blockOf_5 : decode cX1_blockOf 5 = .ok (.invokevirtual 102, 3) := dk_182 0 102 (dk_at dksX1_blockOf_0 5 rfl rfl)
theorem dX1_blockOf_8 : decode cX1_blockOf 8 = .ok (.astore_n 3, 1) := dk_78 (dk_at dksX1_blockOf_0 8 rfl rfl)
theorem dX1_blockOf_9 : decode cX1_blockOf 9 = .ok (.iload_n 2, 1) := dk_28 (dk_at dksX1_blockOf_0 9 rfl rfl)
theorem dX1_blockOf_10 : decode cX1_blockOf 10 = .ok (.iconst 0, 1) := dk_3 (dk_at dksX1_blockOf_0 10 rfl rfl)
theorem dX1_blockOf_11 : decode cX1_blockOf 11 = .ok (.bipush 6, 2) := dk_16 6 (dk_at dksX1_blockOf_0 11 rfl rfl)
theorem dX1_blockOf_13 : decode cX1_blockOf 13 = .ok (.invokestatic 10, 3) := dk_184 0 10 (dk_at dksX1_blockOf_0 13 rfl rfl)
theorem dX1_blockOf_16 : decode cX1_blockOf 16 = .ok (.invokestatic 105, 3) := dk_184 0 105 (dk_at dksX1_blockOf_0 16 rfl rfl)
theorem dX1_blockOf_19 : decode cX1_blockOf 19 = .ok (.iload_n 2, 1) := dk_28 (dk_at dksX1_blockOf_0 19 rfl rfl)
theorem dX1_blockOf_20 : decode cX1_blockOf 20 = .ok (.tableswitch 90 0 5 #[40, 47, 62, 69, 76, 83], 40) := by decide +kernel
theorem dX1_blockOf_60 : decode cX1_blockOf 60 = .ok (.aload_n 3, 1) := dk_45 (dk_at dksX1_blockOf_2 0 rfl rfl)
theorem dX1_blockOf_61 : decode cX1_blockOf 61 = .ok (.getfield 109, 3) := dk_180 0 109 (dk_at dksX1_blockOf_2 1 rfl rfl)
theorem dX1_blockOf_64 : decode cX1_blockOf 64 = .ok (.goto 50, 3) := dk_167 0 50 (dk_at dksX1_blockOf_2 4 rfl rfl)
theorem dX1_blockOf_67 : decode cX1_blockOf 67 = .ok (.aload_n 3, 1) := dk_45 (dk_at dksX1_blockOf_2 7 rfl rfl)
theorem dX1_blockOf_68 : decode cX1_blockOf 68 = .ok (.getfield 115, 3) := dk_180 0 115 (dk_at dksX1_blockOf_2 8 rfl rfl)
theorem dX1_blockOf_71 : decode cX1_blockOf 71 = .ok (.ifCond .eq 7, 3) := dk_153 0 7 (dk_at dksX1_blockOf_2 11 rfl rfl)
theorem dX1_blockOf_74 : decode cX1_blockOf 74 = .ok (.iconst 1, 1) := dk_4 (dk_at dksX1_blockOf_2 14 rfl rfl)
theorem dX1_blockOf_75 : decode cX1_blockOf 75 = .ok (.goto 39, 3) := dk_167 0 39 (dk_at dksX1_blockOf_2 15 rfl rfl)
theorem dX1_blockOf_78 : decode cX1_blockOf 78 = .ok (.iconst 0, 1) := dk_3 (dk_at dksX1_blockOf_2 18 rfl rfl)
theorem dX1_blockOf_79 : decode cX1_blockOf 79 = .ok (.goto 35, 3) := dk_167 0 35 (dk_at dksX1_blockOf_2 19 rfl rfl)
theorem dX1_blockOf_82 : decode cX1_blockOf 82 = .ok (.aload_n 3, 1) := dk_45 (dk_at dksX1_blockOf_2 22 rfl rfl)
theorem dX1_blockOf_83 : decode cX1_blockOf 83 = .ok (.getfield 119, 3) := dk_180 0 119 (dk_at dksX1_blockOf_3 0 rfl rfl)
theorem dX1_blockOf_86 : decode cX1_blockOf 86 = .ok (.goto 28, 3) := dk_167 0 28 (dk_at dksX1_blockOf_3 3 rfl rfl)
theorem dX1_blockOf_89 : decode cX1_blockOf 89 = .ok (.aload_n 3, 1) := dk_45 (dk_at dksX1_blockOf_3 6 rfl rfl)
theorem dX1_blockOf_90 : decode cX1_blockOf 90 = .ok (.getfield 122, 3) := dk_180 0 122 (dk_at dksX1_blockOf_3 7 rfl rfl)
theorem dX1_blockOf_93 : decode cX1_blockOf 93 = .ok (.goto 21, 3) := dk_167 0 21 (dk_at dksX1_blockOf_3 10 rfl rfl)
theorem dX1_blockOf_96 : decode cX1_blockOf 96 = .ok (.aload_n 3, 1) := dk_45 (dk_at dksX1_blockOf_3 13 rfl rfl)
theorem dX1_blockOf_97 : decode cX1_blockOf 97 = .ok (.getfield 125, 3) := dk_180 0 125 (dk_at dksX1_blockOf_3 14 rfl rfl)
theorem dX1_blockOf_100 : decode cX1_blockOf 100 = .ok (.goto 14, 3) := dk_167 0 14 (dk_at dksX1_blockOf_3 17 rfl rfl)
theorem dX1_blockOf_103 : decode cX1_blockOf 103 = .ok (.aload_n 3, 1) := dk_45 (dk_at dksX1_blockOf_3 20 rfl rfl)
theorem dX1_blockOf_104 : decode cX1_blockOf 104 = .ok (.getfield 128, 3) := dk_180 0 128 (dk_at dksX1_blockOf_3 21 rfl rfl)
theorem dX1_blockOf_107 : decode cX1_blockOf 107 = .ok (.goto 7, 3) := dk_167 0 7 (dk_at dksX1_blockOf_4 0 rfl rfl)
theorem dX1_blockOf_110 : decode cX1_blockOf 110 = .ok (.aload_n 3, 1) := dk_45 (dk_at dksX1_blockOf_4 3 rfl rfl)
theorem dX1_blockOf_111 : decode cX1_blockOf 111 = .ok (.getfield 131, 3) := dk_180 0 131 (dk_at dksX1_blockOf_4 4 rfl rfl)
theorem dX1_blockOf_114 : decode cX1_blockOf 114 = .ok (.ireturn, 1) := dk_172 (dk_at dksX1_blockOf_4 7 rfl rfl)
abbrev cX1_isAhead : ByteArray := prog_1_method_15_code
def yX1_isAhead : MethodName := ⟨RX1, "isAhead", "(LGargoyleTower$Block;LGargoyleTower$Block;)Z"⟩
def dkwX1_isAhead_1 : List UInt8 := [180, 0, 122, 43, 180, 0, 122, 162, 0, 7, 4, 167, 0, 4, 3, 172]
abbrev dktX1_isAhead_1 : List UInt8 := dkwX1_isAhead_1 ++ []
def dkwX1_isAhead_0 : List UInt8 := [42, 180, 0, 119, 43, 180, 0, 119, 163, 0, 25, 42, 180, 0, 119, 43, 180, 0, 119, 160, 0, 18, 42]
abbrev dktX1_isAhead_0 : List UInt8 := dkwX1_isAhead_0 ++ dktX1_isAhead_1
theorem dksX1_isAhead_0 : cX1_isAhead.data.toList.drop 0 = dktX1_isAhead_0 := by decide +kernel
theorem dksX1_isAhead_1 : cX1_isAhead.data.toList.drop 23 = dktX1_isAhead_1 := dk_seg dksX1_isAhead_0 23 rfl rfl
theorem dX1_isAhead_0 : decode cX1_isAhead 0 = .ok (.aload_n 0, 1) := dk_42 (dk_at dksX1_isAhead_0 0 rfl rfl)
theorem dX1_isAhead_1 : decode cX1_isAhead 1 = .ok (.getfield 119, 3) := dk_180 0 119 (dk_at dksX1_isAhead_0 1 rfl rfl)
theorem dX1_isAhead_4 : decode cX1_isAhead 4 = .ok (.aload_n 1, 1) := dk_43 (dk_at dksX1_isAhead_0 4 rfl rfl)
theorem dX1_isAhead_5 : decode cX1_isAhead 5 = .ok (.getfield 119, 3) := dk_180 0 119 (dk_at dksX1_isAhead_0 5 rfl rfl)
theorem dX1_isAhead_8 : decode cX1_isAhead 8 = .ok (.if_icmp .gt 25, 3) := dk_163 0 25 (dk_at dksX1_isAhead_0 8 rfl rfl)
theorem dX1_isAhead_11 : decode cX1_isAhead 11 = .ok (.aload_n 0, 1) := dk_42 (dk_at dksX1_isAhead_0 11 rfl rfl)
theorem dX1_isAhead_12 : decode cX1_isAhead 12 = .ok (.getfield 119, 3) := dk_180 0 119 (dk_at dksX1_isAhead_0 12 rfl rfl)
theorem dX1_isAhead_15 : decode cX1_isAhead 15 = .ok (.aload_n 1, 1) := dk_43 (dk_at dksX1_isAhead_0 15 rfl rfl)
theorem dX1_isAhead_16 : decode cX1_isAhead 16 = .ok (.getfield 119, 3) := dk_180 0 119 (dk_at dksX1_isAhead_0 16 rfl rfl)
theorem dX1_isAhead_19 : decode cX1_isAhead 19 = .ok (.if_icmp .ne 18, 3) := dk_160 0 18 (dk_at dksX1_isAhead_0 19 rfl rfl)
theorem dX1_isAhead_22 : decode cX1_isAhead 22 = .ok (.aload_n 0, 1) := dk_42 (dk_at dksX1_isAhead_0 22 rfl rfl)
theorem dX1_isAhead_23 : decode cX1_isAhead 23 = .ok (.getfield 122, 3) := dk_180 0 122 (dk_at dksX1_isAhead_1 0 rfl rfl)
theorem dX1_isAhead_26 : decode cX1_isAhead 26 = .ok (.aload_n 1, 1) := dk_43 (dk_at dksX1_isAhead_1 3 rfl rfl)
theorem dX1_isAhead_27 : decode cX1_isAhead 27 = .ok (.getfield 122, 3) := dk_180 0 122 (dk_at dksX1_isAhead_1 4 rfl rfl)
theorem dX1_isAhead_30 : decode cX1_isAhead 30 = .ok (.if_icmp .ge 7, 3) := dk_162 0 7 (dk_at dksX1_isAhead_1 7 rfl rfl)
theorem dX1_isAhead_33 : decode cX1_isAhead 33 = .ok (.iconst 1, 1) := dk_4 (dk_at dksX1_isAhead_1 10 rfl rfl)
theorem dX1_isAhead_34 : decode cX1_isAhead 34 = .ok (.goto 4, 3) := dk_167 0 4 (dk_at dksX1_isAhead_1 11 rfl rfl)
theorem dX1_isAhead_37 : decode cX1_isAhead 37 = .ok (.iconst 0, 1) := dk_3 (dk_at dksX1_isAhead_1 14 rfl rfl)
theorem dX1_isAhead_38 : decode cX1_isAhead 38 = .ok (.ireturn, 1) := dk_172 (dk_at dksX1_isAhead_1 15 rfl rfl)
abbrev cX1_ropeOf : ByteArray := prog_1_method_18_code
def yX1_ropeOf : MethodName := ⟨RX1, "ropeOf", "(II)I"⟩
def dkwX1_ropeOf_3 : List UInt8 := [180, 0, 191, 167, 0, 15, 45, 182, 0, 193, 153, 0, 7, 4, 167, 0, 4, 3, 172]
abbrev dktX1_ropeOf_3 : List UInt8 := dkwX1_ropeOf_3 ++ []
def dkwX1_ropeOf_2 : List UInt8 := [45, 180, 0, 180, 167, 0, 36, 45, 180, 0, 185, 167, 0, 29, 45, 182, 0, 188, 167, 0, 22, 45]
abbrev dktX1_ropeOf_2 : List UInt8 := dkwX1_ropeOf_2 ++ dktX1_ropeOf_3
def dkwX1_ropeOf_1 : List UInt8 := [170, 0, 0, 0, 57, 0, 0, 0, 0, 0, 0, 0, 3, 0, 0, 0, 29, 0, 0, 0, 36, 0, 0, 0, 43, 0, 0, 0, 50]
abbrev dktX1_ropeOf_1 : List UInt8 := dkwX1_ropeOf_1 ++ dktX1_ropeOf_2
def dkwX1_ropeOf_0 : List UInt8 := [42, 180, 0, 33, 27, 182, 0, 177, 78, 28, 3, 7, 184, 0, 10, 184, 0, 105, 28]
abbrev dktX1_ropeOf_0 : List UInt8 := dkwX1_ropeOf_0 ++ dktX1_ropeOf_1
theorem dksX1_ropeOf_0 : cX1_ropeOf.data.toList.drop 0 = dktX1_ropeOf_0 := by decide +kernel
theorem dksX1_ropeOf_1 : cX1_ropeOf.data.toList.drop 19 = dktX1_ropeOf_1 := dk_seg dksX1_ropeOf_0 19 rfl rfl
theorem dksX1_ropeOf_2 : cX1_ropeOf.data.toList.drop 48 = dktX1_ropeOf_2 := dk_seg dksX1_ropeOf_1 29 rfl rfl
theorem dksX1_ropeOf_3 : cX1_ropeOf.data.toList.drop 70 = dktX1_ropeOf_3 := dk_seg dksX1_ropeOf_2 22 rfl rfl
theorem dX1_ropeOf_0 : decode cX1_ropeOf 0 = .ok (.aload_n 0, 1) := dk_42 (dk_at dksX1_ropeOf_0 0 rfl rfl)
theorem dX1_ropeOf_1 : decode cX1_ropeOf 1 = .ok (.getfield 33, 3) := dk_180 0 33 (dk_at dksX1_ropeOf_0 1 rfl rfl)
theorem dX1_ropeOf_4 : decode cX1_ropeOf 4 = .ok (.iload_n 1, 1) := dk_27 (dk_at dksX1_ropeOf_0 4 rfl rfl)
theorem dX1_ropeOf_5 : decode cX1_ropeOf 5 = .ok (.invokevirtual 177, 3) := dk_182 0 177 (dk_at dksX1_ropeOf_0 5 rfl rfl)
theorem dX1_ropeOf_8 : decode cX1_ropeOf 8 = .ok (.astore_n 3, 1) := dk_78 (dk_at dksX1_ropeOf_0 8 rfl rfl)
theorem dX1_ropeOf_9 : decode cX1_ropeOf 9 = .ok (.iload_n 2, 1) := dk_28 (dk_at dksX1_ropeOf_0 9 rfl rfl)
theorem dX1_ropeOf_10 : decode cX1_ropeOf 10 = .ok (.iconst 0, 1) := dk_3 (dk_at dksX1_ropeOf_0 10 rfl rfl)
theorem dX1_ropeOf_11 : decode cX1_ropeOf 11 = .ok (.iconst 4, 1) := dk_7 (dk_at dksX1_ropeOf_0 11 rfl rfl)
theorem dX1_ropeOf_12 : decode cX1_ropeOf 12 = .ok (.invokestatic 10, 3) := dk_184 0 10 (dk_at dksX1_ropeOf_0 12 rfl rfl)
theorem dX1_ropeOf_15 : decode cX1_ropeOf 15 = .ok (.invokestatic 105, 3) := dk_184 0 105 (dk_at dksX1_ropeOf_0 15 rfl rfl)
theorem dX1_ropeOf_18 : decode cX1_ropeOf 18 = .ok (.iload_n 2, 1) := dk_28 (dk_at dksX1_ropeOf_0 18 rfl rfl)
theorem dX1_ropeOf_19 : decode cX1_ropeOf 19 = .ok (.tableswitch 57 0 3 #[29, 36, 43, 50], 29) := by decide +kernel
theorem dX1_ropeOf_48 : decode cX1_ropeOf 48 = .ok (.aload_n 3, 1) := dk_45 (dk_at dksX1_ropeOf_2 0 rfl rfl)
theorem dX1_ropeOf_49 : decode cX1_ropeOf 49 = .ok (.getfield 180, 3) := dk_180 0 180 (dk_at dksX1_ropeOf_2 1 rfl rfl)
theorem dX1_ropeOf_52 : decode cX1_ropeOf 52 = .ok (.goto 36, 3) := dk_167 0 36 (dk_at dksX1_ropeOf_2 4 rfl rfl)
theorem dX1_ropeOf_55 : decode cX1_ropeOf 55 = .ok (.aload_n 3, 1) := dk_45 (dk_at dksX1_ropeOf_2 7 rfl rfl)
theorem dX1_ropeOf_56 : decode cX1_ropeOf 56 = .ok (.getfield 185, 3) := dk_180 0 185 (dk_at dksX1_ropeOf_2 8 rfl rfl)
theorem dX1_ropeOf_59 : decode cX1_ropeOf 59 = .ok (.goto 29, 3) := dk_167 0 29 (dk_at dksX1_ropeOf_2 11 rfl rfl)
theorem dX1_ropeOf_62 : decode cX1_ropeOf 62 = .ok (.aload_n 3, 1) := dk_45 (dk_at dksX1_ropeOf_2 14 rfl rfl)
theorem dX1_ropeOf_63 : decode cX1_ropeOf 63 = .ok (.invokevirtual 188, 3) := dk_182 0 188 (dk_at dksX1_ropeOf_2 15 rfl rfl)
theorem dX1_ropeOf_66 : decode cX1_ropeOf 66 = .ok (.goto 22, 3) := dk_167 0 22 (dk_at dksX1_ropeOf_2 18 rfl rfl)
theorem dX1_ropeOf_69 : decode cX1_ropeOf 69 = .ok (.aload_n 3, 1) := dk_45 (dk_at dksX1_ropeOf_2 21 rfl rfl)
theorem dX1_ropeOf_70 : decode cX1_ropeOf 70 = .ok (.getfield 191, 3) := dk_180 0 191 (dk_at dksX1_ropeOf_3 0 rfl rfl)
theorem dX1_ropeOf_73 : decode cX1_ropeOf 73 = .ok (.goto 15, 3) := dk_167 0 15 (dk_at dksX1_ropeOf_3 3 rfl rfl)
theorem dX1_ropeOf_76 : decode cX1_ropeOf 76 = .ok (.aload_n 3, 1) := dk_45 (dk_at dksX1_ropeOf_3 6 rfl rfl)
theorem dX1_ropeOf_77 : decode cX1_ropeOf 77 = .ok (.invokevirtual 193, 3) := dk_182 0 193 (dk_at dksX1_ropeOf_3 7 rfl rfl)
theorem dX1_ropeOf_80 : decode cX1_ropeOf 80 = .ok (.ifCond .eq 7, 3) := dk_153 0 7 (dk_at dksX1_ropeOf_3 10 rfl rfl)
theorem dX1_ropeOf_83 : decode cX1_ropeOf 83 = .ok (.iconst 1, 1) := dk_4 (dk_at dksX1_ropeOf_3 13 rfl rfl)
theorem dX1_ropeOf_84 : decode cX1_ropeOf 84 = .ok (.goto 4, 3) := dk_167 0 4 (dk_at dksX1_ropeOf_3 14 rfl rfl)
theorem dX1_ropeOf_87 : decode cX1_ropeOf 87 = .ok (.iconst 0, 1) := dk_3 (dk_at dksX1_ropeOf_3 17 rfl rfl)
theorem dX1_ropeOf_88 : decode cX1_ropeOf 88 = .ok (.ireturn, 1) := dk_172 (dk_at dksX1_ropeOf_3 18 rfl rfl)
abbrev cX1_blockIn : ByteArray := prog_1_method_22_code
def yX1_blockIn : MethodName := ⟨RX1, "blockIn", "(I)I"⟩
def dkwX1_blockIn_1 : List UInt8 := [180, 0, 172, 172]
abbrev dktX1_blockIn_1 : List UInt8 := dkwX1_blockIn_1 ++ []
def dkwX1_blockIn_0 : List UInt8 := [27, 16, 20, 184, 0, 202, 42, 180, 0, 33, 27, 182, 0, 205, 77, 44, 199, 0, 7, 2, 167, 0, 7, 44]
abbrev dktX1_blockIn_0 : List UInt8 := dkwX1_blockIn_0 ++ dktX1_blockIn_1
theorem dksX1_blockIn_0 : cX1_blockIn.data.toList.drop 0 = dktX1_blockIn_0 := by decide +kernel
theorem dksX1_blockIn_1 : cX1_blockIn.data.toList.drop 24 = dktX1_blockIn_1 := dk_seg dksX1_blockIn_0 24 rfl rfl
theorem dX1_blockIn_0 : decode cX1_blockIn 0 = .ok (.iload_n 1, 1) := dk_27 (dk_at dksX1_blockIn_0 0 rfl rfl)
theorem dX1_blockIn_1 : decode cX1_blockIn 1 = .ok (.bipush 20, 2) := dk_16 20 (dk_at dksX1_blockIn_0 1 rfl rfl)
theorem dX1_blockIn_3 : decode cX1_blockIn 3 = .ok (.invokestatic 202, 3) := dk_184 0 202 (dk_at dksX1_blockIn_0 3 rfl rfl)
theorem dX1_blockIn_6 : decode cX1_blockIn 6 = .ok (.aload_n 0, 1) := dk_42 (dk_at dksX1_blockIn_0 6 rfl rfl)
theorem dX1_blockIn_7 : decode cX1_blockIn 7 = .ok (.getfield 33, 3) := dk_180 0 33 (dk_at dksX1_blockIn_0 7 rfl rfl)
theorem dX1_blockIn_10 : decode cX1_blockIn 10 = .ok (.iload_n 1, 1) := dk_27 (dk_at dksX1_blockIn_0 10 rfl rfl)
theorem dX1_blockIn_11 : decode cX1_blockIn 11 = .ok (.invokevirtual 205, 3) := dk_182 0 205 (dk_at dksX1_blockIn_0 11 rfl rfl)
theorem dX1_blockIn_14 : decode cX1_blockIn 14 = .ok (.astore_n 2, 1) := dk_77 (dk_at dksX1_blockIn_0 14 rfl rfl)
theorem dX1_blockIn_15 : decode cX1_blockIn 15 = .ok (.aload_n 2, 1) := dk_44 (dk_at dksX1_blockIn_0 15 rfl rfl)
theorem dX1_blockIn_16 : decode cX1_blockIn 16 = .ok (.ifnonnull 7, 3) := dk_199 0 7 (dk_at dksX1_blockIn_0 16 rfl rfl)
theorem dX1_blockIn_19 : decode cX1_blockIn 19 = .ok (.iconst (-1), 1) := dk_2 (dk_at dksX1_blockIn_0 19 rfl rfl)
theorem dX1_blockIn_20 : decode cX1_blockIn 20 = .ok (.goto 7, 3) := dk_167 0 7 (dk_at dksX1_blockIn_0 20 rfl rfl)
theorem dX1_blockIn_23 : decode cX1_blockIn 23 = .ok (.aload_n 2, 1) := dk_44 (dk_at dksX1_blockIn_0 23 rfl rfl)
theorem dX1_blockIn_24 : decode cX1_blockIn 24 = .ok (.getfield 172, 3) := dk_180 0 172 (dk_at dksX1_blockIn_1 0 rfl rfl)
theorem dX1_blockIn_27 : decode cX1_blockIn 27 = .ok (.ireturn, 1) := dk_172 (dk_at dksX1_blockIn_1 3 rfl rfl)
abbrev cX1_weightOn : ByteArray := prog_1_method_23_code
def yX1_weightOn : MethodName := ⟨RX1, "weightOn", "(I)I"⟩
def dkwX1_weightOn_3 : List UInt8 := [167, 255, 204, 28, 172]
abbrev dktX1_weightOn_3 : List UInt8 := dkwX1_weightOn_3 ++ []
def dkwX1_weightOn_2 : List UInt8 := [25, 4, 180, 0, 128, 8, 108, 27, 160, 0, 11, 25, 4, 180, 0, 109, 167, 0, 4, 3, 96, 61]
abbrev dktX1_weightOn_2 : List UInt8 := dkwX1_weightOn_2 ++ dktX1_weightOn_3
def dkwX1_weightOn_1 : List UInt8 := [153, 0, 49, 45, 185, 0, 153, 1, 0, 192, 0, 110, 58, 4, 28, 25, 4, 180, 0, 125, 5, 160, 0, 22]
abbrev dktX1_weightOn_1 : List UInt8 := dkwX1_weightOn_1 ++ dktX1_weightOn_2
def dkwX1_weightOn_0 : List UInt8 := [27, 7, 184, 0, 202, 3, 61, 42, 180, 0, 33, 180, 0, 137, 182, 0, 141, 78, 45, 185, 0, 147, 1, 0]
abbrev dktX1_weightOn_0 : List UInt8 := dkwX1_weightOn_0 ++ dktX1_weightOn_1
theorem dksX1_weightOn_0 : cX1_weightOn.data.toList.drop 0 = dktX1_weightOn_0 := by decide +kernel
theorem dksX1_weightOn_1 : cX1_weightOn.data.toList.drop 24 = dktX1_weightOn_1 := dk_seg dksX1_weightOn_0 24 rfl rfl
theorem dksX1_weightOn_2 : cX1_weightOn.data.toList.drop 48 = dktX1_weightOn_2 := dk_seg dksX1_weightOn_1 24 rfl rfl
theorem dksX1_weightOn_3 : cX1_weightOn.data.toList.drop 70 = dktX1_weightOn_3 := dk_seg dksX1_weightOn_2 22 rfl rfl
theorem dX1_weightOn_0 : decode cX1_weightOn 0 = .ok (.iload_n 1, 1) := dk_27 (dk_at dksX1_weightOn_0 0 rfl rfl)
theorem dX1_weightOn_1 : decode cX1_weightOn 1 = .ok (.iconst 4, 1) := dk_7 (dk_at dksX1_weightOn_0 1 rfl rfl)
theorem dX1_weightOn_2 : decode cX1_weightOn 2 = .ok (.invokestatic 202, 3) := dk_184 0 202 (dk_at dksX1_weightOn_0 2 rfl rfl)
theorem dX1_weightOn_5 : decode cX1_weightOn 5 = .ok (.iconst 0, 1) := dk_3 (dk_at dksX1_weightOn_0 5 rfl rfl)
theorem dX1_weightOn_6 : decode cX1_weightOn 6 = .ok (.istore_n 2, 1) := dk_61 (dk_at dksX1_weightOn_0 6 rfl rfl)
theorem dX1_weightOn_7 : decode cX1_weightOn 7 = .ok (.aload_n 0, 1) := dk_42 (dk_at dksX1_weightOn_0 7 rfl rfl)
theorem dX1_weightOn_8 : decode cX1_weightOn 8 = .ok (.getfield 33, 3) := dk_180 0 33 (dk_at dksX1_weightOn_0 8 rfl rfl)
theorem dX1_weightOn_11 : decode cX1_weightOn 11 = .ok (.getfield 137, 3) := dk_180 0 137 (dk_at dksX1_weightOn_0 11 rfl rfl)
theorem dX1_weightOn_14 : decode cX1_weightOn 14 = .ok (.invokevirtual 141, 3) := dk_182 0 141 (dk_at dksX1_weightOn_0 14 rfl rfl)
theorem dX1_weightOn_17 : decode cX1_weightOn 17 = .ok (.astore_n 3, 1) := dk_78 (dk_at dksX1_weightOn_0 17 rfl rfl)
theorem dX1_weightOn_18 : decode cX1_weightOn 18 = .ok (.aload_n 3, 1) := dk_45 (dk_at dksX1_weightOn_0 18 rfl rfl)
theorem dX1_weightOn_19 : decode cX1_weightOn 19 = .ok (.invokeinterface 147 1, 5) := by decide +kernel
theorem dX1_weightOn_24 : decode cX1_weightOn 24 = .ok (.ifCond .eq 49, 3) := dk_153 0 49 (dk_at dksX1_weightOn_1 0 rfl rfl)
theorem dX1_weightOn_27 : decode cX1_weightOn 27 = .ok (.aload_n 3, 1) := dk_45 (dk_at dksX1_weightOn_1 3 rfl rfl)
theorem dX1_weightOn_28 : decode cX1_weightOn 28 = .ok (.invokeinterface 153 1, 5) := by decide +kernel
theorem dX1_weightOn_33 : decode cX1_weightOn 33 = .ok (.checkcast 110, 3) := dk_192 0 110 (dk_at dksX1_weightOn_1 9 rfl rfl)
theorem dX1_weightOn_36 : decode cX1_weightOn 36 = .ok (.astore 4, 2) := dk_58 4 (dk_at dksX1_weightOn_1 12 rfl rfl)
theorem dX1_weightOn_38 : decode cX1_weightOn 38 = .ok (.iload_n 2, 1) := dk_28 (dk_at dksX1_weightOn_1 14 rfl rfl)
theorem dX1_weightOn_39 : decode cX1_weightOn 39 = .ok (.aload 4, 2) := dk_25 4 (dk_at dksX1_weightOn_1 15 rfl rfl)
theorem dX1_weightOn_41 : decode cX1_weightOn 41 = .ok (.getfield 125, 3) := dk_180 0 125 (dk_at dksX1_weightOn_1 17 rfl rfl)
theorem dX1_weightOn_44 : decode cX1_weightOn 44 = .ok (.iconst 2, 1) := dk_5 (dk_at dksX1_weightOn_1 20 rfl rfl)
theorem dX1_weightOn_45 : decode cX1_weightOn 45 = .ok (.if_icmp .ne 22, 3) := dk_160 0 22 (dk_at dksX1_weightOn_1 21 rfl rfl)
theorem dX1_weightOn_48 : decode cX1_weightOn 48 = .ok (.aload 4, 2) := dk_25 4 (dk_at dksX1_weightOn_2 0 rfl rfl)
theorem dX1_weightOn_50 : decode cX1_weightOn 50 = .ok (.getfield 128, 3) := dk_180 0 128 (dk_at dksX1_weightOn_2 2 rfl rfl)
theorem dX1_weightOn_53 : decode cX1_weightOn 53 = .ok (.iconst 5, 1) := dk_8 (dk_at dksX1_weightOn_2 5 rfl rfl)
theorem dX1_weightOn_54 : decode cX1_weightOn 54 = .ok (.idiv, 1) := dk_108 (dk_at dksX1_weightOn_2 6 rfl rfl)
theorem dX1_weightOn_55 : decode cX1_weightOn 55 = .ok (.iload_n 1, 1) := dk_27 (dk_at dksX1_weightOn_2 7 rfl rfl)
theorem dX1_weightOn_56 : decode cX1_weightOn 56 = .ok (.if_icmp .ne 11, 3) := dk_160 0 11 (dk_at dksX1_weightOn_2 8 rfl rfl)
theorem dX1_weightOn_59 : decode cX1_weightOn 59 = .ok (.aload 4, 2) := dk_25 4 (dk_at dksX1_weightOn_2 11 rfl rfl)
theorem dX1_weightOn_61 : decode cX1_weightOn 61 = .ok (.getfield 109, 3) := dk_180 0 109 (dk_at dksX1_weightOn_2 13 rfl rfl)
theorem dX1_weightOn_64 : decode cX1_weightOn 64 = .ok (.goto 4, 3) := dk_167 0 4 (dk_at dksX1_weightOn_2 16 rfl rfl)
theorem dX1_weightOn_67 : decode cX1_weightOn 67 = .ok (.iconst 0, 1) := dk_3 (dk_at dksX1_weightOn_2 19 rfl rfl)
theorem dX1_weightOn_68 : decode cX1_weightOn 68 = .ok (.iadd, 1) := dk_96 (dk_at dksX1_weightOn_2 20 rfl rfl)
theorem dX1_weightOn_69 : decode cX1_weightOn 69 = .ok (.istore_n 2, 1) := dk_61 (dk_at dksX1_weightOn_2 21 rfl rfl)
theorem dX1_weightOn_70 : decode cX1_weightOn 70 = .ok (.goto (-52), 3) := dk_167 255 204 (dk_at dksX1_weightOn_3 0 rfl rfl)
theorem dX1_weightOn_73 : decode cX1_weightOn 73 = .ok (.iload_n 2, 1) := dk_28 (dk_at dksX1_weightOn_3 3 rfl rfl)
theorem dX1_weightOn_74 : decode cX1_weightOn 74 = .ok (.ireturn, 1) := dk_172 (dk_at dksX1_weightOn_3 4 rfl rfl)
abbrev cX1_wouldFall : ByteArray := prog_1_method_24_code
def yX1_wouldFall : MethodName := ⟨RX1, "wouldFall", "(I)I"⟩
def dkwX1_wouldFall_5 : List UInt8 := [180, 0, 172, 120, 167, 0, 4, 3, 128, 54, 5, 167, 255, 187, 21, 5, 172]
abbrev dktX1_wouldFall_5 : List UInt8 := dkwX1_wouldFall_5 ++ []
def dkwX1_wouldFall_4 : List UInt8 := [180, 0, 137, 25, 7, 180, 0, 172, 182, 0, 212, 192, 0, 110, 180, 0, 125, 6, 160, 0, 13, 4, 25, 7]
abbrev dktX1_wouldFall_4 : List UInt8 := dkwX1_wouldFall_4 ++ dktX1_wouldFall_5
def dkwX1_wouldFall_3 : List UInt8 := [185, 0, 153, 1, 0, 192, 0, 110, 58, 7, 21, 5, 25, 7, 180, 0, 125, 6, 159, 0, 35, 44]
abbrev dktX1_wouldFall_3 : List UInt8 := dkwX1_wouldFall_3 ++ dktX1_wouldFall_4
def dkwX1_wouldFall_2 : List UInt8 := [180, 0, 137, 182, 0, 141, 58, 6, 25, 6, 185, 0, 147, 1, 0, 153, 0, 65, 25, 6]
abbrev dktX1_wouldFall_2 : List UInt8 := dkwX1_wouldFall_2 ++ dktX1_wouldFall_3
def dkwX1_wouldFall_1 : List UInt8 := [45, 199, 0, 7, 3, 167, 0, 8, 44, 45, 182, 0, 208, 54, 4, 3, 54, 5, 42, 180, 0, 33]
abbrev dktX1_wouldFall_1 : List UInt8 := dkwX1_wouldFall_1 ++ dktX1_wouldFall_2
def dkwX1_wouldFall_0 : List UInt8 := [27, 16, 20, 184, 0, 202, 187, 0, 30, 89, 42, 180, 0, 33, 183, 0, 74, 77, 44, 27, 182, 0, 205, 78]
abbrev dktX1_wouldFall_0 : List UInt8 := dkwX1_wouldFall_0 ++ dktX1_wouldFall_1
theorem dksX1_wouldFall_0 : cX1_wouldFall.data.toList.drop 0 = dktX1_wouldFall_0 := by decide +kernel
theorem dksX1_wouldFall_1 : cX1_wouldFall.data.toList.drop 24 = dktX1_wouldFall_1 := dk_seg dksX1_wouldFall_0 24 rfl rfl
theorem dksX1_wouldFall_2 : cX1_wouldFall.data.toList.drop 46 = dktX1_wouldFall_2 := dk_seg dksX1_wouldFall_1 22 rfl rfl
theorem dksX1_wouldFall_3 : cX1_wouldFall.data.toList.drop 66 = dktX1_wouldFall_3 := dk_seg dksX1_wouldFall_2 20 rfl rfl
theorem dksX1_wouldFall_4 : cX1_wouldFall.data.toList.drop 88 = dktX1_wouldFall_4 := dk_seg dksX1_wouldFall_3 22 rfl rfl
theorem dksX1_wouldFall_5 : cX1_wouldFall.data.toList.drop 112 = dktX1_wouldFall_5 := dk_seg dksX1_wouldFall_4 24 rfl rfl
theorem dX1_wouldFall_0 : decode cX1_wouldFall 0 = .ok (.iload_n 1, 1) := dk_27 (dk_at dksX1_wouldFall_0 0 rfl rfl)
theorem dX1_wouldFall_1 : decode cX1_wouldFall 1 = .ok (.bipush 20, 2) := dk_16 20 (dk_at dksX1_wouldFall_0 1 rfl rfl)
theorem dX1_wouldFall_3 : decode cX1_wouldFall 3 = .ok (.invokestatic 202, 3) := dk_184 0 202 (dk_at dksX1_wouldFall_0 3 rfl rfl)
theorem dX1_wouldFall_6 : decode cX1_wouldFall 6 = .ok (.new 30, 3) := dk_187 0 30 (dk_at dksX1_wouldFall_0 6 rfl rfl)
theorem dX1_wouldFall_9 : decode cX1_wouldFall 9 = .ok (.dup, 1) := dk_89 (dk_at dksX1_wouldFall_0 9 rfl rfl)
theorem dX1_wouldFall_10 : decode cX1_wouldFall 10 = .ok (.aload_n 0, 1) := dk_42 (dk_at dksX1_wouldFall_0 10 rfl rfl)
theorem dX1_wouldFall_11 : decode cX1_wouldFall 11 = .ok (.getfield 33, 3) := dk_180 0 33 (dk_at dksX1_wouldFall_0 11 rfl rfl)
theorem dX1_wouldFall_14 : decode cX1_wouldFall 14 = .ok (.invokespecial 74, 3) := dk_183 0 74 (dk_at dksX1_wouldFall_0 14 rfl rfl)
theorem dX1_wouldFall_17 : decode cX1_wouldFall 17 = .ok (.astore_n 2, 1) := dk_77 (dk_at dksX1_wouldFall_0 17 rfl rfl)
theorem dX1_wouldFall_18 : decode cX1_wouldFall 18 = .ok (.aload_n 2, 1) := dk_44 (dk_at dksX1_wouldFall_0 18 rfl rfl)
theorem dX1_wouldFall_19 : decode cX1_wouldFall 19 = .ok (.iload_n 1, 1) := dk_27 (dk_at dksX1_wouldFall_0 19 rfl rfl)
theorem dX1_wouldFall_20 : decode cX1_wouldFall 20 = .ok (.invokevirtual 205, 3) := dk_182 0 205 (dk_at dksX1_wouldFall_0 20 rfl rfl)
theorem dX1_wouldFall_23 : decode cX1_wouldFall 23 = .ok (.astore_n 3, 1) := dk_78 (dk_at dksX1_wouldFall_0 23 rfl rfl)
theorem dX1_wouldFall_24 : decode cX1_wouldFall 24 = .ok (.aload_n 3, 1) := dk_45 (dk_at dksX1_wouldFall_1 0 rfl rfl)
theorem dX1_wouldFall_25 : decode cX1_wouldFall 25 = .ok (.ifnonnull 7, 3) := dk_199 0 7 (dk_at dksX1_wouldFall_1 1 rfl rfl)
theorem dX1_wouldFall_28 : decode cX1_wouldFall 28 = .ok (.iconst 0, 1) := dk_3 (dk_at dksX1_wouldFall_1 4 rfl rfl)
theorem dX1_wouldFall_29 : decode cX1_wouldFall 29 = .ok (.goto 8, 3) := dk_167 0 8 (dk_at dksX1_wouldFall_1 5 rfl rfl)
theorem dX1_wouldFall_32 : decode cX1_wouldFall 32 = .ok (.aload_n 2, 1) := dk_44 (dk_at dksX1_wouldFall_1 8 rfl rfl)
theorem dX1_wouldFall_33 : decode cX1_wouldFall 33 = .ok (.aload_n 3, 1) := dk_45 (dk_at dksX1_wouldFall_1 9 rfl rfl)
theorem dX1_wouldFall_34 : decode cX1_wouldFall 34 = .ok (.invokevirtual 208, 3) := dk_182 0 208 (dk_at dksX1_wouldFall_1 10 rfl rfl)
theorem dX1_wouldFall_37 : decode cX1_wouldFall 37 = .ok (.istore 4, 2) := dk_54 4 (dk_at dksX1_wouldFall_1 13 rfl rfl)
theorem dX1_wouldFall_39 : decode cX1_wouldFall 39 = .ok (.iconst 0, 1) := dk_3 (dk_at dksX1_wouldFall_1 15 rfl rfl)
theorem dX1_wouldFall_40 : decode cX1_wouldFall 40 = .ok (.istore 5, 2) := dk_54 5 (dk_at dksX1_wouldFall_1 16 rfl rfl)
theorem dX1_wouldFall_42 : decode cX1_wouldFall 42 = .ok (.aload_n 0, 1) := dk_42 (dk_at dksX1_wouldFall_1 18 rfl rfl)
theorem dX1_wouldFall_43 : decode cX1_wouldFall 43 = .ok (.getfield 33, 3) := dk_180 0 33 (dk_at dksX1_wouldFall_1 19 rfl rfl)
theorem dX1_wouldFall_46 : decode cX1_wouldFall 46 = .ok (.getfield 137, 3) := dk_180 0 137 (dk_at dksX1_wouldFall_2 0 rfl rfl)
theorem dX1_wouldFall_49 : decode cX1_wouldFall 49 = .ok (.invokevirtual 141, 3) := dk_182 0 141 (dk_at dksX1_wouldFall_2 3 rfl rfl)
theorem dX1_wouldFall_52 : decode cX1_wouldFall 52 = .ok (.astore 6, 2) := dk_58 6 (dk_at dksX1_wouldFall_2 6 rfl rfl)
theorem dX1_wouldFall_54 : decode cX1_wouldFall 54 = .ok (.aload 6, 2) := dk_25 6 (dk_at dksX1_wouldFall_2 8 rfl rfl)
theorem dX1_wouldFall_56 : decode cX1_wouldFall 56 = .ok (.invokeinterface 147 1, 5) := by decide +kernel
theorem dX1_wouldFall_61 : decode cX1_wouldFall 61 = .ok (.ifCond .eq 65, 3) := dk_153 0 65 (dk_at dksX1_wouldFall_2 15 rfl rfl)
theorem dX1_wouldFall_64 : decode cX1_wouldFall 64 = .ok (.aload 6, 2) := dk_25 6 (dk_at dksX1_wouldFall_2 18 rfl rfl)
theorem dX1_wouldFall_66 : decode cX1_wouldFall 66 = .ok (.invokeinterface 153 1, 5) := by decide +kernel
theorem dX1_wouldFall_71 : decode cX1_wouldFall 71 = .ok (.checkcast 110, 3) := dk_192 0 110 (dk_at dksX1_wouldFall_3 5 rfl rfl)
theorem dX1_wouldFall_74 : decode cX1_wouldFall 74 = .ok (.astore 7, 2) := dk_58 7 (dk_at dksX1_wouldFall_3 8 rfl rfl)
theorem dX1_wouldFall_76 : decode cX1_wouldFall 76 = .ok (.iload 5, 2) := dk_21 5 (dk_at dksX1_wouldFall_3 10 rfl rfl)
theorem dX1_wouldFall_78 : decode cX1_wouldFall 78 = .ok (.aload 7, 2) := dk_25 7 (dk_at dksX1_wouldFall_3 12 rfl rfl)
theorem dX1_wouldFall_80 : decode cX1_wouldFall 80 = .ok (.getfield 125, 3) := dk_180 0 125 (dk_at dksX1_wouldFall_3 14 rfl rfl)
theorem dX1_wouldFall_83 : decode cX1_wouldFall 83 = .ok (.iconst 3, 1) := dk_6 (dk_at dksX1_wouldFall_3 17 rfl rfl)
theorem dX1_wouldFall_84 : decode cX1_wouldFall 84 = .ok (.if_icmp .eq 35, 3) := dk_159 0 35 (dk_at dksX1_wouldFall_3 18 rfl rfl)
theorem dX1_wouldFall_87 : decode cX1_wouldFall 87 = .ok (.aload_n 2, 1) := dk_44 (dk_at dksX1_wouldFall_3 21 rfl rfl)
theorem dX1_wouldFall_88 : decode cX1_wouldFall 88 = .ok (.getfield 137, 3) := dk_180 0 137 (dk_at dksX1_wouldFall_4 0 rfl rfl)
theorem dX1_wouldFall_91 : decode cX1_wouldFall 91 = .ok (.aload 7, 2) := dk_25 7 (dk_at dksX1_wouldFall_4 3 rfl rfl)
theorem dX1_wouldFall_93 : decode cX1_wouldFall 93 = .ok (.getfield 172, 3) := dk_180 0 172 (dk_at dksX1_wouldFall_4 5 rfl rfl)
theorem dX1_wouldFall_96 : decode cX1_wouldFall 96 = .ok (.invokevirtual 212, 3) := dk_182 0 212 (dk_at dksX1_wouldFall_4 8 rfl rfl)
theorem dX1_wouldFall_99 : decode cX1_wouldFall 99 = .ok (.checkcast 110, 3) := dk_192 0 110 (dk_at dksX1_wouldFall_4 11 rfl rfl)
theorem dX1_wouldFall_102 : decode cX1_wouldFall 102 = .ok (.getfield 125, 3) := dk_180 0 125 (dk_at dksX1_wouldFall_4 14 rfl rfl)
theorem dX1_wouldFall_105 : decode cX1_wouldFall 105 = .ok (.iconst 3, 1) := dk_6 (dk_at dksX1_wouldFall_4 17 rfl rfl)
theorem dX1_wouldFall_106 : decode cX1_wouldFall 106 = .ok (.if_icmp .ne 13, 3) := dk_160 0 13 (dk_at dksX1_wouldFall_4 18 rfl rfl)
theorem dX1_wouldFall_109 : decode cX1_wouldFall 109 = .ok (.iconst 1, 1) := dk_4 (dk_at dksX1_wouldFall_4 21 rfl rfl)
theorem dX1_wouldFall_110 : decode cX1_wouldFall 110 = .ok (.aload 7, 2) := dk_25 7 (dk_at dksX1_wouldFall_4 22 rfl rfl)
theorem dX1_wouldFall_112 : decode cX1_wouldFall 112 = .ok (.getfield 172, 3) := dk_180 0 172 (dk_at dksX1_wouldFall_5 0 rfl rfl)
theorem dX1_wouldFall_115 : decode cX1_wouldFall 115 = .ok (.ishl, 1) := dk_120 (dk_at dksX1_wouldFall_5 3 rfl rfl)
theorem dX1_wouldFall_116 : decode cX1_wouldFall 116 = .ok (.goto 4, 3) := dk_167 0 4 (dk_at dksX1_wouldFall_5 4 rfl rfl)
theorem dX1_wouldFall_119 : decode cX1_wouldFall 119 = .ok (.iconst 0, 1) := dk_3 (dk_at dksX1_wouldFall_5 7 rfl rfl)
theorem dX1_wouldFall_120 : decode cX1_wouldFall 120 = .ok (.ior, 1) := dk_128 (dk_at dksX1_wouldFall_5 8 rfl rfl)
theorem dX1_wouldFall_121 : decode cX1_wouldFall 121 = .ok (.istore 5, 2) := dk_54 5 (dk_at dksX1_wouldFall_5 9 rfl rfl)
theorem dX1_wouldFall_123 : decode cX1_wouldFall 123 = .ok (.goto (-69), 3) := dk_167 255 187 (dk_at dksX1_wouldFall_5 11 rfl rfl)
theorem dX1_wouldFall_126 : decode cX1_wouldFall 126 = .ok (.iload 5, 2) := dk_21 5 (dk_at dksX1_wouldFall_5 14 rfl rfl)
theorem dX1_wouldFall_128 : decode cX1_wouldFall 128 = .ok (.ireturn, 1) := dk_172 (dk_at dksX1_wouldFall_5 16 rfl rfl)
abbrev cX1_wouldFallAgain : ByteArray := prog_1_method_25_code
def yX1_wouldFallAgain : MethodName := ⟨RX1, "wouldFallAgain", "(I)I"⟩
def dkwX1_wouldFallAgain_3 : List UInt8 := [180, 0, 33, 44, 180, 0, 128, 182, 0, 213, 58, 4, 167, 255, 213, 29, 172]
abbrev dktX1_wouldFallAgain_3 : List UInt8 := dkwX1_wouldFallAgain_3 ++ []
def dkwX1_wouldFallAgain_2 : List UInt8 := [180, 0, 109, 182, 0, 216, 153, 0, 32, 29, 4, 25, 4, 180, 0, 172, 120, 128, 62, 25, 4, 77, 42]
abbrev dktX1_wouldFallAgain_2 : List UInt8 := dkwX1_wouldFallAgain_2 ++ dktX1_wouldFallAgain_3
def dkwX1_wouldFallAgain_1 : List UInt8 := [180, 0, 172, 120, 62, 42, 180, 0, 33, 27, 182, 0, 213, 58, 4, 25, 4, 198, 0, 44, 25, 4, 44]
abbrev dktX1_wouldFallAgain_1 : List UInt8 := dkwX1_wouldFallAgain_1 ++ dktX1_wouldFallAgain_2
def dkwX1_wouldFallAgain_0 : List UInt8 := [27, 16, 20, 184, 0, 202, 42, 180, 0, 33, 27, 182, 0, 205, 77, 44, 199, 0, 5, 3, 172, 4, 44]
abbrev dktX1_wouldFallAgain_0 : List UInt8 := dkwX1_wouldFallAgain_0 ++ dktX1_wouldFallAgain_1
theorem dksX1_wouldFallAgain_0 : cX1_wouldFallAgain.data.toList.drop 0 = dktX1_wouldFallAgain_0 := by decide +kernel
theorem dksX1_wouldFallAgain_1 : cX1_wouldFallAgain.data.toList.drop 23 = dktX1_wouldFallAgain_1 := dk_seg dksX1_wouldFallAgain_0 23 rfl rfl
theorem dksX1_wouldFallAgain_2 : cX1_wouldFallAgain.data.toList.drop 46 = dktX1_wouldFallAgain_2 := dk_seg dksX1_wouldFallAgain_1 23 rfl rfl
theorem dksX1_wouldFallAgain_3 : cX1_wouldFallAgain.data.toList.drop 69 = dktX1_wouldFallAgain_3 := dk_seg dksX1_wouldFallAgain_2 23 rfl rfl
theorem dX1_wouldFallAgain_0 : decode cX1_wouldFallAgain 0 = .ok (.iload_n 1, 1) := dk_27 (dk_at dksX1_wouldFallAgain_0 0 rfl rfl)
theorem dX1_wouldFallAgain_1 : decode cX1_wouldFallAgain 1 = .ok (.bipush 20, 2) := dk_16 20 (dk_at dksX1_wouldFallAgain_0 1 rfl rfl)
theorem dX1_wouldFallAgain_3 : decode cX1_wouldFallAgain 3 = .ok (.invokestatic 202, 3) := dk_184 0 202 (dk_at dksX1_wouldFallAgain_0 3 rfl rfl)
theorem dX1_wouldFallAgain_6 : decode cX1_wouldFallAgain 6 = .ok (.aload_n 0, 1) := dk_42 (dk_at dksX1_wouldFallAgain_0 6 rfl rfl)
theorem dX1_wouldFallAgain_7 : decode cX1_wouldFallAgain 7 = .ok (.getfield 33, 3) := dk_180 0 33 (dk_at dksX1_wouldFallAgain_0 7 rfl rfl)
theorem dX1_wouldFallAgain_10 : decode cX1_wouldFallAgain 10 = .ok (.iload_n 1, 1) := dk_27 (dk_at dksX1_wouldFallAgain_0 10 rfl rfl)
theorem dX1_wouldFallAgain_11 : decode cX1_wouldFallAgain 11 = .ok (.invokevirtual 205, 3) := dk_182 0 205 (dk_at dksX1_wouldFallAgain_0 11 rfl rfl)
theorem dX1_wouldFallAgain_14 : decode cX1_wouldFallAgain 14 = .ok (.astore_n 2, 1) := dk_77 (dk_at dksX1_wouldFallAgain_0 14 rfl rfl)
theorem dX1_wouldFallAgain_15 : decode cX1_wouldFallAgain 15 = .ok (.aload_n 2, 1) := dk_44 (dk_at dksX1_wouldFallAgain_0 15 rfl rfl)
theorem dX1_wouldFallAgain_16 : decode cX1_wouldFallAgain 16 = .ok (.ifnonnull 5, 3) := dk_199 0 5 (dk_at dksX1_wouldFallAgain_0 16 rfl rfl)
theorem dX1_wouldFallAgain_19 : decode cX1_wouldFallAgain 19 = .ok (.iconst 0, 1) := dk_3 (dk_at dksX1_wouldFallAgain_0 19 rfl rfl)
theorem dX1_wouldFallAgain_20 : decode cX1_wouldFallAgain 20 = .ok (.ireturn, 1) := dk_172 (dk_at dksX1_wouldFallAgain_0 20 rfl rfl)
theorem dX1_wouldFallAgain_21 : decode cX1_wouldFallAgain 21 = .ok (.iconst 1, 1) := dk_4 (dk_at dksX1_wouldFallAgain_0 21 rfl rfl)
theorem dX1_wouldFallAgain_22 : decode cX1_wouldFallAgain 22 = .ok (.aload_n 2, 1) := dk_44 (dk_at dksX1_wouldFallAgain_0 22 rfl rfl)
theorem dX1_wouldFallAgain_23 : decode cX1_wouldFallAgain 23 = .ok (.getfield 172, 3) := dk_180 0 172 (dk_at dksX1_wouldFallAgain_1 0 rfl rfl)
theorem dX1_wouldFallAgain_26 : decode cX1_wouldFallAgain 26 = .ok (.ishl, 1) := dk_120 (dk_at dksX1_wouldFallAgain_1 3 rfl rfl)
theorem dX1_wouldFallAgain_27 : decode cX1_wouldFallAgain 27 = .ok (.istore_n 3, 1) := dk_62 (dk_at dksX1_wouldFallAgain_1 4 rfl rfl)
theorem dX1_wouldFallAgain_28 : decode cX1_wouldFallAgain 28 = .ok (.aload_n 0, 1) := dk_42 (dk_at dksX1_wouldFallAgain_1 5 rfl rfl)
theorem dX1_wouldFallAgain_29 : decode cX1_wouldFallAgain 29 = .ok (.getfield 33, 3) := dk_180 0 33 (dk_at dksX1_wouldFallAgain_1 6 rfl rfl)
theorem dX1_wouldFallAgain_32 : decode cX1_wouldFallAgain 32 = .ok (.iload_n 1, 1) := dk_27 (dk_at dksX1_wouldFallAgain_1 9 rfl rfl)
theorem dX1_wouldFallAgain_33 : decode cX1_wouldFallAgain 33 = .ok (.invokevirtual 213, 3) := dk_182 0 213 (dk_at dksX1_wouldFallAgain_1 10 rfl rfl)
theorem dX1_wouldFallAgain_36 : decode cX1_wouldFallAgain 36 = .ok (.astore 4, 2) := dk_58 4 (dk_at dksX1_wouldFallAgain_1 13 rfl rfl)
theorem dX1_wouldFallAgain_38 : decode cX1_wouldFallAgain 38 = .ok (.aload 4, 2) := dk_25 4 (dk_at dksX1_wouldFallAgain_1 15 rfl rfl)
theorem dX1_wouldFallAgain_40 : decode cX1_wouldFallAgain 40 = .ok (.ifnull 44, 3) := dk_198 0 44 (dk_at dksX1_wouldFallAgain_1 17 rfl rfl)
theorem dX1_wouldFallAgain_43 : decode cX1_wouldFallAgain 43 = .ok (.aload 4, 2) := dk_25 4 (dk_at dksX1_wouldFallAgain_1 20 rfl rfl)
theorem dX1_wouldFallAgain_45 : decode cX1_wouldFallAgain 45 = .ok (.aload_n 2, 1) := dk_44 (dk_at dksX1_wouldFallAgain_1 22 rfl rfl)
theorem dX1_wouldFallAgain_46 : decode cX1_wouldFallAgain 46 = .ok (.getfield 109, 3) := dk_180 0 109 (dk_at dksX1_wouldFallAgain_2 0 rfl rfl)
theorem dX1_wouldFallAgain_49 : decode cX1_wouldFallAgain 49 = .ok (.invokevirtual 216, 3) := dk_182 0 216 (dk_at dksX1_wouldFallAgain_2 3 rfl rfl)
theorem dX1_wouldFallAgain_52 : decode cX1_wouldFallAgain 52 = .ok (.ifCond .eq 32, 3) := dk_153 0 32 (dk_at dksX1_wouldFallAgain_2 6 rfl rfl)
theorem dX1_wouldFallAgain_55 : decode cX1_wouldFallAgain 55 = .ok (.iload_n 3, 1) := dk_29 (dk_at dksX1_wouldFallAgain_2 9 rfl rfl)
theorem dX1_wouldFallAgain_56 : decode cX1_wouldFallAgain 56 = .ok (.iconst 1, 1) := dk_4 (dk_at dksX1_wouldFallAgain_2 10 rfl rfl)
theorem dX1_wouldFallAgain_57 : decode cX1_wouldFallAgain 57 = .ok (.aload 4, 2) := dk_25 4 (dk_at dksX1_wouldFallAgain_2 11 rfl rfl)
theorem dX1_wouldFallAgain_59 : decode cX1_wouldFallAgain 59 = .ok (.getfield 172, 3) := dk_180 0 172 (dk_at dksX1_wouldFallAgain_2 13 rfl rfl)
theorem dX1_wouldFallAgain_62 : decode cX1_wouldFallAgain 62 = .ok (.ishl, 1) := dk_120 (dk_at dksX1_wouldFallAgain_2 16 rfl rfl)
theorem dX1_wouldFallAgain_63 : decode cX1_wouldFallAgain 63 = .ok (.ior, 1) := dk_128 (dk_at dksX1_wouldFallAgain_2 17 rfl rfl)
theorem dX1_wouldFallAgain_64 : decode cX1_wouldFallAgain 64 = .ok (.istore_n 3, 1) := dk_62 (dk_at dksX1_wouldFallAgain_2 18 rfl rfl)
theorem dX1_wouldFallAgain_65 : decode cX1_wouldFallAgain 65 = .ok (.aload 4, 2) := dk_25 4 (dk_at dksX1_wouldFallAgain_2 19 rfl rfl)
theorem dX1_wouldFallAgain_67 : decode cX1_wouldFallAgain 67 = .ok (.astore_n 2, 1) := dk_77 (dk_at dksX1_wouldFallAgain_2 21 rfl rfl)
theorem dX1_wouldFallAgain_68 : decode cX1_wouldFallAgain 68 = .ok (.aload_n 0, 1) := dk_42 (dk_at dksX1_wouldFallAgain_2 22 rfl rfl)
theorem dX1_wouldFallAgain_69 : decode cX1_wouldFallAgain 69 = .ok (.getfield 33, 3) := dk_180 0 33 (dk_at dksX1_wouldFallAgain_3 0 rfl rfl)
theorem dX1_wouldFallAgain_72 : decode cX1_wouldFallAgain 72 = .ok (.aload_n 2, 1) := dk_44 (dk_at dksX1_wouldFallAgain_3 3 rfl rfl)
theorem dX1_wouldFallAgain_73 : decode cX1_wouldFallAgain 73 = .ok (.getfield 128, 3) := dk_180 0 128 (dk_at dksX1_wouldFallAgain_3 4 rfl rfl)
theorem dX1_wouldFallAgain_76 : decode cX1_wouldFallAgain 76 = .ok (.invokevirtual 213, 3) := dk_182 0 213 (dk_at dksX1_wouldFallAgain_3 7 rfl rfl)
theorem dX1_wouldFallAgain_79 : decode cX1_wouldFallAgain 79 = .ok (.astore 4, 2) := dk_58 4 (dk_at dksX1_wouldFallAgain_3 10 rfl rfl)
theorem dX1_wouldFallAgain_81 : decode cX1_wouldFallAgain 81 = .ok (.goto (-43), 3) := dk_167 255 213 (dk_at dksX1_wouldFallAgain_3 12 rfl rfl)
theorem dX1_wouldFallAgain_84 : decode cX1_wouldFallAgain 84 = .ok (.iload_n 3, 1) := dk_29 (dk_at dksX1_wouldFallAgain_3 15 rfl rfl)
theorem dX1_wouldFallAgain_85 : decode cX1_wouldFallAgain 85 = .ok (.ireturn, 1) := dk_172 (dk_at dksX1_wouldFallAgain_3 16 rfl rfl)
abbrev cX1_commissionOf : ByteArray := prog_1_method_29_code
def yX1_commissionOf : MethodName := ⟨RX1, "commissionOf", "(II)I"⟩
def dkwX1_commissionOf_3 : List UInt8 := [180, 0, 240, 167, 0, 11, 42, 180, 0, 33, 45, 182, 0, 241, 172]
abbrev dktX1_commissionOf_3 : List UInt8 := dkwX1_commissionOf_3 ++ []
def dkwX1_commissionOf_2 : List UInt8 := [45, 180, 0, 231, 167, 0, 32, 45, 180, 0, 236, 167, 0, 25, 45, 180, 0, 237, 167, 0, 18, 45]
abbrev dktX1_commissionOf_2 : List UInt8 := dkwX1_commissionOf_2 ++ dktX1_commissionOf_3
def dkwX1_commissionOf_1 : List UInt8 := [170, 0, 0, 0, 57, 0, 0, 0, 0, 0, 0, 0, 3, 0, 0, 0, 29, 0, 0, 0, 36, 0, 0, 0, 43, 0, 0, 0, 50]
abbrev dktX1_commissionOf_1 : List UInt8 := dkwX1_commissionOf_1 ++ dktX1_commissionOf_2
def dkwX1_commissionOf_0 : List UInt8 := [42, 180, 0, 33, 27, 182, 0, 228, 78, 28, 3, 7, 184, 0, 10, 184, 0, 105, 28]
abbrev dktX1_commissionOf_0 : List UInt8 := dkwX1_commissionOf_0 ++ dktX1_commissionOf_1
theorem dksX1_commissionOf_0 : cX1_commissionOf.data.toList.drop 0 = dktX1_commissionOf_0 := by decide +kernel
theorem dksX1_commissionOf_1 : cX1_commissionOf.data.toList.drop 19 = dktX1_commissionOf_1 := dk_seg dksX1_commissionOf_0 19 rfl rfl
theorem dksX1_commissionOf_2 : cX1_commissionOf.data.toList.drop 48 = dktX1_commissionOf_2 := dk_seg dksX1_commissionOf_1 29 rfl rfl
theorem dksX1_commissionOf_3 : cX1_commissionOf.data.toList.drop 70 = dktX1_commissionOf_3 := dk_seg dksX1_commissionOf_2 22 rfl rfl
theorem dX1_commissionOf_0 : decode cX1_commissionOf 0 = .ok (.aload_n 0, 1) := dk_42 (dk_at dksX1_commissionOf_0 0 rfl rfl)
theorem dX1_commissionOf_1 : decode cX1_commissionOf 1 = .ok (.getfield 33, 3) := dk_180 0 33 (dk_at dksX1_commissionOf_0 1 rfl rfl)
theorem dX1_commissionOf_4 : decode cX1_commissionOf 4 = .ok (.iload_n 1, 1) := dk_27 (dk_at dksX1_commissionOf_0 4 rfl rfl)
theorem dX1_commissionOf_5 : decode cX1_commissionOf 5 = .ok (.invokevirtual 228, 3) := dk_182 0 228 (dk_at dksX1_commissionOf_0 5 rfl rfl)
theorem dX1_commissionOf_8 : decode cX1_commissionOf 8 = .ok (.astore_n 3, 1) := dk_78 (dk_at dksX1_commissionOf_0 8 rfl rfl)
theorem dX1_commissionOf_9 : decode cX1_commissionOf 9 = .ok (.iload_n 2, 1) := dk_28 (dk_at dksX1_commissionOf_0 9 rfl rfl)
theorem dX1_commissionOf_10 : decode cX1_commissionOf 10 = .ok (.iconst 0, 1) := dk_3 (dk_at dksX1_commissionOf_0 10 rfl rfl)
theorem dX1_commissionOf_11 : decode cX1_commissionOf 11 = .ok (.iconst 4, 1) := dk_7 (dk_at dksX1_commissionOf_0 11 rfl rfl)
theorem dX1_commissionOf_12 : decode cX1_commissionOf 12 = .ok (.invokestatic 10, 3) := dk_184 0 10 (dk_at dksX1_commissionOf_0 12 rfl rfl)
theorem dX1_commissionOf_15 : decode cX1_commissionOf 15 = .ok (.invokestatic 105, 3) := dk_184 0 105 (dk_at dksX1_commissionOf_0 15 rfl rfl)
theorem dX1_commissionOf_18 : decode cX1_commissionOf 18 = .ok (.iload_n 2, 1) := dk_28 (dk_at dksX1_commissionOf_0 18 rfl rfl)
theorem dX1_commissionOf_19 : decode cX1_commissionOf 19 = .ok (.tableswitch 57 0 3 #[29, 36, 43, 50], 29) := by decide +kernel
theorem dX1_commissionOf_48 : decode cX1_commissionOf 48 = .ok (.aload_n 3, 1) := dk_45 (dk_at dksX1_commissionOf_2 0 rfl rfl)
theorem dX1_commissionOf_49 : decode cX1_commissionOf 49 = .ok (.getfield 231, 3) := dk_180 0 231 (dk_at dksX1_commissionOf_2 1 rfl rfl)
theorem dX1_commissionOf_52 : decode cX1_commissionOf 52 = .ok (.goto 32, 3) := dk_167 0 32 (dk_at dksX1_commissionOf_2 4 rfl rfl)
theorem dX1_commissionOf_55 : decode cX1_commissionOf 55 = .ok (.aload_n 3, 1) := dk_45 (dk_at dksX1_commissionOf_2 7 rfl rfl)
theorem dX1_commissionOf_56 : decode cX1_commissionOf 56 = .ok (.getfield 236, 3) := dk_180 0 236 (dk_at dksX1_commissionOf_2 8 rfl rfl)
theorem dX1_commissionOf_59 : decode cX1_commissionOf 59 = .ok (.goto 25, 3) := dk_167 0 25 (dk_at dksX1_commissionOf_2 11 rfl rfl)
theorem dX1_commissionOf_62 : decode cX1_commissionOf 62 = .ok (.aload_n 3, 1) := dk_45 (dk_at dksX1_commissionOf_2 14 rfl rfl)
theorem dX1_commissionOf_63 : decode cX1_commissionOf 63 = .ok (.getfield 237, 3) := dk_180 0 237 (dk_at dksX1_commissionOf_2 15 rfl rfl)
theorem dX1_commissionOf_66 : decode cX1_commissionOf 66 = .ok (.goto 18, 3) := dk_167 0 18 (dk_at dksX1_commissionOf_2 18 rfl rfl)
theorem dX1_commissionOf_69 : decode cX1_commissionOf 69 = .ok (.aload_n 3, 1) := dk_45 (dk_at dksX1_commissionOf_2 21 rfl rfl)
theorem dX1_commissionOf_70 : decode cX1_commissionOf 70 = .ok (.getfield 240, 3) := dk_180 0 240 (dk_at dksX1_commissionOf_3 0 rfl rfl)
theorem dX1_commissionOf_73 : decode cX1_commissionOf 73 = .ok (.goto 11, 3) := dk_167 0 11 (dk_at dksX1_commissionOf_3 3 rfl rfl)
theorem dX1_commissionOf_76 : decode cX1_commissionOf 76 = .ok (.aload_n 0, 1) := dk_42 (dk_at dksX1_commissionOf_3 6 rfl rfl)
theorem dX1_commissionOf_77 : decode cX1_commissionOf 77 = .ok (.getfield 33, 3) := dk_180 0 33 (dk_at dksX1_commissionOf_3 7 rfl rfl)
theorem dX1_commissionOf_80 : decode cX1_commissionOf 80 = .ok (.aload_n 3, 1) := dk_45 (dk_at dksX1_commissionOf_3 10 rfl rfl)
theorem dX1_commissionOf_81 : decode cX1_commissionOf 81 = .ok (.invokevirtual 241, 3) := dk_182 0 241 (dk_at dksX1_commissionOf_3 11 rfl rfl)
theorem dX1_commissionOf_84 : decode cX1_commissionOf 84 = .ok (.ireturn, 1) := dk_172 (dk_at dksX1_commissionOf_3 14 rfl rfl)
abbrev cX1_paidFor : ByteArray := prog_1_method_31_code
def yX1_paidFor : MethodName := ⟨RX1, "paidFor", "(I)I"⟩
def dkwX1_paidFor_0 : List UInt8 := [27, 7, 184, 0, 202, 42, 27, 182, 0, 251, 172]
abbrev dktX1_paidFor_0 : List UInt8 := dkwX1_paidFor_0 ++ []
theorem dksX1_paidFor_0 : cX1_paidFor.data.toList.drop 0 = dktX1_paidFor_0 := by decide +kernel
theorem dX1_paidFor_0 : decode cX1_paidFor 0 = .ok (.iload_n 1, 1) := dk_27 (dk_at dksX1_paidFor_0 0 rfl rfl)
theorem dX1_paidFor_1 : decode cX1_paidFor 1 = .ok (.iconst 4, 1) := dk_7 (dk_at dksX1_paidFor_0 1 rfl rfl)
theorem dX1_paidFor_2 : decode cX1_paidFor 2 = .ok (.invokestatic 202, 3) := dk_184 0 202 (dk_at dksX1_paidFor_0 2 rfl rfl)
theorem dX1_paidFor_5 : decode cX1_paidFor 5 = .ok (.aload_n 0, 1) := dk_42 (dk_at dksX1_paidFor_0 5 rfl rfl)
theorem dX1_paidFor_6 : decode cX1_paidFor 6 = .ok (.iload_n 1, 1) := dk_27 (dk_at dksX1_paidFor_0 6 rfl rfl)
theorem dX1_paidFor_7 : decode cX1_paidFor 7 = .ok (.invokevirtual 251, 3) := dk_182 0 251 (dk_at dksX1_paidFor_0 7 rfl rfl)
theorem dX1_paidFor_10 : decode cX1_paidFor 10 = .ok (.ireturn, 1) := dk_172 (dk_at dksX1_paidFor_0 10 rfl rfl)
abbrev cX1_weather : ByteArray := prog_1_method_33_code
def yX1_weather : MethodName := ⟨RX1, "weather", "(I)I"⟩
def dkwX1_weather_2 : List UInt8 := [182, 1, 15, 153, 0, 8, 16, 10, 167, 0, 4, 3, 96, 172]
abbrev dktX1_weather_2 : List UInt8 := dkwX1_weather_2 ++ []
def dkwX1_weather_1 : List UInt8 := [77, 3, 62, 29, 27, 162, 0, 13, 44, 182, 1, 10, 132, 3, 1, 167, 255, 244, 44, 182, 1, 13, 44]
abbrev dktX1_weather_1 : List UInt8 := dkwX1_weather_1 ++ dktX1_weather_2
def dkwX1_weather_0 : List UInt8 := [27, 4, 16, 40, 184, 0, 10, 184, 0, 105, 187, 1, 1, 89, 42, 180, 0, 33, 180, 1, 3, 183, 1, 7]
abbrev dktX1_weather_0 : List UInt8 := dkwX1_weather_0 ++ dktX1_weather_1
theorem dksX1_weather_0 : cX1_weather.data.toList.drop 0 = dktX1_weather_0 := by decide +kernel
theorem dksX1_weather_1 : cX1_weather.data.toList.drop 24 = dktX1_weather_1 := dk_seg dksX1_weather_0 24 rfl rfl
theorem dksX1_weather_2 : cX1_weather.data.toList.drop 47 = dktX1_weather_2 := dk_seg dksX1_weather_1 23 rfl rfl
theorem dX1_weather_0 : decode cX1_weather 0 = .ok (.iload_n 1, 1) := dk_27 (dk_at dksX1_weather_0 0 rfl rfl)
theorem dX1_weather_1 : decode cX1_weather 1 = .ok (.iconst 1, 1) := dk_4 (dk_at dksX1_weather_0 1 rfl rfl)
theorem dX1_weather_2 : decode cX1_weather 2 = .ok (.bipush 40, 2) := dk_16 40 (dk_at dksX1_weather_0 2 rfl rfl)
theorem dX1_weather_4 : decode cX1_weather 4 = .ok (.invokestatic 10, 3) := dk_184 0 10 (dk_at dksX1_weather_0 4 rfl rfl)
theorem dX1_weather_7 : decode cX1_weather 7 = .ok (.invokestatic 105, 3) := dk_184 0 105 (dk_at dksX1_weather_0 7 rfl rfl)
theorem dX1_weather_10 : decode cX1_weather 10 = .ok (.new 257, 3) := dk_187 1 1 (dk_at dksX1_weather_0 10 rfl rfl)
theorem dX1_weather_13 : decode cX1_weather 13 = .ok (.dup, 1) := dk_89 (dk_at dksX1_weather_0 13 rfl rfl)
theorem dX1_weather_14 : decode cX1_weather 14 = .ok (.aload_n 0, 1) := dk_42 (dk_at dksX1_weather_0 14 rfl rfl)
theorem dX1_weather_15 : decode cX1_weather 15 = .ok (.getfield 33, 3) := dk_180 0 33 (dk_at dksX1_weather_0 15 rfl rfl)
theorem dX1_weather_18 : decode cX1_weather 18 = .ok (.getfield 259, 3) := dk_180 1 3 (dk_at dksX1_weather_0 18 rfl rfl)
theorem dX1_weather_21 : decode cX1_weather 21 = .ok (.invokespecial 263, 3) := dk_183 1 7 (dk_at dksX1_weather_0 21 rfl rfl)
theorem dX1_weather_24 : decode cX1_weather 24 = .ok (.astore_n 2, 1) := dk_77 (dk_at dksX1_weather_1 0 rfl rfl)
theorem dX1_weather_25 : decode cX1_weather 25 = .ok (.iconst 0, 1) := dk_3 (dk_at dksX1_weather_1 1 rfl rfl)
theorem dX1_weather_26 : decode cX1_weather 26 = .ok (.istore_n 3, 1) := dk_62 (dk_at dksX1_weather_1 2 rfl rfl)
theorem dX1_weather_27 : decode cX1_weather 27 = .ok (.iload_n 3, 1) := dk_29 (dk_at dksX1_weather_1 3 rfl rfl)
theorem dX1_weather_28 : decode cX1_weather 28 = .ok (.iload_n 1, 1) := dk_27 (dk_at dksX1_weather_1 4 rfl rfl)
theorem dX1_weather_29 : decode cX1_weather 29 = .ok (.if_icmp .ge 13, 3) := dk_162 0 13 (dk_at dksX1_weather_1 5 rfl rfl)
theorem dX1_weather_32 : decode cX1_weather 32 = .ok (.aload_n 2, 1) := dk_44 (dk_at dksX1_weather_1 8 rfl rfl)
theorem dX1_weather_33 : decode cX1_weather 33 = .ok (.invokevirtual 266, 3) := dk_182 1 10 (dk_at dksX1_weather_1 9 rfl rfl)
theorem dX1_weather_36 : decode cX1_weather 36 = .ok (.iinc 3 1, 3) := dk_132 3 1 (dk_at dksX1_weather_1 12 rfl rfl)
theorem dX1_weather_39 : decode cX1_weather 39 = .ok (.goto (-12), 3) := dk_167 255 244 (dk_at dksX1_weather_1 15 rfl rfl)
theorem dX1_weather_42 : decode cX1_weather 42 = .ok (.aload_n 2, 1) := dk_44 (dk_at dksX1_weather_1 18 rfl rfl)
theorem dX1_weather_43 : decode cX1_weather 43 = .ok (.invokevirtual 269, 3) := dk_182 1 13 (dk_at dksX1_weather_1 19 rfl rfl)
theorem dX1_weather_46 : decode cX1_weather 46 = .ok (.aload_n 2, 1) := dk_44 (dk_at dksX1_weather_1 22 rfl rfl)
theorem dX1_weather_47 : decode cX1_weather 47 = .ok (.invokevirtual 271, 3) := dk_182 1 15 (dk_at dksX1_weather_2 0 rfl rfl)
theorem dX1_weather_50 : decode cX1_weather 50 = .ok (.ifCond .eq 8, 3) := dk_153 0 8 (dk_at dksX1_weather_2 3 rfl rfl)
theorem dX1_weather_53 : decode cX1_weather 53 = .ok (.bipush 10, 2) := dk_16 10 (dk_at dksX1_weather_2 6 rfl rfl)
theorem dX1_weather_55 : decode cX1_weather 55 = .ok (.goto 4, 3) := dk_167 0 4 (dk_at dksX1_weather_2 8 rfl rfl)
theorem dX1_weather_58 : decode cX1_weather 58 = .ok (.iconst 0, 1) := dk_3 (dk_at dksX1_weather_2 11 rfl rfl)
theorem dX1_weather_59 : decode cX1_weather 59 = .ok (.iadd, 1) := dk_96 (dk_at dksX1_weather_2 12 rfl rfl)
theorem dX1_weather_60 : decode cX1_weather 60 = .ok (.ireturn, 1) := dk_172 (dk_at dksX1_weather_2 13 rfl rfl)
abbrev cX1_brokenIn : ByteArray := prog_1_method_35_code
def yX1_brokenIn : MethodName := ⟨RX1, "brokenIn", "(I)I"⟩
def dkwX1_brokenIn_2 : List UInt8 := [167, 255, 232, 45, 180, 0, 125, 6, 160, 0, 7, 4, 167, 0, 4, 3, 184, 0, 169, 21, 4, 172]
abbrev dktX1_brokenIn_2 : List UInt8 := dkwX1_brokenIn_2 ++ []
def dkwX1_brokenIn_1 : List UInt8 := [16, 60, 162, 0, 23, 45, 180, 0, 125, 6, 159, 0, 15, 44, 182, 1, 20, 54, 5, 132, 4, 1]
abbrev dktX1_brokenIn_1 : List UInt8 := dkwX1_brokenIn_1 ++ dktX1_brokenIn_2
def dkwX1_brokenIn_0 : List UInt8 := [187, 0, 30, 89, 42, 180, 0, 33, 183, 0, 74, 77, 44, 27, 182, 0, 102, 78, 3, 54, 4, 21, 4]
abbrev dktX1_brokenIn_0 : List UInt8 := dkwX1_brokenIn_0 ++ dktX1_brokenIn_1
theorem dksX1_brokenIn_0 : cX1_brokenIn.data.toList.drop 0 = dktX1_brokenIn_0 := by decide +kernel
theorem dksX1_brokenIn_1 : cX1_brokenIn.data.toList.drop 23 = dktX1_brokenIn_1 := dk_seg dksX1_brokenIn_0 23 rfl rfl
theorem dksX1_brokenIn_2 : cX1_brokenIn.data.toList.drop 45 = dktX1_brokenIn_2 := dk_seg dksX1_brokenIn_1 22 rfl rfl
theorem dX1_brokenIn_0 : decode cX1_brokenIn 0 = .ok (.new 30, 3) := dk_187 0 30 (dk_at dksX1_brokenIn_0 0 rfl rfl)
theorem dX1_brokenIn_3 : decode cX1_brokenIn 3 = .ok (.dup, 1) := dk_89 (dk_at dksX1_brokenIn_0 3 rfl rfl)
theorem dX1_brokenIn_4 : decode cX1_brokenIn 4 = .ok (.aload_n 0, 1) := dk_42 (dk_at dksX1_brokenIn_0 4 rfl rfl)
theorem dX1_brokenIn_5 : decode cX1_brokenIn 5 = .ok (.getfield 33, 3) := dk_180 0 33 (dk_at dksX1_brokenIn_0 5 rfl rfl)
theorem dX1_brokenIn_8 : decode cX1_brokenIn 8 = .ok (.invokespecial 74, 3) := dk_183 0 74 (dk_at dksX1_brokenIn_0 8 rfl rfl)
theorem dX1_brokenIn_11 : decode cX1_brokenIn 11 = .ok (.astore_n 2, 1) := dk_77 (dk_at dksX1_brokenIn_0 11 rfl rfl)
theorem dX1_brokenIn_12 : decode cX1_brokenIn 12 = .ok (.aload_n 2, 1) := dk_44 (dk_at dksX1_brokenIn_0 12 rfl rfl)
theorem dX1_brokenIn_13 : decode cX1_brokenIn 13 = .ok (.iload_n 1, 1) := dk_27 (dk_at dksX1_brokenIn_0 13 rfl rfl)
theorem dX1_brokenIn_14 : decode cX1_brokenIn 14 = .ok (.invokevirtual 102, 3) := dk_182 0 102 (dk_at dksX1_brokenIn_0 14 rfl rfl)
theorem dX1_brokenIn_17 : decode cX1_brokenIn 17 = .ok (.astore_n 3, 1) := dk_78 (dk_at dksX1_brokenIn_0 17 rfl rfl)
theorem dX1_brokenIn_18 : decode cX1_brokenIn 18 = .ok (.iconst 0, 1) := dk_3 (dk_at dksX1_brokenIn_0 18 rfl rfl)
theorem dX1_brokenIn_19 : decode cX1_brokenIn 19 = .ok (.istore 4, 2) := dk_54 4 (dk_at dksX1_brokenIn_0 19 rfl rfl)
theorem dX1_brokenIn_21 : decode cX1_brokenIn 21 = .ok (.iload 4, 2) := dk_21 4 (dk_at dksX1_brokenIn_0 21 rfl rfl)
theorem dX1_brokenIn_23 : decode cX1_brokenIn 23 = .ok (.bipush 60, 2) := dk_16 60 (dk_at dksX1_brokenIn_1 0 rfl rfl)
theorem dX1_brokenIn_25 : decode cX1_brokenIn 25 = .ok (.if_icmp .ge 23, 3) := dk_162 0 23 (dk_at dksX1_brokenIn_1 2 rfl rfl)
theorem dX1_brokenIn_28 : decode cX1_brokenIn 28 = .ok (.aload_n 3, 1) := dk_45 (dk_at dksX1_brokenIn_1 5 rfl rfl)
theorem dX1_brokenIn_29 : decode cX1_brokenIn 29 = .ok (.getfield 125, 3) := dk_180 0 125 (dk_at dksX1_brokenIn_1 6 rfl rfl)
theorem dX1_brokenIn_32 : decode cX1_brokenIn 32 = .ok (.iconst 3, 1) := dk_6 (dk_at dksX1_brokenIn_1 9 rfl rfl)
theorem dX1_brokenIn_33 : decode cX1_brokenIn 33 = .ok (.if_icmp .eq 15, 3) := dk_159 0 15 (dk_at dksX1_brokenIn_1 10 rfl rfl)
theorem dX1_brokenIn_36 : decode cX1_brokenIn 36 = .ok (.aload_n 2, 1) := dk_44 (dk_at dksX1_brokenIn_1 13 rfl rfl)
theorem dX1_brokenIn_37 : decode cX1_brokenIn 37 = .ok (.invokevirtual 276, 3) := dk_182 1 20 (dk_at dksX1_brokenIn_1 14 rfl rfl)
theorem dX1_brokenIn_40 : decode cX1_brokenIn 40 = .ok (.istore 5, 2) := dk_54 5 (dk_at dksX1_brokenIn_1 17 rfl rfl)
theorem dX1_brokenIn_42 : decode cX1_brokenIn 42 = .ok (.iinc 4 1, 3) := dk_132 4 1 (dk_at dksX1_brokenIn_1 19 rfl rfl)
theorem dX1_brokenIn_45 : decode cX1_brokenIn 45 = .ok (.goto (-24), 3) := dk_167 255 232 (dk_at dksX1_brokenIn_2 0 rfl rfl)
theorem dX1_brokenIn_48 : decode cX1_brokenIn 48 = .ok (.aload_n 3, 1) := dk_45 (dk_at dksX1_brokenIn_2 3 rfl rfl)
theorem dX1_brokenIn_49 : decode cX1_brokenIn 49 = .ok (.getfield 125, 3) := dk_180 0 125 (dk_at dksX1_brokenIn_2 4 rfl rfl)
theorem dX1_brokenIn_52 : decode cX1_brokenIn 52 = .ok (.iconst 3, 1) := dk_6 (dk_at dksX1_brokenIn_2 7 rfl rfl)
theorem dX1_brokenIn_53 : decode cX1_brokenIn 53 = .ok (.if_icmp .ne 7, 3) := dk_160 0 7 (dk_at dksX1_brokenIn_2 8 rfl rfl)
theorem dX1_brokenIn_56 : decode cX1_brokenIn 56 = .ok (.iconst 1, 1) := dk_4 (dk_at dksX1_brokenIn_2 11 rfl rfl)
theorem dX1_brokenIn_57 : decode cX1_brokenIn 57 = .ok (.goto 4, 3) := dk_167 0 4 (dk_at dksX1_brokenIn_2 12 rfl rfl)
theorem dX1_brokenIn_60 : decode cX1_brokenIn 60 = .ok (.iconst 0, 1) := dk_3 (dk_at dksX1_brokenIn_2 15 rfl rfl)
theorem dX1_brokenIn_61 : decode cX1_brokenIn 61 = .ok (.invokestatic 169, 3) := dk_184 0 169 (dk_at dksX1_brokenIn_2 16 rfl rfl)
theorem dX1_brokenIn_64 : decode cX1_brokenIn 64 = .ok (.iload 4, 2) := dk_21 4 (dk_at dksX1_brokenIn_2 19 rfl rfl)
theorem dX1_brokenIn_66 : decode cX1_brokenIn 66 = .ok (.ireturn, 1) := dk_172 (dk_at dksX1_brokenIn_2 21 rfl rfl)
abbrev cX1_shown : ByteArray := prog_1_method_38_code
def yX1_shown : MethodName := ⟨RX1, "shown", "(LGargoyleTower$Block;)Ljava/lang/CharSequence;"⟩
def dkwX1_shown_2 : List UInt8 := [163, 0, 16, 43, 16, 33, 182, 1, 44, 77, 132, 3, 4, 167, 255, 238, 44, 16, 93, 182, 1, 44, 176]
abbrev dktX1_shown_2 : List UInt8 := dkwX1_shown_2 ++ []
def dkwX1_shown_1 : List UInt8 := [182, 1, 40, 16, 58, 182, 1, 44, 42, 180, 0, 119, 182, 1, 40, 77, 7, 62, 29, 42, 180, 0, 122]
abbrev dktX1_shown_1 : List UInt8 := dkwX1_shown_1 ++ dktX1_shown_2
def dkwX1_shown_0 : List UInt8 := [187, 0, 44, 89, 19, 1, 35, 183, 1, 37, 76, 43, 77, 42, 198, 0, 47, 43, 42, 180, 0, 172]
abbrev dktX1_shown_0 : List UInt8 := dkwX1_shown_0 ++ dktX1_shown_1
theorem dksX1_shown_0 : cX1_shown.data.toList.drop 0 = dktX1_shown_0 := by decide +kernel
theorem dksX1_shown_1 : cX1_shown.data.toList.drop 22 = dktX1_shown_1 := dk_seg dksX1_shown_0 22 rfl rfl
theorem dksX1_shown_2 : cX1_shown.data.toList.drop 45 = dktX1_shown_2 := dk_seg dksX1_shown_1 23 rfl rfl
theorem dX1_shown_0 : decode cX1_shown 0 = .ok (.new 44, 3) := dk_187 0 44 (dk_at dksX1_shown_0 0 rfl rfl)
theorem dX1_shown_3 : decode cX1_shown 3 = .ok (.dup, 1) := dk_89 (dk_at dksX1_shown_0 3 rfl rfl)
theorem dX1_shown_4 : decode cX1_shown 4 = .ok (.ldc_w 291, 3) := dk_19 1 35 (dk_at dksX1_shown_0 4 rfl rfl)
theorem dX1_shown_7 : decode cX1_shown 7 = .ok (.invokespecial 293, 3) := dk_183 1 37 (dk_at dksX1_shown_0 7 rfl rfl)
theorem dX1_shown_10 : decode cX1_shown 10 = .ok (.astore_n 1, 1) := dk_76 (dk_at dksX1_shown_0 10 rfl rfl)
theorem dX1_shown_11 : decode cX1_shown 11 = .ok (.aload_n 1, 1) := dk_43 (dk_at dksX1_shown_0 11 rfl rfl)
theorem dX1_shown_12 : decode cX1_shown 12 = .ok (.astore_n 2, 1) := dk_77 (dk_at dksX1_shown_0 12 rfl rfl)
theorem dX1_shown_13 : decode cX1_shown 13 = .ok (.aload_n 0, 1) := dk_42 (dk_at dksX1_shown_0 13 rfl rfl)
theorem dX1_shown_14 : decode cX1_shown 14 = .ok (.ifnull 47, 3) := dk_198 0 47 (dk_at dksX1_shown_0 14 rfl rfl)
theorem dX1_shown_17 : decode cX1_shown 17 = .ok (.aload_n 1, 1) := dk_43 (dk_at dksX1_shown_0 17 rfl rfl)
theorem dX1_shown_18 : decode cX1_shown 18 = .ok (.aload_n 0, 1) := dk_42 (dk_at dksX1_shown_0 18 rfl rfl)
theorem dX1_shown_19 : decode cX1_shown 19 = .ok (.getfield 172, 3) := dk_180 0 172 (dk_at dksX1_shown_0 19 rfl rfl)
theorem dX1_shown_22 : decode cX1_shown 22 = .ok (.invokevirtual 296, 3) := dk_182 1 40 (dk_at dksX1_shown_1 0 rfl rfl)
theorem dX1_shown_25 : decode cX1_shown 25 = .ok (.bipush 58, 2) := dk_16 58 (dk_at dksX1_shown_1 3 rfl rfl)
theorem dX1_shown_27 : decode cX1_shown 27 = .ok (.invokevirtual 300, 3) := dk_182 1 44 (dk_at dksX1_shown_1 5 rfl rfl)
theorem dX1_shown_30 : decode cX1_shown 30 = .ok (.aload_n 0, 1) := dk_42 (dk_at dksX1_shown_1 8 rfl rfl)
theorem dX1_shown_31 : decode cX1_shown 31 = .ok (.getfield 119, 3) := dk_180 0 119 (dk_at dksX1_shown_1 9 rfl rfl)
theorem dX1_shown_34 : decode cX1_shown 34 = .ok (.invokevirtual 296, 3) := dk_182 1 40 (dk_at dksX1_shown_1 12 rfl rfl)
theorem dX1_shown_37 : decode cX1_shown 37 = .ok (.astore_n 2, 1) := dk_77 (dk_at dksX1_shown_1 15 rfl rfl)
theorem dX1_shown_38 : decode cX1_shown 38 = .ok (.iconst 4, 1) := dk_7 (dk_at dksX1_shown_1 16 rfl rfl)
theorem dX1_shown_39 : decode cX1_shown 39 = .ok (.istore_n 3, 1) := dk_62 (dk_at dksX1_shown_1 17 rfl rfl)
theorem dX1_shown_40 : decode cX1_shown 40 = .ok (.iload_n 3, 1) := dk_29 (dk_at dksX1_shown_1 18 rfl rfl)
theorem dX1_shown_41 : decode cX1_shown 41 = .ok (.aload_n 0, 1) := dk_42 (dk_at dksX1_shown_1 19 rfl rfl)
theorem dX1_shown_42 : decode cX1_shown 42 = .ok (.getfield 122, 3) := dk_180 0 122 (dk_at dksX1_shown_1 20 rfl rfl)
theorem dX1_shown_45 : decode cX1_shown 45 = .ok (.if_icmp .gt 16, 3) := dk_163 0 16 (dk_at dksX1_shown_2 0 rfl rfl)
theorem dX1_shown_48 : decode cX1_shown 48 = .ok (.aload_n 1, 1) := dk_43 (dk_at dksX1_shown_2 3 rfl rfl)
theorem dX1_shown_49 : decode cX1_shown 49 = .ok (.bipush 33, 2) := dk_16 33 (dk_at dksX1_shown_2 4 rfl rfl)
theorem dX1_shown_51 : decode cX1_shown 51 = .ok (.invokevirtual 300, 3) := dk_182 1 44 (dk_at dksX1_shown_2 6 rfl rfl)
theorem dX1_shown_54 : decode cX1_shown 54 = .ok (.astore_n 2, 1) := dk_77 (dk_at dksX1_shown_2 9 rfl rfl)
theorem dX1_shown_55 : decode cX1_shown 55 = .ok (.iinc 3 4, 3) := dk_132 3 4 (dk_at dksX1_shown_2 10 rfl rfl)
theorem dX1_shown_58 : decode cX1_shown 58 = .ok (.goto (-18), 3) := dk_167 255 238 (dk_at dksX1_shown_2 13 rfl rfl)
theorem dX1_shown_61 : decode cX1_shown 61 = .ok (.aload_n 2, 1) := dk_44 (dk_at dksX1_shown_2 16 rfl rfl)
theorem dX1_shown_62 : decode cX1_shown 62 = .ok (.bipush 93, 2) := dk_16 93 (dk_at dksX1_shown_2 17 rfl rfl)
theorem dX1_shown_64 : decode cX1_shown 64 = .ok (.invokevirtual 300, 3) := dk_182 1 44 (dk_at dksX1_shown_2 19 rfl rfl)
theorem dX1_shown_67 : decode cX1_shown 67 = .ok (.areturn, 1) := dk_176 (dk_at dksX1_shown_2 22 rfl rfl)
abbrev cX1_character : ByteArray := prog_1_method_40_code
def yX1_character : MethodName := ⟨RX1, "character", "(I)C"⟩
def dkwX1_character_0 : List UInt8 := [27, 42, 180, 0, 47, 182, 1, 58, 184, 0, 202, 42, 180, 0, 47, 27, 182, 1, 61, 172]
abbrev dktX1_character_0 : List UInt8 := dkwX1_character_0 ++ []
theorem dksX1_character_0 : cX1_character.data.toList.drop 0 = dktX1_character_0 := by decide +kernel
theorem dX1_character_0 : decode cX1_character 0 = .ok (.iload_n 1, 1) := dk_27 (dk_at dksX1_character_0 0 rfl rfl)
theorem dX1_character_1 : decode cX1_character 1 = .ok (.aload_n 0, 1) := dk_42 (dk_at dksX1_character_0 1 rfl rfl)
theorem dX1_character_2 : decode cX1_character 2 = .ok (.getfield 47, 3) := dk_180 0 47 (dk_at dksX1_character_0 2 rfl rfl)
theorem dX1_character_5 : decode cX1_character 5 = .ok (.invokevirtual 314, 3) := dk_182 1 58 (dk_at dksX1_character_0 5 rfl rfl)
theorem dX1_character_8 : decode cX1_character 8 = .ok (.invokestatic 202, 3) := dk_184 0 202 (dk_at dksX1_character_0 8 rfl rfl)
theorem dX1_character_11 : decode cX1_character 11 = .ok (.aload_n 0, 1) := dk_42 (dk_at dksX1_character_0 11 rfl rfl)
theorem dX1_character_12 : decode cX1_character 12 = .ok (.getfield 47, 3) := dk_180 0 47 (dk_at dksX1_character_0 12 rfl rfl)
theorem dX1_character_15 : decode cX1_character 15 = .ok (.iload_n 1, 1) := dk_27 (dk_at dksX1_character_0 15 rfl rfl)
theorem dX1_character_16 : decode cX1_character 16 = .ok (.invokevirtual 317, 3) := dk_182 1 61 (dk_at dksX1_character_0 16 rfl rfl)
theorem dX1_character_19 : decode cX1_character 19 = .ok (.ireturn, 1) := dk_172 (dk_at dksX1_character_0 19 rfl rfl)
abbrev cX1_meanDetail : ByteArray := prog_1_method_43_code
def yX1_meanDetail : MethodName := ⟨RX1, "meanDetail", "()D"⟩
def dkwX1_meanDetail_3 : List UInt8 := [180, 0, 119, 167, 0, 4, 3, 96, 61, 167, 255, 215, 28, 135, 27, 135, 111, 175]
abbrev dktX1_meanDetail_3 : List UInt8 := dkwX1_meanDetail_3 ++ []
def dkwX1_meanDetail_2 : List UInt8 := [185, 0, 153, 1, 0, 192, 0, 110, 58, 4, 28, 25, 4, 180, 0, 125, 5, 160, 0, 11, 25, 4]
abbrev dktX1_meanDetail_2 : List UInt8 := dkwX1_meanDetail_2 ++ dktX1_meanDetail_3
def dkwX1_meanDetail_1 : List UInt8 := [180, 0, 33, 180, 0, 137, 182, 0, 141, 78, 45, 185, 0, 147, 1, 0, 153, 0, 38, 45]
abbrev dktX1_meanDetail_1 : List UInt8 := dkwX1_meanDetail_1 ++ dktX1_meanDetail_2
def dkwX1_meanDetail_0 : List UInt8 := [42, 180, 0, 33, 5, 182, 1, 78, 60, 27, 154, 0, 11, 187, 1, 81, 89, 183, 1, 83, 191, 3, 61, 42]
abbrev dktX1_meanDetail_0 : List UInt8 := dkwX1_meanDetail_0 ++ dktX1_meanDetail_1
theorem dksX1_meanDetail_0 : cX1_meanDetail.data.toList.drop 0 = dktX1_meanDetail_0 := by decide +kernel
theorem dksX1_meanDetail_1 : cX1_meanDetail.data.toList.drop 24 = dktX1_meanDetail_1 := dk_seg dksX1_meanDetail_0 24 rfl rfl
theorem dksX1_meanDetail_2 : cX1_meanDetail.data.toList.drop 44 = dktX1_meanDetail_2 := dk_seg dksX1_meanDetail_1 20 rfl rfl
theorem dksX1_meanDetail_3 : cX1_meanDetail.data.toList.drop 66 = dktX1_meanDetail_3 := dk_seg dksX1_meanDetail_2 22 rfl rfl
theorem dX1_meanDetail_0 : decode cX1_meanDetail 0 = .ok (.aload_n 0, 1) := dk_42 (dk_at dksX1_meanDetail_0 0 rfl rfl)
theorem dX1_meanDetail_1 : decode cX1_meanDetail 1 = .ok (.getfield 33, 3) := dk_180 0 33 (dk_at dksX1_meanDetail_0 1 rfl rfl)
theorem dX1_meanDetail_4 : decode cX1_meanDetail 4 = .ok (.iconst 2, 1) := dk_5 (dk_at dksX1_meanDetail_0 4 rfl rfl)
theorem dX1_meanDetail_5 : decode cX1_meanDetail 5 = .ok (.invokevirtual 334, 3) := dk_182 1 78 (dk_at dksX1_meanDetail_0 5 rfl rfl)
theorem dX1_meanDetail_8 : decode cX1_meanDetail 8 = .ok (.istore_n 1, 1) := dk_60 (dk_at dksX1_meanDetail_0 8 rfl rfl)
theorem dX1_meanDetail_9 : decode cX1_meanDetail 9 = .ok (.iload_n 1, 1) := dk_27 (dk_at dksX1_meanDetail_0 9 rfl rfl)
theorem dX1_meanDetail_10 : decode cX1_meanDetail 10 = .ok (.ifCond .ne 11, 3) := dk_154 0 11 (dk_at dksX1_meanDetail_0 10 rfl rfl)
theorem dX1_meanDetail_13 : decode cX1_meanDetail 13 = .ok (.new 337, 3) := dk_187 1 81 (dk_at dksX1_meanDetail_0 13 rfl rfl)
theorem dX1_meanDetail_16 : decode cX1_meanDetail 16 = .ok (.dup, 1) := dk_89 (dk_at dksX1_meanDetail_0 16 rfl rfl)
theorem dX1_meanDetail_17 : decode cX1_meanDetail 17 = .ok (.invokespecial 339, 3) := dk_183 1 83 (dk_at dksX1_meanDetail_0 17 rfl rfl)
theorem dX1_meanDetail_20 : decode cX1_meanDetail 20 = .ok (.athrow, 1) := dk_191 (dk_at dksX1_meanDetail_0 20 rfl rfl)
theorem dX1_meanDetail_21 : decode cX1_meanDetail 21 = .ok (.iconst 0, 1) := dk_3 (dk_at dksX1_meanDetail_0 21 rfl rfl)
theorem dX1_meanDetail_22 : decode cX1_meanDetail 22 = .ok (.istore_n 2, 1) := dk_61 (dk_at dksX1_meanDetail_0 22 rfl rfl)
theorem dX1_meanDetail_23 : decode cX1_meanDetail 23 = .ok (.aload_n 0, 1) := dk_42 (dk_at dksX1_meanDetail_0 23 rfl rfl)
theorem dX1_meanDetail_24 : decode cX1_meanDetail 24 = .ok (.getfield 33, 3) := dk_180 0 33 (dk_at dksX1_meanDetail_1 0 rfl rfl)
theorem dX1_meanDetail_27 : decode cX1_meanDetail 27 = .ok (.getfield 137, 3) := dk_180 0 137 (dk_at dksX1_meanDetail_1 3 rfl rfl)
theorem dX1_meanDetail_30 : decode cX1_meanDetail 30 = .ok (.invokevirtual 141, 3) := dk_182 0 141 (dk_at dksX1_meanDetail_1 6 rfl rfl)
theorem dX1_meanDetail_33 : decode cX1_meanDetail 33 = .ok (.astore_n 3, 1) := dk_78 (dk_at dksX1_meanDetail_1 9 rfl rfl)
theorem dX1_meanDetail_34 : decode cX1_meanDetail 34 = .ok (.aload_n 3, 1) := dk_45 (dk_at dksX1_meanDetail_1 10 rfl rfl)
theorem dX1_meanDetail_35 : decode cX1_meanDetail 35 = .ok (.invokeinterface 147 1, 5) := by decide +kernel
theorem dX1_meanDetail_40 : decode cX1_meanDetail 40 = .ok (.ifCond .eq 38, 3) := dk_153 0 38 (dk_at dksX1_meanDetail_1 16 rfl rfl)
theorem dX1_meanDetail_43 : decode cX1_meanDetail 43 = .ok (.aload_n 3, 1) := dk_45 (dk_at dksX1_meanDetail_1 19 rfl rfl)
theorem dX1_meanDetail_44 : decode cX1_meanDetail 44 = .ok (.invokeinterface 153 1, 5) := by decide +kernel
theorem dX1_meanDetail_49 : decode cX1_meanDetail 49 = .ok (.checkcast 110, 3) := dk_192 0 110 (dk_at dksX1_meanDetail_2 5 rfl rfl)
theorem dX1_meanDetail_52 : decode cX1_meanDetail 52 = .ok (.astore 4, 2) := dk_58 4 (dk_at dksX1_meanDetail_2 8 rfl rfl)
theorem dX1_meanDetail_54 : decode cX1_meanDetail 54 = .ok (.iload_n 2, 1) := dk_28 (dk_at dksX1_meanDetail_2 10 rfl rfl)
theorem dX1_meanDetail_55 : decode cX1_meanDetail 55 = .ok (.aload 4, 2) := dk_25 4 (dk_at dksX1_meanDetail_2 11 rfl rfl)
theorem dX1_meanDetail_57 : decode cX1_meanDetail 57 = .ok (.getfield 125, 3) := dk_180 0 125 (dk_at dksX1_meanDetail_2 13 rfl rfl)
theorem dX1_meanDetail_60 : decode cX1_meanDetail 60 = .ok (.iconst 2, 1) := dk_5 (dk_at dksX1_meanDetail_2 16 rfl rfl)
theorem dX1_meanDetail_61 : decode cX1_meanDetail 61 = .ok (.if_icmp .ne 11, 3) := dk_160 0 11 (dk_at dksX1_meanDetail_2 17 rfl rfl)
theorem dX1_meanDetail_64 : decode cX1_meanDetail 64 = .ok (.aload 4, 2) := dk_25 4 (dk_at dksX1_meanDetail_2 20 rfl rfl)
theorem dX1_meanDetail_66 : decode cX1_meanDetail 66 = .ok (.getfield 119, 3) := dk_180 0 119 (dk_at dksX1_meanDetail_3 0 rfl rfl)
theorem dX1_meanDetail_69 : decode cX1_meanDetail 69 = .ok (.goto 4, 3) := dk_167 0 4 (dk_at dksX1_meanDetail_3 3 rfl rfl)
theorem dX1_meanDetail_72 : decode cX1_meanDetail 72 = .ok (.iconst 0, 1) := dk_3 (dk_at dksX1_meanDetail_3 6 rfl rfl)
theorem dX1_meanDetail_73 : decode cX1_meanDetail 73 = .ok (.iadd, 1) := dk_96 (dk_at dksX1_meanDetail_3 7 rfl rfl)
theorem dX1_meanDetail_74 : decode cX1_meanDetail 74 = .ok (.istore_n 2, 1) := dk_61 (dk_at dksX1_meanDetail_3 8 rfl rfl)
theorem dX1_meanDetail_75 : decode cX1_meanDetail 75 = .ok (.goto (-41), 3) := dk_167 255 215 (dk_at dksX1_meanDetail_3 9 rfl rfl)
theorem dX1_meanDetail_78 : decode cX1_meanDetail 78 = .ok (.iload_n 2, 1) := dk_28 (dk_at dksX1_meanDetail_3 12 rfl rfl)
theorem dX1_meanDetail_79 : decode cX1_meanDetail 79 = .ok (.i2d, 1) := dk_135 (dk_at dksX1_meanDetail_3 13 rfl rfl)
theorem dX1_meanDetail_80 : decode cX1_meanDetail 80 = .ok (.iload_n 1, 1) := dk_27 (dk_at dksX1_meanDetail_3 14 rfl rfl)
theorem dX1_meanDetail_81 : decode cX1_meanDetail 81 = .ok (.i2d, 1) := dk_135 (dk_at dksX1_meanDetail_3 15 rfl rfl)
theorem dX1_meanDetail_82 : decode cX1_meanDetail 82 = .ok (.ddiv, 1) := dk_111 (dk_at dksX1_meanDetail_3 16 rfl rfl)
theorem dX1_meanDetail_83 : decode cX1_meanDetail 83 = .ok (.dreturn, 1) := dk_175 (dk_at dksX1_meanDetail_3 17 rfl rfl)
abbrev cX1_brokenShare : ByteArray := prog_1_method_44_code
def yX1_brokenShare : MethodName := ⟨RX1, "brokenShare", "()F"⟩
def dkwX1_brokenShare_1 : List UInt8 := [180, 0, 33, 6, 182, 1, 78, 134, 42, 180, 0, 33, 180, 0, 137, 182, 1, 87, 134, 110, 174]
abbrev dktX1_brokenShare_1 : List UInt8 := dkwX1_brokenShare_1 ++ []
def dkwX1_brokenShare_0 : List UInt8 := [42, 180, 0, 33, 180, 0, 137, 182, 1, 84, 153, 0, 11, 187, 1, 81, 89, 183, 1, 83, 191, 42]
abbrev dktX1_brokenShare_0 : List UInt8 := dkwX1_brokenShare_0 ++ dktX1_brokenShare_1
theorem dksX1_brokenShare_0 : cX1_brokenShare.data.toList.drop 0 = dktX1_brokenShare_0 := by decide +kernel
theorem dksX1_brokenShare_1 : cX1_brokenShare.data.toList.drop 22 = dktX1_brokenShare_1 := dk_seg dksX1_brokenShare_0 22 rfl rfl
theorem dX1_brokenShare_0 : decode cX1_brokenShare 0 = .ok (.aload_n 0, 1) := dk_42 (dk_at dksX1_brokenShare_0 0 rfl rfl)
theorem dX1_brokenShare_1 : decode cX1_brokenShare 1 = .ok (.getfield 33, 3) := dk_180 0 33 (dk_at dksX1_brokenShare_0 1 rfl rfl)
theorem dX1_brokenShare_4 : decode cX1_brokenShare 4 = .ok (.getfield 137, 3) := dk_180 0 137 (dk_at dksX1_brokenShare_0 4 rfl rfl)
theorem dX1_brokenShare_7 : decode cX1_brokenShare 7 = .ok (.invokevirtual 340, 3) := dk_182 1 84 (dk_at dksX1_brokenShare_0 7 rfl rfl)
theorem dX1_brokenShare_10 : decode cX1_brokenShare 10 = .ok (.ifCond .eq 11, 3) := dk_153 0 11 (dk_at dksX1_brokenShare_0 10 rfl rfl)
theorem dX1_brokenShare_13 : decode cX1_brokenShare 13 = .ok (.new 337, 3) := dk_187 1 81 (dk_at dksX1_brokenShare_0 13 rfl rfl)
theorem dX1_brokenShare_16 : decode cX1_brokenShare 16 = .ok (.dup, 1) := dk_89 (dk_at dksX1_brokenShare_0 16 rfl rfl)
theorem dX1_brokenShare_17 : decode cX1_brokenShare 17 = .ok (.invokespecial 339, 3) := dk_183 1 83 (dk_at dksX1_brokenShare_0 17 rfl rfl)
theorem dX1_brokenShare_20 : decode cX1_brokenShare 20 = .ok (.athrow, 1) := dk_191 (dk_at dksX1_brokenShare_0 20 rfl rfl)
theorem dX1_brokenShare_21 : decode cX1_brokenShare 21 = .ok (.aload_n 0, 1) := dk_42 (dk_at dksX1_brokenShare_0 21 rfl rfl)
theorem dX1_brokenShare_22 : decode cX1_brokenShare 22 = .ok (.getfield 33, 3) := dk_180 0 33 (dk_at dksX1_brokenShare_1 0 rfl rfl)
theorem dX1_brokenShare_25 : decode cX1_brokenShare 25 = .ok (.iconst 3, 1) := dk_6 (dk_at dksX1_brokenShare_1 3 rfl rfl)
theorem dX1_brokenShare_26 : decode cX1_brokenShare 26 = .ok (.invokevirtual 334, 3) := dk_182 1 78 (dk_at dksX1_brokenShare_1 4 rfl rfl)
theorem dX1_brokenShare_29 : decode cX1_brokenShare 29 = .ok (.i2f, 1) := dk_134 (dk_at dksX1_brokenShare_1 7 rfl rfl)
theorem dX1_brokenShare_30 : decode cX1_brokenShare 30 = .ok (.aload_n 0, 1) := dk_42 (dk_at dksX1_brokenShare_1 8 rfl rfl)
theorem dX1_brokenShare_31 : decode cX1_brokenShare 31 = .ok (.getfield 33, 3) := dk_180 0 33 (dk_at dksX1_brokenShare_1 9 rfl rfl)
theorem dX1_brokenShare_34 : decode cX1_brokenShare 34 = .ok (.getfield 137, 3) := dk_180 0 137 (dk_at dksX1_brokenShare_1 12 rfl rfl)
theorem dX1_brokenShare_37 : decode cX1_brokenShare 37 = .ok (.invokevirtual 343, 3) := dk_182 1 87 (dk_at dksX1_brokenShare_1 15 rfl rfl)
theorem dX1_brokenShare_40 : decode cX1_brokenShare 40 = .ok (.i2f, 1) := dk_134 (dk_at dksX1_brokenShare_1 18 rfl rfl)
theorem dX1_brokenShare_41 : decode cX1_brokenShare 41 = .ok (.fdiv, 1) := dk_110 (dk_at dksX1_brokenShare_1 19 rfl rfl)
theorem dX1_brokenShare_42 : decode cX1_brokenShare 42 = .ok (.freturn, 1) := dk_174 (dk_at dksX1_brokenShare_1 20 rfl rfl)
abbrev cX1_torn : ByteArray := prog_1_method_46_code
def yX1_torn : MethodName := ⟨RX1, "torn", "()I"⟩
def dkwX1_torn_2 : List UInt8 := [167, 255, 222, 27, 172]
abbrev dktX1_torn_2 : List UInt8 := dkwX1_torn_2 ++ []
def dkwX1_torn_1 : List UInt8 := [185, 0, 153, 1, 0, 192, 0, 181, 78, 27, 45, 182, 0, 193, 153, 0, 7, 4, 167, 0, 4, 3, 96, 60]
abbrev dktX1_torn_1 : List UInt8 := dkwX1_torn_1 ++ dktX1_torn_2
def dkwX1_torn_0 : List UInt8 := [3, 60, 42, 180, 0, 33, 180, 1, 29, 182, 0, 141, 77, 44, 185, 0, 147, 1, 0, 153, 0, 31, 44]
abbrev dktX1_torn_0 : List UInt8 := dkwX1_torn_0 ++ dktX1_torn_1
theorem dksX1_torn_0 : cX1_torn.data.toList.drop 0 = dktX1_torn_0 := by decide +kernel
theorem dksX1_torn_1 : cX1_torn.data.toList.drop 23 = dktX1_torn_1 := dk_seg dksX1_torn_0 23 rfl rfl
theorem dksX1_torn_2 : cX1_torn.data.toList.drop 47 = dktX1_torn_2 := dk_seg dksX1_torn_1 24 rfl rfl
theorem dX1_torn_0 : decode cX1_torn 0 = .ok (.iconst 0, 1) := dk_3 (dk_at dksX1_torn_0 0 rfl rfl)
theorem dX1_torn_1 : decode cX1_torn 1 = .ok (.istore_n 1, 1) := dk_60 (dk_at dksX1_torn_0 1 rfl rfl)
theorem dX1_torn_2 : decode cX1_torn 2 = .ok (.aload_n 0, 1) := dk_42 (dk_at dksX1_torn_0 2 rfl rfl)
theorem dX1_torn_3 : decode cX1_torn 3 = .ok (.getfield 33, 3) := dk_180 0 33 (dk_at dksX1_torn_0 3 rfl rfl)
theorem dX1_torn_6 : decode cX1_torn 6 = .ok (.getfield 285, 3) := dk_180 1 29 (dk_at dksX1_torn_0 6 rfl rfl)
theorem dX1_torn_9 : decode cX1_torn 9 = .ok (.invokevirtual 141, 3) := dk_182 0 141 (dk_at dksX1_torn_0 9 rfl rfl)
theorem dX1_torn_12 : decode cX1_torn 12 = .ok (.astore_n 2, 1) := dk_77 (dk_at dksX1_torn_0 12 rfl rfl)
theorem dX1_torn_13 : decode cX1_torn 13 = .ok (.aload_n 2, 1) := dk_44 (dk_at dksX1_torn_0 13 rfl rfl)
theorem dX1_torn_14 : decode cX1_torn 14 = .ok (.invokeinterface 147 1, 5) := by decide +kernel
theorem dX1_torn_19 : decode cX1_torn 19 = .ok (.ifCond .eq 31, 3) := dk_153 0 31 (dk_at dksX1_torn_0 19 rfl rfl)
theorem dX1_torn_22 : decode cX1_torn 22 = .ok (.aload_n 2, 1) := dk_44 (dk_at dksX1_torn_0 22 rfl rfl)
theorem dX1_torn_23 : decode cX1_torn 23 = .ok (.invokeinterface 153 1, 5) := by decide +kernel
theorem dX1_torn_28 : decode cX1_torn 28 = .ok (.checkcast 181, 3) := dk_192 0 181 (dk_at dksX1_torn_1 5 rfl rfl)
theorem dX1_torn_31 : decode cX1_torn 31 = .ok (.astore_n 3, 1) := dk_78 (dk_at dksX1_torn_1 8 rfl rfl)
theorem dX1_torn_32 : decode cX1_torn 32 = .ok (.iload_n 1, 1) := dk_27 (dk_at dksX1_torn_1 9 rfl rfl)
theorem dX1_torn_33 : decode cX1_torn 33 = .ok (.aload_n 3, 1) := dk_45 (dk_at dksX1_torn_1 10 rfl rfl)
theorem dX1_torn_34 : decode cX1_torn 34 = .ok (.invokevirtual 193, 3) := dk_182 0 193 (dk_at dksX1_torn_1 11 rfl rfl)
theorem dX1_torn_37 : decode cX1_torn 37 = .ok (.ifCond .eq 7, 3) := dk_153 0 7 (dk_at dksX1_torn_1 14 rfl rfl)
theorem dX1_torn_40 : decode cX1_torn 40 = .ok (.iconst 1, 1) := dk_4 (dk_at dksX1_torn_1 17 rfl rfl)
theorem dX1_torn_41 : decode cX1_torn 41 = .ok (.goto 4, 3) := dk_167 0 4 (dk_at dksX1_torn_1 18 rfl rfl)
theorem dX1_torn_44 : decode cX1_torn 44 = .ok (.iconst 0, 1) := dk_3 (dk_at dksX1_torn_1 21 rfl rfl)
theorem dX1_torn_45 : decode cX1_torn 45 = .ok (.iadd, 1) := dk_96 (dk_at dksX1_torn_1 22 rfl rfl)
theorem dX1_torn_46 : decode cX1_torn 46 = .ok (.istore_n 1, 1) := dk_60 (dk_at dksX1_torn_1 23 rfl rfl)
theorem dX1_torn_47 : decode cX1_torn 47 = .ok (.goto (-34), 3) := dk_167 255 222 (dk_at dksX1_torn_2 0 rfl rfl)
theorem dX1_torn_50 : decode cX1_torn 50 = .ok (.iload_n 1, 1) := dk_27 (dk_at dksX1_torn_2 3 rfl rfl)
theorem dX1_torn_51 : decode cX1_torn 51 = .ok (.ireturn, 1) := dk_172 (dk_at dksX1_torn_2 4 rfl rfl)
abbrev cX1_fulfilled : ByteArray := prog_1_method_47_code
def yX1_fulfilled : MethodName := ⟨RX1, "fulfilled", "()I"⟩
def dkwX1_fulfilled_2 : List UInt8 := [167, 255, 222, 27, 172]
abbrev dktX1_fulfilled_2 : List UInt8 := dkwX1_fulfilled_2 ++ []
def dkwX1_fulfilled_1 : List UInt8 := [185, 0, 153, 1, 0, 192, 0, 232, 78, 27, 45, 182, 0, 248, 153, 0, 7, 4, 167, 0, 4, 3, 96, 60]
abbrev dktX1_fulfilled_1 : List UInt8 := dkwX1_fulfilled_1 ++ dktX1_fulfilled_2
def dkwX1_fulfilled_0 : List UInt8 := [3, 60, 42, 180, 0, 33, 180, 0, 245, 182, 0, 141, 77, 44, 185, 0, 147, 1, 0, 153, 0, 31, 44]
abbrev dktX1_fulfilled_0 : List UInt8 := dkwX1_fulfilled_0 ++ dktX1_fulfilled_1
theorem dksX1_fulfilled_0 : cX1_fulfilled.data.toList.drop 0 = dktX1_fulfilled_0 := by decide +kernel
theorem dksX1_fulfilled_1 : cX1_fulfilled.data.toList.drop 23 = dktX1_fulfilled_1 := dk_seg dksX1_fulfilled_0 23 rfl rfl
theorem dksX1_fulfilled_2 : cX1_fulfilled.data.toList.drop 47 = dktX1_fulfilled_2 := dk_seg dksX1_fulfilled_1 24 rfl rfl
theorem dX1_fulfilled_0 : decode cX1_fulfilled 0 = .ok (.iconst 0, 1) := dk_3 (dk_at dksX1_fulfilled_0 0 rfl rfl)
theorem dX1_fulfilled_1 : decode cX1_fulfilled 1 = .ok (.istore_n 1, 1) := dk_60 (dk_at dksX1_fulfilled_0 1 rfl rfl)
theorem dX1_fulfilled_2 : decode cX1_fulfilled 2 = .ok (.aload_n 0, 1) := dk_42 (dk_at dksX1_fulfilled_0 2 rfl rfl)
theorem dX1_fulfilled_3 : decode cX1_fulfilled 3 = .ok (.getfield 33, 3) := dk_180 0 33 (dk_at dksX1_fulfilled_0 3 rfl rfl)
theorem dX1_fulfilled_6 : decode cX1_fulfilled 6 = .ok (.getfield 245, 3) := dk_180 0 245 (dk_at dksX1_fulfilled_0 6 rfl rfl)
theorem dX1_fulfilled_9 : decode cX1_fulfilled 9 = .ok (.invokevirtual 141, 3) := dk_182 0 141 (dk_at dksX1_fulfilled_0 9 rfl rfl)
theorem dX1_fulfilled_12 : decode cX1_fulfilled 12 = .ok (.astore_n 2, 1) := dk_77 (dk_at dksX1_fulfilled_0 12 rfl rfl)
theorem dX1_fulfilled_13 : decode cX1_fulfilled 13 = .ok (.aload_n 2, 1) := dk_44 (dk_at dksX1_fulfilled_0 13 rfl rfl)
theorem dX1_fulfilled_14 : decode cX1_fulfilled 14 = .ok (.invokeinterface 147 1, 5) := by decide +kernel
theorem dX1_fulfilled_19 : decode cX1_fulfilled 19 = .ok (.ifCond .eq 31, 3) := dk_153 0 31 (dk_at dksX1_fulfilled_0 19 rfl rfl)
theorem dX1_fulfilled_22 : decode cX1_fulfilled 22 = .ok (.aload_n 2, 1) := dk_44 (dk_at dksX1_fulfilled_0 22 rfl rfl)
theorem dX1_fulfilled_23 : decode cX1_fulfilled 23 = .ok (.invokeinterface 153 1, 5) := by decide +kernel
theorem dX1_fulfilled_28 : decode cX1_fulfilled 28 = .ok (.checkcast 232, 3) := dk_192 0 232 (dk_at dksX1_fulfilled_1 5 rfl rfl)
theorem dX1_fulfilled_31 : decode cX1_fulfilled 31 = .ok (.astore_n 3, 1) := dk_78 (dk_at dksX1_fulfilled_1 8 rfl rfl)
theorem dX1_fulfilled_32 : decode cX1_fulfilled 32 = .ok (.iload_n 1, 1) := dk_27 (dk_at dksX1_fulfilled_1 9 rfl rfl)
theorem dX1_fulfilled_33 : decode cX1_fulfilled 33 = .ok (.aload_n 3, 1) := dk_45 (dk_at dksX1_fulfilled_1 10 rfl rfl)
theorem dX1_fulfilled_34 : decode cX1_fulfilled 34 = .ok (.invokevirtual 248, 3) := dk_182 0 248 (dk_at dksX1_fulfilled_1 11 rfl rfl)
theorem dX1_fulfilled_37 : decode cX1_fulfilled 37 = .ok (.ifCond .eq 7, 3) := dk_153 0 7 (dk_at dksX1_fulfilled_1 14 rfl rfl)
theorem dX1_fulfilled_40 : decode cX1_fulfilled 40 = .ok (.iconst 1, 1) := dk_4 (dk_at dksX1_fulfilled_1 17 rfl rfl)
theorem dX1_fulfilled_41 : decode cX1_fulfilled 41 = .ok (.goto 4, 3) := dk_167 0 4 (dk_at dksX1_fulfilled_1 18 rfl rfl)
theorem dX1_fulfilled_44 : decode cX1_fulfilled 44 = .ok (.iconst 0, 1) := dk_3 (dk_at dksX1_fulfilled_1 21 rfl rfl)
theorem dX1_fulfilled_45 : decode cX1_fulfilled 45 = .ok (.iadd, 1) := dk_96 (dk_at dksX1_fulfilled_1 22 rfl rfl)
theorem dX1_fulfilled_46 : decode cX1_fulfilled 46 = .ok (.istore_n 1, 1) := dk_60 (dk_at dksX1_fulfilled_1 23 rfl rfl)
theorem dX1_fulfilled_47 : decode cX1_fulfilled 47 = .ok (.goto (-34), 3) := dk_167 255 222 (dk_at dksX1_fulfilled_2 0 rfl rfl)
theorem dX1_fulfilled_50 : decode cX1_fulfilled 50 = .ok (.iload_n 1, 1) := dk_27 (dk_at dksX1_fulfilled_2 3 rfl rfl)
theorem dX1_fulfilled_51 : decode cX1_fulfilled 51 = .ok (.ireturn, 1) := dk_172 (dk_at dksX1_fulfilled_2 4 rfl rfl)
abbrev cX1_feed : ByteArray := prog_1_method_49_code
def yX1_feed : MethodName := ⟨RX1, "feed", "(C)I"⟩
def dkwX1_feed_1 : List UInt8 := [180, 1, 114, 27, 85, 42, 89, 180, 1, 114, 4, 96, 181, 1, 114, 42, 180, 1, 114, 172]
abbrev dktX1_feed_1 : List UInt8 := dkwX1_feed_1 ++ []
def dkwX1_feed_0 : List UInt8 := [42, 180, 1, 114, 16, 60, 162, 0, 7, 4, 167, 0, 4, 3, 184, 1, 117, 42, 180, 0, 51, 42]
abbrev dktX1_feed_0 : List UInt8 := dkwX1_feed_0 ++ dktX1_feed_1
theorem dksX1_feed_0 : cX1_feed.data.toList.drop 0 = dktX1_feed_0 := by decide +kernel
theorem dksX1_feed_1 : cX1_feed.data.toList.drop 22 = dktX1_feed_1 := dk_seg dksX1_feed_0 22 rfl rfl
theorem dX1_feed_0 : decode cX1_feed 0 = .ok (.aload_n 0, 1) := dk_42 (dk_at dksX1_feed_0 0 rfl rfl)
theorem dX1_feed_1 : decode cX1_feed 1 = .ok (.getfield 370, 3) := dk_180 1 114 (dk_at dksX1_feed_0 1 rfl rfl)
theorem dX1_feed_4 : decode cX1_feed 4 = .ok (.bipush 60, 2) := dk_16 60 (dk_at dksX1_feed_0 4 rfl rfl)
theorem dX1_feed_6 : decode cX1_feed 6 = .ok (.if_icmp .ge 7, 3) := dk_162 0 7 (dk_at dksX1_feed_0 6 rfl rfl)
theorem dX1_feed_9 : decode cX1_feed 9 = .ok (.iconst 1, 1) := dk_4 (dk_at dksX1_feed_0 9 rfl rfl)
theorem dX1_feed_10 : decode cX1_feed 10 = .ok (.goto 4, 3) := dk_167 0 4 (dk_at dksX1_feed_0 10 rfl rfl)
theorem dX1_feed_13 : decode cX1_feed 13 = .ok (.iconst 0, 1) := dk_3 (dk_at dksX1_feed_0 13 rfl rfl)
theorem dX1_feed_14 : decode cX1_feed 14 = .ok (.invokestatic 373, 3) := dk_184 1 117 (dk_at dksX1_feed_0 14 rfl rfl)
theorem dX1_feed_17 : decode cX1_feed 17 = .ok (.aload_n 0, 1) := dk_42 (dk_at dksX1_feed_0 17 rfl rfl)
theorem dX1_feed_18 : decode cX1_feed 18 = .ok (.getfield 51, 3) := dk_180 0 51 (dk_at dksX1_feed_0 18 rfl rfl)
theorem dX1_feed_21 : decode cX1_feed 21 = .ok (.aload_n 0, 1) := dk_42 (dk_at dksX1_feed_0 21 rfl rfl)
theorem dX1_feed_22 : decode cX1_feed 22 = .ok (.getfield 370, 3) := dk_180 1 114 (dk_at dksX1_feed_1 0 rfl rfl)
theorem dX1_feed_25 : decode cX1_feed 25 = .ok (.iload_n 1, 1) := dk_27 (dk_at dksX1_feed_1 3 rfl rfl)
theorem dX1_feed_26 : decode cX1_feed 26 = .ok (.castore, 1) := dk_85 (dk_at dksX1_feed_1 4 rfl rfl)
theorem dX1_feed_27 : decode cX1_feed 27 = .ok (.aload_n 0, 1) := dk_42 (dk_at dksX1_feed_1 5 rfl rfl)
theorem dX1_feed_28 : decode cX1_feed 28 = .ok (.dup, 1) := dk_89 (dk_at dksX1_feed_1 6 rfl rfl)
theorem dX1_feed_29 : decode cX1_feed 29 = .ok (.getfield 370, 3) := dk_180 1 114 (dk_at dksX1_feed_1 7 rfl rfl)
theorem dX1_feed_32 : decode cX1_feed 32 = .ok (.iconst 1, 1) := dk_4 (dk_at dksX1_feed_1 10 rfl rfl)
theorem dX1_feed_33 : decode cX1_feed 33 = .ok (.iadd, 1) := dk_96 (dk_at dksX1_feed_1 11 rfl rfl)
theorem dX1_feed_34 : decode cX1_feed 34 = .ok (.putfield 370, 3) := dk_181 1 114 (dk_at dksX1_feed_1 12 rfl rfl)
theorem dX1_feed_37 : decode cX1_feed 37 = .ok (.aload_n 0, 1) := dk_42 (dk_at dksX1_feed_1 15 rfl rfl)
theorem dX1_feed_38 : decode cX1_feed 38 = .ok (.getfield 370, 3) := dk_180 1 114 (dk_at dksX1_feed_1 16 rfl rfl)
theorem dX1_feed_41 : decode cX1_feed 41 = .ok (.ireturn, 1) := dk_172 (dk_at dksX1_feed_1 19 rfl rfl)
abbrev cX1_carryOutAll : ByteArray := prog_1_method_51_code
def yX1_carryOutAll : MethodName := ⟨RX1, "carryOutAll", "(Ljava/util/LinkedList;)I"⟩
def dkwX1_carryOutAll_2 : List UInt8 := [182, 1, 123, 132, 3, 1, 167, 255, 224, 42, 44, 182, 0, 83, 29, 172]
abbrev dktX1_carryOutAll_2 : List UInt8 := dkwX1_carryOutAll_2 ++ []
def dkwX1_carryOutAll_1 : List UInt8 := [185, 0, 147, 1, 0, 153, 0, 28, 25, 4, 185, 0, 153, 1, 0, 192, 0, 78, 58, 5, 25, 5, 29, 44]
abbrev dktX1_carryOutAll_1 : List UInt8 := dkwX1_carryOutAll_1 ++ dktX1_carryOutAll_2
def dkwX1_carryOutAll_0 : List UInt8 := [187, 0, 30, 89, 42, 180, 0, 33, 183, 0, 74, 77, 3, 62, 43, 182, 1, 122, 58, 4, 25, 4]
abbrev dktX1_carryOutAll_0 : List UInt8 := dkwX1_carryOutAll_0 ++ dktX1_carryOutAll_1
theorem dksX1_carryOutAll_0 : cX1_carryOutAll.data.toList.drop 0 = dktX1_carryOutAll_0 := by decide +kernel
theorem dksX1_carryOutAll_1 : cX1_carryOutAll.data.toList.drop 22 = dktX1_carryOutAll_1 := dk_seg dksX1_carryOutAll_0 22 rfl rfl
theorem dksX1_carryOutAll_2 : cX1_carryOutAll.data.toList.drop 46 = dktX1_carryOutAll_2 := dk_seg dksX1_carryOutAll_1 24 rfl rfl
theorem dX1_carryOutAll_0 : decode cX1_carryOutAll 0 = .ok (.new 30, 3) := dk_187 0 30 (dk_at dksX1_carryOutAll_0 0 rfl rfl)
theorem dX1_carryOutAll_3 : decode cX1_carryOutAll 3 = .ok (.dup, 1) := dk_89 (dk_at dksX1_carryOutAll_0 3 rfl rfl)
theorem dX1_carryOutAll_4 : decode cX1_carryOutAll 4 = .ok (.aload_n 0, 1) := dk_42 (dk_at dksX1_carryOutAll_0 4 rfl rfl)
theorem dX1_carryOutAll_5 : decode cX1_carryOutAll 5 = .ok (.getfield 33, 3) := dk_180 0 33 (dk_at dksX1_carryOutAll_0 5 rfl rfl)
theorem dX1_carryOutAll_8 : decode cX1_carryOutAll 8 = .ok (.invokespecial 74, 3) := dk_183 0 74 (dk_at dksX1_carryOutAll_0 8 rfl rfl)
theorem dX1_carryOutAll_11 : decode cX1_carryOutAll 11 = .ok (.astore_n 2, 1) := dk_77 (dk_at dksX1_carryOutAll_0 11 rfl rfl)
theorem dX1_carryOutAll_12 : decode cX1_carryOutAll 12 = .ok (.iconst 0, 1) := dk_3 (dk_at dksX1_carryOutAll_0 12 rfl rfl)
theorem dX1_carryOutAll_13 : decode cX1_carryOutAll 13 = .ok (.istore_n 3, 1) := dk_62 (dk_at dksX1_carryOutAll_0 13 rfl rfl)
theorem dX1_carryOutAll_14 : decode cX1_carryOutAll 14 = .ok (.aload_n 1, 1) := dk_43 (dk_at dksX1_carryOutAll_0 14 rfl rfl)
theorem dX1_carryOutAll_15 : decode cX1_carryOutAll 15 = .ok (.invokevirtual 378, 3) := dk_182 1 122 (dk_at dksX1_carryOutAll_0 15 rfl rfl)
theorem dX1_carryOutAll_18 : decode cX1_carryOutAll 18 = .ok (.astore 4, 2) := dk_58 4 (dk_at dksX1_carryOutAll_0 18 rfl rfl)
theorem dX1_carryOutAll_20 : decode cX1_carryOutAll 20 = .ok (.aload 4, 2) := dk_25 4 (dk_at dksX1_carryOutAll_0 20 rfl rfl)
theorem dX1_carryOutAll_22 : decode cX1_carryOutAll 22 = .ok (.invokeinterface 147 1, 5) := by decide +kernel
theorem dX1_carryOutAll_27 : decode cX1_carryOutAll 27 = .ok (.ifCond .eq 28, 3) := dk_153 0 28 (dk_at dksX1_carryOutAll_1 5 rfl rfl)
theorem dX1_carryOutAll_30 : decode cX1_carryOutAll 30 = .ok (.aload 4, 2) := dk_25 4 (dk_at dksX1_carryOutAll_1 8 rfl rfl)
theorem dX1_carryOutAll_32 : decode cX1_carryOutAll 32 = .ok (.invokeinterface 153 1, 5) := by decide +kernel
theorem dX1_carryOutAll_37 : decode cX1_carryOutAll 37 = .ok (.checkcast 78, 3) := dk_192 0 78 (dk_at dksX1_carryOutAll_1 15 rfl rfl)
theorem dX1_carryOutAll_40 : decode cX1_carryOutAll 40 = .ok (.astore 5, 2) := dk_58 5 (dk_at dksX1_carryOutAll_1 18 rfl rfl)
theorem dX1_carryOutAll_42 : decode cX1_carryOutAll 42 = .ok (.aload 5, 2) := dk_25 5 (dk_at dksX1_carryOutAll_1 20 rfl rfl)
theorem dX1_carryOutAll_44 : decode cX1_carryOutAll 44 = .ok (.iload_n 3, 1) := dk_29 (dk_at dksX1_carryOutAll_1 22 rfl rfl)
theorem dX1_carryOutAll_45 : decode cX1_carryOutAll 45 = .ok (.aload_n 2, 1) := dk_44 (dk_at dksX1_carryOutAll_1 23 rfl rfl)
theorem dX1_carryOutAll_46 : decode cX1_carryOutAll 46 = .ok (.invokevirtual 379, 3) := dk_182 1 123 (dk_at dksX1_carryOutAll_2 0 rfl rfl)
theorem dX1_carryOutAll_49 : decode cX1_carryOutAll 49 = .ok (.iinc 3 1, 3) := dk_132 3 1 (dk_at dksX1_carryOutAll_2 3 rfl rfl)
theorem dX1_carryOutAll_52 : decode cX1_carryOutAll 52 = .ok (.goto (-32), 3) := dk_167 255 224 (dk_at dksX1_carryOutAll_2 6 rfl rfl)
theorem dX1_carryOutAll_55 : decode cX1_carryOutAll 55 = .ok (.aload_n 0, 1) := dk_42 (dk_at dksX1_carryOutAll_2 9 rfl rfl)
theorem dX1_carryOutAll_56 : decode cX1_carryOutAll 56 = .ok (.aload_n 2, 1) := dk_44 (dk_at dksX1_carryOutAll_2 10 rfl rfl)
theorem dX1_carryOutAll_57 : decode cX1_carryOutAll 57 = .ok (.invokevirtual 83, 3) := dk_182 0 83 (dk_at dksX1_carryOutAll_2 11 rfl rfl)
theorem dX1_carryOutAll_60 : decode cX1_carryOutAll 60 = .ok (.iload_n 3, 1) := dk_29 (dk_at dksX1_carryOutAll_2 14 rfl rfl)
theorem dX1_carryOutAll_61 : decode cX1_carryOutAll 61 = .ok (.ireturn, 1) := dk_172 (dk_at dksX1_carryOutAll_2 15 rfl rfl)
abbrev cX1_undo : ByteArray := prog_1_method_53_code
def yX1_undo : MethodName := ⟨RX1, "undo", "()I"⟩
def dkwX1_undo_1 : List UInt8 := [182, 1, 146, 192, 0, 30, 181, 0, 33, 42, 180, 0, 40, 182, 0, 55, 172]
abbrev dktX1_undo_1 : List UInt8 := dkwX1_undo_1 ++ []
def dkwX1_undo_0 : List UInt8 := [42, 180, 0, 40, 182, 1, 145, 154, 0, 7, 4, 167, 0, 4, 3, 184, 1, 117, 42, 42, 180, 0, 40]
abbrev dktX1_undo_0 : List UInt8 := dkwX1_undo_0 ++ dktX1_undo_1
theorem dksX1_undo_0 : cX1_undo.data.toList.drop 0 = dktX1_undo_0 := by decide +kernel
theorem dksX1_undo_1 : cX1_undo.data.toList.drop 23 = dktX1_undo_1 := dk_seg dksX1_undo_0 23 rfl rfl
theorem dX1_undo_0 : decode cX1_undo 0 = .ok (.aload_n 0, 1) := dk_42 (dk_at dksX1_undo_0 0 rfl rfl)
theorem dX1_undo_1 : decode cX1_undo 1 = .ok (.getfield 40, 3) := dk_180 0 40 (dk_at dksX1_undo_0 1 rfl rfl)
theorem dX1_undo_4 : decode cX1_undo 4 = .ok (.invokevirtual 401, 3) := dk_182 1 145 (dk_at dksX1_undo_0 4 rfl rfl)
theorem dX1_undo_7 : decode cX1_undo 7 = .ok (.ifCond .ne 7, 3) := dk_154 0 7 (dk_at dksX1_undo_0 7 rfl rfl)
theorem dX1_undo_10 : decode cX1_undo 10 = .ok (.iconst 1, 1) := dk_4 (dk_at dksX1_undo_0 10 rfl rfl)
theorem dX1_undo_11 : decode cX1_undo 11 = .ok (.goto 4, 3) := dk_167 0 4 (dk_at dksX1_undo_0 11 rfl rfl)
theorem dX1_undo_14 : decode cX1_undo 14 = .ok (.iconst 0, 1) := dk_3 (dk_at dksX1_undo_0 14 rfl rfl)
theorem dX1_undo_15 : decode cX1_undo 15 = .ok (.invokestatic 373, 3) := dk_184 1 117 (dk_at dksX1_undo_0 15 rfl rfl)
theorem dX1_undo_18 : decode cX1_undo 18 = .ok (.aload_n 0, 1) := dk_42 (dk_at dksX1_undo_0 18 rfl rfl)
theorem dX1_undo_19 : decode cX1_undo 19 = .ok (.aload_n 0, 1) := dk_42 (dk_at dksX1_undo_0 19 rfl rfl)
theorem dX1_undo_20 : decode cX1_undo 20 = .ok (.getfield 40, 3) := dk_180 0 40 (dk_at dksX1_undo_0 20 rfl rfl)
theorem dX1_undo_23 : decode cX1_undo 23 = .ok (.invokevirtual 402, 3) := dk_182 1 146 (dk_at dksX1_undo_1 0 rfl rfl)
theorem dX1_undo_26 : decode cX1_undo 26 = .ok (.checkcast 30, 3) := dk_192 0 30 (dk_at dksX1_undo_1 3 rfl rfl)
theorem dX1_undo_29 : decode cX1_undo 29 = .ok (.putfield 33, 3) := dk_181 0 33 (dk_at dksX1_undo_1 6 rfl rfl)
theorem dX1_undo_32 : decode cX1_undo 32 = .ok (.aload_n 0, 1) := dk_42 (dk_at dksX1_undo_1 9 rfl rfl)
theorem dX1_undo_33 : decode cX1_undo 33 = .ok (.getfield 40, 3) := dk_180 0 40 (dk_at dksX1_undo_1 10 rfl rfl)
theorem dX1_undo_36 : decode cX1_undo 36 = .ok (.invokevirtual 55, 3) := dk_182 0 55 (dk_at dksX1_undo_1 13 rfl rfl)
theorem dX1_undo_39 : decode cX1_undo 39 = .ok (.ireturn, 1) := dk_172 (dk_at dksX1_undo_1 16 rfl rfl)
abbrev cX1_restore : ByteArray := prog_1_method_55_code
def yX1_restore : MethodName := ⟨RX1, "restore", "()I"⟩
def dkwX1_restore_1 : List UInt8 := [183, 0, 74, 181, 0, 33, 42, 180, 0, 40, 182, 1, 152, 42, 180, 0, 33, 180, 1, 97, 172]
abbrev dktX1_restore_1 : List UInt8 := dkwX1_restore_1 ++ []
def dkwX1_restore_0 : List UInt8 := [42, 180, 1, 149, 198, 0, 7, 4, 167, 0, 4, 3, 184, 1, 117, 42, 187, 0, 30, 89, 42, 180, 1, 149]
abbrev dktX1_restore_0 : List UInt8 := dkwX1_restore_0 ++ dktX1_restore_1
theorem dksX1_restore_0 : cX1_restore.data.toList.drop 0 = dktX1_restore_0 := by decide +kernel
theorem dksX1_restore_1 : cX1_restore.data.toList.drop 24 = dktX1_restore_1 := dk_seg dksX1_restore_0 24 rfl rfl
theorem dX1_restore_0 : decode cX1_restore 0 = .ok (.aload_n 0, 1) := dk_42 (dk_at dksX1_restore_0 0 rfl rfl)
theorem dX1_restore_1 : decode cX1_restore 1 = .ok (.getfield 405, 3) := dk_180 1 149 (dk_at dksX1_restore_0 1 rfl rfl)
theorem dX1_restore_4 : decode cX1_restore 4 = .ok (.ifnull 7, 3) := dk_198 0 7 (dk_at dksX1_restore_0 4 rfl rfl)
theorem dX1_restore_7 : decode cX1_restore 7 = .ok (.iconst 1, 1) := dk_4 (dk_at dksX1_restore_0 7 rfl rfl)
theorem dX1_restore_8 : decode cX1_restore 8 = .ok (.goto 4, 3) := dk_167 0 4 (dk_at dksX1_restore_0 8 rfl rfl)
theorem dX1_restore_11 : decode cX1_restore 11 = .ok (.iconst 0, 1) := dk_3 (dk_at dksX1_restore_0 11 rfl rfl)
theorem dX1_restore_12 : decode cX1_restore 12 = .ok (.invokestatic 373, 3) := dk_184 1 117 (dk_at dksX1_restore_0 12 rfl rfl)
theorem dX1_restore_15 : decode cX1_restore 15 = .ok (.aload_n 0, 1) := dk_42 (dk_at dksX1_restore_0 15 rfl rfl)
theorem dX1_restore_16 : decode cX1_restore 16 = .ok (.new 30, 3) := dk_187 0 30 (dk_at dksX1_restore_0 16 rfl rfl)
theorem dX1_restore_19 : decode cX1_restore 19 = .ok (.dup, 1) := dk_89 (dk_at dksX1_restore_0 19 rfl rfl)
theorem dX1_restore_20 : decode cX1_restore 20 = .ok (.aload_n 0, 1) := dk_42 (dk_at dksX1_restore_0 20 rfl rfl)
theorem dX1_restore_21 : decode cX1_restore 21 = .ok (.getfield 405, 3) := dk_180 1 149 (dk_at dksX1_restore_0 21 rfl rfl)
theorem dX1_restore_24 : decode cX1_restore 24 = .ok (.invokespecial 74, 3) := dk_183 0 74 (dk_at dksX1_restore_1 0 rfl rfl)
theorem dX1_restore_27 : decode cX1_restore 27 = .ok (.putfield 33, 3) := dk_181 0 33 (dk_at dksX1_restore_1 3 rfl rfl)
theorem dX1_restore_30 : decode cX1_restore 30 = .ok (.aload_n 0, 1) := dk_42 (dk_at dksX1_restore_1 6 rfl rfl)
theorem dX1_restore_31 : decode cX1_restore 31 = .ok (.getfield 40, 3) := dk_180 0 40 (dk_at dksX1_restore_1 7 rfl rfl)
theorem dX1_restore_34 : decode cX1_restore 34 = .ok (.invokevirtual 408, 3) := dk_182 1 152 (dk_at dksX1_restore_1 10 rfl rfl)
theorem dX1_restore_37 : decode cX1_restore 37 = .ok (.aload_n 0, 1) := dk_42 (dk_at dksX1_restore_1 13 rfl rfl)
theorem dX1_restore_38 : decode cX1_restore 38 = .ok (.getfield 33, 3) := dk_180 0 33 (dk_at dksX1_restore_1 14 rfl rfl)
theorem dX1_restore_41 : decode cX1_restore 41 = .ok (.getfield 353, 3) := dk_180 1 97 (dk_at dksX1_restore_1 17 rfl rfl)
theorem dX1_restore_44 : decode cX1_restore 44 = .ok (.ireturn, 1) := dk_172 (dk_at dksX1_restore_1 20 rfl rfl)
abbrev cX1_coinsAgain : ByteArray := prog_1_method_37_code
def yX1_coinsAgain : MethodName := ⟨RX1, "coinsAgain", "()I"⟩
def dkwX1_coinsAgain_2 : List UInt8 := [45, 182, 1, 32, 100, 60, 167, 255, 230, 27, 172]
abbrev dktX1_coinsAgain_2 : List UInt8 := dkwX1_coinsAgain_2 ++ []
def dkwX1_coinsAgain_1 : List UInt8 := [182, 0, 141, 77, 44, 185, 0, 147, 1, 0, 153, 0, 23, 44, 185, 0, 153, 1, 0, 192, 0, 181, 78, 27]
abbrev dktX1_coinsAgain_1 : List UInt8 := dkwX1_coinsAgain_1 ++ dktX1_coinsAgain_2
def dkwX1_coinsAgain_0 : List UInt8 := [16, 60, 42, 2, 182, 0, 251, 96, 42, 180, 0, 33, 180, 1, 26, 100, 60, 42, 180, 0, 33, 180, 1, 29]
abbrev dktX1_coinsAgain_0 : List UInt8 := dkwX1_coinsAgain_0 ++ dktX1_coinsAgain_1
theorem dksX1_coinsAgain_0 : cX1_coinsAgain.data.toList.drop 0 = dktX1_coinsAgain_0 := by decide +kernel
theorem dksX1_coinsAgain_1 : cX1_coinsAgain.data.toList.drop 24 = dktX1_coinsAgain_1 := dk_seg dksX1_coinsAgain_0 24 rfl rfl
theorem dksX1_coinsAgain_2 : cX1_coinsAgain.data.toList.drop 48 = dktX1_coinsAgain_2 := dk_seg dksX1_coinsAgain_1 24 rfl rfl
theorem dX1_coinsAgain_0 : decode cX1_coinsAgain 0 = .ok (.bipush 60, 2) := dk_16 60 (dk_at dksX1_coinsAgain_0 0 rfl rfl)
theorem dX1_coinsAgain_2 : decode cX1_coinsAgain 2 = .ok (.aload_n 0, 1) := dk_42 (dk_at dksX1_coinsAgain_0 2 rfl rfl)
theorem dX1_coinsAgain_3 : decode cX1_coinsAgain 3 = .ok (.iconst (-1), 1) := dk_2 (dk_at dksX1_coinsAgain_0 3 rfl rfl)
theorem dX1_coinsAgain_4 : decode cX1_coinsAgain 4 = .ok (.invokevirtual 251, 3) := dk_182 0 251 (dk_at dksX1_coinsAgain_0 4 rfl rfl)
theorem dX1_coinsAgain_7 : decode cX1_coinsAgain 7 = .ok (.iadd, 1) := dk_96 (dk_at dksX1_coinsAgain_0 7 rfl rfl)
theorem dX1_coinsAgain_8 : decode cX1_coinsAgain 8 = .ok (.aload_n 0, 1) := dk_42 (dk_at dksX1_coinsAgain_0 8 rfl rfl)
theorem dX1_coinsAgain_9 : decode cX1_coinsAgain 9 = .ok (.getfield 33, 3) := dk_180 0 33 (dk_at dksX1_coinsAgain_0 9 rfl rfl)
theorem dX1_coinsAgain_12 : decode cX1_coinsAgain 12 = .ok (.getfield 282, 3) := dk_180 1 26 (dk_at dksX1_coinsAgain_0 12 rfl rfl)
theorem dX1_coinsAgain_15 : decode cX1_coinsAgain 15 = .ok (.isub, 1) := dk_100 (dk_at dksX1_coinsAgain_0 15 rfl rfl)
theorem dX1_coinsAgain_16 : decode cX1_coinsAgain 16 = .ok (.istore_n 1, 1) := dk_60 (dk_at dksX1_coinsAgain_0 16 rfl rfl)
theorem dX1_coinsAgain_17 : decode cX1_coinsAgain 17 = .ok (.aload_n 0, 1) := dk_42 (dk_at dksX1_coinsAgain_0 17 rfl rfl)
theorem dX1_coinsAgain_18 : decode cX1_coinsAgain 18 = .ok (.getfield 33, 3) := dk_180 0 33 (dk_at dksX1_coinsAgain_0 18 rfl rfl)
theorem dX1_coinsAgain_21 : decode cX1_coinsAgain 21 = .ok (.getfield 285, 3) := dk_180 1 29 (dk_at dksX1_coinsAgain_0 21 rfl rfl)
theorem dX1_coinsAgain_24 : decode cX1_coinsAgain 24 = .ok (.invokevirtual 141, 3) := dk_182 0 141 (dk_at dksX1_coinsAgain_1 0 rfl rfl)
theorem dX1_coinsAgain_27 : decode cX1_coinsAgain 27 = .ok (.astore_n 2, 1) := dk_77 (dk_at dksX1_coinsAgain_1 3 rfl rfl)
theorem dX1_coinsAgain_28 : decode cX1_coinsAgain 28 = .ok (.aload_n 2, 1) := dk_44 (dk_at dksX1_coinsAgain_1 4 rfl rfl)
theorem dX1_coinsAgain_29 : decode cX1_coinsAgain 29 = .ok (.invokeinterface 147 1, 5) := by decide +kernel
theorem dX1_coinsAgain_34 : decode cX1_coinsAgain 34 = .ok (.ifCond .eq 23, 3) := dk_153 0 23 (dk_at dksX1_coinsAgain_1 10 rfl rfl)
theorem dX1_coinsAgain_37 : decode cX1_coinsAgain 37 = .ok (.aload_n 2, 1) := dk_44 (dk_at dksX1_coinsAgain_1 13 rfl rfl)
theorem dX1_coinsAgain_38 : decode cX1_coinsAgain 38 = .ok (.invokeinterface 153 1, 5) := by decide +kernel
theorem dX1_coinsAgain_43 : decode cX1_coinsAgain 43 = .ok (.checkcast 181, 3) := dk_192 0 181 (dk_at dksX1_coinsAgain_1 19 rfl rfl)
theorem dX1_coinsAgain_46 : decode cX1_coinsAgain 46 = .ok (.astore_n 3, 1) := dk_78 (dk_at dksX1_coinsAgain_1 22 rfl rfl)
theorem dX1_coinsAgain_47 : decode cX1_coinsAgain 47 = .ok (.iload_n 1, 1) := dk_27 (dk_at dksX1_coinsAgain_1 23 rfl rfl)
theorem dX1_coinsAgain_48 : decode cX1_coinsAgain 48 = .ok (.aload_n 3, 1) := dk_45 (dk_at dksX1_coinsAgain_2 0 rfl rfl)
theorem dX1_coinsAgain_49 : decode cX1_coinsAgain 49 = .ok (.invokevirtual 288, 3) := dk_182 1 32 (dk_at dksX1_coinsAgain_2 1 rfl rfl)
theorem dX1_coinsAgain_52 : decode cX1_coinsAgain 52 = .ok (.isub, 1) := dk_100 (dk_at dksX1_coinsAgain_2 4 rfl rfl)
theorem dX1_coinsAgain_53 : decode cX1_coinsAgain 53 = .ok (.istore_n 1, 1) := dk_60 (dk_at dksX1_coinsAgain_2 5 rfl rfl)
theorem dX1_coinsAgain_54 : decode cX1_coinsAgain 54 = .ok (.goto (-26), 3) := dk_167 255 230 (dk_at dksX1_coinsAgain_2 6 rfl rfl)
theorem dX1_coinsAgain_57 : decode cX1_coinsAgain 57 = .ok (.iload_n 1, 1) := dk_27 (dk_at dksX1_coinsAgain_2 9 rfl rfl)
theorem dX1_coinsAgain_58 : decode cX1_coinsAgain 58 = .ok (.ireturn, 1) := dk_172 (dk_at dksX1_coinsAgain_2 10 rfl rfl)
abbrev cX1_isBalanced : ByteArray := prog_1_method_42_code
def yX1_isBalanced : MethodName := ⟨RX1, "isBalanced", "()Z"⟩
def dkwX1_isBalanced_5 : List UInt8 := [192, 0, 110, 180, 0, 125, 4, 160, 0, 7, 4, 167, 0, 4, 3, 126, 60, 167, 255, 197, 27, 172]
abbrev dktX1_isBalanced_5 : List UInt8 := dkwX1_isBalanced_5 ++ []
def dkwX1_isBalanced_4 : List UInt8 := [45, 180, 0, 191, 2, 159, 0, 27, 42, 180, 0, 33, 180, 0, 137, 45, 180, 0, 191, 182, 0, 212]
abbrev dktX1_isBalanced_4 : List UInt8 := dkwX1_isBalanced_4 ++ dktX1_isBalanced_5
def dkwX1_isBalanced_3 : List UInt8 := [182, 0, 141, 77, 44, 185, 0, 147, 1, 0, 153, 0, 56, 44, 185, 0, 153, 1, 0, 192, 0, 181, 78, 27]
abbrev dktX1_isBalanced_3 : List UInt8 := dkwX1_isBalanced_3 ++ dktX1_isBalanced_4
def dkwX1_isBalanced_2 : List UInt8 := [192, 0, 110, 78, 27, 42, 45, 182, 1, 74, 126, 60, 167, 255, 229, 42, 180, 0, 33, 180, 1, 29]
abbrev dktX1_isBalanced_2 : List UInt8 := dkwX1_isBalanced_2 ++ dktX1_isBalanced_3
def dkwX1_isBalanced_1 : List UInt8 := [180, 0, 137, 182, 0, 141, 77, 44, 185, 0, 147, 1, 0, 153, 0, 24, 44, 185, 0, 153, 1, 0]
abbrev dktX1_isBalanced_1 : List UInt8 := dkwX1_isBalanced_1 ++ dktX1_isBalanced_2
def dkwX1_isBalanced_0 : List UInt8 := [42, 180, 0, 33, 180, 1, 23, 42, 182, 1, 71, 160, 0, 7, 4, 167, 0, 4, 3, 60, 42, 180, 0, 33]
abbrev dktX1_isBalanced_0 : List UInt8 := dkwX1_isBalanced_0 ++ dktX1_isBalanced_1
theorem dksX1_isBalanced_0 : cX1_isBalanced.data.toList.drop 0 = dktX1_isBalanced_0 := by decide +kernel
theorem dksX1_isBalanced_1 : cX1_isBalanced.data.toList.drop 24 = dktX1_isBalanced_1 := dk_seg dksX1_isBalanced_0 24 rfl rfl
theorem dksX1_isBalanced_2 : cX1_isBalanced.data.toList.drop 46 = dktX1_isBalanced_2 := dk_seg dksX1_isBalanced_1 22 rfl rfl
theorem dksX1_isBalanced_3 : cX1_isBalanced.data.toList.drop 68 = dktX1_isBalanced_3 := dk_seg dksX1_isBalanced_2 22 rfl rfl
theorem dksX1_isBalanced_4 : cX1_isBalanced.data.toList.drop 92 = dktX1_isBalanced_4 := dk_seg dksX1_isBalanced_3 24 rfl rfl
theorem dksX1_isBalanced_5 : cX1_isBalanced.data.toList.drop 114 = dktX1_isBalanced_5 := dk_seg dksX1_isBalanced_4 22 rfl rfl
theorem dX1_isBalanced_0 : decode cX1_isBalanced 0 = .ok (.aload_n 0, 1) := dk_42 (dk_at dksX1_isBalanced_0 0 rfl rfl)
theorem dX1_isBalanced_1 : decode cX1_isBalanced 1 = .ok (.getfield 33, 3) := dk_180 0 33 (dk_at dksX1_isBalanced_0 1 rfl rfl)
theorem dX1_isBalanced_4 : decode cX1_isBalanced 4 = .ok (.getfield 279, 3) := dk_180 1 23 (dk_at dksX1_isBalanced_0 4 rfl rfl)
theorem dX1_isBalanced_7 : decode cX1_isBalanced 7 = .ok (.aload_n 0, 1) := dk_42 (dk_at dksX1_isBalanced_0 7 rfl rfl)
theorem dX1_isBalanced_8 : decode cX1_isBalanced 8 = .ok (.invokevirtual 327, 3) := dk_182 1 71 (dk_at dksX1_isBalanced_0 8 rfl rfl)
theorem dX1_isBalanced_11 : decode cX1_isBalanced 11 = .ok (.if_icmp .ne 7, 3) := dk_160 0 7 (dk_at dksX1_isBalanced_0 11 rfl rfl)
theorem dX1_isBalanced_14 : decode cX1_isBalanced 14 = .ok (.iconst 1, 1) := dk_4 (dk_at dksX1_isBalanced_0 14 rfl rfl)
theorem dX1_isBalanced_15 : decode cX1_isBalanced 15 = .ok (.goto 4, 3) := dk_167 0 4 (dk_at dksX1_isBalanced_0 15 rfl rfl)
theorem dX1_isBalanced_18 : decode cX1_isBalanced 18 = .ok (.iconst 0, 1) := dk_3 (dk_at dksX1_isBalanced_0 18 rfl rfl)
theorem dX1_isBalanced_19 : decode cX1_isBalanced 19 = .ok (.istore_n 1, 1) := dk_60 (dk_at dksX1_isBalanced_0 19 rfl rfl)
theorem dX1_isBalanced_20 : decode cX1_isBalanced 20 = .ok (.aload_n 0, 1) := dk_42 (dk_at dksX1_isBalanced_0 20 rfl rfl)
theorem dX1_isBalanced_21 : decode cX1_isBalanced 21 = .ok (.getfield 33, 3) := dk_180 0 33 (dk_at dksX1_isBalanced_0 21 rfl rfl)
theorem dX1_isBalanced_24 : decode cX1_isBalanced 24 = .ok (.getfield 137, 3) := dk_180 0 137 (dk_at dksX1_isBalanced_1 0 rfl rfl)
theorem dX1_isBalanced_27 : decode cX1_isBalanced 27 = .ok (.invokevirtual 141, 3) := dk_182 0 141 (dk_at dksX1_isBalanced_1 3 rfl rfl)
theorem dX1_isBalanced_30 : decode cX1_isBalanced 30 = .ok (.astore_n 2, 1) := dk_77 (dk_at dksX1_isBalanced_1 6 rfl rfl)
theorem dX1_isBalanced_31 : decode cX1_isBalanced 31 = .ok (.aload_n 2, 1) := dk_44 (dk_at dksX1_isBalanced_1 7 rfl rfl)
theorem dX1_isBalanced_32 : decode cX1_isBalanced 32 = .ok (.invokeinterface 147 1, 5) := by decide +kernel
theorem dX1_isBalanced_37 : decode cX1_isBalanced 37 = .ok (.ifCond .eq 24, 3) := dk_153 0 24 (dk_at dksX1_isBalanced_1 13 rfl rfl)
theorem dX1_isBalanced_40 : decode cX1_isBalanced 40 = .ok (.aload_n 2, 1) := dk_44 (dk_at dksX1_isBalanced_1 16 rfl rfl)
theorem dX1_isBalanced_41 : decode cX1_isBalanced 41 = .ok (.invokeinterface 153 1, 5) := by decide +kernel
theorem dX1_isBalanced_46 : decode cX1_isBalanced 46 = .ok (.checkcast 110, 3) := dk_192 0 110 (dk_at dksX1_isBalanced_2 0 rfl rfl)
theorem dX1_isBalanced_49 : decode cX1_isBalanced 49 = .ok (.astore_n 3, 1) := dk_78 (dk_at dksX1_isBalanced_2 3 rfl rfl)
theorem dX1_isBalanced_50 : decode cX1_isBalanced 50 = .ok (.iload_n 1, 1) := dk_27 (dk_at dksX1_isBalanced_2 4 rfl rfl)
theorem dX1_isBalanced_51 : decode cX1_isBalanced 51 = .ok (.aload_n 0, 1) := dk_42 (dk_at dksX1_isBalanced_2 5 rfl rfl)
theorem dX1_isBalanced_52 : decode cX1_isBalanced 52 = .ok (.aload_n 3, 1) := dk_45 (dk_at dksX1_isBalanced_2 6 rfl rfl)
theorem dX1_isBalanced_53 : decode cX1_isBalanced 53 = .ok (.invokevirtual 330, 3) := dk_182 1 74 (dk_at dksX1_isBalanced_2 7 rfl rfl)
theorem dX1_isBalanced_56 : decode cX1_isBalanced 56 = .ok (.iand, 1) := dk_126 (dk_at dksX1_isBalanced_2 10 rfl rfl)
theorem dX1_isBalanced_57 : decode cX1_isBalanced 57 = .ok (.istore_n 1, 1) := dk_60 (dk_at dksX1_isBalanced_2 11 rfl rfl)
theorem dX1_isBalanced_58 : decode cX1_isBalanced 58 = .ok (.goto (-27), 3) := dk_167 255 229 (dk_at dksX1_isBalanced_2 12 rfl rfl)
theorem dX1_isBalanced_61 : decode cX1_isBalanced 61 = .ok (.aload_n 0, 1) := dk_42 (dk_at dksX1_isBalanced_2 15 rfl rfl)
theorem dX1_isBalanced_62 : decode cX1_isBalanced 62 = .ok (.getfield 33, 3) := dk_180 0 33 (dk_at dksX1_isBalanced_2 16 rfl rfl)
theorem dX1_isBalanced_65 : decode cX1_isBalanced 65 = .ok (.getfield 285, 3) := dk_180 1 29 (dk_at dksX1_isBalanced_2 19 rfl rfl)
theorem dX1_isBalanced_68 : decode cX1_isBalanced 68 = .ok (.invokevirtual 141, 3) := dk_182 0 141 (dk_at dksX1_isBalanced_3 0 rfl rfl)
theorem dX1_isBalanced_71 : decode cX1_isBalanced 71 = .ok (.astore_n 2, 1) := dk_77 (dk_at dksX1_isBalanced_3 3 rfl rfl)
theorem dX1_isBalanced_72 : decode cX1_isBalanced 72 = .ok (.aload_n 2, 1) := dk_44 (dk_at dksX1_isBalanced_3 4 rfl rfl)
theorem dX1_isBalanced_73 : decode cX1_isBalanced 73 = .ok (.invokeinterface 147 1, 5) := by decide +kernel
theorem dX1_isBalanced_78 : decode cX1_isBalanced 78 = .ok (.ifCond .eq 56, 3) := dk_153 0 56 (dk_at dksX1_isBalanced_3 10 rfl rfl)
theorem dX1_isBalanced_81 : decode cX1_isBalanced 81 = .ok (.aload_n 2, 1) := dk_44 (dk_at dksX1_isBalanced_3 13 rfl rfl)
theorem dX1_isBalanced_82 : decode cX1_isBalanced 82 = .ok (.invokeinterface 153 1, 5) := by decide +kernel
theorem dX1_isBalanced_87 : decode cX1_isBalanced 87 = .ok (.checkcast 181, 3) := dk_192 0 181 (dk_at dksX1_isBalanced_3 19 rfl rfl)
theorem dX1_isBalanced_90 : decode cX1_isBalanced 90 = .ok (.astore_n 3, 1) := dk_78 (dk_at dksX1_isBalanced_3 22 rfl rfl)
theorem dX1_isBalanced_91 : decode cX1_isBalanced 91 = .ok (.iload_n 1, 1) := dk_27 (dk_at dksX1_isBalanced_3 23 rfl rfl)
theorem dX1_isBalanced_92 : decode cX1_isBalanced 92 = .ok (.aload_n 3, 1) := dk_45 (dk_at dksX1_isBalanced_4 0 rfl rfl)
theorem dX1_isBalanced_93 : decode cX1_isBalanced 93 = .ok (.getfield 191, 3) := dk_180 0 191 (dk_at dksX1_isBalanced_4 1 rfl rfl)
theorem dX1_isBalanced_96 : decode cX1_isBalanced 96 = .ok (.iconst (-1), 1) := dk_2 (dk_at dksX1_isBalanced_4 4 rfl rfl)
theorem dX1_isBalanced_97 : decode cX1_isBalanced 97 = .ok (.if_icmp .eq 27, 3) := dk_159 0 27 (dk_at dksX1_isBalanced_4 5 rfl rfl)
theorem dX1_isBalanced_100 : decode cX1_isBalanced 100 = .ok (.aload_n 0, 1) := dk_42 (dk_at dksX1_isBalanced_4 8 rfl rfl)
theorem dX1_isBalanced_101 : decode cX1_isBalanced 101 = .ok (.getfield 33, 3) := dk_180 0 33 (dk_at dksX1_isBalanced_4 9 rfl rfl)
theorem dX1_isBalanced_104 : decode cX1_isBalanced 104 = .ok (.getfield 137, 3) := dk_180 0 137 (dk_at dksX1_isBalanced_4 12 rfl rfl)
theorem dX1_isBalanced_107 : decode cX1_isBalanced 107 = .ok (.aload_n 3, 1) := dk_45 (dk_at dksX1_isBalanced_4 15 rfl rfl)
theorem dX1_isBalanced_108 : decode cX1_isBalanced 108 = .ok (.getfield 191, 3) := dk_180 0 191 (dk_at dksX1_isBalanced_4 16 rfl rfl)
theorem dX1_isBalanced_111 : decode cX1_isBalanced 111 = .ok (.invokevirtual 212, 3) := dk_182 0 212 (dk_at dksX1_isBalanced_4 19 rfl rfl)
theorem dX1_isBalanced_114 : decode cX1_isBalanced 114 = .ok (.checkcast 110, 3) := dk_192 0 110 (dk_at dksX1_isBalanced_5 0 rfl rfl)
theorem dX1_isBalanced_117 : decode cX1_isBalanced 117 = .ok (.getfield 125, 3) := dk_180 0 125 (dk_at dksX1_isBalanced_5 3 rfl rfl)
theorem dX1_isBalanced_120 : decode cX1_isBalanced 120 = .ok (.iconst 1, 1) := dk_4 (dk_at dksX1_isBalanced_5 6 rfl rfl)
theorem dX1_isBalanced_121 : decode cX1_isBalanced 121 = .ok (.if_icmp .ne 7, 3) := dk_160 0 7 (dk_at dksX1_isBalanced_5 7 rfl rfl)
theorem dX1_isBalanced_124 : decode cX1_isBalanced 124 = .ok (.iconst 1, 1) := dk_4 (dk_at dksX1_isBalanced_5 10 rfl rfl)
theorem dX1_isBalanced_125 : decode cX1_isBalanced 125 = .ok (.goto 4, 3) := dk_167 0 4 (dk_at dksX1_isBalanced_5 11 rfl rfl)
theorem dX1_isBalanced_128 : decode cX1_isBalanced 128 = .ok (.iconst 0, 1) := dk_3 (dk_at dksX1_isBalanced_5 14 rfl rfl)
theorem dX1_isBalanced_129 : decode cX1_isBalanced 129 = .ok (.iand, 1) := dk_126 (dk_at dksX1_isBalanced_5 15 rfl rfl)
theorem dX1_isBalanced_130 : decode cX1_isBalanced 130 = .ok (.istore_n 1, 1) := dk_60 (dk_at dksX1_isBalanced_5 16 rfl rfl)
theorem dX1_isBalanced_131 : decode cX1_isBalanced 131 = .ok (.goto (-59), 3) := dk_167 255 197 (dk_at dksX1_isBalanced_5 17 rfl rfl)
theorem dX1_isBalanced_134 : decode cX1_isBalanced 134 = .ok (.iload_n 1, 1) := dk_27 (dk_at dksX1_isBalanced_5 20 rfl rfl)
theorem dX1_isBalanced_135 : decode cX1_isBalanced 135 = .ok (.ireturn, 1) := dk_172 (dk_at dksX1_isBalanced_5 21 rfl rfl)
abbrev cX1_carryOut : ByteArray := prog_1_method_10_code
def yX1_carryOut : MethodName := ⟨RX1, "carryOut", "(LGargoyleTower$Deed;)I"⟩
def dkwX1_carryOut_1 : List UInt8 := [172, 78, 42, 45, 182, 0, 86, 172]
abbrev dktX1_carryOut_1 : List UInt8 := dkwX1_carryOut_1 ++ []
def dkwX1_carryOut_0 : List UInt8 := [187, 0, 30, 89, 42, 180, 0, 33, 183, 0, 74, 77, 43, 44, 182, 0, 77, 62, 42, 44, 182, 0, 83, 29]
abbrev dktX1_carryOut_0 : List UInt8 := dkwX1_carryOut_0 ++ dktX1_carryOut_1
theorem dksX1_carryOut_0 : cX1_carryOut.data.toList.drop 0 = dktX1_carryOut_0 := by decide +kernel
theorem dksX1_carryOut_1 : cX1_carryOut.data.toList.drop 24 = dktX1_carryOut_1 := dk_seg dksX1_carryOut_0 24 rfl rfl
theorem dX1_carryOut_0 : decode cX1_carryOut 0 = .ok (.new 30, 3) := dk_187 0 30 (dk_at dksX1_carryOut_0 0 rfl rfl)
theorem dX1_carryOut_3 : decode cX1_carryOut 3 = .ok (.dup, 1) := dk_89 (dk_at dksX1_carryOut_0 3 rfl rfl)
theorem dX1_carryOut_4 : decode cX1_carryOut 4 = .ok (.aload_n 0, 1) := dk_42 (dk_at dksX1_carryOut_0 4 rfl rfl)
theorem dX1_carryOut_5 : decode cX1_carryOut 5 = .ok (.getfield 33, 3) := dk_180 0 33 (dk_at dksX1_carryOut_0 5 rfl rfl)
theorem dX1_carryOut_8 : decode cX1_carryOut 8 = .ok (.invokespecial 74, 3) := dk_183 0 74 (dk_at dksX1_carryOut_0 8 rfl rfl)
theorem dX1_carryOut_11 : decode cX1_carryOut 11 = .ok (.astore_n 2, 1) := dk_77 (dk_at dksX1_carryOut_0 11 rfl rfl)
theorem dX1_carryOut_12 : decode cX1_carryOut 12 = .ok (.aload_n 1, 1) := dk_43 (dk_at dksX1_carryOut_0 12 rfl rfl)
theorem dX1_carryOut_13 : decode cX1_carryOut 13 = .ok (.aload_n 2, 1) := dk_44 (dk_at dksX1_carryOut_0 13 rfl rfl)
theorem dX1_carryOut_14 : decode cX1_carryOut 14 = .ok (.invokevirtual 77, 3) := dk_182 0 77 (dk_at dksX1_carryOut_0 14 rfl rfl)
theorem dX1_carryOut_17 : decode cX1_carryOut 17 = .ok (.istore_n 3, 1) := dk_62 (dk_at dksX1_carryOut_0 17 rfl rfl)
theorem dX1_carryOut_18 : decode cX1_carryOut 18 = .ok (.aload_n 0, 1) := dk_42 (dk_at dksX1_carryOut_0 18 rfl rfl)
theorem dX1_carryOut_19 : decode cX1_carryOut 19 = .ok (.aload_n 2, 1) := dk_44 (dk_at dksX1_carryOut_0 19 rfl rfl)
theorem dX1_carryOut_20 : decode cX1_carryOut 20 = .ok (.invokevirtual 83, 3) := dk_182 0 83 (dk_at dksX1_carryOut_0 20 rfl rfl)
theorem dX1_carryOut_23 : decode cX1_carryOut 23 = .ok (.iload_n 3, 1) := dk_29 (dk_at dksX1_carryOut_0 23 rfl rfl)
theorem dX1_carryOut_24 : decode cX1_carryOut 24 = .ok (.ireturn, 1) := dk_172 (dk_at dksX1_carryOut_1 0 rfl rfl)
theorem dX1_carryOut_25 : decode cX1_carryOut 25 = .ok (.astore_n 3, 1) := dk_78 (dk_at dksX1_carryOut_1 1 rfl rfl)
theorem dX1_carryOut_26 : decode cX1_carryOut 26 = .ok (.aload_n 0, 1) := dk_42 (dk_at dksX1_carryOut_1 2 rfl rfl)
theorem dX1_carryOut_27 : decode cX1_carryOut 27 = .ok (.aload_n 3, 1) := dk_45 (dk_at dksX1_carryOut_1 3 rfl rfl)
theorem dX1_carryOut_28 : decode cX1_carryOut 28 = .ok (.invokevirtual 86, 3) := dk_182 0 86 (dk_at dksX1_carryOut_1 4 rfl rfl)
theorem dX1_carryOut_31 : decode cX1_carryOut 31 = .ok (.ireturn, 1) := dk_172 (dk_at dksX1_carryOut_1 7 rfl rfl)
abbrev cX1_carve : ByteArray := prog_1_method_12_code
def yX1_carve : MethodName := ⟨RX1, "carve", "(II)I"⟩
def dkwX1_carve_0 : List UInt8 := [42, 187, 0, 78, 89, 18, 98, 27, 28, 183, 0, 92, 182, 0, 95, 172]
abbrev dktX1_carve_0 : List UInt8 := dkwX1_carve_0 ++ []
theorem dksX1_carve_0 : cX1_carve.data.toList.drop 0 = dktX1_carve_0 := by decide +kernel
theorem dX1_carve_0 : decode cX1_carve 0 = .ok (.aload_n 0, 1) := dk_42 (dk_at dksX1_carve_0 0 rfl rfl)
theorem dX1_carve_1 : decode cX1_carve 1 = .ok (.new 78, 3) := dk_187 0 78 (dk_at dksX1_carve_0 1 rfl rfl)
theorem dX1_carve_4 : decode cX1_carve 4 = .ok (.dup, 1) := dk_89 (dk_at dksX1_carve_0 4 rfl rfl)
theorem dX1_carve_5 : decode cX1_carve 5 = .ok (.ldc 98, 2) := dk_18 98 (dk_at dksX1_carve_0 5 rfl rfl)
theorem dX1_carve_7 : decode cX1_carve 7 = .ok (.iload_n 1, 1) := dk_27 (dk_at dksX1_carve_0 7 rfl rfl)
theorem dX1_carve_8 : decode cX1_carve 8 = .ok (.iload_n 2, 1) := dk_28 (dk_at dksX1_carve_0 8 rfl rfl)
theorem dX1_carve_9 : decode cX1_carve 9 = .ok (.invokespecial 92, 3) := dk_183 0 92 (dk_at dksX1_carve_0 9 rfl rfl)
theorem dX1_carve_12 : decode cX1_carve 12 = .ok (.invokevirtual 95, 3) := dk_182 0 95 (dk_at dksX1_carve_0 12 rfl rfl)
theorem dX1_carve_15 : decode cX1_carve 15 = .ok (.ireturn, 1) := dk_172 (dk_at dksX1_carve_0 15 rfl rfl)
abbrev cX1_whet : ByteArray := prog_1_method_13_code
def yX1_whet : MethodName := ⟨RX1, "whet", "()I"⟩
def dkwX1_whet_0 : List UInt8 := [42, 187, 0, 78, 89, 18, 100, 3, 3, 183, 0, 92, 182, 0, 95, 172]
abbrev dktX1_whet_0 : List UInt8 := dkwX1_whet_0 ++ []
theorem dksX1_whet_0 : cX1_whet.data.toList.drop 0 = dktX1_whet_0 := by decide +kernel
theorem dX1_whet_0 : decode cX1_whet 0 = .ok (.aload_n 0, 1) := dk_42 (dk_at dksX1_whet_0 0 rfl rfl)
theorem dX1_whet_1 : decode cX1_whet 1 = .ok (.new 78, 3) := dk_187 0 78 (dk_at dksX1_whet_0 1 rfl rfl)
theorem dX1_whet_4 : decode cX1_whet 4 = .ok (.dup, 1) := dk_89 (dk_at dksX1_whet_0 4 rfl rfl)
theorem dX1_whet_5 : decode cX1_whet 5 = .ok (.ldc 100, 2) := dk_18 100 (dk_at dksX1_whet_0 5 rfl rfl)
theorem dX1_whet_7 : decode cX1_whet 7 = .ok (.iconst 0, 1) := dk_3 (dk_at dksX1_whet_0 7 rfl rfl)
theorem dX1_whet_8 : decode cX1_whet 8 = .ok (.iconst 0, 1) := dk_3 (dk_at dksX1_whet_0 8 rfl rfl)
theorem dX1_whet_9 : decode cX1_whet 9 = .ok (.invokespecial 92, 3) := dk_183 0 92 (dk_at dksX1_whet_0 9 rfl rfl)
theorem dX1_whet_12 : decode cX1_whet 12 = .ok (.invokevirtual 95, 3) := dk_182 0 95 (dk_at dksX1_whet_0 12 rfl rfl)
theorem dX1_whet_15 : decode cX1_whet 15 = .ok (.ireturn, 1) := dk_172 (dk_at dksX1_whet_0 15 rfl rfl)
abbrev cX1_ranked : ByteArray := prog_1_method_16_code
def yX1_ranked : MethodName := ⟨RX1, "ranked", "(I)I"⟩
def dkwX1_ranked_5 : List UInt8 := [192, 0, 110, 180, 0, 172, 172]
abbrev dktX1_ranked_5 : List UInt8 := dkwX1_ranked_5 ++ []
def dkwX1_ranked_4 : List UInt8 := [167, 255, 184, 27, 3, 44, 182, 0, 156, 4, 100, 184, 0, 10, 184, 0, 169, 44, 27, 182, 0, 157]
abbrev dktX1_ranked_4 : List UInt8 := dkwX1_ranked_4 ++ dktX1_ranked_5
def dkwX1_ranked_3 : List UInt8 := [192, 0, 110, 184, 0, 161, 154, 0, 9, 132, 5, 1, 167, 255, 227, 44, 21, 5, 25, 4, 182, 0, 165]
abbrev dktX1_ranked_3 : List UInt8 := dkwX1_ranked_3 ++ dktX1_ranked_4
def dkwX1_ranked_2 : List UInt8 := [6, 159, 0, 46, 3, 54, 5, 21, 5, 44, 182, 0, 156, 162, 0, 26, 25, 4, 44, 21, 5, 182, 0, 157]
abbrev dktX1_ranked_2 : List UInt8 := dkwX1_ranked_2 ++ dktX1_ranked_3
def dkwX1_ranked_1 : List UInt8 := [185, 0, 147, 1, 0, 153, 0, 69, 45, 185, 0, 153, 1, 0, 192, 0, 110, 58, 4, 25, 4, 180, 0, 125]
abbrev dktX1_ranked_1 : List UInt8 := dkwX1_ranked_1 ++ dktX1_ranked_2
def dkwX1_ranked_0 : List UInt8 := [187, 0, 134, 89, 183, 0, 136, 77, 42, 180, 0, 33, 180, 0, 137, 182, 0, 141, 78, 45]
abbrev dktX1_ranked_0 : List UInt8 := dkwX1_ranked_0 ++ dktX1_ranked_1
theorem dksX1_ranked_0 : cX1_ranked.data.toList.drop 0 = dktX1_ranked_0 := by decide +kernel
theorem dksX1_ranked_1 : cX1_ranked.data.toList.drop 20 = dktX1_ranked_1 := dk_seg dksX1_ranked_0 20 rfl rfl
theorem dksX1_ranked_2 : cX1_ranked.data.toList.drop 44 = dktX1_ranked_2 := dk_seg dksX1_ranked_1 24 rfl rfl
theorem dksX1_ranked_3 : cX1_ranked.data.toList.drop 68 = dktX1_ranked_3 := dk_seg dksX1_ranked_2 24 rfl rfl
theorem dksX1_ranked_4 : cX1_ranked.data.toList.drop 91 = dktX1_ranked_4 := dk_seg dksX1_ranked_3 23 rfl rfl
theorem dksX1_ranked_5 : cX1_ranked.data.toList.drop 113 = dktX1_ranked_5 := dk_seg dksX1_ranked_4 22 rfl rfl
theorem dX1_ranked_0 : decode cX1_ranked 0 = .ok (.new 134, 3) := dk_187 0 134 (dk_at dksX1_ranked_0 0 rfl rfl)
theorem dX1_ranked_3 : decode cX1_ranked 3 = .ok (.dup, 1) := dk_89 (dk_at dksX1_ranked_0 3 rfl rfl)
theorem dX1_ranked_4 : decode cX1_ranked 4 = .ok (.invokespecial 136, 3) := dk_183 0 136 (dk_at dksX1_ranked_0 4 rfl rfl)
theorem dX1_ranked_7 : decode cX1_ranked 7 = .ok (.astore_n 2, 1) := dk_77 (dk_at dksX1_ranked_0 7 rfl rfl)
theorem dX1_ranked_8 : decode cX1_ranked 8 = .ok (.aload_n 0, 1) := dk_42 (dk_at dksX1_ranked_0 8 rfl rfl)
theorem dX1_ranked_9 : decode cX1_ranked 9 = .ok (.getfield 33, 3) := dk_180 0 33 (dk_at dksX1_ranked_0 9 rfl rfl)
theorem dX1_ranked_12 : decode cX1_ranked 12 = .ok (.getfield 137, 3) := dk_180 0 137 (dk_at dksX1_ranked_0 12 rfl rfl)
theorem dX1_ranked_15 : decode cX1_ranked 15 = .ok (.invokevirtual 141, 3) := dk_182 0 141 (dk_at dksX1_ranked_0 15 rfl rfl)
theorem dX1_ranked_18 : decode cX1_ranked 18 = .ok (.astore_n 3, 1) := dk_78 (dk_at dksX1_ranked_0 18 rfl rfl)
theorem dX1_ranked_19 : decode cX1_ranked 19 = .ok (.aload_n 3, 1) := dk_45 (dk_at dksX1_ranked_0 19 rfl rfl)
theorem dX1_ranked_20 : decode cX1_ranked 20 = .ok (.invokeinterface 147 1, 5) := by decide +kernel
theorem dX1_ranked_25 : decode cX1_ranked 25 = .ok (.ifCond .eq 69, 3) := dk_153 0 69 (dk_at dksX1_ranked_1 5 rfl rfl)
theorem dX1_ranked_28 : decode cX1_ranked 28 = .ok (.aload_n 3, 1) := dk_45 (dk_at dksX1_ranked_1 8 rfl rfl)
theorem dX1_ranked_29 : decode cX1_ranked 29 = .ok (.invokeinterface 153 1, 5) := by decide +kernel
theorem dX1_ranked_34 : decode cX1_ranked 34 = .ok (.checkcast 110, 3) := dk_192 0 110 (dk_at dksX1_ranked_1 14 rfl rfl)
theorem dX1_ranked_37 : decode cX1_ranked 37 = .ok (.astore 4, 2) := dk_58 4 (dk_at dksX1_ranked_1 17 rfl rfl)
theorem dX1_ranked_39 : decode cX1_ranked 39 = .ok (.aload 4, 2) := dk_25 4 (dk_at dksX1_ranked_1 19 rfl rfl)
theorem dX1_ranked_41 : decode cX1_ranked 41 = .ok (.getfield 125, 3) := dk_180 0 125 (dk_at dksX1_ranked_1 21 rfl rfl)
theorem dX1_ranked_44 : decode cX1_ranked 44 = .ok (.iconst 3, 1) := dk_6 (dk_at dksX1_ranked_2 0 rfl rfl)
theorem dX1_ranked_45 : decode cX1_ranked 45 = .ok (.if_icmp .eq 46, 3) := dk_159 0 46 (dk_at dksX1_ranked_2 1 rfl rfl)
theorem dX1_ranked_48 : decode cX1_ranked 48 = .ok (.iconst 0, 1) := dk_3 (dk_at dksX1_ranked_2 4 rfl rfl)
theorem dX1_ranked_49 : decode cX1_ranked 49 = .ok (.istore 5, 2) := dk_54 5 (dk_at dksX1_ranked_2 5 rfl rfl)
theorem dX1_ranked_51 : decode cX1_ranked 51 = .ok (.iload 5, 2) := dk_21 5 (dk_at dksX1_ranked_2 7 rfl rfl)
theorem dX1_ranked_53 : decode cX1_ranked 53 = .ok (.aload_n 2, 1) := dk_44 (dk_at dksX1_ranked_2 9 rfl rfl)
theorem dX1_ranked_54 : decode cX1_ranked 54 = .ok (.invokevirtual 156, 3) := dk_182 0 156 (dk_at dksX1_ranked_2 10 rfl rfl)
theorem dX1_ranked_57 : decode cX1_ranked 57 = .ok (.if_icmp .ge 26, 3) := dk_162 0 26 (dk_at dksX1_ranked_2 13 rfl rfl)
theorem dX1_ranked_60 : decode cX1_ranked 60 = .ok (.aload 4, 2) := dk_25 4 (dk_at dksX1_ranked_2 16 rfl rfl)
theorem dX1_ranked_62 : decode cX1_ranked 62 = .ok (.aload_n 2, 1) := dk_44 (dk_at dksX1_ranked_2 18 rfl rfl)
theorem dX1_ranked_63 : decode cX1_ranked 63 = .ok (.iload 5, 2) := dk_21 5 (dk_at dksX1_ranked_2 19 rfl rfl)
theorem dX1_ranked_65 : decode cX1_ranked 65 = .ok (.invokevirtual 157, 3) := dk_182 0 157 (dk_at dksX1_ranked_2 21 rfl rfl)
theorem dX1_ranked_68 : decode cX1_ranked 68 = .ok (.checkcast 110, 3) := dk_192 0 110 (dk_at dksX1_ranked_3 0 rfl rfl)
theorem dX1_ranked_71 : decode cX1_ranked 71 = .ok (.invokestatic 161, 3) := dk_184 0 161 (dk_at dksX1_ranked_3 3 rfl rfl)
theorem dX1_ranked_74 : decode cX1_ranked 74 = .ok (.ifCond .ne 9, 3) := dk_154 0 9 (dk_at dksX1_ranked_3 6 rfl rfl)
theorem dX1_ranked_77 : decode cX1_ranked 77 = .ok (.iinc 5 1, 3) := dk_132 5 1 (dk_at dksX1_ranked_3 9 rfl rfl)
theorem dX1_ranked_80 : decode cX1_ranked 80 = .ok (.goto (-29), 3) := dk_167 255 227 (dk_at dksX1_ranked_3 12 rfl rfl)
theorem dX1_ranked_83 : decode cX1_ranked 83 = .ok (.aload_n 2, 1) := dk_44 (dk_at dksX1_ranked_3 15 rfl rfl)
theorem dX1_ranked_84 : decode cX1_ranked 84 = .ok (.iload 5, 2) := dk_21 5 (dk_at dksX1_ranked_3 16 rfl rfl)
theorem dX1_ranked_86 : decode cX1_ranked 86 = .ok (.aload 4, 2) := dk_25 4 (dk_at dksX1_ranked_3 18 rfl rfl)
theorem dX1_ranked_88 : decode cX1_ranked 88 = .ok (.invokevirtual 165, 3) := dk_182 0 165 (dk_at dksX1_ranked_3 20 rfl rfl)
theorem dX1_ranked_91 : decode cX1_ranked 91 = .ok (.goto (-72), 3) := dk_167 255 184 (dk_at dksX1_ranked_4 0 rfl rfl)
theorem dX1_ranked_94 : decode cX1_ranked 94 = .ok (.iload_n 1, 1) := dk_27 (dk_at dksX1_ranked_4 3 rfl rfl)
theorem dX1_ranked_95 : decode cX1_ranked 95 = .ok (.iconst 0, 1) := dk_3 (dk_at dksX1_ranked_4 4 rfl rfl)
theorem dX1_ranked_96 : decode cX1_ranked 96 = .ok (.aload_n 2, 1) := dk_44 (dk_at dksX1_ranked_4 5 rfl rfl)
theorem dX1_ranked_97 : decode cX1_ranked 97 = .ok (.invokevirtual 156, 3) := dk_182 0 156 (dk_at dksX1_ranked_4 6 rfl rfl)
theorem dX1_ranked_100 : decode cX1_ranked 100 = .ok (.iconst 1, 1) := dk_4 (dk_at dksX1_ranked_4 9 rfl rfl)
theorem dX1_ranked_101 : decode cX1_ranked 101 = .ok (.isub, 1) := dk_100 (dk_at dksX1_ranked_4 10 rfl rfl)
theorem dX1_ranked_102 : decode cX1_ranked 102 = .ok (.invokestatic 10, 3) := dk_184 0 10 (dk_at dksX1_ranked_4 11 rfl rfl)
theorem dX1_ranked_105 : decode cX1_ranked 105 = .ok (.invokestatic 169, 3) := dk_184 0 169 (dk_at dksX1_ranked_4 14 rfl rfl)
theorem dX1_ranked_108 : decode cX1_ranked 108 = .ok (.aload_n 2, 1) := dk_44 (dk_at dksX1_ranked_4 17 rfl rfl)
theorem dX1_ranked_109 : decode cX1_ranked 109 = .ok (.iload_n 1, 1) := dk_27 (dk_at dksX1_ranked_4 18 rfl rfl)
theorem dX1_ranked_110 : decode cX1_ranked 110 = .ok (.invokevirtual 157, 3) := dk_182 0 157 (dk_at dksX1_ranked_4 19 rfl rfl)
theorem dX1_ranked_113 : decode cX1_ranked 113 = .ok (.checkcast 110, 3) := dk_192 0 110 (dk_at dksX1_ranked_5 0 rfl rfl)
theorem dX1_ranked_116 : decode cX1_ranked 116 = .ok (.getfield 172, 3) := dk_180 0 172 (dk_at dksX1_ranked_5 3 rfl rfl)
theorem dX1_ranked_119 : decode cX1_ranked 119 = .ok (.ireturn, 1) := dk_172 (dk_at dksX1_ranked_5 6 rfl rfl)
abbrev cX1_rope : ByteArray := prog_1_method_17_code
def yX1_rope : MethodName := ⟨RX1, "rope", "(I)I"⟩
def dkwX1_rope_0 : List UInt8 := [42, 187, 0, 78, 89, 18, 175, 27, 3, 183, 0, 92, 182, 0, 95, 172]
abbrev dktX1_rope_0 : List UInt8 := dkwX1_rope_0 ++ []
theorem dksX1_rope_0 : cX1_rope.data.toList.drop 0 = dktX1_rope_0 := by decide +kernel
theorem dX1_rope_0 : decode cX1_rope 0 = .ok (.aload_n 0, 1) := dk_42 (dk_at dksX1_rope_0 0 rfl rfl)
theorem dX1_rope_1 : decode cX1_rope 1 = .ok (.new 78, 3) := dk_187 0 78 (dk_at dksX1_rope_0 1 rfl rfl)
theorem dX1_rope_4 : decode cX1_rope 4 = .ok (.dup, 1) := dk_89 (dk_at dksX1_rope_0 4 rfl rfl)
theorem dX1_rope_5 : decode cX1_rope 5 = .ok (.ldc 175, 2) := dk_18 175 (dk_at dksX1_rope_0 5 rfl rfl)
theorem dX1_rope_7 : decode cX1_rope 7 = .ok (.iload_n 1, 1) := dk_27 (dk_at dksX1_rope_0 7 rfl rfl)
theorem dX1_rope_8 : decode cX1_rope 8 = .ok (.iconst 0, 1) := dk_3 (dk_at dksX1_rope_0 8 rfl rfl)
theorem dX1_rope_9 : decode cX1_rope 9 = .ok (.invokespecial 92, 3) := dk_183 0 92 (dk_at dksX1_rope_0 9 rfl rfl)
theorem dX1_rope_12 : decode cX1_rope 12 = .ok (.invokevirtual 95, 3) := dk_182 0 95 (dk_at dksX1_rope_0 12 rfl rfl)
theorem dX1_rope_15 : decode cX1_rope 15 = .ok (.ireturn, 1) := dk_172 (dk_at dksX1_rope_0 15 rfl rfl)
abbrev cX1_hoist : ByteArray := prog_1_method_19_code
def yX1_hoist : MethodName := ⟨RX1, "hoist", "(II)I"⟩
def dkwX1_hoist_0 : List UInt8 := [42, 187, 0, 78, 89, 18, 196, 27, 28, 183, 0, 92, 182, 0, 95, 172]
abbrev dktX1_hoist_0 : List UInt8 := dkwX1_hoist_0 ++ []
theorem dksX1_hoist_0 : cX1_hoist.data.toList.drop 0 = dktX1_hoist_0 := by decide +kernel
theorem dX1_hoist_0 : decode cX1_hoist 0 = .ok (.aload_n 0, 1) := dk_42 (dk_at dksX1_hoist_0 0 rfl rfl)
theorem dX1_hoist_1 : decode cX1_hoist 1 = .ok (.new 78, 3) := dk_187 0 78 (dk_at dksX1_hoist_0 1 rfl rfl)
theorem dX1_hoist_4 : decode cX1_hoist 4 = .ok (.dup, 1) := dk_89 (dk_at dksX1_hoist_0 4 rfl rfl)
theorem dX1_hoist_5 : decode cX1_hoist 5 = .ok (.ldc 196, 2) := dk_18 196 (dk_at dksX1_hoist_0 5 rfl rfl)
theorem dX1_hoist_7 : decode cX1_hoist 7 = .ok (.iload_n 1, 1) := dk_27 (dk_at dksX1_hoist_0 7 rfl rfl)
theorem dX1_hoist_8 : decode cX1_hoist 8 = .ok (.iload_n 2, 1) := dk_28 (dk_at dksX1_hoist_0 8 rfl rfl)
theorem dX1_hoist_9 : decode cX1_hoist 9 = .ok (.invokespecial 92, 3) := dk_183 0 92 (dk_at dksX1_hoist_0 9 rfl rfl)
theorem dX1_hoist_12 : decode cX1_hoist 12 = .ok (.invokevirtual 95, 3) := dk_182 0 95 (dk_at dksX1_hoist_0 12 rfl rfl)
theorem dX1_hoist_15 : decode cX1_hoist 15 = .ok (.ireturn, 1) := dk_172 (dk_at dksX1_hoist_0 15 rfl rfl)
abbrev cX1_lower : ByteArray := prog_1_method_20_code
def yX1_lower : MethodName := ⟨RX1, "lower", "(I)I"⟩
def dkwX1_lower_0 : List UInt8 := [42, 187, 0, 78, 89, 18, 198, 27, 3, 183, 0, 92, 182, 0, 95, 172]
abbrev dktX1_lower_0 : List UInt8 := dkwX1_lower_0 ++ []
theorem dksX1_lower_0 : cX1_lower.data.toList.drop 0 = dktX1_lower_0 := by decide +kernel
theorem dX1_lower_0 : decode cX1_lower 0 = .ok (.aload_n 0, 1) := dk_42 (dk_at dksX1_lower_0 0 rfl rfl)
theorem dX1_lower_1 : decode cX1_lower 1 = .ok (.new 78, 3) := dk_187 0 78 (dk_at dksX1_lower_0 1 rfl rfl)
theorem dX1_lower_4 : decode cX1_lower 4 = .ok (.dup, 1) := dk_89 (dk_at dksX1_lower_0 4 rfl rfl)
theorem dX1_lower_5 : decode cX1_lower 5 = .ok (.ldc 198, 2) := dk_18 198 (dk_at dksX1_lower_0 5 rfl rfl)
theorem dX1_lower_7 : decode cX1_lower 7 = .ok (.iload_n 1, 1) := dk_27 (dk_at dksX1_lower_0 7 rfl rfl)
theorem dX1_lower_8 : decode cX1_lower 8 = .ok (.iconst 0, 1) := dk_3 (dk_at dksX1_lower_0 8 rfl rfl)
theorem dX1_lower_9 : decode cX1_lower 9 = .ok (.invokespecial 92, 3) := dk_183 0 92 (dk_at dksX1_lower_0 9 rfl rfl)
theorem dX1_lower_12 : decode cX1_lower 12 = .ok (.invokevirtual 95, 3) := dk_182 0 95 (dk_at dksX1_lower_0 12 rfl rfl)
theorem dX1_lower_15 : decode cX1_lower 15 = .ok (.ireturn, 1) := dk_172 (dk_at dksX1_lower_0 15 rfl rfl)
abbrev cX1_set : ByteArray := prog_1_method_21_code
def yX1_set : MethodName := ⟨RX1, "set", "(II)I"⟩
def dkwX1_set_0 : List UInt8 := [42, 187, 0, 78, 89, 18, 200, 27, 28, 183, 0, 92, 182, 0, 95, 172]
abbrev dktX1_set_0 : List UInt8 := dkwX1_set_0 ++ []
theorem dksX1_set_0 : cX1_set.data.toList.drop 0 = dktX1_set_0 := by decide +kernel
theorem dX1_set_0 : decode cX1_set 0 = .ok (.aload_n 0, 1) := dk_42 (dk_at dksX1_set_0 0 rfl rfl)
theorem dX1_set_1 : decode cX1_set 1 = .ok (.new 78, 3) := dk_187 0 78 (dk_at dksX1_set_0 1 rfl rfl)
theorem dX1_set_4 : decode cX1_set 4 = .ok (.dup, 1) := dk_89 (dk_at dksX1_set_0 4 rfl rfl)
theorem dX1_set_5 : decode cX1_set 5 = .ok (.ldc 200, 2) := dk_18 200 (dk_at dksX1_set_0 5 rfl rfl)
theorem dX1_set_7 : decode cX1_set 7 = .ok (.iload_n 1, 1) := dk_27 (dk_at dksX1_set_0 7 rfl rfl)
theorem dX1_set_8 : decode cX1_set 8 = .ok (.iload_n 2, 1) := dk_28 (dk_at dksX1_set_0 8 rfl rfl)
theorem dX1_set_9 : decode cX1_set 9 = .ok (.invokespecial 92, 3) := dk_183 0 92 (dk_at dksX1_set_0 9 rfl rfl)
theorem dX1_set_12 : decode cX1_set 12 = .ok (.invokevirtual 95, 3) := dk_182 0 95 (dk_at dksX1_set_0 12 rfl rfl)
theorem dX1_set_15 : decode cX1_set 15 = .ok (.ireturn, 1) := dk_172 (dk_at dksX1_set_0 15 rfl rfl)
abbrev cX1_push : ByteArray := prog_1_method_26_code
def yX1_push : MethodName := ⟨RX1, "push", "(I)I"⟩
def dkwX1_push_0 : List UInt8 := [42, 187, 0, 78, 89, 18, 220, 27, 3, 183, 0, 92, 182, 0, 95, 172]
abbrev dktX1_push_0 : List UInt8 := dkwX1_push_0 ++ []
theorem dksX1_push_0 : cX1_push.data.toList.drop 0 = dktX1_push_0 := by decide +kernel
theorem dX1_push_0 : decode cX1_push 0 = .ok (.aload_n 0, 1) := dk_42 (dk_at dksX1_push_0 0 rfl rfl)
theorem dX1_push_1 : decode cX1_push 1 = .ok (.new 78, 3) := dk_187 0 78 (dk_at dksX1_push_0 1 rfl rfl)
theorem dX1_push_4 : decode cX1_push 4 = .ok (.dup, 1) := dk_89 (dk_at dksX1_push_0 4 rfl rfl)
theorem dX1_push_5 : decode cX1_push 5 = .ok (.ldc 220, 2) := dk_18 220 (dk_at dksX1_push_0 5 rfl rfl)
theorem dX1_push_7 : decode cX1_push 7 = .ok (.iload_n 1, 1) := dk_27 (dk_at dksX1_push_0 7 rfl rfl)
theorem dX1_push_8 : decode cX1_push 8 = .ok (.iconst 0, 1) := dk_3 (dk_at dksX1_push_0 8 rfl rfl)
theorem dX1_push_9 : decode cX1_push 9 = .ok (.invokespecial 92, 3) := dk_183 0 92 (dk_at dksX1_push_0 9 rfl rfl)
theorem dX1_push_12 : decode cX1_push 12 = .ok (.invokevirtual 95, 3) := dk_182 0 95 (dk_at dksX1_push_0 12 rfl rfl)
theorem dX1_push_15 : decode cX1_push 15 = .ok (.ireturn, 1) := dk_172 (dk_at dksX1_push_0 15 rfl rfl)
abbrev cX1_commission : ByteArray := prog_1_method_27_code
def yX1_commission : MethodName := ⟨RX1, "commission", "(III)I"⟩
def dkwX1_commission_0 : List UInt8 := [42, 187, 0, 78, 89, 18, 222, 27, 28, 29, 183, 0, 223, 182, 0, 95, 172]
abbrev dktX1_commission_0 : List UInt8 := dkwX1_commission_0 ++ []
theorem dksX1_commission_0 : cX1_commission.data.toList.drop 0 = dktX1_commission_0 := by decide +kernel
theorem dX1_commission_0 : decode cX1_commission 0 = .ok (.aload_n 0, 1) := dk_42 (dk_at dksX1_commission_0 0 rfl rfl)
theorem dX1_commission_1 : decode cX1_commission 1 = .ok (.new 78, 3) := dk_187 0 78 (dk_at dksX1_commission_0 1 rfl rfl)
theorem dX1_commission_4 : decode cX1_commission 4 = .ok (.dup, 1) := dk_89 (dk_at dksX1_commission_0 4 rfl rfl)
theorem dX1_commission_5 : decode cX1_commission 5 = .ok (.ldc 222, 2) := dk_18 222 (dk_at dksX1_commission_0 5 rfl rfl)
theorem dX1_commission_7 : decode cX1_commission 7 = .ok (.iload_n 1, 1) := dk_27 (dk_at dksX1_commission_0 7 rfl rfl)
theorem dX1_commission_8 : decode cX1_commission 8 = .ok (.iload_n 2, 1) := dk_28 (dk_at dksX1_commission_0 8 rfl rfl)
theorem dX1_commission_9 : decode cX1_commission 9 = .ok (.iload_n 3, 1) := dk_29 (dk_at dksX1_commission_0 9 rfl rfl)
theorem dX1_commission_10 : decode cX1_commission 10 = .ok (.invokespecial 223, 3) := dk_183 0 223 (dk_at dksX1_commission_0 10 rfl rfl)
theorem dX1_commission_13 : decode cX1_commission 13 = .ok (.invokevirtual 95, 3) := dk_182 0 95 (dk_at dksX1_commission_0 13 rfl rfl)
theorem dX1_commission_16 : decode cX1_commission 16 = .ok (.ireturn, 1) := dk_172 (dk_at dksX1_commission_0 16 rfl rfl)
abbrev cX1_deliver : ByteArray := prog_1_method_28_code
def yX1_deliver : MethodName := ⟨RX1, "deliver", "(II)I"⟩
def dkwX1_deliver_0 : List UInt8 := [42, 187, 0, 78, 89, 18, 226, 27, 28, 183, 0, 92, 182, 0, 95, 172]
abbrev dktX1_deliver_0 : List UInt8 := dkwX1_deliver_0 ++ []
theorem dksX1_deliver_0 : cX1_deliver.data.toList.drop 0 = dktX1_deliver_0 := by decide +kernel
theorem dX1_deliver_0 : decode cX1_deliver 0 = .ok (.aload_n 0, 1) := dk_42 (dk_at dksX1_deliver_0 0 rfl rfl)
theorem dX1_deliver_1 : decode cX1_deliver 1 = .ok (.new 78, 3) := dk_187 0 78 (dk_at dksX1_deliver_0 1 rfl rfl)
theorem dX1_deliver_4 : decode cX1_deliver 4 = .ok (.dup, 1) := dk_89 (dk_at dksX1_deliver_0 4 rfl rfl)
theorem dX1_deliver_5 : decode cX1_deliver 5 = .ok (.ldc 226, 2) := dk_18 226 (dk_at dksX1_deliver_0 5 rfl rfl)
theorem dX1_deliver_7 : decode cX1_deliver 7 = .ok (.iload_n 1, 1) := dk_27 (dk_at dksX1_deliver_0 7 rfl rfl)
theorem dX1_deliver_8 : decode cX1_deliver 8 = .ok (.iload_n 2, 1) := dk_28 (dk_at dksX1_deliver_0 8 rfl rfl)
theorem dX1_deliver_9 : decode cX1_deliver 9 = .ok (.invokespecial 92, 3) := dk_183 0 92 (dk_at dksX1_deliver_0 9 rfl rfl)
theorem dX1_deliver_12 : decode cX1_deliver 12 = .ok (.invokevirtual 95, 3) := dk_182 0 95 (dk_at dksX1_deliver_0 12 rfl rfl)
theorem dX1_deliver_15 : decode cX1_deliver 15 = .ok (.ireturn, 1) := dk_172 (dk_at dksX1_deliver_0 15 rfl rfl)
abbrev cX1_seed : ByteArray := prog_1_method_32_code
def yX1_seed : MethodName := ⟨RX1, "seed", "(I)I"⟩
def dkwX1_seed_0 : List UInt8 := [42, 187, 0, 78, 89, 18, 255, 27, 3, 183, 0, 92, 182, 0, 95, 172]
abbrev dktX1_seed_0 : List UInt8 := dkwX1_seed_0 ++ []
theorem dksX1_seed_0 : cX1_seed.data.toList.drop 0 = dktX1_seed_0 := by decide +kernel
theorem dX1_seed_0 : decode cX1_seed 0 = .ok (.aload_n 0, 1) := dk_42 (dk_at dksX1_seed_0 0 rfl rfl)
theorem dX1_seed_1 : decode cX1_seed 1 = .ok (.new 78, 3) := dk_187 0 78 (dk_at dksX1_seed_0 1 rfl rfl)
theorem dX1_seed_4 : decode cX1_seed 4 = .ok (.dup, 1) := dk_89 (dk_at dksX1_seed_0 4 rfl rfl)
theorem dX1_seed_5 : decode cX1_seed 5 = .ok (.ldc 255, 2) := dk_18 255 (dk_at dksX1_seed_0 5 rfl rfl)
theorem dX1_seed_7 : decode cX1_seed 7 = .ok (.iload_n 1, 1) := dk_27 (dk_at dksX1_seed_0 7 rfl rfl)
theorem dX1_seed_8 : decode cX1_seed 8 = .ok (.iconst 0, 1) := dk_3 (dk_at dksX1_seed_0 8 rfl rfl)
theorem dX1_seed_9 : decode cX1_seed 9 = .ok (.invokespecial 92, 3) := dk_183 0 92 (dk_at dksX1_seed_0 9 rfl rfl)
theorem dX1_seed_12 : decode cX1_seed 12 = .ok (.invokevirtual 95, 3) := dk_182 0 95 (dk_at dksX1_seed_0 12 rfl rfl)
theorem dX1_seed_15 : decode cX1_seed 15 = .ok (.ireturn, 1) := dk_172 (dk_at dksX1_seed_0 15 rfl rfl)
abbrev cX1_pass : ByteArray := prog_1_method_34_code
def yX1_pass : MethodName := ⟨RX1, "pass", "(I)I"⟩
def dkwX1_pass_0 : List UInt8 := [42, 187, 0, 78, 89, 19, 1, 18, 27, 3, 183, 0, 92, 182, 0, 95, 172]
abbrev dktX1_pass_0 : List UInt8 := dkwX1_pass_0 ++ []
theorem dksX1_pass_0 : cX1_pass.data.toList.drop 0 = dktX1_pass_0 := by decide +kernel
theorem dX1_pass_0 : decode cX1_pass 0 = .ok (.aload_n 0, 1) := dk_42 (dk_at dksX1_pass_0 0 rfl rfl)
theorem dX1_pass_1 : decode cX1_pass 1 = .ok (.new 78, 3) := dk_187 0 78 (dk_at dksX1_pass_0 1 rfl rfl)
theorem dX1_pass_4 : decode cX1_pass 4 = .ok (.dup, 1) := dk_89 (dk_at dksX1_pass_0 4 rfl rfl)
theorem dX1_pass_5 : decode cX1_pass 5 = .ok (.ldc_w 274, 3) := dk_19 1 18 (dk_at dksX1_pass_0 5 rfl rfl)
theorem dX1_pass_8 : decode cX1_pass 8 = .ok (.iload_n 1, 1) := dk_27 (dk_at dksX1_pass_0 8 rfl rfl)
theorem dX1_pass_9 : decode cX1_pass 9 = .ok (.iconst 0, 1) := dk_3 (dk_at dksX1_pass_0 9 rfl rfl)
theorem dX1_pass_10 : decode cX1_pass 10 = .ok (.invokespecial 92, 3) := dk_183 0 92 (dk_at dksX1_pass_0 10 rfl rfl)
theorem dX1_pass_13 : decode cX1_pass 13 = .ok (.invokevirtual 95, 3) := dk_182 0 95 (dk_at dksX1_pass_0 13 rfl rfl)
theorem dX1_pass_16 : decode cX1_pass 16 = .ok (.ireturn, 1) := dk_172 (dk_at dksX1_pass_0 16 rfl rfl)
abbrev cX1_line : ByteArray := prog_1_method_39_code
def yX1_line : MethodName := ⟨RX1, "line", "(I)I"⟩
def dkwX1_line_2 : List UInt8 := [132, 3, 255, 167, 255, 226, 44, 182, 1, 58, 172]
abbrev dktX1_line_2 : List UInt8 := dkwX1_line_2 ++ []
def dkwX1_line_1 : List UInt8 := [42, 180, 0, 47, 42, 180, 0, 33, 8, 27, 104, 29, 96, 182, 0, 205, 184, 1, 51, 182, 1, 55, 77]
abbrev dktX1_line_1 : List UInt8 := dkwX1_line_1 ++ dktX1_line_2
def dkwX1_line_0 : List UInt8 := [27, 7, 184, 0, 202, 42, 180, 0, 47, 3, 182, 1, 47, 42, 180, 0, 47, 77, 7, 62, 29, 155, 0, 32]
abbrev dktX1_line_0 : List UInt8 := dkwX1_line_0 ++ dktX1_line_1
theorem dksX1_line_0 : cX1_line.data.toList.drop 0 = dktX1_line_0 := by decide +kernel
theorem dksX1_line_1 : cX1_line.data.toList.drop 24 = dktX1_line_1 := dk_seg dksX1_line_0 24 rfl rfl
theorem dksX1_line_2 : cX1_line.data.toList.drop 47 = dktX1_line_2 := dk_seg dksX1_line_1 23 rfl rfl
theorem dX1_line_0 : decode cX1_line 0 = .ok (.iload_n 1, 1) := dk_27 (dk_at dksX1_line_0 0 rfl rfl)
theorem dX1_line_1 : decode cX1_line 1 = .ok (.iconst 4, 1) := dk_7 (dk_at dksX1_line_0 1 rfl rfl)
theorem dX1_line_2 : decode cX1_line 2 = .ok (.invokestatic 202, 3) := dk_184 0 202 (dk_at dksX1_line_0 2 rfl rfl)
theorem dX1_line_5 : decode cX1_line 5 = .ok (.aload_n 0, 1) := dk_42 (dk_at dksX1_line_0 5 rfl rfl)
theorem dX1_line_6 : decode cX1_line 6 = .ok (.getfield 47, 3) := dk_180 0 47 (dk_at dksX1_line_0 6 rfl rfl)
theorem dX1_line_9 : decode cX1_line 9 = .ok (.iconst 0, 1) := dk_3 (dk_at dksX1_line_0 9 rfl rfl)
theorem dX1_line_10 : decode cX1_line 10 = .ok (.invokevirtual 303, 3) := dk_182 1 47 (dk_at dksX1_line_0 10 rfl rfl)
theorem dX1_line_13 : decode cX1_line 13 = .ok (.aload_n 0, 1) := dk_42 (dk_at dksX1_line_0 13 rfl rfl)
theorem dX1_line_14 : decode cX1_line 14 = .ok (.getfield 47, 3) := dk_180 0 47 (dk_at dksX1_line_0 14 rfl rfl)
theorem dX1_line_17 : decode cX1_line 17 = .ok (.astore_n 2, 1) := dk_77 (dk_at dksX1_line_0 17 rfl rfl)
theorem dX1_line_18 : decode cX1_line 18 = .ok (.iconst 4, 1) := dk_7 (dk_at dksX1_line_0 18 rfl rfl)
theorem dX1_line_19 : decode cX1_line 19 = .ok (.istore_n 3, 1) := dk_62 (dk_at dksX1_line_0 19 rfl rfl)
theorem dX1_line_20 : decode cX1_line 20 = .ok (.iload_n 3, 1) := dk_29 (dk_at dksX1_line_0 20 rfl rfl)
theorem dX1_line_21 : decode cX1_line 21 = .ok (.ifCond .lt 32, 3) := dk_155 0 32 (dk_at dksX1_line_0 21 rfl rfl)
theorem dX1_line_24 : decode cX1_line 24 = .ok (.aload_n 0, 1) := dk_42 (dk_at dksX1_line_1 0 rfl rfl)
theorem dX1_line_25 : decode cX1_line 25 = .ok (.getfield 47, 3) := dk_180 0 47 (dk_at dksX1_line_1 1 rfl rfl)
theorem dX1_line_28 : decode cX1_line 28 = .ok (.aload_n 0, 1) := dk_42 (dk_at dksX1_line_1 4 rfl rfl)
theorem dX1_line_29 : decode cX1_line 29 = .ok (.getfield 33, 3) := dk_180 0 33 (dk_at dksX1_line_1 5 rfl rfl)
theorem dX1_line_32 : decode cX1_line 32 = .ok (.iconst 5, 1) := dk_8 (dk_at dksX1_line_1 8 rfl rfl)
theorem dX1_line_33 : decode cX1_line 33 = .ok (.iload_n 1, 1) := dk_27 (dk_at dksX1_line_1 9 rfl rfl)
theorem dX1_line_34 : decode cX1_line 34 = .ok (.imul, 1) := dk_104 (dk_at dksX1_line_1 10 rfl rfl)
theorem dX1_line_35 : decode cX1_line 35 = .ok (.iload_n 3, 1) := dk_29 (dk_at dksX1_line_1 11 rfl rfl)
theorem dX1_line_36 : decode cX1_line 36 = .ok (.iadd, 1) := dk_96 (dk_at dksX1_line_1 12 rfl rfl)
theorem dX1_line_37 : decode cX1_line 37 = .ok (.invokevirtual 205, 3) := dk_182 0 205 (dk_at dksX1_line_1 13 rfl rfl)
theorem dX1_line_40 : decode cX1_line 40 = .ok (.invokestatic 307, 3) := dk_184 1 51 (dk_at dksX1_line_1 16 rfl rfl)
theorem dX1_line_43 : decode cX1_line 43 = .ok (.invokevirtual 311, 3) := dk_182 1 55 (dk_at dksX1_line_1 19 rfl rfl)
theorem dX1_line_46 : decode cX1_line 46 = .ok (.astore_n 2, 1) := dk_77 (dk_at dksX1_line_1 22 rfl rfl)
theorem dX1_line_47 : decode cX1_line 47 = .ok (.iinc 3 (-1), 3) := dk_132 3 255 (dk_at dksX1_line_2 0 rfl rfl)
theorem dX1_line_50 : decode cX1_line 50 = .ok (.goto (-30), 3) := dk_167 255 226 (dk_at dksX1_line_2 3 rfl rfl)
theorem dX1_line_53 : decode cX1_line 53 = .ok (.aload_n 2, 1) := dk_44 (dk_at dksX1_line_2 6 rfl rfl)
theorem dX1_line_54 : decode cX1_line 54 = .ok (.invokevirtual 314, 3) := dk_182 1 58 (dk_at dksX1_line_2 7 rfl rfl)
theorem dX1_line_57 : decode cX1_line 57 = .ok (.ireturn, 1) := dk_172 (dk_at dksX1_line_2 10 rfl rfl)
abbrev cX1_account : ByteArray := prog_1_method_48_code
def yX1_account : MethodName := ⟨RX1, "account", "(I)I"⟩
def dkwX1_account_7 : List UInt8 := [167, 0, 17, 42, 180, 1, 114, 167, 0, 10, 42, 180, 0, 40, 182, 0, 55, 172]
abbrev dktX1_account_7 : List UInt8 := dkwX1_account_7 ++ []
def dkwX1_account_6 : List UInt8 := [182, 1, 108, 167, 0, 37, 42, 180, 0, 33, 180, 1, 26, 167, 0, 27, 42, 180, 0, 33, 180, 1, 111]
abbrev dktX1_account_6 : List UInt8 := dkwX1_account_6 ++ dktX1_account_7
def dkwX1_account_5 : List UInt8 := [167, 0, 64, 42, 182, 1, 105, 167, 0, 57, 42, 180, 0, 33, 180, 0, 245, 182, 1, 87, 167, 0, 44, 42]
abbrev dktX1_account_5 : List UInt8 := dkwX1_account_5 ++ dktX1_account_6
def dkwX1_account_4 : List UInt8 := [180, 0, 33, 27, 7, 100, 182, 1, 78, 167, 0, 77, 42, 180, 0, 33, 180, 1, 29, 182, 1, 87]
abbrev dktX1_account_4 : List UInt8 := dkwX1_account_4 ++ dktX1_account_5
def dkwX1_account_3 : List UInt8 := [180, 1, 3, 180, 1, 103, 167, 0, 103, 42, 180, 0, 33, 180, 0, 137, 182, 1, 87, 167, 0, 90, 42]
abbrev dktX1_account_3 : List UInt8 := dkwX1_account_3 ++ dktX1_account_4
def dkwX1_account_2 : List UInt8 := [42, 180, 0, 33, 180, 1, 97, 167, 0, 126, 42, 180, 0, 33, 180, 1, 100, 167, 0, 116, 42, 180, 0, 33]
abbrev dktX1_account_2 : List UInt8 := dkwX1_account_2 ++ dktX1_account_3
def dkwX1_account_1 : List UInt8 := [170, 0, 0, 0, 199, 0, 0, 0, 0, 0, 0, 0, 14, 0, 0, 0, 73, 0, 0, 0, 83, 0, 0, 0, 93, 0, 0, 0, 106, 0, 0, 0, 119, 0, 0, 0, 119, 0, 0, 0, 119, 0, 0, 0, 119, 0, 0, 0, 132, 0, 0, 0, 145, 0, 0, 0, 152, 0, 0, 0, 165, 0, 0, 0, 172, 0, 0, 0, 182, 0, 0, 0, 192]
abbrev dktX1_account_1 : List UInt8 := dkwX1_account_1 ++ dktX1_account_2
def dkwX1_account_0 : List UInt8 := [27, 3, 16, 15, 184, 0, 10, 184, 0, 105, 27]
abbrev dktX1_account_0 : List UInt8 := dkwX1_account_0 ++ dktX1_account_1
theorem dksX1_account_0 : cX1_account.data.toList.drop 0 = dktX1_account_0 := by decide +kernel
theorem dksX1_account_1 : cX1_account.data.toList.drop 11 = dktX1_account_1 := dk_seg dksX1_account_0 11 rfl rfl
theorem dksX1_account_2 : cX1_account.data.toList.drop 84 = dktX1_account_2 := dk_seg dksX1_account_1 73 rfl rfl
theorem dksX1_account_3 : cX1_account.data.toList.drop 108 = dktX1_account_3 := dk_seg dksX1_account_2 24 rfl rfl
theorem dksX1_account_4 : cX1_account.data.toList.drop 131 = dktX1_account_4 := dk_seg dksX1_account_3 23 rfl rfl
theorem dksX1_account_5 : cX1_account.data.toList.drop 153 = dktX1_account_5 := dk_seg dksX1_account_4 22 rfl rfl
theorem dksX1_account_6 : cX1_account.data.toList.drop 177 = dktX1_account_6 := dk_seg dksX1_account_5 24 rfl rfl
theorem dksX1_account_7 : cX1_account.data.toList.drop 200 = dktX1_account_7 := dk_seg dksX1_account_6 23 rfl rfl
theorem dX1_account_0 : decode cX1_account 0 = .ok (.iload_n 1, 1) := dk_27 (dk_at dksX1_account_0 0 rfl rfl)
theorem dX1_account_1 : decode cX1_account 1 = .ok (.iconst 0, 1) := dk_3 (dk_at dksX1_account_0 1 rfl rfl)
theorem dX1_account_2 : decode cX1_account 2 = .ok (.bipush 15, 2) := dk_16 15 (dk_at dksX1_account_0 2 rfl rfl)
theorem dX1_account_4 : decode cX1_account 4 = .ok (.invokestatic 10, 3) := dk_184 0 10 (dk_at dksX1_account_0 4 rfl rfl)
theorem dX1_account_7 : decode cX1_account 7 = .ok (.invokestatic 105, 3) := dk_184 0 105 (dk_at dksX1_account_0 7 rfl rfl)
theorem dX1_account_10 : decode cX1_account 10 = .ok (.iload_n 1, 1) := dk_27 (dk_at dksX1_account_0 10 rfl rfl)
theorem dX1_account_11 : decode cX1_account 11 = .ok (.tableswitch 199 0 14 #[73, 83, 93, 106, 119, 119, 119, 119, 132, 145, 152, 165, 172, 182, 192], 73) := by decide +kernel
theorem dX1_account_84 : decode cX1_account 84 = .ok (.aload_n 0, 1) := dk_42 (dk_at dksX1_account_2 0 rfl rfl)
theorem dX1_account_85 : decode cX1_account 85 = .ok (.getfield 33, 3) := dk_180 0 33 (dk_at dksX1_account_2 1 rfl rfl)
theorem dX1_account_88 : decode cX1_account 88 = .ok (.getfield 353, 3) := dk_180 1 97 (dk_at dksX1_account_2 4 rfl rfl)
theorem dX1_account_91 : decode cX1_account 91 = .ok (.goto 126, 3) := dk_167 0 126 (dk_at dksX1_account_2 7 rfl rfl)
theorem dX1_account_94 : decode cX1_account 94 = .ok (.aload_n 0, 1) := dk_42 (dk_at dksX1_account_2 10 rfl rfl)
theorem dX1_account_95 : decode cX1_account 95 = .ok (.getfield 33, 3) := dk_180 0 33 (dk_at dksX1_account_2 11 rfl rfl)
theorem dX1_account_98 : decode cX1_account 98 = .ok (.getfield 356, 3) := dk_180 1 100 (dk_at dksX1_account_2 14 rfl rfl)
theorem dX1_account_101 : decode cX1_account 101 = .ok (.goto 116, 3) := dk_167 0 116 (dk_at dksX1_account_2 17 rfl rfl)
theorem dX1_account_104 : decode cX1_account 104 = .ok (.aload_n 0, 1) := dk_42 (dk_at dksX1_account_2 20 rfl rfl)
theorem dX1_account_105 : decode cX1_account 105 = .ok (.getfield 33, 3) := dk_180 0 33 (dk_at dksX1_account_2 21 rfl rfl)
theorem dX1_account_108 : decode cX1_account 108 = .ok (.getfield 259, 3) := dk_180 1 3 (dk_at dksX1_account_3 0 rfl rfl)
theorem dX1_account_111 : decode cX1_account 111 = .ok (.getfield 359, 3) := dk_180 1 103 (dk_at dksX1_account_3 3 rfl rfl)
theorem dX1_account_114 : decode cX1_account 114 = .ok (.goto 103, 3) := dk_167 0 103 (dk_at dksX1_account_3 6 rfl rfl)
theorem dX1_account_117 : decode cX1_account 117 = .ok (.aload_n 0, 1) := dk_42 (dk_at dksX1_account_3 9 rfl rfl)
theorem dX1_account_118 : decode cX1_account 118 = .ok (.getfield 33, 3) := dk_180 0 33 (dk_at dksX1_account_3 10 rfl rfl)
theorem dX1_account_121 : decode cX1_account 121 = .ok (.getfield 137, 3) := dk_180 0 137 (dk_at dksX1_account_3 13 rfl rfl)
theorem dX1_account_124 : decode cX1_account 124 = .ok (.invokevirtual 343, 3) := dk_182 1 87 (dk_at dksX1_account_3 16 rfl rfl)
theorem dX1_account_127 : decode cX1_account 127 = .ok (.goto 90, 3) := dk_167 0 90 (dk_at dksX1_account_3 19 rfl rfl)
theorem dX1_account_130 : decode cX1_account 130 = .ok (.aload_n 0, 1) := dk_42 (dk_at dksX1_account_3 22 rfl rfl)
theorem dX1_account_131 : decode cX1_account 131 = .ok (.getfield 33, 3) := dk_180 0 33 (dk_at dksX1_account_4 0 rfl rfl)
theorem dX1_account_134 : decode cX1_account 134 = .ok (.iload_n 1, 1) := dk_27 (dk_at dksX1_account_4 3 rfl rfl)
theorem dX1_account_135 : decode cX1_account 135 = .ok (.iconst 4, 1) := dk_7 (dk_at dksX1_account_4 4 rfl rfl)
theorem dX1_account_136 : decode cX1_account 136 = .ok (.isub, 1) := dk_100 (dk_at dksX1_account_4 5 rfl rfl)
theorem dX1_account_137 : decode cX1_account 137 = .ok (.invokevirtual 334, 3) := dk_182 1 78 (dk_at dksX1_account_4 6 rfl rfl)
theorem dX1_account_140 : decode cX1_account 140 = .ok (.goto 77, 3) := dk_167 0 77 (dk_at dksX1_account_4 9 rfl rfl)
theorem dX1_account_143 : decode cX1_account 143 = .ok (.aload_n 0, 1) := dk_42 (dk_at dksX1_account_4 12 rfl rfl)
theorem dX1_account_144 : decode cX1_account 144 = .ok (.getfield 33, 3) := dk_180 0 33 (dk_at dksX1_account_4 13 rfl rfl)
theorem dX1_account_147 : decode cX1_account 147 = .ok (.getfield 285, 3) := dk_180 1 29 (dk_at dksX1_account_4 16 rfl rfl)
theorem dX1_account_150 : decode cX1_account 150 = .ok (.invokevirtual 343, 3) := dk_182 1 87 (dk_at dksX1_account_4 19 rfl rfl)
theorem dX1_account_153 : decode cX1_account 153 = .ok (.goto 64, 3) := dk_167 0 64 (dk_at dksX1_account_5 0 rfl rfl)
theorem dX1_account_156 : decode cX1_account 156 = .ok (.aload_n 0, 1) := dk_42 (dk_at dksX1_account_5 3 rfl rfl)
theorem dX1_account_157 : decode cX1_account 157 = .ok (.invokevirtual 361, 3) := dk_182 1 105 (dk_at dksX1_account_5 4 rfl rfl)
theorem dX1_account_160 : decode cX1_account 160 = .ok (.goto 57, 3) := dk_167 0 57 (dk_at dksX1_account_5 7 rfl rfl)
theorem dX1_account_163 : decode cX1_account 163 = .ok (.aload_n 0, 1) := dk_42 (dk_at dksX1_account_5 10 rfl rfl)
theorem dX1_account_164 : decode cX1_account 164 = .ok (.getfield 33, 3) := dk_180 0 33 (dk_at dksX1_account_5 11 rfl rfl)
theorem dX1_account_167 : decode cX1_account 167 = .ok (.getfield 245, 3) := dk_180 0 245 (dk_at dksX1_account_5 14 rfl rfl)
theorem dX1_account_170 : decode cX1_account 170 = .ok (.invokevirtual 343, 3) := dk_182 1 87 (dk_at dksX1_account_5 17 rfl rfl)
theorem dX1_account_173 : decode cX1_account 173 = .ok (.goto 44, 3) := dk_167 0 44 (dk_at dksX1_account_5 20 rfl rfl)
theorem dX1_account_176 : decode cX1_account 176 = .ok (.aload_n 0, 1) := dk_42 (dk_at dksX1_account_5 23 rfl rfl)
theorem dX1_account_177 : decode cX1_account 177 = .ok (.invokevirtual 364, 3) := dk_182 1 108 (dk_at dksX1_account_6 0 rfl rfl)
theorem dX1_account_180 : decode cX1_account 180 = .ok (.goto 37, 3) := dk_167 0 37 (dk_at dksX1_account_6 3 rfl rfl)
theorem dX1_account_183 : decode cX1_account 183 = .ok (.aload_n 0, 1) := dk_42 (dk_at dksX1_account_6 6 rfl rfl)
theorem dX1_account_184 : decode cX1_account 184 = .ok (.getfield 33, 3) := dk_180 0 33 (dk_at dksX1_account_6 7 rfl rfl)
theorem dX1_account_187 : decode cX1_account 187 = .ok (.getfield 282, 3) := dk_180 1 26 (dk_at dksX1_account_6 10 rfl rfl)
theorem dX1_account_190 : decode cX1_account 190 = .ok (.goto 27, 3) := dk_167 0 27 (dk_at dksX1_account_6 13 rfl rfl)
theorem dX1_account_193 : decode cX1_account 193 = .ok (.aload_n 0, 1) := dk_42 (dk_at dksX1_account_6 16 rfl rfl)
theorem dX1_account_194 : decode cX1_account 194 = .ok (.getfield 33, 3) := dk_180 0 33 (dk_at dksX1_account_6 17 rfl rfl)
theorem dX1_account_197 : decode cX1_account 197 = .ok (.getfield 367, 3) := dk_180 1 111 (dk_at dksX1_account_6 20 rfl rfl)
theorem dX1_account_200 : decode cX1_account 200 = .ok (.goto 17, 3) := dk_167 0 17 (dk_at dksX1_account_7 0 rfl rfl)
theorem dX1_account_203 : decode cX1_account 203 = .ok (.aload_n 0, 1) := dk_42 (dk_at dksX1_account_7 3 rfl rfl)
theorem dX1_account_204 : decode cX1_account 204 = .ok (.getfield 370, 3) := dk_180 1 114 (dk_at dksX1_account_7 4 rfl rfl)
theorem dX1_account_207 : decode cX1_account 207 = .ok (.goto 10, 3) := dk_167 0 10 (dk_at dksX1_account_7 7 rfl rfl)
theorem dX1_account_210 : decode cX1_account 210 = .ok (.aload_n 0, 1) := dk_42 (dk_at dksX1_account_7 10 rfl rfl)
theorem dX1_account_211 : decode cX1_account 211 = .ok (.getfield 40, 3) := dk_180 0 40 (dk_at dksX1_account_7 11 rfl rfl)
theorem dX1_account_214 : decode cX1_account 214 = .ok (.invokevirtual 55, 3) := dk_182 0 55 (dk_at dksX1_account_7 14 rfl rfl)
theorem dX1_account_217 : decode cX1_account 217 = .ok (.ireturn, 1) := dk_172 (dk_at dksX1_account_7 17 rfl rfl)
abbrev cX1_perform : ByteArray := prog_1_method_52_code
def yX1_perform : MethodName := ⟨RX1, "perform", "()I"⟩
def dkwX1_perform_2 : List UInt8 := [181, 1, 114, 28, 172, 78, 42, 3, 181, 1, 114, 45, 191]
abbrev dktX1_perform_2 : List UInt8 := dkwX1_perform_2 ++ []
def dkwX1_perform_1 : List UInt8 := [16, 156, 43, 180, 1, 142, 100, 61, 42, 3, 181, 1, 114, 28, 172, 76, 42, 43, 182, 0, 86, 61, 42, 3]
abbrev dktX1_perform_1 : List UInt8 := dkwX1_perform_1 ++ dktX1_perform_2
def dkwX1_perform_0 : List UInt8 := [42, 187, 1, 127, 89, 42, 183, 1, 129, 182, 1, 132, 182, 1, 136, 60, 42, 3, 181, 1, 114, 27, 172, 76]
abbrev dktX1_perform_0 : List UInt8 := dkwX1_perform_0 ++ dktX1_perform_1
theorem dksX1_perform_0 : cX1_perform.data.toList.drop 0 = dktX1_perform_0 := by decide +kernel
theorem dksX1_perform_1 : cX1_perform.data.toList.drop 24 = dktX1_perform_1 := dk_seg dksX1_perform_0 24 rfl rfl
theorem dksX1_perform_2 : cX1_perform.data.toList.drop 48 = dktX1_perform_2 := dk_seg dksX1_perform_1 24 rfl rfl
theorem dX1_perform_0 : decode cX1_perform 0 = .ok (.aload_n 0, 1) := dk_42 (dk_at dksX1_perform_0 0 rfl rfl)
theorem dX1_perform_1 : decode cX1_perform 1 = .ok (.new 383, 3) := dk_187 1 127 (dk_at dksX1_perform_0 1 rfl rfl)
theorem dX1_perform_4 : decode cX1_perform 4 = .ok (.dup, 1) := dk_89 (dk_at dksX1_perform_0 4 rfl rfl)
theorem dX1_perform_5 : decode cX1_perform 5 = .ok (.aload_n 0, 1) := dk_42 (dk_at dksX1_perform_0 5 rfl rfl)
theorem dX1_perform_6 : decode cX1_perform 6 = .ok (.invokespecial 385, 3) := dk_183 1 129 (dk_at dksX1_perform_0 6 rfl rfl)
theorem dX1_perform_9 : decode cX1_perform 9 = .ok (.invokevirtual 388, 3) := dk_182 1 132 (dk_at dksX1_perform_0 9 rfl rfl)
theorem dX1_perform_12 : decode cX1_perform 12 = .ok (.invokevirtual 392, 3) := dk_182 1 136 (dk_at dksX1_perform_0 12 rfl rfl)
theorem dX1_perform_15 : decode cX1_perform 15 = .ok (.istore_n 1, 1) := dk_60 (dk_at dksX1_perform_0 15 rfl rfl)
theorem dX1_perform_16 : decode cX1_perform 16 = .ok (.aload_n 0, 1) := dk_42 (dk_at dksX1_perform_0 16 rfl rfl)
theorem dX1_perform_17 : decode cX1_perform 17 = .ok (.iconst 0, 1) := dk_3 (dk_at dksX1_perform_0 17 rfl rfl)
theorem dX1_perform_18 : decode cX1_perform 18 = .ok (.putfield 370, 3) := dk_181 1 114 (dk_at dksX1_perform_0 18 rfl rfl)
theorem dX1_perform_21 : decode cX1_perform 21 = .ok (.iload_n 1, 1) := dk_27 (dk_at dksX1_perform_0 21 rfl rfl)
theorem dX1_perform_22 : decode cX1_perform 22 = .ok (.ireturn, 1) := dk_172 (dk_at dksX1_perform_0 22 rfl rfl)
theorem dX1_perform_23 : decode cX1_perform 23 = .ok (.astore_n 1, 1) := dk_76 (dk_at dksX1_perform_0 23 rfl rfl)
theorem dX1_perform_24 : decode cX1_perform 24 = .ok (.bipush (-100), 2) := dk_16 156 (dk_at dksX1_perform_1 0 rfl rfl)
theorem dX1_perform_26 : decode cX1_perform 26 = .ok (.aload_n 1, 1) := dk_43 (dk_at dksX1_perform_1 2 rfl rfl)
theorem dX1_perform_27 : decode cX1_perform 27 = .ok (.getfield 398, 3) := dk_180 1 142 (dk_at dksX1_perform_1 3 rfl rfl)
theorem dX1_perform_30 : decode cX1_perform 30 = .ok (.isub, 1) := dk_100 (dk_at dksX1_perform_1 6 rfl rfl)
theorem dX1_perform_31 : decode cX1_perform 31 = .ok (.istore_n 2, 1) := dk_61 (dk_at dksX1_perform_1 7 rfl rfl)
theorem dX1_perform_32 : decode cX1_perform 32 = .ok (.aload_n 0, 1) := dk_42 (dk_at dksX1_perform_1 8 rfl rfl)
theorem dX1_perform_33 : decode cX1_perform 33 = .ok (.iconst 0, 1) := dk_3 (dk_at dksX1_perform_1 9 rfl rfl)
theorem dX1_perform_34 : decode cX1_perform 34 = .ok (.putfield 370, 3) := dk_181 1 114 (dk_at dksX1_perform_1 10 rfl rfl)
theorem dX1_perform_37 : decode cX1_perform 37 = .ok (.iload_n 2, 1) := dk_28 (dk_at dksX1_perform_1 13 rfl rfl)
theorem dX1_perform_38 : decode cX1_perform 38 = .ok (.ireturn, 1) := dk_172 (dk_at dksX1_perform_1 14 rfl rfl)
theorem dX1_perform_39 : decode cX1_perform 39 = .ok (.astore_n 1, 1) := dk_76 (dk_at dksX1_perform_1 15 rfl rfl)
theorem dX1_perform_40 : decode cX1_perform 40 = .ok (.aload_n 0, 1) := dk_42 (dk_at dksX1_perform_1 16 rfl rfl)
theorem dX1_perform_41 : decode cX1_perform 41 = .ok (.aload_n 1, 1) := dk_43 (dk_at dksX1_perform_1 17 rfl rfl)
theorem dX1_perform_42 : decode cX1_perform 42 = .ok (.invokevirtual 86, 3) := dk_182 0 86 (dk_at dksX1_perform_1 18 rfl rfl)
theorem dX1_perform_45 : decode cX1_perform 45 = .ok (.istore_n 2, 1) := dk_61 (dk_at dksX1_perform_1 21 rfl rfl)
theorem dX1_perform_46 : decode cX1_perform 46 = .ok (.aload_n 0, 1) := dk_42 (dk_at dksX1_perform_1 22 rfl rfl)
theorem dX1_perform_47 : decode cX1_perform 47 = .ok (.iconst 0, 1) := dk_3 (dk_at dksX1_perform_1 23 rfl rfl)
theorem dX1_perform_48 : decode cX1_perform 48 = .ok (.putfield 370, 3) := dk_181 1 114 (dk_at dksX1_perform_2 0 rfl rfl)
theorem dX1_perform_51 : decode cX1_perform 51 = .ok (.iload_n 2, 1) := dk_28 (dk_at dksX1_perform_2 3 rfl rfl)
theorem dX1_perform_52 : decode cX1_perform 52 = .ok (.ireturn, 1) := dk_172 (dk_at dksX1_perform_2 4 rfl rfl)
theorem dX1_perform_53 : decode cX1_perform 53 = .ok (.astore_n 3, 1) := dk_78 (dk_at dksX1_perform_2 5 rfl rfl)
theorem dX1_perform_54 : decode cX1_perform 54 = .ok (.aload_n 0, 1) := dk_42 (dk_at dksX1_perform_2 6 rfl rfl)
theorem dX1_perform_55 : decode cX1_perform 55 = .ok (.iconst 0, 1) := dk_3 (dk_at dksX1_perform_2 7 rfl rfl)
theorem dX1_perform_56 : decode cX1_perform 56 = .ok (.putfield 370, 3) := dk_181 1 114 (dk_at dksX1_perform_2 8 rfl rfl)
theorem dX1_perform_59 : decode cX1_perform 59 = .ok (.aload_n 3, 1) := dk_45 (dk_at dksX1_perform_2 11 rfl rfl)
theorem dX1_perform_60 : decode cX1_perform 60 = .ok (.athrow, 1) := dk_191 (dk_at dksX1_perform_2 12 rfl rfl)
abbrev cX1_block : ByteArray := prog_1_method_11_code
def yX1_block : MethodName := ⟨RX1, "block", "(IZ)I"⟩
def dkwX1_block_0 : List UInt8 := [42, 187, 0, 78, 89, 18, 90, 27, 28, 153, 0, 7, 4, 167, 0, 4, 3, 183, 0, 92, 182, 0, 95, 172]
abbrev dktX1_block_0 : List UInt8 := dkwX1_block_0 ++ []
theorem dksX1_block_0 : cX1_block.data.toList.drop 0 = dktX1_block_0 := by decide +kernel
theorem dX1_block_0 : decode cX1_block 0 = .ok (.aload_n 0, 1) := dk_42 (dk_at dksX1_block_0 0 rfl rfl)
theorem dX1_block_1 : decode cX1_block 1 = .ok (.new 78, 3) := dk_187 0 78 (dk_at dksX1_block_0 1 rfl rfl)
theorem dX1_block_4 : decode cX1_block 4 = .ok (.dup, 1) := dk_89 (dk_at dksX1_block_0 4 rfl rfl)
theorem dX1_block_5 : decode cX1_block 5 = .ok (.ldc 90, 2) := dk_18 90 (dk_at dksX1_block_0 5 rfl rfl)
theorem dX1_block_7 : decode cX1_block 7 = .ok (.iload_n 1, 1) := dk_27 (dk_at dksX1_block_0 7 rfl rfl)
theorem dX1_block_8 : decode cX1_block 8 = .ok (.iload_n 2, 1) := dk_28 (dk_at dksX1_block_0 8 rfl rfl)
theorem dX1_block_9 : decode cX1_block 9 = .ok (.ifCond .eq 7, 3) := dk_153 0 7 (dk_at dksX1_block_0 9 rfl rfl)
theorem dX1_block_12 : decode cX1_block 12 = .ok (.iconst 1, 1) := dk_4 (dk_at dksX1_block_0 12 rfl rfl)
theorem dX1_block_13 : decode cX1_block 13 = .ok (.goto 4, 3) := dk_167 0 4 (dk_at dksX1_block_0 13 rfl rfl)
theorem dX1_block_16 : decode cX1_block 16 = .ok (.iconst 0, 1) := dk_3 (dk_at dksX1_block_0 16 rfl rfl)
theorem dX1_block_17 : decode cX1_block 17 = .ok (.invokespecial 92, 3) := dk_183 0 92 (dk_at dksX1_block_0 17 rfl rfl)
theorem dX1_block_20 : decode cX1_block 20 = .ok (.invokevirtual 95, 3) := dk_182 0 95 (dk_at dksX1_block_0 20 rfl rfl)
theorem dX1_block_23 : decode cX1_block 23 = .ok (.ireturn, 1) := dk_172 (dk_at dksX1_block_0 23 rfl rfl)
theorem q111 : (Jvm.Cond.initialized "java/lang/UnsupportedOperationException") ∈ lw_all := lw_g (lw_at lw_m1 37 rfl) rfl
theorem q117 : (Jvm.Cond.initialized "java/lang/ArithmeticException") ∈ lw_all := lw_g (lw_at lw_m1 43 rfl) rfl
theorem q128 : (Jvm.Cond.code ({ cls := "GargoyleTower", name := "<init>", desc := "()V" } : Jvm.MethodName) prog_1_method_7_code (1 : Nat) (Option.none : Option Jvm.ClassFile.FieldType)) ∈ lw_all := lw_g (lw_at lw_m1 54 rfl) rfl
theorem q129 : (Jvm.Cond.methodLink "GargoyleTower" (27 : Nat) ({ cls := "java/lang/Object", name := "<init>", desc := "()V" } : Jvm.MethodName)) ∈ lw_all := lw_g (lw_at lw_m1 55 rfl) rfl
theorem q132 : (Jvm.Cond.classLink "GargoyleTower" (30 : Nat) "GargoyleTower$World") ∈ lw_all := lw_g (lw_at lw_m1 58 rfl) rfl
theorem q133 : (Jvm.Cond.instantiable "GargoyleTower$World" (9 : Nat)) ∈ lw_all := lw_g (lw_at lw_m1 59 rfl) rfl
theorem q134 : (Jvm.Cond.methodLink "GargoyleTower" (32 : Nat) ({ cls := "GargoyleTower$World", name := "<init>", desc := "()V" } : Jvm.MethodName)) ∈ lw_all := lw_g (lw_at lw_m1 60 rfl) rfl
theorem q135 : (Jvm.Cond.instanceMethod ({ cls := "GargoyleTower$World", name := "<init>", desc := "()V" } : Jvm.MethodName)) ∈ lw_all := lw_g (lw_at lw_m1 61 rfl) rfl
theorem q179 : (Jvm.Cond.fieldLinkNest "GargoyleTower" (359 : Nat) "GargoyleTower$Weather" "seed" "I" "GargoyleTower") ∈ lw_tbl := lw_at lw_m1 105 rfl
theorem q184 : (Jvm.Cond.fieldLinkNest "GargoyleTower" (279 : Nat) "GargoyleTower$World" "coins" "I" "GargoyleTower") ∈ lw_tbl := lw_at lw_m1 110 rfl
theorem q186 : (Jvm.Cond.fieldLinkNest "GargoyleTower" (353 : Nat) "GargoyleTower$World" "day" "I" "GargoyleTower") ∈ lw_tbl := lw_at lw_m1 112 rfl
theorem q188 : (Jvm.Cond.fieldLinkNest "GargoyleTower" (356 : Nat) "GargoyleTower$World" "edge" "I" "GargoyleTower") ∈ lw_tbl := lw_at lw_m1 114 rfl
theorem q190 : (Jvm.Cond.fieldLinkNest "GargoyleTower" (282 : Nat) "GargoyleTower$World" "whets" "I" "GargoyleTower") ∈ lw_tbl := lw_at lw_m1 116 rfl
theorem q192 : (Jvm.Cond.fieldLinkNest "GargoyleTower" (367 : Nat) "GargoyleTower$World" "storms" "I" "GargoyleTower") ∈ lw_tbl := lw_at lw_m1 118 rfl
theorem q194 : (Jvm.Cond.fieldLinkNest "GargoyleTower" (259 : Nat) "GargoyleTower$World" "weather" "LGargoyleTower$Weather;" "GargoyleTower") ∈ lw_tbl := lw_at lw_m1 120 rfl
theorem q196 : (Jvm.Cond.fieldLinkNest "GargoyleTower" (137 : Nat) "GargoyleTower$World" "blocks" "Ljava/util/ArrayList;" "GargoyleTower") ∈ lw_tbl := lw_at lw_m1 122 rfl
theorem q198 : (Jvm.Cond.fieldLinkNest "GargoyleTower" (285 : Nat) "GargoyleTower$World" "ropes" "Ljava/util/ArrayList;" "GargoyleTower") ∈ lw_tbl := lw_at lw_m1 124 rfl
theorem q200 : (Jvm.Cond.fieldLinkNest "GargoyleTower" (245 : Nat) "GargoyleTower$World" "commissions" "Ljava/util/ArrayList;" "GargoyleTower") ∈ lw_tbl := lw_at lw_m1 126 rfl
theorem q220 : (Jvm.Cond.classLink "GargoyleTower" (37 : Nat) "java/util/ArrayDeque") ∈ lw_all := lw_g (lw_at lw_m1 146 rfl) rfl
theorem q221 : (Jvm.Cond.instantiable "java/util/ArrayDeque" (3 : Nat)) ∈ lw_all := lw_g (lw_at lw_m1 147 rfl) rfl
theorem q222 : (Jvm.Cond.methodLink "GargoyleTower" (39 : Nat) ({ cls := "java/util/ArrayDeque", name := "<init>", desc := "()V" } : Jvm.MethodName)) ∈ lw_all := lw_g (lw_at lw_m1 148 rfl) rfl
theorem q223 : (Jvm.Cond.instanceMethod ({ cls := "java/util/ArrayDeque", name := "<init>", desc := "()V" } : Jvm.MethodName)) ∈ lw_all := lw_g (lw_at lw_m1 149 rfl) rfl
theorem q238 : (Jvm.Cond.classLink "GargoyleTower" (44 : Nat) "java/lang/StringBuilder") ∈ lw_all := lw_g (lw_at lw_m1 164 rfl) rfl
theorem q239 : (Jvm.Cond.instantiable "java/lang/StringBuilder" (4 : Nat)) ∈ lw_all := lw_g (lw_at lw_m1 165 rfl) rfl
theorem q240 : (Jvm.Cond.methodLink "GargoyleTower" (46 : Nat) ({ cls := "java/lang/StringBuilder", name := "<init>", desc := "()V" } : Jvm.MethodName)) ∈ lw_all := lw_g (lw_at lw_m1 166 rfl) rfl
theorem q241 : (Jvm.Cond.instanceMethod ({ cls := "java/lang/StringBuilder", name := "<init>", desc := "()V" } : Jvm.MethodName)) ∈ lw_all := lw_g (lw_at lw_m1 167 rfl) rfl
theorem q271 : (Jvm.Cond.fieldLink "GargoyleTower" (33 : Nat) "GargoyleTower" "world" "LGargoyleTower$World;") ∈ lw_all := lw_g (lw_at lw_m1 197 rfl) rfl
theorem q272 : (Jvm.Cond.fieldLink "GargoyleTower" (405 : Nat) "GargoyleTower" "saved" "LGargoyleTower$World;") ∈ lw_all := lw_g (lw_at lw_m1 198 rfl) rfl
theorem q273 : (Jvm.Cond.fieldLink "GargoyleTower" (40 : Nat) "GargoyleTower" "history" "Ljava/util/ArrayDeque;") ∈ lw_all := lw_g (lw_at lw_m1 199 rfl) rfl
theorem q274 : (Jvm.Cond.fieldLink "GargoyleTower" (67 : Nat) "GargoyleTower" "reason" "LGargoyleTower$RefusedException;") ∈ lw_all := lw_g (lw_at lw_m1 200 rfl) rfl
theorem q275 : (Jvm.Cond.fieldLink "GargoyleTower" (47 : Nat) "GargoyleTower" "line" "Ljava/lang/StringBuilder;") ∈ lw_all := lw_g (lw_at lw_m1 201 rfl) rfl
theorem q277 : (Jvm.Cond.fieldLink "GargoyleTower" (51 : Nat) "GargoyleTower" "input" "[C") ∈ lw_all := lw_g (lw_at lw_m1 203 rfl) rfl
theorem q279 : (Jvm.Cond.fieldLink "GargoyleTower" (370 : Nat) "GargoyleTower" "inputLength" "I") ∈ lw_all := lw_g (lw_at lw_m1 205 rfl) rfl
theorem q295 : (Jvm.Cond.arrayClass Jvm.ClassFile.FieldType.char) ∈ lw_all := lw_g (lw_at lw_m1 221 rfl) rfl
theorem q299 : (Jvm.Cond.code ({ cls := "GargoyleTower", name := "coins", desc := "()I" } : Jvm.MethodName) prog_1_method_36_code (1 : Nat) (Option.some Jvm.ClassFile.FieldType.int)) ∈ lw_all := lw_g (lw_at lw_m1 225 rfl) rfl
theorem q301 : (Jvm.Cond.instanceMethod ({ cls := "GargoyleTower", name := "coinsAgain", desc := "()I" } : Jvm.MethodName)) ∈ lw_all := lw_g (lw_at lw_m1 227 rfl) rfl
theorem q302 : (Jvm.Cond.selects "GargoyleTower" ({ cls := "GargoyleTower", name := "coinsAgain", desc := "()I" } : Jvm.MethodName) ({ cls := "GargoyleTower", name := "coinsAgain", desc := "()I" } : Jvm.MethodName)) ∈ lw_all := lw_g (lw_at lw_m1 228 rfl) rfl
theorem q303 : (Jvm.Cond.code ({ cls := "GargoyleTower", name := "coinsAgain", desc := "()I" } : Jvm.MethodName) prog_1_method_37_code (4 : Nat) (Option.some Jvm.ClassFile.FieldType.int)) ∈ lw_all := lw_g (lw_at lw_m1 229 rfl) rfl
theorem q304 : (Jvm.Cond.methodLink "GargoyleTower" (251 : Nat) ({ cls := "GargoyleTower", name := "paid", desc := "(I)I" } : Jvm.MethodName)) ∈ lw_all := lw_g (lw_at lw_m1 230 rfl) rfl
theorem q306 : (Jvm.Cond.instanceMethod ({ cls := "GargoyleTower", name := "paid", desc := "(I)I" } : Jvm.MethodName)) ∈ lw_all := lw_g (lw_at lw_m1 232 rfl) rfl
theorem q307 : (Jvm.Cond.code ({ cls := "GargoyleTower", name := "paid", desc := "(I)I" } : Jvm.MethodName) prog_1_method_30_code (5 : Nat) (Option.some Jvm.ClassFile.FieldType.int)) ∈ lw_all := lw_g (lw_at lw_m1 233 rfl) rfl
theorem q308 : (Jvm.Cond.methodLink "GargoyleTower" (141 : Nat) ({ cls := "java/util/ArrayList", name := "iterator", desc := "()Ljava/util/Iterator;" } : Jvm.MethodName)) ∈ lw_all := lw_g (lw_at lw_m1 234 rfl) rfl
theorem q334 : (Jvm.Cond.methodLink "GargoyleTower" (147 : Nat) ({ cls := "java/util/Iterator", name := "hasNext", desc := "()Z" } : Jvm.MethodName)) ∈ lw_all := lw_g (lw_at lw_m2 20 rfl) rfl
theorem q350 : (Jvm.Cond.instanceMethod ({ cls := "java/util/LinkedList", name := "size", desc := "()I" } : Jvm.MethodName)) ∈ lw_all := lw_g (lw_at lw_m2 36 rfl) rfl
theorem q361 : (Jvm.Cond.castable "java/util/LinkedList$ListItr" "java/util/Iterator") ∈ lw_tbl := lw_at lw_m2 47 rfl
theorem q362 : (Jvm.Cond.selects "java/util/LinkedList$ListItr" ({ cls := "java/util/Iterator", name := "hasNext", desc := "()Z" } : Jvm.MethodName) ({ cls := "java/util/LinkedList$ListItr", name := "hasNext", desc := "()Z" } : Jvm.MethodName)) ∈ lw_all := lw_g (lw_at lw_m2 48 rfl) rfl
theorem q363 : (Jvm.Cond.unhidden "java/util/LinkedList$ListItr" "hasNext" "()Z") ∈ lw_tbl := lw_at lw_m2 49 rfl
theorem q365 : (Jvm.Cond.publicMethod ({ cls := "java/util/LinkedList$ListItr", name := "hasNext", desc := "()Z" } : Jvm.MethodName)) ∈ lw_tbl := lw_at lw_m2 51 rfl
theorem q368 : (Jvm.Cond.methodLink "GargoyleTower" (153 : Nat) ({ cls := "java/util/Iterator", name := "next", desc := "()Ljava/lang/Object;" } : Jvm.MethodName)) ∈ lw_all := lw_g (lw_at lw_m2 54 rfl) rfl
theorem q398 : (Jvm.Cond.instanceMethod ({ cls := "java/util/LinkedList", name := "get", desc := "(I)Ljava/lang/Object;" } : Jvm.MethodName)) ∈ lw_all := lw_g (lw_at lw_m2 84 rfl) rfl
theorem q585 : (Jvm.Cond.instanceMethod ({ cls := "java/lang/StringBuilder", name := "append", desc := "(I)Ljava/lang/StringBuilder;" } : Jvm.MethodName)) ∈ lw_all := lw_g (lw_at lw_m3 31 rfl) rfl
theorem q586 : (Jvm.Cond.selects "java/lang/StringBuilder" ({ cls := "java/lang/StringBuilder", name := "append", desc := "(I)Ljava/lang/StringBuilder;" } : Jvm.MethodName) ({ cls := "java/lang/StringBuilder", name := "append", desc := "(I)Ljava/lang/StringBuilder;" } : Jvm.MethodName)) ∈ lw_all := lw_g (lw_at lw_m3 32 rfl) rfl
theorem q850 : (Jvm.Cond.selects "java/util/LinkedList$ListItr" ({ cls := "java/util/Iterator", name := "next", desc := "()Ljava/lang/Object;" } : Jvm.MethodName) ({ cls := "java/util/LinkedList$ListItr", name := "next", desc := "()Ljava/lang/Object;" } : Jvm.MethodName)) ∈ lw_all := lw_g (lw_at lw_m4 56 rfl) rfl
theorem q851 : (Jvm.Cond.unhidden "java/util/LinkedList$ListItr" "next" "()Ljava/lang/Object;") ∈ lw_tbl := lw_at lw_m4 57 rfl
theorem q852 : (Jvm.Cond.instanceMethod ({ cls := "java/util/LinkedList$ListItr", name := "next", desc := "()Ljava/lang/Object;" } : Jvm.MethodName)) ∈ lw_all := lw_g (lw_at lw_m4 58 rfl) rfl
theorem q853 : (Jvm.Cond.publicMethod ({ cls := "java/util/LinkedList$ListItr", name := "next", desc := "()Ljava/lang/Object;" } : Jvm.MethodName)) ∈ lw_tbl := lw_at lw_m4 59 rfl
theorem q862 : (Jvm.Cond.classLink "GargoyleTower" (232 : Nat) "GargoyleTower$Commission") ∈ lw_all := lw_g (lw_at lw_m4 68 rfl) rfl
theorem q863 : (Jvm.Cond.methodLink "GargoyleTower" (248 : Nat) ({ cls := "GargoyleTower$Commission", name := "isFulfilled", desc := "()Z" } : Jvm.MethodName)) ∈ lw_all := lw_g (lw_at lw_m4 69 rfl) rfl
theorem q867 : (Jvm.Cond.classLink "GargoyleTower" (181 : Nat) "GargoyleTower$Rope") ∈ lw_all := lw_g (lw_at lw_m4 73 rfl) rfl
theorem q868 : (Jvm.Cond.methodLink "GargoyleTower" (288 : Nat) ({ cls := "GargoyleTower$Rope", name := "price", desc := "()I" } : Jvm.MethodName)) ∈ lw_all := lw_g (lw_at lw_m4 74 rfl) rfl
theorem q875 : (Jvm.Cond.code ({ cls := "GargoyleTower", name := "isBalanced", desc := "()Z" } : Jvm.MethodName) prog_1_method_42_code (4 : Nat) (Option.some Jvm.ClassFile.FieldType.boolean)) ∈ lw_all := lw_g (lw_at lw_m4 81 rfl) rfl
theorem q876 : (Jvm.Cond.methodLink "GargoyleTower" (327 : Nat) ({ cls := "GargoyleTower", name := "coinsAgain", desc := "()I" } : Jvm.MethodName)) ∈ lw_all := lw_g (lw_at lw_m4 82 rfl) rfl
theorem q877 : (Jvm.Cond.classLink "GargoyleTower" (110 : Nat) "GargoyleTower$Block") ∈ lw_all := lw_g (lw_at lw_m4 83 rfl) rfl
theorem q878 : (Jvm.Cond.methodLink "GargoyleTower" (330 : Nat) ({ cls := "GargoyleTower", name := "isRight", desc := "(LGargoyleTower$Block;)Z" } : Jvm.MethodName)) ∈ lw_all := lw_g (lw_at lw_m4 84 rfl) rfl
theorem q880 : (Jvm.Cond.instanceMethod ({ cls := "GargoyleTower", name := "isRight", desc := "(LGargoyleTower$Block;)Z" } : Jvm.MethodName)) ∈ lw_all := lw_g (lw_at lw_m4 86 rfl) rfl
theorem q881 : (Jvm.Cond.code ({ cls := "GargoyleTower", name := "isRight", desc := "(LGargoyleTower$Block;)Z" } : Jvm.MethodName) prog_1_method_41_code (2 : Nat) (Option.some Jvm.ClassFile.FieldType.boolean)) ∈ lw_all := lw_g (lw_at lw_m4 87 rfl) rfl
theorem q882 : (Jvm.Cond.methodLink "GargoyleTower" (212 : Nat) ({ cls := "java/util/ArrayList", name := "get", desc := "(I)Ljava/lang/Object;" } : Jvm.MethodName)) ∈ lw_all := lw_g (lw_at lw_m4 88 rfl) rfl
theorem q947 : (Jvm.Cond.methodLink "GargoyleTower" (205 : Nat) ({ cls := "GargoyleTower$World", name := "blockIn", desc := "(I)LGargoyleTower$Block;" } : Jvm.MethodName)) ∈ lw_all := lw_g (lw_at lw_m4 153 rfl) rfl
theorem q960 : (Jvm.Cond.code ({ cls := "GargoyleTower", name := "save", desc := "()I" } : Jvm.MethodName) prog_1_method_54_code (1 : Nat) (Option.some Jvm.ClassFile.FieldType.int)) ∈ lw_all := lw_g (lw_at lw_m4 166 rfl) rfl
theorem q961 : (Jvm.Cond.methodLink "GargoyleTower" (74 : Nat) ({ cls := "GargoyleTower$World", name := "<init>", desc := "(LGargoyleTower$World;)V" } : Jvm.MethodName)) ∈ lw_all := lw_g (lw_at lw_m4 167 rfl) rfl
theorem q962 : (Jvm.Cond.instanceMethod ({ cls := "GargoyleTower$World", name := "<init>", desc := "(LGargoyleTower$World;)V" } : Jvm.MethodName)) ∈ lw_all := lw_g (lw_at lw_m4 168 rfl) rfl
theorem q976 : (Jvm.Cond.fieldLinkNest "GargoyleTower" (172 : Nat) "GargoyleTower$Block" "number" "I" "GargoyleTower") ∈ lw_tbl := lw_at lw_m4 182 rfl
theorem q980 : (Jvm.Cond.fieldLinkNest "GargoyleTower" (109 : Nat) "GargoyleTower$Block" "weight" "I" "GargoyleTower") ∈ lw_tbl := lw_at lw_m4 186 rfl
theorem q982 : (Jvm.Cond.fieldLinkNest "GargoyleTower" (115 : Nat) "GargoyleTower$Block" "isWithBed" "Z" "GargoyleTower") ∈ lw_tbl := lw_at lw_m4 188 rfl
theorem q985 : (Jvm.Cond.fieldLinkNest "GargoyleTower" (119 : Nat) "GargoyleTower$Block" "detail" "I" "GargoyleTower") ∈ lw_tbl := lw_at lw_m4 191 rfl
theorem q988 : (Jvm.Cond.fieldLinkNest "GargoyleTower" (122 : Nat) "GargoyleTower$Block" "damage" "I" "GargoyleTower") ∈ lw_tbl := lw_at lw_m4 194 rfl
theorem q991 : (Jvm.Cond.fieldLinkNest "GargoyleTower" (125 : Nat) "GargoyleTower$Block" "where" "I" "GargoyleTower") ∈ lw_tbl := lw_at lw_m4 197 rfl
theorem q994 : (Jvm.Cond.fieldLinkNest "GargoyleTower" (128 : Nat) "GargoyleTower$Block" "place" "I" "GargoyleTower") ∈ lw_tbl := lw_at lw_m4 200 rfl
theorem q996 : (Jvm.Cond.fieldLinkNest "GargoyleTower" (131 : Nat) "GargoyleTower$Block" "commission" "I" "GargoyleTower") ∈ lw_tbl := lw_at lw_m4 202 rfl
theorem q1052 : (Jvm.Cond.fieldLinkNest "GargoyleTower" (180 : Nat) "GargoyleTower$Rope" "strength" "I" "GargoyleTower") ∈ lw_tbl := lw_at lw_m5 18 rfl
theorem q1054 : (Jvm.Cond.fieldLinkNest "GargoyleTower" (185 : Nat) "GargoyleTower$Rope" "wear" "I" "GargoyleTower") ∈ lw_tbl := lw_at lw_m5 20 rfl
theorem q1058 : (Jvm.Cond.fieldLinkNest "GargoyleTower" (191 : Nat) "GargoyleTower$Rope" "block" "I" "GargoyleTower") ∈ lw_tbl := lw_at lw_m5 24 rfl
theorem q1078 : (Jvm.Cond.fieldLinkNest "GargoyleTower" (231 : Nat) "GargoyleTower$Commission" "face" "I" "GargoyleTower") ∈ lw_tbl := lw_at lw_m5 44 rfl
theorem q1081 : (Jvm.Cond.fieldLinkNest "GargoyleTower" (236 : Nat) "GargoyleTower$Commission" "detail" "I" "GargoyleTower") ∈ lw_tbl := lw_at lw_m5 47 rfl
theorem q1084 : (Jvm.Cond.fieldLinkNest "GargoyleTower" (237 : Nat) "GargoyleTower$Commission" "pay" "I" "GargoyleTower") ∈ lw_tbl := lw_at lw_m5 50 rfl
theorem q1087 : (Jvm.Cond.fieldLinkNest "GargoyleTower" (240 : Nat) "GargoyleTower$Commission" "block" "I" "GargoyleTower") ∈ lw_tbl := lw_at lw_m5 53 rfl
theorem q1105 : (Jvm.Cond.code ({ cls := "GargoyleTower", name := "block", desc := "(IZ)I" } : Jvm.MethodName) prog_1_method_11_code (3 : Nat) (Option.some Jvm.ClassFile.FieldType.int)) ∈ lw_all := lw_g (lw_at lw_m5 71 rfl) rfl
theorem q1106 : (Jvm.Cond.classLink "GargoyleTower" (78 : Nat) "GargoyleTower$Deed") ∈ lw_all := lw_g (lw_at lw_m5 72 rfl) rfl
theorem q1109 : (Jvm.Cond.methodLink "GargoyleTower" (92 : Nat) ({ cls := "GargoyleTower$Deed", name := "<init>", desc := "(Ljava/lang/String;II)V" } : Jvm.MethodName)) ∈ lw_all := lw_g (lw_at lw_m5 75 rfl) rfl
theorem q1129 : (Jvm.Cond.methodLink "GargoyleTower" (95 : Nat) ({ cls := "GargoyleTower", name := "carryOut", desc := "(LGargoyleTower$Deed;)I" } : Jvm.MethodName)) ∈ lw_all := lw_g (lw_at lw_m5 95 rfl) rfl
theorem q1131 : (Jvm.Cond.instanceMethod ({ cls := "GargoyleTower", name := "carryOut", desc := "(LGargoyleTower$Deed;)I" } : Jvm.MethodName)) ∈ lw_all := lw_g (lw_at lw_m5 97 rfl) rfl
theorem q1132 : (Jvm.Cond.codeWith ({ cls := "GargoyleTower", name := "carryOut", desc := "(LGargoyleTower$Deed;)I" } : Jvm.MethodName) prog_1_method_10_code (4 : Nat) (Option.some Jvm.ClassFile.FieldType.int) [((12 : Nat), (24 : Nat), (25 : Nat), (22 : Nat))]) ∈ lw_all := lw_g (lw_at lw_m5 98 rfl) rfl
theorem q1134 : (Jvm.Cond.methodLink "GargoyleTower" (77 : Nat) ({ cls := "GargoyleTower$Deed", name := "carryOut", desc := "(LGargoyleTower$World;)I" } : Jvm.MethodName)) ∈ lw_all := lw_g (lw_at lw_m5 100 rfl) rfl
theorem q1401 : (Jvm.Cond.methodLink "GargoyleTower" (83 : Nat) ({ cls := "GargoyleTower", name := "change", desc := "(LGargoyleTower$World;)V" } : Jvm.MethodName)) ∈ lw_all := lw_g (lw_at lw_m6 127 rfl) rfl
theorem q1403 : (Jvm.Cond.instanceMethod ({ cls := "GargoyleTower", name := "change", desc := "(LGargoyleTower$World;)V" } : Jvm.MethodName)) ∈ lw_all := lw_g (lw_at lw_m6 129 rfl) rfl
theorem q1404 : (Jvm.Cond.code ({ cls := "GargoyleTower", name := "change", desc := "(LGargoyleTower$World;)V" } : Jvm.MethodName) prog_1_method_8_code (3 : Nat) (Option.none : Option Jvm.ClassFile.FieldType)) ∈ lw_all := lw_g (lw_at lw_m6 130 rfl) rfl
theorem q1405 : (Jvm.Cond.methodLink "GargoyleTower" (55 : Nat) ({ cls := "java/util/ArrayDeque", name := "size", desc := "()I" } : Jvm.MethodName)) ∈ lw_all := lw_g (lw_at lw_m6 131 rfl) rfl
theorem q1406 : (Jvm.Cond.instanceMethod ({ cls := "java/util/ArrayDeque", name := "size", desc := "()I" } : Jvm.MethodName)) ∈ lw_all := lw_g (lw_at lw_m6 132 rfl) rfl
theorem q1407 : (Jvm.Cond.selects "java/util/ArrayDeque" ({ cls := "java/util/ArrayDeque", name := "size", desc := "()I" } : Jvm.MethodName) ({ cls := "java/util/ArrayDeque", name := "size", desc := "()I" } : Jvm.MethodName)) ∈ lw_all := lw_g (lw_at lw_m6 133 rfl) rfl
theorem q1412 : (Jvm.Cond.methodLink "GargoyleTower" (59 : Nat) ({ cls := "java/util/ArrayDeque", name := "removeFirst", desc := "()Ljava/lang/Object;" } : Jvm.MethodName)) ∈ lw_all := lw_g (lw_at lw_m6 138 rfl) rfl
theorem q1413 : (Jvm.Cond.instanceMethod ({ cls := "java/util/ArrayDeque", name := "removeFirst", desc := "()Ljava/lang/Object;" } : Jvm.MethodName)) ∈ lw_all := lw_g (lw_at lw_m6 139 rfl) rfl
theorem q1414 : (Jvm.Cond.selects "java/util/ArrayDeque" ({ cls := "java/util/ArrayDeque", name := "removeFirst", desc := "()Ljava/lang/Object;" } : Jvm.MethodName) ({ cls := "java/util/ArrayDeque", name := "removeFirst", desc := "()Ljava/lang/Object;" } : Jvm.MethodName)) ∈ lw_all := lw_g (lw_at lw_m6 140 rfl) rfl
theorem q1428 : (Jvm.Cond.methodLink "GargoyleTower" (63 : Nat) ({ cls := "java/util/ArrayDeque", name := "addLast", desc := "(Ljava/lang/Object;)V" } : Jvm.MethodName)) ∈ lw_all := lw_g (lw_at lw_m6 154 rfl) rfl
theorem q1429 : (Jvm.Cond.instanceMethod ({ cls := "java/util/ArrayDeque", name := "addLast", desc := "(Ljava/lang/Object;)V" } : Jvm.MethodName)) ∈ lw_all := lw_g (lw_at lw_m6 155 rfl) rfl
theorem q1430 : (Jvm.Cond.selects "java/util/ArrayDeque" ({ cls := "java/util/ArrayDeque", name := "addLast", desc := "(Ljava/lang/Object;)V" } : Jvm.MethodName) ({ cls := "java/util/ArrayDeque", name := "addLast", desc := "(Ljava/lang/Object;)V" } : Jvm.MethodName)) ∈ lw_all := lw_g (lw_at lw_m6 156 rfl) rfl
theorem q1460 : (Jvm.Cond.methodLink "GargoyleTower" (86 : Nat) ({ cls := "GargoyleTower", name := "refused", desc := "(LGargoyleTower$RefusedException;)I" } : Jvm.MethodName)) ∈ lw_all := lw_g (lw_at lw_m6 186 rfl) rfl
theorem q1462 : (Jvm.Cond.instanceMethod ({ cls := "GargoyleTower", name := "refused", desc := "(LGargoyleTower$RefusedException;)I" } : Jvm.MethodName)) ∈ lw_all := lw_g (lw_at lw_m6 188 rfl) rfl
theorem q1463 : (Jvm.Cond.code ({ cls := "GargoyleTower", name := "refused", desc := "(LGargoyleTower$RefusedException;)I" } : Jvm.MethodName) prog_1_method_9_code (2 : Nat) (Option.some Jvm.ClassFile.FieldType.int)) ∈ lw_all := lw_g (lw_at lw_m6 189 rfl) rfl
theorem q1464 : (Jvm.Cond.classLink "GargoyleTower" (71 : Nat) "java/lang/UnsupportedOperationException") ∈ lw_all := lw_g (lw_at lw_m6 190 rfl) rfl
theorem q1501 : (Jvm.Cond.code ({ cls := "GargoyleTower", name := "carve", desc := "(II)I" } : Jvm.MethodName) prog_1_method_12_code (3 : Nat) (Option.some Jvm.ClassFile.FieldType.int)) ∈ lw_all := lw_g (lw_at lw_m6 227 rfl) rfl
theorem q1509 : (Jvm.Cond.code ({ cls := "GargoyleTower", name := "whet", desc := "()I" } : Jvm.MethodName) prog_1_method_13_code (1 : Nat) (Option.some Jvm.ClassFile.FieldType.int)) ∈ lw_all := lw_g (lw_at lw_m6 235 rfl) rfl
theorem q1517 : (Jvm.Cond.code ({ cls := "GargoyleTower", name := "blockOf", desc := "(II)I" } : Jvm.MethodName) prog_1_method_14_code (4 : Nat) (Option.some Jvm.ClassFile.FieldType.int)) ∈ lw_all := lw_g (lw_at lw_m7 3 rfl) rfl
theorem q1518 : (Jvm.Cond.methodLink "GargoyleTower" (102 : Nat) ({ cls := "GargoyleTower$World", name := "block", desc := "(I)LGargoyleTower$Block;" } : Jvm.MethodName)) ∈ lw_all := lw_g (lw_at lw_m7 4 rfl) rfl
theorem q1519 : (Jvm.Cond.methodLink "GargoyleTower" (105 : Nat) ({ cls := "GargoyleTower", name := "checkArgument", desc := "(Z)V" } : Jvm.MethodName)) ∈ lw_all := lw_g (lw_at lw_m7 5 rfl) rfl
theorem q1527 : (Jvm.Cond.code ({ cls := "GargoyleTower", name := "ranked", desc := "(I)I" } : Jvm.MethodName) prog_1_method_16_code (6 : Nat) (Option.some Jvm.ClassFile.FieldType.int)) ∈ lw_all := lw_g (lw_at lw_m7 13 rfl) rfl
theorem q1528 : (Jvm.Cond.classLink "GargoyleTower" (134 : Nat) "java/util/LinkedList") ∈ lw_all := lw_g (lw_at lw_m7 14 rfl) rfl
theorem q1529 : (Jvm.Cond.methodLink "GargoyleTower" (136 : Nat) ({ cls := "java/util/LinkedList", name := "<init>", desc := "()V" } : Jvm.MethodName)) ∈ lw_all := lw_g (lw_at lw_m7 15 rfl) rfl
theorem q1548 : (Jvm.Cond.methodLink "GargoyleTower" (156 : Nat) ({ cls := "java/util/LinkedList", name := "size", desc := "()I" } : Jvm.MethodName)) ∈ lw_all := lw_g (lw_at lw_m7 34 rfl) rfl
theorem q1549 : (Jvm.Cond.methodLink "GargoyleTower" (157 : Nat) ({ cls := "java/util/LinkedList", name := "get", desc := "(I)Ljava/lang/Object;" } : Jvm.MethodName)) ∈ lw_all := lw_g (lw_at lw_m7 35 rfl) rfl
theorem q1550 : (Jvm.Cond.methodLink "GargoyleTower" (161 : Nat) ({ cls := "GargoyleTower", name := "isAhead", desc := "(LGargoyleTower$Block;LGargoyleTower$Block;)Z" } : Jvm.MethodName)) ∈ lw_all := lw_g (lw_at lw_m7 36 rfl) rfl
theorem q1551 : (Jvm.Cond.static ({ cls := "GargoyleTower", name := "isAhead", desc := "(LGargoyleTower$Block;LGargoyleTower$Block;)Z" } : Jvm.MethodName)) ∈ lw_all := lw_g (lw_at lw_m7 37 rfl) rfl
theorem q1552 : (Jvm.Cond.code ({ cls := "GargoyleTower", name := "isAhead", desc := "(LGargoyleTower$Block;LGargoyleTower$Block;)Z" } : Jvm.MethodName) prog_1_method_15_code (2 : Nat) (Option.some Jvm.ClassFile.FieldType.boolean)) ∈ lw_all := lw_g (lw_at lw_m7 38 rfl) rfl
theorem q1553 : (Jvm.Cond.methodLink "GargoyleTower" (165 : Nat) ({ cls := "java/util/LinkedList", name := "add", desc := "(ILjava/lang/Object;)V" } : Jvm.MethodName)) ∈ lw_all := lw_g (lw_at lw_m7 39 rfl) rfl
theorem q1554 : (Jvm.Cond.instanceMethod ({ cls := "java/util/LinkedList", name := "add", desc := "(ILjava/lang/Object;)V" } : Jvm.MethodName)) ∈ lw_all := lw_g (lw_at lw_m7 40 rfl) rfl
theorem q1555 : (Jvm.Cond.selects "java/util/LinkedList" ({ cls := "java/util/LinkedList", name := "add", desc := "(ILjava/lang/Object;)V" } : Jvm.MethodName) ({ cls := "java/util/LinkedList", name := "add", desc := "(ILjava/lang/Object;)V" } : Jvm.MethodName)) ∈ lw_all := lw_g (lw_at lw_m7 41 rfl) rfl
theorem q1594 : (Jvm.Cond.methodLink "GargoyleTower" (169 : Nat) ({ cls := "GargoyleTower", name := "checkFound", desc := "(Z)V" } : Jvm.MethodName)) ∈ lw_all := lw_g (lw_at lw_m7 80 rfl) rfl
theorem q1595 : (Jvm.Cond.static ({ cls := "GargoyleTower", name := "checkFound", desc := "(Z)V" } : Jvm.MethodName)) ∈ lw_all := lw_g (lw_at lw_m7 81 rfl) rfl
theorem q1605 : (Jvm.Cond.code ({ cls := "GargoyleTower", name := "rope", desc := "(I)I" } : Jvm.MethodName) prog_1_method_17_code (2 : Nat) (Option.some Jvm.ClassFile.FieldType.int)) ∈ lw_all := lw_g (lw_at lw_m7 91 rfl) rfl
theorem q1613 : (Jvm.Cond.code ({ cls := "GargoyleTower", name := "ropeOf", desc := "(II)I" } : Jvm.MethodName) prog_1_method_18_code (4 : Nat) (Option.some Jvm.ClassFile.FieldType.int)) ∈ lw_all := lw_g (lw_at lw_m7 99 rfl) rfl
theorem q1614 : (Jvm.Cond.methodLink "GargoyleTower" (177 : Nat) ({ cls := "GargoyleTower$World", name := "rope", desc := "(I)LGargoyleTower$Rope;" } : Jvm.MethodName)) ∈ lw_all := lw_g (lw_at lw_m7 100 rfl) rfl
theorem q1621 : (Jvm.Cond.code ({ cls := "GargoyleTower", name := "hoist", desc := "(II)I" } : Jvm.MethodName) prog_1_method_19_code (3 : Nat) (Option.some Jvm.ClassFile.FieldType.int)) ∈ lw_all := lw_g (lw_at lw_m7 107 rfl) rfl
theorem q1629 : (Jvm.Cond.code ({ cls := "GargoyleTower", name := "lower", desc := "(I)I" } : Jvm.MethodName) prog_1_method_20_code (2 : Nat) (Option.some Jvm.ClassFile.FieldType.int)) ∈ lw_all := lw_g (lw_at lw_m7 115 rfl) rfl
theorem q1637 : (Jvm.Cond.code ({ cls := "GargoyleTower", name := "set", desc := "(II)I" } : Jvm.MethodName) prog_1_method_21_code (3 : Nat) (Option.some Jvm.ClassFile.FieldType.int)) ∈ lw_all := lw_g (lw_at lw_m7 123 rfl) rfl
theorem q1645 : (Jvm.Cond.code ({ cls := "GargoyleTower", name := "blockIn", desc := "(I)I" } : Jvm.MethodName) prog_1_method_22_code (3 : Nat) (Option.some Jvm.ClassFile.FieldType.int)) ∈ lw_all := lw_g (lw_at lw_m7 131 rfl) rfl
theorem q1646 : (Jvm.Cond.methodLink "GargoyleTower" (202 : Nat) ({ cls := "GargoyleTower", name := "checkIndex", desc := "(II)V" } : Jvm.MethodName)) ∈ lw_all := lw_g (lw_at lw_m7 132 rfl) rfl
theorem q1653 : (Jvm.Cond.code ({ cls := "GargoyleTower", name := "weightOn", desc := "(I)I" } : Jvm.MethodName) prog_1_method_23_code (5 : Nat) (Option.some Jvm.ClassFile.FieldType.int)) ∈ lw_all := lw_g (lw_at lw_m7 139 rfl) rfl
theorem q1660 : (Jvm.Cond.code ({ cls := "GargoyleTower", name := "wouldFall", desc := "(I)I" } : Jvm.MethodName) prog_1_method_24_code (8 : Nat) (Option.some Jvm.ClassFile.FieldType.int)) ∈ lw_all := lw_g (lw_at lw_m7 146 rfl) rfl
theorem q1661 : (Jvm.Cond.methodLink "GargoyleTower" (208 : Nat) ({ cls := "GargoyleTower$World", name := "fall", desc := "(LGargoyleTower$Block;)I" } : Jvm.MethodName)) ∈ lw_all := lw_g (lw_at lw_m7 147 rfl) rfl
theorem q1668 : (Jvm.Cond.code ({ cls := "GargoyleTower", name := "wouldFallAgain", desc := "(I)I" } : Jvm.MethodName) prog_1_method_25_code (5 : Nat) (Option.some Jvm.ClassFile.FieldType.int)) ∈ lw_all := lw_g (lw_at lw_m7 154 rfl) rfl
theorem q1669 : (Jvm.Cond.methodLink "GargoyleTower" (213 : Nat) ({ cls := "GargoyleTower$World", name := "blockBelow", desc := "(I)LGargoyleTower$Block;" } : Jvm.MethodName)) ∈ lw_all := lw_g (lw_at lw_m7 155 rfl) rfl
theorem q1670 : (Jvm.Cond.declares ({ cls := "GargoyleTower$Hit", name := "wouldBeLoose", desc := "(I)Z" } : Jvm.MethodName)) ∈ lw_tbl := lw_at lw_m7 156 rfl
theorem q1672 : (Jvm.Cond.instanceMethod ({ cls := "GargoyleTower$Hit", name := "wouldBeLoose", desc := "(I)Z" } : Jvm.MethodName)) ∈ lw_all := lw_g (lw_at lw_m7 158 rfl) rfl
theorem q1681 : (Jvm.Cond.code ({ cls := "GargoyleTower", name := "push", desc := "(I)I" } : Jvm.MethodName) prog_1_method_26_code (2 : Nat) (Option.some Jvm.ClassFile.FieldType.int)) ∈ lw_all := lw_g (lw_at lw_m7 167 rfl) rfl
theorem q1689 : (Jvm.Cond.code ({ cls := "GargoyleTower", name := "commission", desc := "(III)I" } : Jvm.MethodName) prog_1_method_27_code (4 : Nat) (Option.some Jvm.ClassFile.FieldType.int)) ∈ lw_all := lw_g (lw_at lw_m7 175 rfl) rfl
theorem q1691 : (Jvm.Cond.methodLink "GargoyleTower" (223 : Nat) ({ cls := "GargoyleTower$Deed", name := "<init>", desc := "(Ljava/lang/String;III)V" } : Jvm.MethodName)) ∈ lw_all := lw_g (lw_at lw_m7 177 rfl) rfl
theorem q1698 : (Jvm.Cond.code ({ cls := "GargoyleTower", name := "deliver", desc := "(II)I" } : Jvm.MethodName) prog_1_method_28_code (3 : Nat) (Option.some Jvm.ClassFile.FieldType.int)) ∈ lw_all := lw_g (lw_at lw_m7 184 rfl) rfl
theorem q1706 : (Jvm.Cond.code ({ cls := "GargoyleTower", name := "commissionOf", desc := "(II)I" } : Jvm.MethodName) prog_1_method_29_code (4 : Nat) (Option.some Jvm.ClassFile.FieldType.int)) ∈ lw_all := lw_g (lw_at lw_m7 192 rfl) rfl
theorem q1707 : (Jvm.Cond.methodLink "GargoyleTower" (228 : Nat) ({ cls := "GargoyleTower$World", name := "commission", desc := "(I)LGargoyleTower$Commission;" } : Jvm.MethodName)) ∈ lw_all := lw_g (lw_at lw_m7 193 rfl) rfl
theorem q1708 : (Jvm.Cond.methodLink "GargoyleTower" (241 : Nat) ({ cls := "GargoyleTower$World", name := "nicheFor", desc := "(LGargoyleTower$Commission;)I" } : Jvm.MethodName)) ∈ lw_all := lw_g (lw_at lw_m7 194 rfl) rfl
theorem q1709 : (Jvm.Cond.instanceMethod ({ cls := "GargoyleTower$World", name := "nicheFor", desc := "(LGargoyleTower$Commission;)I" } : Jvm.MethodName)) ∈ lw_all := lw_g (lw_at lw_m7 195 rfl) rfl
theorem q1710 : (Jvm.Cond.selects "GargoyleTower$World" ({ cls := "GargoyleTower$World", name := "nicheFor", desc := "(LGargoyleTower$Commission;)I" } : Jvm.MethodName) ({ cls := "GargoyleTower$World", name := "nicheFor", desc := "(LGargoyleTower$Commission;)I" } : Jvm.MethodName)) ∈ lw_all := lw_g (lw_at lw_m7 196 rfl) rfl
theorem q1718 : (Jvm.Cond.code ({ cls := "GargoyleTower", name := "paidFor", desc := "(I)I" } : Jvm.MethodName) prog_1_method_31_code (2 : Nat) (Option.some Jvm.ClassFile.FieldType.int)) ∈ lw_all := lw_g (lw_at lw_m7 204 rfl) rfl
theorem q1725 : (Jvm.Cond.code ({ cls := "GargoyleTower", name := "seed", desc := "(I)I" } : Jvm.MethodName) prog_1_method_32_code (2 : Nat) (Option.some Jvm.ClassFile.FieldType.int)) ∈ lw_all := lw_g (lw_at lw_m7 211 rfl) rfl
theorem q1733 : (Jvm.Cond.code ({ cls := "GargoyleTower", name := "weather", desc := "(I)I" } : Jvm.MethodName) prog_1_method_33_code (4 : Nat) (Option.some Jvm.ClassFile.FieldType.int)) ∈ lw_all := lw_g (lw_at lw_m7 219 rfl) rfl
theorem q1734 : (Jvm.Cond.classLink "GargoyleTower" (257 : Nat) "GargoyleTower$Weather") ∈ lw_all := lw_g (lw_at lw_m7 220 rfl) rfl
theorem q1735 : (Jvm.Cond.methodLink "GargoyleTower" (263 : Nat) ({ cls := "GargoyleTower$Weather", name := "<init>", desc := "(LGargoyleTower$Weather;)V" } : Jvm.MethodName)) ∈ lw_all := lw_g (lw_at lw_m7 221 rfl) rfl
theorem q1736 : (Jvm.Cond.methodLink "GargoyleTower" (266 : Nat) ({ cls := "GargoyleTower$Weather", name := "draw", desc := "()V" } : Jvm.MethodName)) ∈ lw_all := lw_g (lw_at lw_m7 222 rfl) rfl
theorem q1737 : (Jvm.Cond.methodLink "GargoyleTower" (269 : Nat) ({ cls := "GargoyleTower$Weather", name := "face", desc := "()I" } : Jvm.MethodName)) ∈ lw_all := lw_g (lw_at lw_m7 223 rfl) rfl
theorem q1738 : (Jvm.Cond.methodLink "GargoyleTower" (271 : Nat) ({ cls := "GargoyleTower$Weather", name := "isStorm", desc := "()Z" } : Jvm.MethodName)) ∈ lw_all := lw_g (lw_at lw_m7 224 rfl) rfl
theorem q1745 : (Jvm.Cond.code ({ cls := "GargoyleTower", name := "pass", desc := "(I)I" } : Jvm.MethodName) prog_1_method_34_code (2 : Nat) (Option.some Jvm.ClassFile.FieldType.int)) ∈ lw_all := lw_g (lw_at lw_m7 231 rfl) rfl
theorem q1753 : (Jvm.Cond.code ({ cls := "GargoyleTower", name := "brokenIn", desc := "(I)I" } : Jvm.MethodName) prog_1_method_35_code (6 : Nat) (Option.some Jvm.ClassFile.FieldType.int)) ∈ lw_all := lw_g (lw_at lw_m7 239 rfl) rfl
theorem q1754 : (Jvm.Cond.methodLink "GargoyleTower" (276 : Nat) ({ cls := "GargoyleTower$World", name := "endDay", desc := "()I" } : Jvm.MethodName)) ∈ lw_all := lw_g (lw_at lw_m8 0 rfl) rfl
theorem q1761 : (Jvm.Cond.code ({ cls := "GargoyleTower", name := "line", desc := "(I)I" } : Jvm.MethodName) prog_1_method_39_code (4 : Nat) (Option.some Jvm.ClassFile.FieldType.int)) ∈ lw_all := lw_g (lw_at lw_m8 7 rfl) rfl
theorem q1762 : (Jvm.Cond.methodLink "GargoyleTower" (303 : Nat) ({ cls := "java/lang/StringBuilder", name := "setLength", desc := "(I)V" } : Jvm.MethodName)) ∈ lw_all := lw_g (lw_at lw_m8 8 rfl) rfl
theorem q1763 : (Jvm.Cond.instanceMethod ({ cls := "java/lang/StringBuilder", name := "setLength", desc := "(I)V" } : Jvm.MethodName)) ∈ lw_all := lw_g (lw_at lw_m8 9 rfl) rfl
theorem q1764 : (Jvm.Cond.selects "java/lang/StringBuilder" ({ cls := "java/lang/StringBuilder", name := "setLength", desc := "(I)V" } : Jvm.MethodName) ({ cls := "java/lang/StringBuilder", name := "setLength", desc := "(I)V" } : Jvm.MethodName)) ∈ lw_all := lw_g (lw_at lw_m8 10 rfl) rfl
theorem q1814 : (Jvm.Cond.methodLink "GargoyleTower" (307 : Nat) ({ cls := "GargoyleTower", name := "shown", desc := "(LGargoyleTower$Block;)Ljava/lang/CharSequence;" } : Jvm.MethodName)) ∈ lw_all := lw_g (lw_at lw_m8 60 rfl) rfl
theorem q1815 : (Jvm.Cond.static ({ cls := "GargoyleTower", name := "shown", desc := "(LGargoyleTower$Block;)Ljava/lang/CharSequence;" } : Jvm.MethodName)) ∈ lw_all := lw_g (lw_at lw_m8 61 rfl) rfl
theorem q1816 : (Jvm.Cond.code ({ cls := "GargoyleTower", name := "shown", desc := "(LGargoyleTower$Block;)Ljava/lang/CharSequence;" } : Jvm.MethodName) prog_1_method_38_code (4 : Nat) (Option.some (Jvm.ClassFile.FieldType.object "java/lang/CharSequence"))) ∈ lw_all := lw_g (lw_at lw_m8 62 rfl) rfl
theorem q1818 : (Jvm.Cond.methodLink "GargoyleTower" (293 : Nat) ({ cls := "java/lang/StringBuilder", name := "<init>", desc := "(Ljava/lang/String;)V" } : Jvm.MethodName)) ∈ lw_all := lw_g (lw_at lw_m8 64 rfl) rfl
theorem q1819 : (Jvm.Cond.instanceMethod ({ cls := "java/lang/StringBuilder", name := "<init>", desc := "(Ljava/lang/String;)V" } : Jvm.MethodName)) ∈ lw_all := lw_g (lw_at lw_m8 65 rfl) rfl
theorem q1829 : (Jvm.Cond.methodLink "GargoyleTower" (296 : Nat) ({ cls := "java/lang/StringBuilder", name := "append", desc := "(I)Ljava/lang/StringBuilder;" } : Jvm.MethodName)) ∈ lw_all := lw_g (lw_at lw_m8 75 rfl) rfl
theorem q1830 : (Jvm.Cond.methodLink "GargoyleTower" (300 : Nat) ({ cls := "java/lang/StringBuilder", name := "append", desc := "(C)Ljava/lang/StringBuilder;" } : Jvm.MethodName)) ∈ lw_all := lw_g (lw_at lw_m8 76 rfl) rfl
theorem q1831 : (Jvm.Cond.instanceMethod ({ cls := "java/lang/StringBuilder", name := "append", desc := "(C)Ljava/lang/StringBuilder;" } : Jvm.MethodName)) ∈ lw_all := lw_g (lw_at lw_m8 77 rfl) rfl
theorem q1832 : (Jvm.Cond.selects "java/lang/StringBuilder" ({ cls := "java/lang/StringBuilder", name := "append", desc := "(C)Ljava/lang/StringBuilder;" } : Jvm.MethodName) ({ cls := "java/lang/StringBuilder", name := "append", desc := "(C)Ljava/lang/StringBuilder;" } : Jvm.MethodName)) ∈ lw_all := lw_g (lw_at lw_m8 78 rfl) rfl
theorem q1850 : (Jvm.Cond.methodLink "GargoyleTower" (311 : Nat) ({ cls := "java/lang/StringBuilder", name := "append", desc := "(Ljava/lang/CharSequence;)Ljava/lang/StringBuilder;" } : Jvm.MethodName)) ∈ lw_all := lw_g (lw_at lw_m8 96 rfl) rfl
theorem q1851 : (Jvm.Cond.instanceMethod ({ cls := "java/lang/StringBuilder", name := "append", desc := "(Ljava/lang/CharSequence;)Ljava/lang/StringBuilder;" } : Jvm.MethodName)) ∈ lw_all := lw_g (lw_at lw_m8 97 rfl) rfl
theorem q1852 : (Jvm.Cond.selects "java/lang/StringBuilder" ({ cls := "java/lang/StringBuilder", name := "append", desc := "(Ljava/lang/CharSequence;)Ljava/lang/StringBuilder;" } : Jvm.MethodName) ({ cls := "java/lang/StringBuilder", name := "append", desc := "(Ljava/lang/CharSequence;)Ljava/lang/StringBuilder;" } : Jvm.MethodName)) ∈ lw_all := lw_g (lw_at lw_m8 98 rfl) rfl
theorem q1940 : (Jvm.Cond.instanceMethod ({ cls := "java/lang/StringBuilder", name := "charAt", desc := "(I)C" } : Jvm.MethodName)) ∈ lw_all := lw_g (lw_at lw_m8 186 rfl) rfl
theorem q1955 : (Jvm.Cond.methodLink "GargoyleTower" (314 : Nat) ({ cls := "java/lang/StringBuilder", name := "length", desc := "()I" } : Jvm.MethodName)) ∈ lw_all := lw_g (lw_at lw_m8 201 rfl) rfl
theorem q1962 : (Jvm.Cond.code ({ cls := "GargoyleTower", name := "character", desc := "(I)C" } : Jvm.MethodName) prog_1_method_40_code (2 : Nat) (Option.some Jvm.ClassFile.FieldType.char)) ∈ lw_all := lw_g (lw_at lw_m8 208 rfl) rfl
theorem q1963 : (Jvm.Cond.methodLink "GargoyleTower" (317 : Nat) ({ cls := "java/lang/StringBuilder", name := "charAt", desc := "(I)C" } : Jvm.MethodName)) ∈ lw_all := lw_g (lw_at lw_m8 209 rfl) rfl
theorem q1984 : (Jvm.Cond.code ({ cls := "GargoyleTower", name := "meanDetail", desc := "()D" } : Jvm.MethodName) prog_1_method_43_code (5 : Nat) (Option.some Jvm.ClassFile.FieldType.double)) ∈ lw_all := lw_g (lw_at lw_m8 230 rfl) rfl
theorem q1985 : (Jvm.Cond.methodLink "GargoyleTower" (334 : Nat) ({ cls := "GargoyleTower$World", name := "count", desc := "(I)I" } : Jvm.MethodName)) ∈ lw_all := lw_g (lw_at lw_m8 231 rfl) rfl
theorem q1986 : (Jvm.Cond.instanceMethod ({ cls := "GargoyleTower$World", name := "count", desc := "(I)I" } : Jvm.MethodName)) ∈ lw_all := lw_g (lw_at lw_m8 232 rfl) rfl
theorem q1987 : (Jvm.Cond.selects "GargoyleTower$World" ({ cls := "GargoyleTower$World", name := "count", desc := "(I)I" } : Jvm.MethodName) ({ cls := "GargoyleTower$World", name := "count", desc := "(I)I" } : Jvm.MethodName)) ∈ lw_all := lw_g (lw_at lw_m8 233 rfl) rfl
theorem q1989 : (Jvm.Cond.classLink "GargoyleTower" (337 : Nat) "java/lang/ArithmeticException") ∈ lw_all := lw_g (lw_at lw_m8 235 rfl) rfl
theorem q2000 : (Jvm.Cond.code ({ cls := "GargoyleTower", name := "brokenShare", desc := "()F" } : Jvm.MethodName) prog_1_method_44_code (1 : Nat) (Option.some Jvm.ClassFile.FieldType.float)) ∈ lw_all := lw_g (lw_at lw_m9 6 rfl) rfl
theorem q2001 : (Jvm.Cond.methodLink "GargoyleTower" (340 : Nat) ({ cls := "java/util/ArrayList", name := "isEmpty", desc := "()Z" } : Jvm.MethodName)) ∈ lw_all := lw_g (lw_at lw_m9 7 rfl) rfl
theorem q2002 : (Jvm.Cond.instanceMethod ({ cls := "java/util/ArrayList", name := "isEmpty", desc := "()Z" } : Jvm.MethodName)) ∈ lw_all := lw_g (lw_at lw_m9 8 rfl) rfl
theorem q2003 : (Jvm.Cond.selects "java/util/ArrayList" ({ cls := "java/util/ArrayList", name := "isEmpty", desc := "()Z" } : Jvm.MethodName) ({ cls := "java/util/ArrayList", name := "isEmpty", desc := "()Z" } : Jvm.MethodName)) ∈ lw_all := lw_g (lw_at lw_m9 9 rfl) rfl
theorem q2005 : (Jvm.Cond.methodLink "GargoyleTower" (343 : Nat) ({ cls := "java/util/ArrayList", name := "size", desc := "()I" } : Jvm.MethodName)) ∈ lw_all := lw_g (lw_at lw_m9 11 rfl) rfl
theorem q2033 : (Jvm.Cond.code ({ cls := "GargoyleTower", name := "account", desc := "(I)I" } : Jvm.MethodName) prog_1_method_48_code (2 : Nat) (Option.some Jvm.ClassFile.FieldType.int)) ∈ lw_all := lw_g (lw_at lw_m9 39 rfl) rfl
theorem q2034 : (Jvm.Cond.methodLink "GargoyleTower" (361 : Nat) ({ cls := "GargoyleTower", name := "torn", desc := "()I" } : Jvm.MethodName)) ∈ lw_all := lw_g (lw_at lw_m9 40 rfl) rfl
theorem q2036 : (Jvm.Cond.instanceMethod ({ cls := "GargoyleTower", name := "torn", desc := "()I" } : Jvm.MethodName)) ∈ lw_all := lw_g (lw_at lw_m9 42 rfl) rfl
theorem q2037 : (Jvm.Cond.code ({ cls := "GargoyleTower", name := "torn", desc := "()I" } : Jvm.MethodName) prog_1_method_46_code (4 : Nat) (Option.some Jvm.ClassFile.FieldType.int)) ∈ lw_all := lw_g (lw_at lw_m9 43 rfl) rfl
theorem q2038 : (Jvm.Cond.methodLink "GargoyleTower" (364 : Nat) ({ cls := "GargoyleTower", name := "fulfilled", desc := "()I" } : Jvm.MethodName)) ∈ lw_all := lw_g (lw_at lw_m9 44 rfl) rfl
theorem q2040 : (Jvm.Cond.instanceMethod ({ cls := "GargoyleTower", name := "fulfilled", desc := "()I" } : Jvm.MethodName)) ∈ lw_all := lw_g (lw_at lw_m9 46 rfl) rfl
theorem q2041 : (Jvm.Cond.code ({ cls := "GargoyleTower", name := "fulfilled", desc := "()I" } : Jvm.MethodName) prog_1_method_47_code (4 : Nat) (Option.some Jvm.ClassFile.FieldType.int)) ∈ lw_all := lw_g (lw_at lw_m9 47 rfl) rfl
theorem q2049 : (Jvm.Cond.code ({ cls := "GargoyleTower", name := "feed", desc := "(C)I" } : Jvm.MethodName) prog_1_method_49_code (2 : Nat) (Option.some Jvm.ClassFile.FieldType.int)) ∈ lw_all := lw_g (lw_at lw_m9 55 rfl) rfl
theorem q2050 : (Jvm.Cond.methodLink "GargoyleTower" (373 : Nat) ({ cls := "GargoyleTower", name := "checkState", desc := "(Z)V" } : Jvm.MethodName)) ∈ lw_all := lw_g (lw_at lw_m9 56 rfl) rfl
theorem q2051 : (Jvm.Cond.static ({ cls := "GargoyleTower", name := "checkState", desc := "(Z)V" } : Jvm.MethodName)) ∈ lw_all := lw_g (lw_at lw_m9 57 rfl) rfl
theorem q2064 : (Jvm.Cond.codeWith ({ cls := "GargoyleTower", name := "perform", desc := "()I" } : Jvm.MethodName) prog_1_method_52_code (4 : Nat) (Option.some Jvm.ClassFile.FieldType.int) [((0 : Nat), (16 : Nat), (23 : Nat), (396 : Nat)), ((0 : Nat), (16 : Nat), (39 : Nat), (22 : Nat)), ((0 : Nat), (16 : Nat), (53 : Nat), (0 : Nat)), ((23 : Nat), (32 : Nat), (53 : Nat), (0 : Nat)), ((39 : Nat), (46 : Nat), (53 : Nat), (0 : Nat))]) ∈ lw_all := lw_g (lw_at lw_m9 70 rfl) rfl
theorem q2065 : (Jvm.Cond.classLink "GargoyleTower" (396 : Nat) "GargoyleTower$TextException") ∈ lw_all := lw_g (lw_at lw_m9 71 rfl) rfl
theorem q2066 : (Jvm.Cond.classLink "GargoyleTower" (383 : Nat) "GargoyleTower$Reader") ∈ lw_all := lw_g (lw_at lw_m9 72 rfl) rfl
theorem q2067 : (Jvm.Cond.instantiable "GargoyleTower$Reader" (2 : Nat)) ∈ lw_all := lw_g (lw_at lw_m9 73 rfl) rfl
theorem q2068 : (Jvm.Cond.methodLinkNest "GargoyleTower" (385 : Nat) ({ cls := "GargoyleTower$Reader", name := "<init>", desc := "(LGargoyleTower;)V" } : Jvm.MethodName) "GargoyleTower") ∈ lw_tbl := lw_at lw_m9 74 rfl
theorem q2069 : (Jvm.Cond.instanceMethod ({ cls := "GargoyleTower$Reader", name := "<init>", desc := "(LGargoyleTower;)V" } : Jvm.MethodName)) ∈ lw_all := lw_g (lw_at lw_m9 75 rfl) rfl
theorem q2079 : (Jvm.Cond.methodLink "GargoyleTower" (388 : Nat) ({ cls := "GargoyleTower$Reader", name := "all", desc := "()Ljava/util/LinkedList;" } : Jvm.MethodName)) ∈ lw_all := lw_g (lw_at lw_m9 85 rfl) rfl
theorem q2080 : (Jvm.Cond.instanceMethod ({ cls := "GargoyleTower$Reader", name := "all", desc := "()Ljava/util/LinkedList;" } : Jvm.MethodName)) ∈ lw_all := lw_g (lw_at lw_m9 86 rfl) rfl
theorem q2081 : (Jvm.Cond.selects "GargoyleTower$Reader" ({ cls := "GargoyleTower$Reader", name := "all", desc := "()Ljava/util/LinkedList;" } : Jvm.MethodName) ({ cls := "GargoyleTower$Reader", name := "all", desc := "()Ljava/util/LinkedList;" } : Jvm.MethodName)) ∈ lw_all := lw_g (lw_at lw_m9 87 rfl) rfl
theorem q2107 : (Jvm.Cond.castable "GargoyleTower$TextException" "GargoyleTower$TextException") ∈ lw_tbl := lw_at lw_m9 113 rfl
theorem q2119 : (Jvm.Cond.fieldLinkNest "GargoyleTower" (398 : Nat) "GargoyleTower$TextException" "position" "I" "GargoyleTower") ∈ lw_tbl := lw_at lw_m9 125 rfl
theorem q2171 : (Jvm.Cond.methodLink "GargoyleTower" (392 : Nat) ({ cls := "GargoyleTower", name := "carryOutAll", desc := "(Ljava/util/LinkedList;)I" } : Jvm.MethodName)) ∈ lw_all := lw_g (lw_at lw_m9 177 rfl) rfl
theorem q2173 : (Jvm.Cond.instanceMethod ({ cls := "GargoyleTower", name := "carryOutAll", desc := "(Ljava/util/LinkedList;)I" } : Jvm.MethodName)) ∈ lw_all := lw_g (lw_at lw_m9 179 rfl) rfl
theorem q2174 : (Jvm.Cond.code ({ cls := "GargoyleTower", name := "carryOutAll", desc := "(Ljava/util/LinkedList;)I" } : Jvm.MethodName) prog_1_method_51_code (6 : Nat) (Option.some Jvm.ClassFile.FieldType.int)) ∈ lw_all := lw_g (lw_at lw_m9 180 rfl) rfl
theorem q2175 : (Jvm.Cond.methodLink "GargoyleTower" (378 : Nat) ({ cls := "java/util/LinkedList", name := "iterator", desc := "()Ljava/util/Iterator;" } : Jvm.MethodName)) ∈ lw_all := lw_g (lw_at lw_m9 181 rfl) rfl
theorem q2176 : (Jvm.Cond.sameMethod "java/util/LinkedList" "java/util/AbstractSequentialList" "iterator" "()Ljava/util/Iterator;") ∈ lw_all := lw_g (lw_at lw_m9 182 rfl) rfl
theorem q2178 : (Jvm.Cond.selects "java/util/LinkedList" ({ cls := "java/util/LinkedList", name := "iterator", desc := "()Ljava/util/Iterator;" } : Jvm.MethodName) ({ cls := "java/util/AbstractSequentialList", name := "iterator", desc := "()Ljava/util/Iterator;" } : Jvm.MethodName)) ∈ lw_all := lw_g (lw_at lw_m9 184 rfl) rfl
theorem q2179 : (Jvm.Cond.instanceMethod ({ cls := "java/util/AbstractSequentialList", name := "iterator", desc := "()Ljava/util/Iterator;" } : Jvm.MethodName)) ∈ lw_all := lw_g (lw_at lw_m9 185 rfl) rfl
theorem q2251 : (Jvm.Cond.methodLink "GargoyleTower" (379 : Nat) ({ cls := "GargoyleTower$Deed", name := "carryOutAs", desc := "(ILGargoyleTower$World;)V" } : Jvm.MethodName)) ∈ lw_all := lw_g (lw_at lw_m10 17 rfl) rfl
theorem q2252 : (Jvm.Cond.instanceMethod ({ cls := "GargoyleTower$Deed", name := "carryOutAs", desc := "(ILGargoyleTower$World;)V" } : Jvm.MethodName)) ∈ lw_all := lw_g (lw_at lw_m10 18 rfl) rfl
theorem q2253 : (Jvm.Cond.selects "GargoyleTower$Deed" ({ cls := "GargoyleTower$Deed", name := "carryOutAs", desc := "(ILGargoyleTower$World;)V" } : Jvm.MethodName) ({ cls := "GargoyleTower$Deed", name := "carryOutAs", desc := "(ILGargoyleTower$World;)V" } : Jvm.MethodName)) ∈ lw_all := lw_g (lw_at lw_m10 19 rfl) rfl
theorem q2267 : (Jvm.Cond.code ({ cls := "GargoyleTower", name := "undo", desc := "()I" } : Jvm.MethodName) prog_1_method_53_code (1 : Nat) (Option.some Jvm.ClassFile.FieldType.int)) ∈ lw_all := lw_g (lw_at lw_m10 33 rfl) rfl
theorem q2268 : (Jvm.Cond.methodLink "GargoyleTower" (401 : Nat) ({ cls := "java/util/ArrayDeque", name := "isEmpty", desc := "()Z" } : Jvm.MethodName)) ∈ lw_all := lw_g (lw_at lw_m10 34 rfl) rfl
theorem q2269 : (Jvm.Cond.instanceMethod ({ cls := "java/util/ArrayDeque", name := "isEmpty", desc := "()Z" } : Jvm.MethodName)) ∈ lw_all := lw_g (lw_at lw_m10 35 rfl) rfl
theorem q2270 : (Jvm.Cond.selects "java/util/ArrayDeque" ({ cls := "java/util/ArrayDeque", name := "isEmpty", desc := "()Z" } : Jvm.MethodName) ({ cls := "java/util/ArrayDeque", name := "isEmpty", desc := "()Z" } : Jvm.MethodName)) ∈ lw_all := lw_g (lw_at lw_m10 36 rfl) rfl
theorem q2272 : (Jvm.Cond.methodLink "GargoyleTower" (402 : Nat) ({ cls := "java/util/ArrayDeque", name := "removeLast", desc := "()Ljava/lang/Object;" } : Jvm.MethodName)) ∈ lw_all := lw_g (lw_at lw_m10 38 rfl) rfl
theorem q2273 : (Jvm.Cond.instanceMethod ({ cls := "java/util/ArrayDeque", name := "removeLast", desc := "()Ljava/lang/Object;" } : Jvm.MethodName)) ∈ lw_all := lw_g (lw_at lw_m10 39 rfl) rfl
theorem q2274 : (Jvm.Cond.selects "java/util/ArrayDeque" ({ cls := "java/util/ArrayDeque", name := "removeLast", desc := "()Ljava/lang/Object;" } : Jvm.MethodName) ({ cls := "java/util/ArrayDeque", name := "removeLast", desc := "()Ljava/lang/Object;" } : Jvm.MethodName)) ∈ lw_all := lw_g (lw_at lw_m10 40 rfl) rfl
theorem q2289 : (Jvm.Cond.code ({ cls := "GargoyleTower", name := "restore", desc := "()I" } : Jvm.MethodName) prog_1_method_55_code (1 : Nat) (Option.some Jvm.ClassFile.FieldType.int)) ∈ lw_all := lw_g (lw_at lw_m10 55 rfl) rfl
theorem q2290 : (Jvm.Cond.methodLink "GargoyleTower" (408 : Nat) ({ cls := "java/util/ArrayDeque", name := "clear", desc := "()V" } : Jvm.MethodName)) ∈ lw_all := lw_g (lw_at lw_m10 56 rfl) rfl
theorem q2291 : (Jvm.Cond.instanceMethod ({ cls := "java/util/ArrayDeque", name := "clear", desc := "()V" } : Jvm.MethodName)) ∈ lw_all := lw_g (lw_at lw_m10 57 rfl) rfl
theorem q2292 : (Jvm.Cond.selects "java/util/ArrayDeque" ({ cls := "java/util/ArrayDeque", name := "clear", desc := "()V" } : Jvm.MethodName) ({ cls := "java/util/ArrayDeque", name := "clear", desc := "()V" } : Jvm.MethodName)) ∈ lw_all := lw_g (lw_at lw_m10 58 rfl) rfl
theorem q2727 : (Jvm.Cond.selects "java/util/LinkedList" ({ cls := "java/util/LinkedList", name := "size", desc := "()I" } : Jvm.MethodName) ({ cls := "java/util/LinkedList", name := "size", desc := "()I" } : Jvm.MethodName)) ∈ lw_all := lw_g (lw_at lw_m12 13 rfl) rfl
theorem q2728 : (Jvm.Cond.selects "java/util/LinkedList" ({ cls := "java/util/LinkedList", name := "get", desc := "(I)Ljava/lang/Object;" } : Jvm.MethodName) ({ cls := "java/util/LinkedList", name := "get", desc := "(I)Ljava/lang/Object;" } : Jvm.MethodName)) ∈ lw_all := lw_g (lw_at lw_m12 14 rfl) rfl
theorem q2737 : (Jvm.Cond.selects "java/lang/StringBuilder" ({ cls := "java/lang/StringBuilder", name := "length", desc := "()I" } : Jvm.MethodName) ({ cls := "java/lang/StringBuilder", name := "length", desc := "()I" } : Jvm.MethodName)) ∈ lw_all := lw_g (lw_at lw_m12 23 rfl) rfl
theorem q2738 : (Jvm.Cond.selects "java/lang/StringBuilder" ({ cls := "java/lang/StringBuilder", name := "charAt", desc := "(I)C" } : Jvm.MethodName) ({ cls := "java/lang/StringBuilder", name := "charAt", desc := "(I)C" } : Jvm.MethodName)) ∈ lw_all := lw_g (lw_at lw_m12 24 rfl) rfl
theorem np70 : gh_np "(LGargoyleTower$World;)V" 1 := by unfold gh_np; decide +kernel
theorem np71 : gh_np "(ILjava/lang/Object;)V" 2 := by unfold gh_np; decide +kernel
theorem np72 : gh_np "(LGargoyleTower$Commission;)I" 1 := by unfold gh_np; decide +kernel
theorem np73 : gh_np "(C)Ljava/lang/StringBuilder;" 1 := by unfold gh_np; decide +kernel
theorem np74 : gh_np "(I)Ljava/lang/StringBuilder;" 1 := by unfold gh_np; decide +kernel
theorem np75 : gh_np "(LGargoyleTower$RefusedException;)I" 1 := by unfold gh_np; decide +kernel
theorem np76 : gh_np "(LGargoyleTower;)V" 1 := by unfold gh_np; decide +kernel
theorem np77 : gh_np "()Ljava/util/LinkedList;" 0 := by unfold gh_np; decide +kernel
theorem np78 : gh_np "(ILGargoyleTower$World;)V" 2 := by unfold gh_np; decide +kernel
theorem np79 : gh_np "(LGargoyleTower$Block;)Z" 1 := by unfold gh_np; decide +kernel
theorem np80 : gh_np "(LGargoyleTower$Deed;)I" 1 := by unfold gh_np; decide +kernel
theorem np81 : gh_np "(LGargoyleTower$Block;LGargoyleTower$Block;)Z" 2 := by unfold gh_np; decide +kernel
theorem np82 : gh_np "(LGargoyleTower$Block;)Ljava/lang/CharSequence;" 1 := by unfold gh_np; decide +kernel
theorem np83 : gh_np "(Ljava/lang/CharSequence;)Ljava/lang/StringBuilder;" 1 := by unfold gh_np; decide +kernel
theorem np84 : gh_np "(Ljava/util/LinkedList;)I" 1 := by unfold gh_np; decide +kernel
theorem dw_0 : Cond.methodLink "GargoyleTower" 321 ⟨"GargoyleTower$Rope", "canHold", "(I)Z"⟩ ∈ defaultWords_1 := List.mem_of_getElem? (i := 0) rfl
theorem dw_2 : Cond.methodLink "GargoyleTower" 324 ⟨"GargoyleTower$Block", "isLoose", "()Z"⟩ ∈ defaultWords_1 := List.mem_of_getElem? (i := 2) rfl
theorem dw_11 : Cond.methodLink "GargoyleTower" 188 ⟨"GargoyleTower$Rope", "holds", "()I"⟩ ∈ defaultWords_1 := List.mem_of_getElem? (i := 11) rfl
theorem dw_12 : Cond.methodLink "GargoyleTower" 193 ⟨"GargoyleTower$Rope", "isTorn", "()Z"⟩ ∈ defaultWords_1 := List.mem_of_getElem? (i := 12) rfl
theorem dw_13 : Cond.sameMethod "GargoyleTower$Rope" "GargoyleTower$Holding" "isTorn" "()Z" ∈ defaultWords_1 := List.mem_of_getElem? (i := 13) rfl
theorem dw_14 : Cond.methodLink "GargoyleTower" 216 ⟨"GargoyleTower$Block", "wouldBeLoose", "(I)Z"⟩ ∈ defaultWords_1 := List.mem_of_getElem? (i := 14) rfl
theorem dw_15 : Cond.sameMethod "GargoyleTower$Block" "GargoyleTower$Hit" "wouldBeLoose" "(I)Z" ∈ defaultWords_1 := List.mem_of_getElem? (i := 15) rfl
theorem at0_X1_J23 : ∀ w ∈ vx_at0 "GargoyleTower" 73 "java/lang/UnsupportedOperationException" ["java/lang/RuntimeException", "java/lang/Exception"], w ∈ lw_tbl ∧ gh_tw w = true := gh_in2 _ [91, 431, 440, 451, 454, 456, 432, 433, 130, 131, 434, 439, 452, 675, 421, 676, 423, 677, 425, 435, 437, 427, 1474, 1475, 1476, 842, 412, 842, 843, 844, 845, 414, 845, 846, 847, 432, 416, 1473, 1465, 1466, 1467, 449, 1468, 1469, 1470, 1471, 430, 429, 1472] (by decide +kernel) (by decide +kernel)
theorem at0_X1_J29 : ∀ w ∈ vx_at0 "GargoyleTower" 339 "java/lang/ArithmeticException" ["java/lang/RuntimeException", "java/lang/Exception"], w ∈ lw_tbl ∧ gh_tw w = true := gh_in2 _ [91, 431, 440, 451, 454, 456, 432, 433, 130, 131, 434, 439, 452, 675, 421, 676, 423, 677, 425, 435, 437, 427, 1991, 1992, 1993, 842, 412, 842, 843, 844, 845, 414, 845, 846, 847, 432, 416, 1990, 1968, 1979, 1980, 444, 1974, 1975, 1977, 1973, 430, 429, 1972] (by decide +kernel) (by decide +kernel)
theorem gh_tout3 {a : Int32} (k0 : ¬ a = (0 : Int32)) (k1 : ¬ a = (1 : Int32)) (k2 : ¬ a = (2 : Int32)) (k3 : ¬ a = (3 : Int32)) : a.toInt < 0 ∨ (3 : Int) < a.toInt := gh_tout (n := 3) (by decide) (gh_allS (gh_allS (gh_allS (gh_all0 (p := fun k => ¬ a = nI k) k0) k1) k2) k3)
theorem gh_tout14 {a : Int32} (k0 : ¬ a = (0 : Int32)) (k1 : ¬ a = (1 : Int32)) (k2 : ¬ a = (2 : Int32)) (k3 : ¬ a = (3 : Int32)) (k4 : ¬ a = (4 : Int32)) (k5 : ¬ a = (5 : Int32)) (k6 : ¬ a = (6 : Int32)) (k7 : ¬ a = (7 : Int32)) (k8 : ¬ a = (8 : Int32)) (k9 : ¬ a = (9 : Int32)) (k10 : ¬ a = (10 : Int32)) (k11 : ¬ a = (11 : Int32)) (k12 : ¬ a = (12 : Int32)) (k13 : ¬ a = (13 : Int32)) (k14 : ¬ a = (14 : Int32)) : a.toInt < 0 ∨ (14 : Int) < a.toInt := gh_tout (n := 14) (by decide) (gh_allS (gh_allS (gh_allS (gh_allS (gh_allS (gh_allS (gh_allS (gh_allS (gh_allS (gh_allS (gh_allS (gh_allS (gh_allS (gh_allS (gh_all0 (p := fun k => ¬ a = nI k) k0) k1) k2) k3) k4) k5) k6) k7) k8) k9) k10) k11) k12) k13) k14)
-- GargoyleTower.<init>()V
noncomputable def f_X1_init (t0 : Nat) : gh_M Unit :=
  gh_bd (gh_new 1 9 gh_nX2) fun a1 =>
  gh_bd (f_X2_init a1) fun _ =>
  gh_bd (gh_putv t0 0 0 (.object "GargoyleTower$World") (va_rf (some a1))) fun _ =>
  gh_bd (gh_new 12 3 gh_nJ3) fun a3 =>
  gh_bd (f_J3_init a3) fun _ =>
  gh_bd (gh_putv t0 0 2 (.object "java/util/ArrayDeque") (va_rf (some a3))) fun _ =>
  gh_bd (gh_new 13 4 gh_nJ5) fun a5 =>
  gh_bd (f_J5_init a5) fun _ =>
  gh_bd (gh_putv t0 0 4 (.object "java/lang/StringBuilder") (va_rf (some a5))) fun _ =>
  gh_bd (gh_newa 3 (60 : Int32)) fun a7 =>
  gh_bd (gh_putv t0 0 5 (.array .char) (va_rf (some a7))) fun _ =>
  gh_ret ()
theorem w_X1_init {x : gh_C} {g : gh_G} {o : (Unit ⊕ gh_X) × gh_G} {ls : Array Slot} (C : gh_K x cX1_init "GargoyleTower" 1 none "<init>" 5 100 []) (t0 : Nat) (hl : gh_lv ls 1 [(0, va_rf (some t0))]) (h : gh_run (f_X1_init t0) g = some o) (hk : (gh_K0 x gh_rV) o) : gh_Wd x g (F0 (gh_cm x) 0 ls []) := by
  unfold f_X1_init at h
  refine gr_aload_n (pc := 0) (i := 0) C rfl (gl_at hl 0 rfl) dX1_init_0 ?_
  refine gr_oinit (pc := 1) C q129 q130 q131 hl.1.1 (Nat.le_of_ble_eq_true rfl) (Nat.le_of_ble_eq_true rfl) (Nat.le_of_ble_eq_true rfl) dX1_init_1 ?_
  refine gr_aload_n (pc := 4) (i := 0) C rfl (gl_at hl 0 rfl) dX1_init_4 ?_
  refine gr_newo (pc := 5) C gh_bX2 q132 q133 q76 gh_dX2 dX1_init_5 h (gh_K0_b _ hk) fun a1 g h => ?_
  refine gr_dup (pc := 8) C (gh_cat _) dX1_init_8 ?_
  refine gh_callV (pc := 9) (rest := [va_rf (some a1), va_rf (some t0)]) C (k_X2_init C.tr a1) (Nat.le_of_ble_eq_true rfl) (Nat.le_of_ble_eq_true rfl) (gh_r4 (Nat.le_of_ble_eq_true rfl)) (fun H9 L9 hp9 => gi_I C q134 rfl q135 q136 mh_X2 np8 rfl hl.1.1 dX1_init_9 rfl) h (gh_K0_b _ hk) (fun g h => ?_) (fun e g h => ?_)
  rotate_left
  ·
    exact gh_out C (fun _ h => nomatch h) h hk
  refine gr_putp (pc := 12) C gh_bX1 (k := 0) (Nat.le_of_ble_eq_true rfl) q271 (fun _ h => h) rfl dX1_init_12 h fun g h => ?_
  refine gr_aload_n (pc := 15) (i := 0) C rfl (gl_at hl 0 rfl) dX1_init_15 ?_
  refine gr_newo (pc := 16) C gh_bJ3 q220 q221 q81 gh_dJ3 dX1_init_16 h (gh_K0_b _ hk) fun a3 g h => ?_
  refine gr_dup (pc := 19) C (gh_cat _) dX1_init_19 ?_
  refine gh_callV (pc := 20) (rest := [va_rf (some a3), va_rf (some t0)]) C (k_J3_init C.tr a3) (Nat.le_of_ble_eq_true rfl) (Nat.le_of_ble_eq_true rfl) (gh_r4 (Nat.le_of_ble_eq_true rfl)) (fun H9 L9 hp9 => gi_I C q222 rfl q223 q224 mh_J3 np8 rfl hl.1.1 dX1_init_20 rfl) h (gh_K0_b _ hk) (fun g h => ?_) (fun e g h => ?_)
  rotate_left
  ·
    exact gh_out C (fun _ h => nomatch h) h hk
  refine gr_putF (pc := 23) C gh_bX1 (k := 2) (Nat.le_of_ble_eq_true rfl) q273 (fun _ h => h) rfl rfl dX1_init_23 h fun g h => ?_
  refine gr_aload_n (pc := 26) (i := 0) C rfl (gl_at hl 0 rfl) dX1_init_26 ?_
  refine gr_newo (pc := 27) C gh_bJ5 q238 q239 q83 gh_dJ5 dX1_init_27 h (gh_K0_b _ hk) fun a5 g h => ?_
  refine gr_dup (pc := 30) C (gh_cat _) dX1_init_30 ?_
  refine gh_callV (pc := 31) (rest := [va_rf (some a5), va_rf (some t0)]) C (k_J5_init C.tr a5) (Nat.le_of_ble_eq_true rfl) (Nat.le_of_ble_eq_true rfl) (gh_r4 (Nat.le_of_ble_eq_true rfl)) (fun H9 L9 hp9 => gi_I C q240 rfl q241 q242 mh_J5 np8 rfl hl.1.1 dX1_init_31 rfl) h (gh_K0_b _ hk) (fun g h => ?_) (fun e g h => ?_)
  rotate_left
  ·
    exact gh_out C (fun _ h => nomatch h) h hk
  refine gr_putF (pc := 34) C gh_bX1 (k := 4) (Nat.le_of_ble_eq_true rfl) q275 (fun _ h => h) rfl rfl dX1_init_34 h fun g h => ?_
  refine gr_aload_n (pc := 37) (i := 0) C rfl (gl_at hl 0 rfl) dX1_init_37 ?_
  refine gr_bipush (pc := 38) (v := (60 : Int32)) C rfl dX1_init_38 ?_
  refine gr_newa (pc := 40) (k := 3) (atype := .char) C (by decide) q295 dX1_init_40 h (gh_K0_b _ hk) fun a7 g h => ?_
  refine gr_putF (pc := 42) C gh_bX1 (k := 5) (Nat.le_of_ble_eq_true rfl) q277 (fun _ h => h) rfl rfl dX1_init_42 h fun g h => ?_
  exact gr_vret (pc := 45) C dX1_init_45 h hk

theorem k_X1_init {l : Launch} (hst : l.stackTraces = false) (t0 : Nat) : gh_Ct l yX1_init 5 112 (f_X1_init t0) gh_rV [va_rf (some t0)] := gh_intro2 (L1 := 100) hst (by decide +kernel) q128 q75 rfl ⟨gh_cat _, trivial⟩ (Nat.le_of_ble_eq_true rfl) fun x o ls hl C h hk => w_X1_init C t0 hl h hk
-- GargoyleTower.coins()I
noncomputable def f_X1_coins (t0 : Nat) : gh_M Int32 :=
  gh_bd (gh_getr t0 0 0) fun v1 =>
  gh_nn v1 fun a2 =>
  gh_bd (gh_geti a2 1 0) fun v3 =>
  gh_ret v3
theorem w_X1_coins {x : gh_C} {g : gh_G} {o : (Int32 ⊕ gh_X) × gh_G} {ls : Array Slot} (C : gh_K x cX1_coins "GargoyleTower" 1 (some .int) "coins" 0 0 []) (t0 : Nat) (hl : gh_lv ls 1 [(0, va_rf (some t0))]) (h : gh_run (f_X1_coins t0) g = some o) (hk : (gh_K0 x gh_rI) o) : gh_Wd x g (F0 (gh_cm x) 0 ls []) := by
  unfold f_X1_coins at h
  refine gr_aload_n (pc := 0) (i := 0) C rfl (gl_at hl 0 rfl) dX1_coins_0 ?_
  refine gr_getr (pc := 1) C gh_bX1 (k := 0) (Nat.le_of_ble_eq_true rfl) q271 (fun _ h => h) dX1_coins_1 h fun v1 h => ?_
  rcases v1 with _ | a2
  · exact gh_stk_inv h
  replace h := gh_nn_ss h
  refine gr_getiN (pc := 4) C gh_bX2 (k := 0) (Nat.le_of_ble_eq_true rfl) q184 (fun _ h => h) dX1_coins_4 h fun v3 h => ?_
  exact gr_iret (pc := 7) C dX1_coins_7 h hk

theorem k_X1_coins {l : Launch} (hst : l.stackTraces = false) (t0 : Nat) : gh_Ct l yX1_coins 0 12 (f_X1_coins t0) gh_rI [va_rf (some t0)] := gh_intro2 (L1 := 0) hst (by decide +kernel) q299 q75 rfl ⟨gh_cat _, trivial⟩ (Nat.le_of_ble_eq_true rfl) fun x o ls hl C h hk => w_X1_coins C t0 hl h hk
-- GargoyleTower.paid(I)I
def gp_X1_paid_13 (x : gh_C) (u13_1 : Int32) (u13_3 : Option Nat) (st : Int32) (g : gh_G) : Prop := ∀ ls : Array Slot, gh_lv ls 5 [(1, .int u13_1), (2, .int st), (3, va_rf u13_3)] → gh_Wd x g (F0 (gh_cm x) 13 ls [])
noncomputable def f_X1_paid_65 (u13_1 : Int32) (u13_3 : Option Nat) (s0 : Int32) (s1 : Int32) : gh_M ((Int32) ⊕ Int32) :=
  gh_ret (.inl (s0 + s1))
theorem w_X1_paid_65 {x : gh_C} {g : gh_G} {o : (((Int32) ⊕ Int32) ⊕ gh_X) × gh_G} {ls : Array Slot} (C : gh_K x cX1_paid "GargoyleTower" 5 (some .int) "paid" 3 61 []) (u13_1 : Int32) (u13_3 : Option Nat) (s0 : Int32) (s1 : Int32) (hl : gh_lv ls 5 [(1, .int u13_1), (3, va_rf u13_3)]) (h : gh_run (f_X1_paid_65 u13_1 u13_3 s0 s1) g = some o) (hk : (gh_K1 x (gh_K0 x gh_rI) (gp_X1_paid_13 x u13_1 u13_3)) o) : gh_Wd x g (F0 (gh_cm x) 65 ls [.int s1, .int s0]) := by
  unfold f_X1_paid_65 at h
  refine gr_iadd (pc := 65) C dX1_paid_65 ?_
  refine gr_istore_n (pc := 66) (i := 2) (l' := [(2, .int (s0 + s1)), (1, .int u13_1), (3, va_rf u13_3)]) C rfl hl (Nat.le_of_ble_eq_true rfl) rfl dX1_paid_66 fun ls hl => ?_
  refine gr_goto (pc := 67) (tgt := 13) C rfl dX1_paid_67 ?_
  exact gh_K1_in h hk ls (gl_sub hl [1, 0, 2] rfl)

noncomputable def f_X1_paid_64 (u13_1 : Int32) (u13_3 : Option Nat) (s0 : Int32) : gh_M ((Int32) ⊕ Int32) :=
  f_X1_paid_65 u13_1 u13_3 s0 (0 : Int32)
theorem w_X1_paid_64 {x : gh_C} {g : gh_G} {o : (((Int32) ⊕ Int32) ⊕ gh_X) × gh_G} {ls : Array Slot} (C : gh_K x cX1_paid "GargoyleTower" 5 (some .int) "paid" 3 61 []) (u13_1 : Int32) (u13_3 : Option Nat) (s0 : Int32) (hl : gh_lv ls 5 [(1, .int u13_1), (3, va_rf u13_3)]) (h : gh_run (f_X1_paid_64 u13_1 u13_3 s0) g = some o) (hk : (gh_K1 x (gh_K0 x gh_rI) (gp_X1_paid_13 x u13_1 u13_3)) o) : gh_Wd x g (F0 (gh_cm x) 64 ls [.int s0]) := by
  unfold f_X1_paid_64 at h
  refine gr_iconst (pc := 64) (v := (0 : Int32)) C rfl dX1_paid_64 ?_
  exact w_X1_paid_65 C u13_1 u13_3 s0 (0 : Int32) (gl_sub hl [0, 1] rfl) h hk

noncomputable def f_X1_paid_56 (u13_1 : Int32) (u13_3 : Option Nat) (p4 : Option Nat) (s0 : Int32) : gh_M ((Int32) ⊕ Int32) :=
  gh_nn p4 fun a1 =>
  gh_bd (gh_geti a1 7 2) fun v2 =>
  f_X1_paid_65 u13_1 u13_3 s0 v2
theorem w_X1_paid_56 {x : gh_C} {g : gh_G} {o : (((Int32) ⊕ Int32) ⊕ gh_X) × gh_G} {ls : Array Slot} (C : gh_K x cX1_paid "GargoyleTower" 5 (some .int) "paid" 3 61 []) (u13_1 : Int32) (u13_3 : Option Nat) (p4 : Option Nat) (s0 : Int32) (hl : gh_lv ls 5 [(1, .int u13_1), (3, va_rf u13_3), (4, va_rf p4)]) (h : gh_run (f_X1_paid_56 u13_1 u13_3 p4 s0) g = some o) (hk : (gh_K1 x (gh_K0 x gh_rI) (gp_X1_paid_13 x u13_1 u13_3)) o) : gh_Wd x g (F0 (gh_cm x) 56 ls [.int s0]) := by
  unfold f_X1_paid_56 at h
  refine gr_aload (pc := 56) (i := 4) C (gl_at hl 2 rfl) dX1_paid_56 ?_
  rcases p4 with _ | a1
  · exact gh_stk_inv h
  replace h := gh_nn_ss h
  refine gr_getiN (pc := 58) C gh_bX8 (k := 2) (Nat.le_of_ble_eq_true rfl) q1084 (fun _ h => h) dX1_paid_58 h fun v2 h => ?_
  refine gr_goto (pc := 61) (tgt := 65) C rfl dX1_paid_61 ?_
  exact w_X1_paid_65 C u13_1 u13_3 s0 v2 (gl_sub hl [0, 1] rfl) h hk

noncomputable def f_X1_paid_13_l (u13_1 : Int32) (p2 : Int32) (u13_3 : Option Nat) : gh_M ((Int32) ⊕ Int32) :=
  gh_nn u13_3 fun a1 =>
  gh_bd (gh_is a1 15) fun _ =>
  gh_bd (f_J8_hasNext a1) fun v2 =>
  if v2 = 0 then
  (gh_up (gh_ret p2))
  else
  (gh_bd (gh_is a1 15) fun _ =>
  gh_bd (f_J8_next a1) fun v3 =>
  gh_nn v3 fun a4 =>
  gh_bd (gh_is a4 7) fun _ =>
  gh_bd (gh_is a4 7) fun _ =>
  gh_bd (f_X8_isFulfilled a4) fun v5 =>
  if v5 = 0 then
  (f_X1_paid_64 u13_1 (some a1) p2)
  else
  (if u13_1 = (-1 : Int32) then
  (f_X1_paid_56 u13_1 (some a1) (some a4) p2)
  else
  (gh_bd (gh_geti a4 7 0) fun v6 =>
  if v6 = u13_1 then
  (f_X1_paid_56 u13_1 (some a1) (some a4) p2)
  else
  (f_X1_paid_64 u13_1 (some a1) p2))))
theorem w_X1_paid_13_l {x : gh_C} {g : gh_G} {o : (((Int32) ⊕ Int32) ⊕ gh_X) × gh_G} {ls : Array Slot} (C : gh_K x cX1_paid "GargoyleTower" 5 (some .int) "paid" 3 61 []) (u13_1 : Int32) (p2 : Int32) (u13_3 : Option Nat) (hl : gh_lv ls 5 [(1, .int u13_1), (2, .int p2), (3, va_rf u13_3)]) (h : gh_run (f_X1_paid_13_l u13_1 p2 u13_3) g = some o) (hk : (gh_K1 x (gh_K0 x gh_rI) (gp_X1_paid_13 x u13_1 u13_3)) o) : gh_Wd x g (F0 (gh_cm x) 13 ls []) := by
  unfold f_X1_paid_13_l at h
  refine gr_aload_n (pc := 13) (i := 3) C rfl (gl_at hl 2 rfl) dX1_paid_13 ?_
  rcases u13_3 with _ | a1
  · exact gh_stk_inv h
  replace h := gh_nn_ss h
  obtain ⟨⟨fs9, hg9⟩, h⟩ := gh_is_inv h
  refine gh_callI (pc := 14) (rest := []) C (k_J8_hasNext C.tr a1) (Nat.le_of_ble_eq_true rfl) (Nat.le_of_ble_eq_true rfl) (gh_r4 (Nat.le_of_ble_eq_true rfl)) (fun H9 L9 hp9 => gi_F C hp9 hg9 gh_cJ8 q334 q336 (by decide +kernel) q353 q355 q356 q354 q352 q357 mh_java_util_Iterator np7 rfl hl.1.1 dX1_paid_14 rfl) h ((gh_K1_b gh_K0_b) _ hk) (fun v2 g h => ?_) (fun e g h => ?_)
  rotate_left
  ·
    obtain ⟨o, h, hk⟩ := gh_K1_thr h hk
    exact gh_out C (fun _ h => nomatch h) h hk
  refine gr_if_eq (pc := 19) (tgt := 70) C rfl dX1_paid_19 (fun c9 => ?_) (fun c9 => ?_)
  · replace h := gh_ift h c9
    refine gr_iload_n (pc := 70) (i := 2) C rfl (gl_at hl 1 rfl) dX1_paid_70 ?_
    obtain ⟨o, h, hk⟩ := gh_K1_up h hk
    exact gr_iret (pc := 71) C dX1_paid_71 h hk
  · replace h := gh_iff h c9
    refine gr_aload_n (pc := 22) (i := 3) C rfl (gl_at hl 2 rfl) dX1_paid_22 ?_
    obtain ⟨⟨fs9, hg9⟩, h⟩ := gh_is_inv h
    refine gh_callQ (pc := 23) (rest := []) C (k_J8_next C.tr a1) (Nat.le_of_ble_eq_true rfl) (Nat.le_of_ble_eq_true rfl) (gh_r4 (Nat.le_of_ble_eq_true rfl)) (fun H9 L9 hp9 => gi_F C hp9 hg9 gh_cJ8 q368 q370 (by decide +kernel) q826 q828 q829 q827 q352 q830 mh_java_util_Iterator np23 rfl hl.1.1 dX1_paid_23 rfl) h ((gh_K1_b gh_K0_b) _ hk) (fun v3 g h => ?_) (fun e g h => ?_)
    rotate_left
    ·
      obtain ⟨o, h, hk⟩ := gh_K1_thr h hk
      exact gh_out C (fun _ h => nomatch h) h hk
    rcases v3 with _ | a4
    · exact gh_stk_inv h
    replace h := gh_nn_ss h
    obtain ⟨⟨fs9, hg9⟩, h⟩ := gh_is_inv h
    refine gr_castY (pc := 28) C gh_cX8 q862 (Or.inl rfl) dX1_paid_28 hg9 ?_
    refine gr_astore (pc := 31) (i := 4) (l' := [(4, va_rf (some a4)), (1, .int u13_1), (2, .int p2), (3, va_rf (some a1))]) C hl (Nat.le_of_ble_eq_true rfl) rfl dX1_paid_31 fun ls hl => ?_
    refine gr_iload_n (pc := 33) (i := 2) C rfl (gl_at hl 2 rfl) dX1_paid_33 ?_
    refine gr_aload (pc := 34) (i := 4) C (gl_at hl 0 rfl) dX1_paid_34 ?_
    obtain ⟨⟨fs9, hg9⟩, h⟩ := gh_is_inv h
    refine gh_callI (pc := 36) (rest := [.int p2]) C (k_X8_isFulfilled C.tr a4) (Nat.le_of_ble_eq_true rfl) (Nat.le_of_ble_eq_true rfl) (gh_r4 (Nat.le_of_ble_eq_true rfl)) (fun H9 L9 hp9 => gi_V C hp9 hg9 gh_cX8 q863 q864 q865 q866 mh_X8 np7 rfl hl.1.1 dX1_paid_36 rfl) h ((gh_K1_b gh_K0_b) _ hk) (fun v5 g h => ?_) (fun e g h => ?_)
    rotate_left
    ·
      obtain ⟨o, h, hk⟩ := gh_K1_thr h hk
      exact gh_out C (fun _ h => nomatch h) h hk
    refine gr_if_eq (pc := 39) (tgt := 64) C rfl dX1_paid_39 (fun c9 => ?_) (fun c9 => ?_)
    · replace h := gh_ift h c9
      exact w_X1_paid_64 C u13_1 (some a1) p2 (gl_sub hl [1, 3] rfl) h hk
    · replace h := gh_iff h c9
      refine gr_iload_n (pc := 42) (i := 1) C rfl (gl_at hl 1 rfl) dX1_paid_42 ?_
      refine gr_iconst (pc := 43) (v := (-1 : Int32)) C rfl dX1_paid_43 ?_
      refine gr_icmp_eq (pc := 44) (tgt := 56) C rfl dX1_paid_44 (fun c9 => ?_) (fun c9 => ?_)
      · replace h := gh_ift h c9
        exact w_X1_paid_56 C u13_1 (some a1) (some a4) p2 (gl_sub hl [1, 3, 0] rfl) h hk
      · replace h := gh_iff h c9
        refine gr_aload (pc := 47) (i := 4) C (gl_at hl 0 rfl) dX1_paid_47 ?_
        refine gr_getiN (pc := 49) C gh_bX8 (k := 0) (Nat.le_of_ble_eq_true rfl) q1078 (fun _ h => h) dX1_paid_49 h fun v6 h => ?_
        refine gr_iload_n (pc := 52) (i := 1) C rfl (gl_at hl 1 rfl) dX1_paid_52 ?_
        refine gr_icmp_ne (pc := 53) (tgt := 64) C rfl dX1_paid_53 (fun c9 => ?_) (fun c9 => ?_)
        · replace h := gh_iff h c9
          exact w_X1_paid_64 C u13_1 (some a1) p2 (gl_sub hl [1, 3] rfl) h hk
        · replace h := gh_ift h c9
          exact w_X1_paid_56 C u13_1 (some a1) (some a4) p2 (gl_sub hl [1, 3, 0] rfl) h hk

noncomputable def f_X1_paid_13 (p1 : Int32) (p2 : Int32) (p3 : Option Nat) : gh_M Int32 := gh_it (fun st : Int32 => f_X1_paid_13_l p1 st p3) (p2)
theorem w_X1_paid_13 {x : gh_C} {g : gh_G} {o : (Int32 ⊕ gh_X) × gh_G} {ls : Array Slot} (C : gh_K x cX1_paid "GargoyleTower" 5 (some .int) "paid" 3 61 []) (p1 : Int32) (p2 : Int32) (p3 : Option Nat) (hl : gh_lv ls 5 [(1, .int p1), (2, .int p2), (3, va_rf p3)]) (h : gh_run (f_X1_paid_13 p1 p2 p3) g = some o) (hk : (gh_K0 x gh_rI) o) : gh_Wd x g (F0 (gh_cm x) 13 ls []) := by
  unfold f_X1_paid_13 at h
  exact gh_loop gh_K0_b (fun st : Int32 => f_X1_paid_13_l p1 st p3) (gp_X1_paid_13 x p1 p3) (fun st g o h hk ls hl => w_X1_paid_13_l C p1 st p3 hl h hk) _ g o h hk ls hl
noncomputable def f_X1_paid (t0 : Nat) (p1 : Int32) : gh_M Int32 :=
  gh_bd (gh_getr t0 0 0) fun v1 =>
  gh_nn v1 fun a2 =>
  gh_bd (gh_getr a2 1 8) fun v3 =>
  gh_nn v3 fun a4 =>
  gh_bd (gh_is a4 11) fun _ =>
  gh_bd (f_J2_iterator a4) fun v5 =>
  f_X1_paid_13 p1 (0 : Int32) v5
theorem w_X1_paid {x : gh_C} {g : gh_G} {o : (Int32 ⊕ gh_X) × gh_G} {ls : Array Slot} (C : gh_K x cX1_paid "GargoyleTower" 5 (some .int) "paid" 3 61 []) (t0 : Nat) (p1 : Int32) (hl : gh_lv ls 5 [(0, va_rf (some t0)), (1, .int p1)]) (h : gh_run (f_X1_paid t0 p1) g = some o) (hk : (gh_K0 x gh_rI) o) : gh_Wd x g (F0 (gh_cm x) 0 ls []) := by
  unfold f_X1_paid at h
  refine gr_iconst (pc := 0) (v := (0 : Int32)) C rfl dX1_paid_0 ?_
  refine gr_istore_n (pc := 1) (i := 2) (l' := [(2, .int (0 : Int32)), (0, va_rf (some t0)), (1, .int p1)]) C rfl hl (Nat.le_of_ble_eq_true rfl) rfl dX1_paid_1 fun ls hl => ?_
  refine gr_aload_n (pc := 2) (i := 0) C rfl (gl_at hl 1 rfl) dX1_paid_2 ?_
  refine gr_getr (pc := 3) C gh_bX1 (k := 0) (Nat.le_of_ble_eq_true rfl) q271 (fun _ h => h) dX1_paid_3 h fun v1 h => ?_
  rcases v1 with _ | a2
  · exact gh_stk_inv h
  replace h := gh_nn_ss h
  refine gr_getrN (pc := 6) C gh_bX2 (k := 8) (Nat.le_of_ble_eq_true rfl) q200 (fun _ h => h) dX1_paid_6 h fun v3 h => ?_
  rcases v3 with _ | a4
  · exact gh_stk_inv h
  replace h := gh_nn_ss h
  obtain ⟨⟨fs9, hg9⟩, h⟩ := gh_is_inv h
  refine gh_callQ (pc := 9) (rest := []) C (k_J2_iterator C.tr a4) (Nat.le_of_ble_eq_true rfl) (Nat.le_of_ble_eq_true rfl) (gh_r4 (Nat.le_of_ble_eq_true rfl)) (fun H9 L9 hp9 => gi_V C hp9 hg9 gh_cJ2 q308 q309 q310 q311 mh_J2 np46 rfl hl.1.1 dX1_paid_9 rfl) h (gh_K0_b _ hk) (fun v5 g h => ?_) (fun e g h => ?_)
  rotate_left
  ·
    exact gh_out C (fun _ h => nomatch h) h hk
  refine gr_astore_n (pc := 12) (i := 3) (l' := [(3, va_rf v5), (2, .int (0 : Int32)), (0, va_rf (some t0)), (1, .int p1)]) C rfl hl (Nat.le_of_ble_eq_true rfl) rfl dX1_paid_12 fun ls hl => ?_
  exact w_X1_paid_13 C p1 (0 : Int32) v5 (gl_sub hl [3, 1, 0] rfl) h hk

theorem k_X1_paid {l : Launch} (hst : l.stackTraces = false) (t0 : Nat) (p1 : Int32) : gh_Ct l yX1_paid 3 77 (f_X1_paid t0 p1) gh_rI [va_rf (some t0), .int p1] := gh_intro2 (L1 := 61) hst (by decide +kernel) q307 q75 rfl ⟨gh_cat _, rfl, trivial⟩ (Nat.le_of_ble_eq_true rfl) fun x o ls hl C h hk => w_X1_paid C t0 p1 hl h hk
-- GargoyleTower.isRight(LGargoyleTower$Block;)Z
noncomputable def f_X1_isRight (t0 : Nat) (p1 : Option Nat) : gh_M Int32 :=
  gh_nn p1 fun a1 =>
  gh_bd (gh_geti a1 5 5) fun v2 =>
  if v2 = (1 : Int32) then
  (gh_bd (gh_getr t0 0 0) fun v3 =>
  gh_nn v3 fun a4 =>
  gh_bd (gh_getr a4 1 7) fun v5 =>
  gh_bd (gh_geti a1 5 6) fun v6 =>
  gh_nn v5 fun a7 =>
  gh_bd (gh_is a7 11) fun _ =>
  gh_bd (f_J2_get a7 v6) fun v8 =>
  gh_nn v8 fun a9 =>
  gh_bd (gh_is a9 6) fun _ =>
  gh_bd (gh_geti a9 6 3) fun v10 =>
  gh_bd (gh_geti a1 5 0) fun v11 =>
  if v10 = v11 then
  (gh_bd (gh_getr t0 0 0) fun v12 =>
  gh_nn v12 fun a13 =>
  gh_bd (gh_getr a13 1 7) fun v14 =>
  gh_bd (gh_geti a1 5 6) fun v15 =>
  gh_nn v14 fun a16 =>
  gh_bd (gh_is a16 11) fun _ =>
  gh_bd (f_J2_get a16 v15) fun v17 =>
  gh_nn v17 fun a18 =>
  gh_bd (gh_is a18 6) fun _ =>
  gh_bd (gh_geti a1 5 1) fun v19 =>
  gh_bd (gh_is a18 6) fun _ =>
  gh_bd (f_X10_canHold a18 v19) fun v20 =>
  if v20 = 0 then
  (gh_rz .boolean (0 : Int32))
  else
  (gh_rz .boolean (1 : Int32)))
  else
  (gh_rz .boolean (0 : Int32)))
  else if v2 = (2 : Int32) then
  (gh_bd (gh_is a1 5) fun _ =>
  gh_bd (f_X11_isLoose a1) fun v21 =>
  if v21 = 0 then
  (gh_bd (gh_getr t0 0 0) fun v22 =>
  gh_bd (gh_geti a1 5 6) fun v23 =>
  gh_nn v22 fun a24 =>
  gh_bd (gh_is a24 1) fun _ =>
  gh_bd (f_X2_blockIn a24 v23) fun v25 =>
  if v25 = (some a1) then
  (gh_rz .boolean (1 : Int32))
  else
  (gh_rz .boolean (0 : Int32)))
  else
  (gh_rz .boolean (0 : Int32)))
  else (gh_bd (gh_geti a1 5 6) fun v26 =>
  if v26 = (-1 : Int32) then
  (gh_rz .boolean (1 : Int32))
  else
  (gh_rz .boolean (0 : Int32)))
theorem w_X1_isRight {x : gh_C} {g : gh_G} {o : (Int32 ⊕ gh_X) × gh_G} {ls : Array Slot} (C : gh_K x cX1_isRight "GargoyleTower" 2 (some .boolean) "isRight" 5 102 []) (t0 : Nat) (p1 : Option Nat) (hl : gh_lv ls 2 [(0, va_rf (some t0)), (1, va_rf p1)]) (h : gh_run (f_X1_isRight t0 p1) g = some o) (hk : (gh_K0 x gh_rI) o) : gh_Wd x g (F0 (gh_cm x) 0 ls []) := by
  unfold f_X1_isRight at h
  refine gr_aload_n (pc := 0) (i := 1) C rfl (gl_at hl 1 rfl) dX1_isRight_0 ?_
  rcases p1 with _ | a1
  · exact gh_stk_inv h
  replace h := gh_nn_ss h
  refine gr_getiN (pc := 1) C gh_bX6 (k := 5) (Nat.le_of_ble_eq_true rfl) q991 (fun _ h => h) dX1_isRight_1 h fun v2 h => ?_
  by_cases k0 : v2 = (1 : Int32)
  · replace h := gh_ift h k0
    refine gr_lookup (pc := 4) (off := 28) (tgt := 32) C (by decide) (by rw [k0]; decide) rfl dX1_isRight_4 ?_
    refine gr_aload_n (pc := 32) (i := 0) C rfl (gl_at hl 0 rfl) dX1_isRight_32 ?_
    refine gr_getr (pc := 33) C gh_bX1 (k := 0) (Nat.le_of_ble_eq_true rfl) q271 (fun _ h => h) dX1_isRight_33 h fun v3 h => ?_
    rcases v3 with _ | a4
    · exact gh_stk_inv h
    replace h := gh_nn_ss h
    refine gr_getrN (pc := 36) C gh_bX2 (k := 7) (Nat.le_of_ble_eq_true rfl) q198 (fun _ h => h) dX1_isRight_36 h fun v5 h => ?_
    refine gr_aload_n (pc := 39) (i := 1) C rfl (gl_at hl 1 rfl) dX1_isRight_39 ?_
    refine gr_getiN (pc := 40) C gh_bX6 (k := 6) (Nat.le_of_ble_eq_true rfl) q994 (fun _ h => h) dX1_isRight_40 h fun v6 h => ?_
    rcases v5 with _ | a7
    · exact gh_stk_inv h
    replace h := gh_nn_ss h
    obtain ⟨⟨fs9, hg9⟩, h⟩ := gh_is_inv h
    refine gh_callQ (pc := 43) (rest := []) C (k_J2_get C.tr a7 v6) (Nat.le_of_ble_eq_true rfl) (Nat.le_of_ble_eq_true rfl) (gh_r4 (Nat.le_of_ble_eq_true rfl)) (fun H9 L9 hp9 => gi_V C hp9 hg9 gh_cJ2 q882 q385 q2725 q386 mh_J2 np21 rfl hl.1.1 dX1_isRight_43 rfl) h (gh_K0_b _ hk) (fun v8 g h => ?_) (fun e g h => ?_)
    rotate_left
    ·
      exact gh_out C (fun _ h => nomatch h) h hk
    rcases v8 with _ | a9
    · exact gh_stk_inv h
    replace h := gh_nn_ss h
    obtain ⟨⟨fs9, hg9⟩, h⟩ := gh_is_inv h
    refine gr_castY (pc := 46) C gh_cX7 q867 (Or.inl rfl) dX1_isRight_46 hg9 ?_
    refine gr_getiN (pc := 49) C gh_bX7 (k := 3) (Nat.le_of_ble_eq_true rfl) q1058 (fun _ h => h) dX1_isRight_49 h fun v10 h => ?_
    refine gr_aload_n (pc := 52) (i := 1) C rfl (gl_at hl 1 rfl) dX1_isRight_52 ?_
    refine gr_getiN (pc := 53) C gh_bX6 (k := 0) (Nat.le_of_ble_eq_true rfl) q976 (fun _ h => h) dX1_isRight_53 h fun v11 h => ?_
    refine gr_icmp_ne (pc := 56) (tgt := 90) C rfl dX1_isRight_56 (fun c9 => ?_) (fun c9 => ?_)
    · replace h := gh_iff h c9
      refine gr_iconst (pc := 90) (v := (0 : Int32)) C rfl dX1_isRight_90 ?_
      refine gr_goto (pc := 91) (tgt := 137) C rfl dX1_isRight_91 ?_
      exact gr_bret (pc := 137) C dX1_isRight_137 h hk
    · replace h := gh_ift h c9
      refine gr_aload_n (pc := 59) (i := 0) C rfl (gl_at hl 0 rfl) dX1_isRight_59 ?_
      refine gr_getr (pc := 60) C gh_bX1 (k := 0) (Nat.le_of_ble_eq_true rfl) q271 (fun _ h => h) dX1_isRight_60 h fun v12 h => ?_
      rcases v12 with _ | a13
      · exact gh_stk_inv h
      replace h := gh_nn_ss h
      refine gr_getrN (pc := 63) C gh_bX2 (k := 7) (Nat.le_of_ble_eq_true rfl) q198 (fun _ h => h) dX1_isRight_63 h fun v14 h => ?_
      refine gr_aload_n (pc := 66) (i := 1) C rfl (gl_at hl 1 rfl) dX1_isRight_66 ?_
      refine gr_getiN (pc := 67) C gh_bX6 (k := 6) (Nat.le_of_ble_eq_true rfl) q994 (fun _ h => h) dX1_isRight_67 h fun v15 h => ?_
      rcases v14 with _ | a16
      · exact gh_stk_inv h
      replace h := gh_nn_ss h
      obtain ⟨⟨fs9, hg9⟩, h⟩ := gh_is_inv h
      refine gh_callQ (pc := 70) (rest := []) C (k_J2_get C.tr a16 v15) (Nat.le_of_ble_eq_true rfl) (Nat.le_of_ble_eq_true rfl) (gh_r4 (Nat.le_of_ble_eq_true rfl)) (fun H9 L9 hp9 => gi_V C hp9 hg9 gh_cJ2 q882 q385 q2725 q386 mh_J2 np21 rfl hl.1.1 dX1_isRight_70 rfl) h (gh_K0_b _ hk) (fun v17 g h => ?_) (fun e g h => ?_)
      rotate_left
      ·
        exact gh_out C (fun _ h => nomatch h) h hk
      rcases v17 with _ | a18
      · exact gh_stk_inv h
      replace h := gh_nn_ss h
      obtain ⟨⟨fs9, hg9⟩, h⟩ := gh_is_inv h
      refine gr_castY (pc := 73) C gh_cX7 q867 (Or.inl rfl) dX1_isRight_73 hg9 ?_
      refine gr_aload_n (pc := 76) (i := 1) C rfl (gl_at hl 1 rfl) dX1_isRight_76 ?_
      refine gr_getiN (pc := 77) C gh_bX6 (k := 1) (Nat.le_of_ble_eq_true rfl) q980 (fun _ h => h) dX1_isRight_77 h fun v19 h => ?_
      obtain ⟨⟨fs9, hg9⟩, h⟩ := gh_is_inv h
      refine gh_callI (pc := 80) (rest := []) C (k_X10_canHold C.tr a18 v19) (Nat.le_of_ble_eq_true rfl) (Nat.le_of_ble_eq_true rfl) (gh_r4 (Nat.le_of_ble_eq_true rfl)) (fun H9 L9 hp9 => gi_VD C hp9 hg9 gh_cX7 (dw_0) (dw_1) q884 mh_X10 (by decide +kernel) q886 np2 rfl hl.1.1 dX1_isRight_80 rfl) h (gh_K0_b _ hk) (fun v20 g h => ?_) (fun e g h => ?_)
      rotate_left
      ·
        exact gh_out C (fun _ h => nomatch h) h hk
      refine gr_if_eq (pc := 83) (tgt := 90) C rfl dX1_isRight_83 (fun c9 => ?_) (fun c9 => ?_)
      · replace h := gh_ift h c9
        refine gr_iconst (pc := 90) (v := (0 : Int32)) C rfl dX1_isRight_90 ?_
        refine gr_goto (pc := 91) (tgt := 137) C rfl dX1_isRight_91 ?_
        exact gr_bret (pc := 137) C dX1_isRight_137 h hk
      · replace h := gh_iff h c9
        refine gr_iconst (pc := 86) (v := (1 : Int32)) C rfl dX1_isRight_86 ?_
        refine gr_goto (pc := 87) (tgt := 137) C rfl dX1_isRight_87 ?_
        exact gr_bret (pc := 137) C dX1_isRight_137 h hk
  replace h := gh_iff h k0
  by_cases k1 : v2 = (2 : Int32)
  · replace h := gh_ift h k1
    refine gr_lookup (pc := 4) (off := 90) (tgt := 94) C (by decide) (by rw [k1]; decide) rfl dX1_isRight_4 ?_
    refine gr_aload_n (pc := 94) (i := 1) C rfl (gl_at hl 1 rfl) dX1_isRight_94 ?_
    obtain ⟨⟨fs9, hg9⟩, h⟩ := gh_is_inv h
    refine gh_callI (pc := 95) (rest := []) C (k_X11_isLoose C.tr a1) (Nat.le_of_ble_eq_true rfl) (Nat.le_of_ble_eq_true rfl) (gh_r4 (Nat.le_of_ble_eq_true rfl)) (fun H9 L9 hp9 => gi_VD C hp9 hg9 gh_cX6 (dw_2) (dw_3) q929 mh_X11 (by decide +kernel) q931 np7 rfl hl.1.1 dX1_isRight_95 rfl) h (gh_K0_b _ hk) (fun v21 g h => ?_) (fun e g h => ?_)
    rotate_left
    ·
      exact gh_out C (fun _ h => nomatch h) h hk
    refine gr_if_ne (pc := 98) (tgt := 120) C rfl dX1_isRight_98 (fun c9 => ?_) (fun c9 => ?_)
    · replace h := gh_iff h c9
      refine gr_iconst (pc := 120) (v := (0 : Int32)) C rfl dX1_isRight_120 ?_
      refine gr_goto (pc := 121) (tgt := 137) C rfl dX1_isRight_121 ?_
      exact gr_bret (pc := 137) C dX1_isRight_137 h hk
    · replace h := gh_ift h c9
      refine gr_aload_n (pc := 101) (i := 0) C rfl (gl_at hl 0 rfl) dX1_isRight_101 ?_
      refine gr_getr (pc := 102) C gh_bX1 (k := 0) (Nat.le_of_ble_eq_true rfl) q271 (fun _ h => h) dX1_isRight_102 h fun v22 h => ?_
      refine gr_aload_n (pc := 105) (i := 1) C rfl (gl_at hl 1 rfl) dX1_isRight_105 ?_
      refine gr_getiN (pc := 106) C gh_bX6 (k := 6) (Nat.le_of_ble_eq_true rfl) q994 (fun _ h => h) dX1_isRight_106 h fun v23 h => ?_
      rcases v22 with _ | a24
      · exact gh_stk_inv h
      replace h := gh_nn_ss h
      obtain ⟨⟨fs9, hg9⟩, h⟩ := gh_is_inv h
      refine gh_callQ (pc := 109) (rest := []) C (k_X2_blockIn C.tr a24 v23) (Nat.le_of_ble_eq_true rfl) (Nat.le_of_ble_eq_true rfl) (gh_r4 (Nat.le_of_ble_eq_true rfl)) (fun H9 L9 hp9 => gi_V C hp9 hg9 gh_cX2 q947 q948 q949 q950 mh_X2 np52 rfl hl.1.1 dX1_isRight_109 rfl) h (gh_K0_b _ hk) (fun v25 g h => ?_) (fun e g h => ?_)
      rotate_left
      ·
        exact gh_out C (fun _ h => nomatch h) h hk
      refine gr_aload_n (pc := 112) (i := 1) C rfl (gl_at hl 1 rfl) dX1_isRight_112 ?_
      refine gr_acmp_ne (pc := 113) (tgt := 120) C rfl dX1_isRight_113 (fun c9 => ?_) (fun c9 => ?_)
      · replace h := gh_iff h c9
        refine gr_iconst (pc := 120) (v := (0 : Int32)) C rfl dX1_isRight_120 ?_
        refine gr_goto (pc := 121) (tgt := 137) C rfl dX1_isRight_121 ?_
        exact gr_bret (pc := 137) C dX1_isRight_137 h hk
      · replace h := gh_ift h c9
        refine gr_iconst (pc := 116) (v := (1 : Int32)) C rfl dX1_isRight_116 ?_
        refine gr_goto (pc := 117) (tgt := 137) C rfl dX1_isRight_117 ?_
        exact gr_bret (pc := 137) C dX1_isRight_137 h hk
  replace h := gh_iff h k1
  refine gr_lookup (pc := 4) (off := 120) (tgt := 124) C (by decide) ((lv_osw k0 (by decide)).trans ((lv_osw k1 (by decide)).trans rfl)) rfl dX1_isRight_4 ?_
  refine gr_aload_n (pc := 124) (i := 1) C rfl (gl_at hl 1 rfl) dX1_isRight_124 ?_
  refine gr_getiN (pc := 125) C gh_bX6 (k := 6) (Nat.le_of_ble_eq_true rfl) q994 (fun _ h => h) dX1_isRight_125 h fun v26 h => ?_
  refine gr_iconst (pc := 128) (v := (-1 : Int32)) C rfl dX1_isRight_128 ?_
  refine gr_icmp_ne (pc := 129) (tgt := 136) C rfl dX1_isRight_129 (fun c9 => ?_) (fun c9 => ?_)
  · replace h := gh_iff h c9
    refine gr_iconst (pc := 136) (v := (0 : Int32)) C rfl dX1_isRight_136 ?_
    exact gr_bret (pc := 137) C dX1_isRight_137 h hk
  · replace h := gh_ift h c9
    refine gr_iconst (pc := 132) (v := (1 : Int32)) C rfl dX1_isRight_132 ?_
    refine gr_goto (pc := 133) (tgt := 137) C rfl dX1_isRight_133 ?_
    exact gr_bret (pc := 137) C dX1_isRight_137 h hk

theorem k_X1_isRight {l : Launch} (hst : l.stackTraces = false) (t0 : Nat) (p1 : Option Nat) : gh_Ct l yX1_isRight 5 115 (f_X1_isRight t0 p1) gh_rI [va_rf (some t0), va_rf p1] := gh_intro2 (L1 := 102) hst (by decide +kernel) q881 q75 rfl ⟨gh_cat _, gh_cat _, trivial⟩ (Nat.le_of_ble_eq_true rfl) fun x o ls hl C h hk => w_X1_isRight C t0 p1 hl h hk
-- GargoyleTower.save()I
noncomputable def f_X1_save (t0 : Nat) : gh_M Int32 :=
  gh_bd (gh_new 1 9 gh_nX2) fun a1 =>
  gh_bd (gh_getr t0 0 0) fun v2 =>
  gh_bd (f_X2_init_2 a1 v2) fun _ =>
  gh_bd (gh_putv t0 0 1 (.object "GargoyleTower$World") (va_rf (some a1))) fun _ =>
  gh_bd (gh_getr t0 0 0) fun v4 =>
  gh_nn v4 fun a5 =>
  gh_bd (gh_geti a5 1 1) fun v6 =>
  gh_ret v6
theorem w_X1_save {x : gh_C} {g : gh_G} {o : (Int32 ⊕ gh_X) × gh_G} {ls : Array Slot} (C : gh_K x cX1_save "GargoyleTower" 1 (some .int) "save" 8 215 []) (t0 : Nat) (hl : gh_lv ls 1 [(0, va_rf (some t0))]) (h : gh_run (f_X1_save t0) g = some o) (hk : (gh_K0 x gh_rI) o) : gh_Wd x g (F0 (gh_cm x) 0 ls []) := by
  unfold f_X1_save at h
  refine gr_aload_n (pc := 0) (i := 0) C rfl (gl_at hl 0 rfl) dX1_save_0 ?_
  refine gr_newo (pc := 1) C gh_bX2 q132 q133 q76 gh_dX2 dX1_save_1 h (gh_K0_b _ hk) fun a1 g h => ?_
  refine gr_dup (pc := 4) C (gh_cat _) dX1_save_4 ?_
  refine gr_aload_n (pc := 5) (i := 0) C rfl (gl_at hl 0 rfl) dX1_save_5 ?_
  refine gr_getr (pc := 6) C gh_bX1 (k := 0) (Nat.le_of_ble_eq_true rfl) q271 (fun _ h => h) dX1_save_6 h fun v2 h => ?_
  refine gh_callV (pc := 9) (rest := [va_rf (some a1), va_rf (some t0)]) C (k_X2_init_2 C.tr a1 v2) (Nat.le_of_ble_eq_true rfl) (Nat.le_of_ble_eq_true rfl) (gh_r4 (Nat.le_of_ble_eq_true rfl)) (fun H9 L9 hp9 => gi_I C q961 rfl q962 q963 mh_X2 np70 rfl hl.1.1 dX1_save_9 rfl) h (gh_K0_b _ hk) (fun g h => ?_) (fun e g h => ?_)
  rotate_left
  ·
    exact gh_out C (fun _ h => nomatch h) h hk
  refine gr_putp (pc := 12) C gh_bX1 (k := 1) (Nat.le_of_ble_eq_true rfl) q272 (fun _ h => h) rfl dX1_save_12 h fun g h => ?_
  refine gr_aload_n (pc := 15) (i := 0) C rfl (gl_at hl 0 rfl) dX1_save_15 ?_
  refine gr_getr (pc := 16) C gh_bX1 (k := 0) (Nat.le_of_ble_eq_true rfl) q271 (fun _ h => h) dX1_save_16 h fun v4 h => ?_
  rcases v4 with _ | a5
  · exact gh_stk_inv h
  replace h := gh_nn_ss h
  refine gr_getiN (pc := 19) C gh_bX2 (k := 1) (Nat.le_of_ble_eq_true rfl) q186 (fun _ h => h) dX1_save_19 h fun v6 h => ?_
  exact gr_iret (pc := 22) C dX1_save_22 h hk

theorem k_X1_save {l : Launch} (hst : l.stackTraces = false) (t0 : Nat) : gh_Ct l yX1_save 8 227 (f_X1_save t0) gh_rI [va_rf (some t0)] := gh_intro2 (L1 := 215) hst (by decide +kernel) q960 q75 rfl ⟨gh_cat _, trivial⟩ (Nat.le_of_ble_eq_true rfl) fun x o ls hl C h hk => w_X1_save C t0 hl h hk
-- GargoyleTower.change(LGargoyleTower$World;)V
noncomputable def f_X1_change_23 (t0 : Nat) (p1 : Option Nat) : gh_M Unit :=
  gh_bd (gh_getr t0 0 2) fun v1 =>
  gh_bd (gh_getr t0 0 0) fun v2 =>
  gh_nn v1 fun a3 =>
  gh_bd (gh_is a3 12) fun _ =>
  gh_bd (f_J3_addLast a3 v2) fun _ =>
  gh_bd (gh_putv t0 0 0 (.object "GargoyleTower$World") (va_rf p1)) fun _ =>
  gh_ret ()
theorem w_X1_change_23 {x : gh_C} {g : gh_G} {o : (Unit ⊕ gh_X) × gh_G} {ls : Array Slot} (C : gh_K x cX1_change "GargoyleTower" 3 none "change" 3 65 []) (t0 : Nat) (p1 : Option Nat) (hl : gh_lv ls 3 [(0, va_rf (some t0)), (1, va_rf p1)]) (h : gh_run (f_X1_change_23 t0 p1) g = some o) (hk : (gh_K0 x gh_rV) o) : gh_Wd x g (F0 (gh_cm x) 23 ls []) := by
  unfold f_X1_change_23 at h
  refine gr_aload_n (pc := 23) (i := 0) C rfl (gl_at hl 0 rfl) dX1_change_23 ?_
  refine gr_getr (pc := 24) C gh_bX1 (k := 2) (Nat.le_of_ble_eq_true rfl) q273 (fun _ h => h) dX1_change_24 h fun v1 h => ?_
  refine gr_aload_n (pc := 27) (i := 0) C rfl (gl_at hl 0 rfl) dX1_change_27 ?_
  refine gr_getr (pc := 28) C gh_bX1 (k := 0) (Nat.le_of_ble_eq_true rfl) q271 (fun _ h => h) dX1_change_28 h fun v2 h => ?_
  rcases v1 with _ | a3
  · exact gh_stk_inv h
  replace h := gh_nn_ss h
  obtain ⟨⟨fs9, hg9⟩, h⟩ := gh_is_inv h
  refine gh_callV (pc := 31) (rest := []) C (k_J3_addLast C.tr a3 v2) (Nat.le_of_ble_eq_true rfl) (Nat.le_of_ble_eq_true rfl) (gh_r4 (Nat.le_of_ble_eq_true rfl)) (fun H9 L9 hp9 => gi_V C hp9 hg9 gh_cJ3 q1428 q1429 q1430 q1431 mh_J3 np17 rfl hl.1.1 dX1_change_31 rfl) h (gh_K0_b _ hk) (fun g h => ?_) (fun e g h => ?_)
  rotate_left
  ·
    exact gh_out C (fun _ h => nomatch h) h hk
  refine gr_aload_n (pc := 34) (i := 0) C rfl (gl_at hl 0 rfl) dX1_change_34 ?_
  refine gr_aload_n (pc := 35) (i := 1) C rfl (gl_at hl 1 rfl) dX1_change_35 ?_
  refine gr_putp (pc := 36) C gh_bX1 (k := 0) (Nat.le_of_ble_eq_true rfl) q271 (fun _ h => h) rfl dX1_change_36 h fun g h => ?_
  exact gr_vret (pc := 39) C dX1_change_39 h hk

noncomputable def f_X1_change (t0 : Nat) (p1 : Option Nat) : gh_M Unit :=
  gh_bd (gh_getr t0 0 2) fun v1 =>
  gh_nn v1 fun a2 =>
  gh_bd (gh_is a2 12) fun _ =>
  gh_bd (f_J3_size a2) fun v3 =>
  if v3 = (8 : Int32) then
  (gh_bd (gh_getr t0 0 2) fun v4 =>
  gh_nn v4 fun a5 =>
  gh_bd (gh_is a5 12) fun _ =>
  gh_bd (f_J3_removeFirst a5) fun v6 =>
  gh_nn v6 fun a7 =>
  gh_bd (gh_is a7 1) fun _ =>
  f_X1_change_23 t0 p1)
  else
  (f_X1_change_23 t0 p1)
theorem w_X1_change {x : gh_C} {g : gh_G} {o : (Unit ⊕ gh_X) × gh_G} {ls : Array Slot} (C : gh_K x cX1_change "GargoyleTower" 3 none "change" 3 65 []) (t0 : Nat) (p1 : Option Nat) (hl : gh_lv ls 3 [(0, va_rf (some t0)), (1, va_rf p1)]) (h : gh_run (f_X1_change t0 p1) g = some o) (hk : (gh_K0 x gh_rV) o) : gh_Wd x g (F0 (gh_cm x) 0 ls []) := by
  unfold f_X1_change at h
  refine gr_aload_n (pc := 0) (i := 0) C rfl (gl_at hl 0 rfl) dX1_change_0 ?_
  refine gr_getr (pc := 1) C gh_bX1 (k := 2) (Nat.le_of_ble_eq_true rfl) q273 (fun _ h => h) dX1_change_1 h fun v1 h => ?_
  rcases v1 with _ | a2
  · exact gh_stk_inv h
  replace h := gh_nn_ss h
  obtain ⟨⟨fs9, hg9⟩, h⟩ := gh_is_inv h
  refine gh_callI (pc := 4) (rest := []) C (k_J3_size C.tr a2) (Nat.le_of_ble_eq_true rfl) (Nat.le_of_ble_eq_true rfl) (gh_r4 (Nat.le_of_ble_eq_true rfl)) (fun H9 L9 hp9 => gi_V C hp9 hg9 gh_cJ3 q1405 q1406 q1407 q1408 mh_J3 np0 rfl hl.1.1 dX1_change_4 rfl) h (gh_K0_b _ hk) (fun v3 g h => ?_) (fun e g h => ?_)
  rotate_left
  ·
    exact gh_out C (fun _ h => nomatch h) h hk
  refine gr_bipush (pc := 7) (v := (8 : Int32)) C rfl dX1_change_7 ?_
  refine gr_icmp_ne (pc := 9) (tgt := 23) C rfl dX1_change_9 (fun c9 => ?_) (fun c9 => ?_)
  · replace h := gh_iff h c9
    exact w_X1_change_23 C t0 p1 (gl_sub hl [0, 1] rfl) h hk
  · replace h := gh_ift h c9
    refine gr_aload_n (pc := 12) (i := 0) C rfl (gl_at hl 0 rfl) dX1_change_12 ?_
    refine gr_getr (pc := 13) C gh_bX1 (k := 2) (Nat.le_of_ble_eq_true rfl) q273 (fun _ h => h) dX1_change_13 h fun v4 h => ?_
    rcases v4 with _ | a5
    · exact gh_stk_inv h
    replace h := gh_nn_ss h
    obtain ⟨⟨fs9, hg9⟩, h⟩ := gh_is_inv h
    refine gh_callQ (pc := 16) (rest := []) C (k_J3_removeFirst C.tr a5) (Nat.le_of_ble_eq_true rfl) (Nat.le_of_ble_eq_true rfl) (gh_r4 (Nat.le_of_ble_eq_true rfl)) (fun H9 L9 hp9 => gi_V C hp9 hg9 gh_cJ3 q1412 q1413 q1414 q1415 mh_J3 np23 rfl hl.1.1 dX1_change_16 rfl) h (gh_K0_b _ hk) (fun v6 g h => ?_) (fun e g h => ?_)
    rotate_left
    ·
      exact gh_out C (fun _ h => nomatch h) h hk
    rcases v6 with _ | a7
    · exact gh_stk_inv h
    replace h := gh_nn_ss h
    obtain ⟨⟨fs9, hg9⟩, h⟩ := gh_is_inv h
    refine gr_castY (pc := 19) C gh_cX2 q132 (Or.inl rfl) dX1_change_19 hg9 ?_
    refine gr_astore_n (pc := 22) (i := 2) (l' := [(2, va_rf (some a7)), (0, va_rf (some t0)), (1, va_rf p1)]) C rfl hl (Nat.le_of_ble_eq_true rfl) rfl dX1_change_22 fun ls hl => ?_
    exact w_X1_change_23 C t0 p1 (gl_sub hl [1, 2] rfl) h hk

theorem k_X1_change {l : Launch} (hst : l.stackTraces = false) (t0 : Nat) (p1 : Option Nat) : gh_Ct l yX1_change 3 79 (f_X1_change t0 p1) gh_rV [va_rf (some t0), va_rf p1] := gh_intro2 (L1 := 65) hst (by decide +kernel) q1404 q75 rfl ⟨gh_cat _, gh_cat _, trivial⟩ (Nat.le_of_ble_eq_true rfl) fun x o ls hl C h hk => w_X1_change C t0 p1 hl h hk
-- GargoyleTower.refused(LGargoyleTower$RefusedException;)I
noncomputable def f_X1_refused (t0 : Nat) (p1 : Option Nat) : gh_M Int32 :=
  gh_bd (gh_putv t0 0 3 (.object "GargoyleTower$RefusedException") (va_rf p1)) fun _ =>
  gh_tro 20
theorem w_X1_refused {x : gh_C} {g : gh_G} {o : (Int32 ⊕ gh_X) × gh_G} {ls : Array Slot} (C : gh_K x cX1_refused "GargoyleTower" 2 (some .int) "refused" 7 110 []) (t0 : Nat) (p1 : Option Nat) (hl : gh_lv ls 2 [(0, va_rf (some t0)), (1, va_rf p1)]) (h : gh_run (f_X1_refused t0 p1) g = some o) (hk : (gh_K0 x gh_rI) o) : gh_Wd x g (F0 (gh_cm x) 0 ls []) := by
  unfold f_X1_refused at h
  refine gr_aload_n (pc := 0) (i := 0) C rfl (gl_at hl 0 rfl) dX1_refused_0 ?_
  refine gr_aload_n (pc := 1) (i := 1) C rfl (gl_at hl 1 rfl) dX1_refused_1 ?_
  refine gr_putp (pc := 2) C gh_bX1 (k := 3) (Nat.le_of_ble_eq_true rfl) q274 (fun _ h => h) rfl dX1_refused_2 h fun g h => ?_
  exact gr_tro (pc := 5) C gh_cJ23 (by decide +kernel) (by decide +kernel) q1464 q111 at0_X1_J23 hl.1.1 dX1_refused_5 dX1_refused_8 dX1_refused_9 dX1_refused_12 (fun _ h => nomatch h) (Nat.le_of_ble_eq_true rfl) (Nat.le_of_ble_eq_true rfl) (Nat.le_of_ble_eq_true rfl) (Nat.le_of_ble_eq_true rfl) h hk

theorem k_X1_refused {l : Launch} (hst : l.stackTraces = false) (t0 : Nat) (p1 : Option Nat) : gh_Ct l yX1_refused 7 123 (f_X1_refused t0 p1) gh_rI [va_rf (some t0), va_rf p1] := gh_intro2 (L1 := 110) hst (by decide +kernel) q1463 q75 rfl ⟨gh_cat _, gh_cat _, trivial⟩ (Nat.le_of_ble_eq_true rfl) fun x o ls hl C h hk => w_X1_refused C t0 p1 hl h hk
-- GargoyleTower.blockOf(II)I
noncomputable def f_X1_blockOf (t0 : Nat) (p1 : Int32) (p2 : Int32) : gh_M Int32 :=
  gh_bd (gh_getr t0 0 0) fun v1 =>
  gh_nn v1 fun a2 =>
  gh_bd (gh_is a2 1) fun _ =>
  gh_bd (f_X2_block a2 p1) fun v3 =>
  gh_bd (f_X1_inRange p2 (0 : Int32) (6 : Int32)) fun v4 =>
  gh_bd (f_X1_checkArgument v4) fun _ =>
  if p2 = (0 : Int32) then
  (gh_nn v3 fun a6 =>
  gh_bd (gh_geti a6 5 1) fun v7 =>
  gh_ret v7)
  else if p2 = (1 : Int32) then
  (gh_nn v3 fun a8 =>
  gh_bd (gh_geti a8 5 2) fun v9 =>
  if v9 = 0 then
  (gh_ret (0 : Int32))
  else
  (gh_ret (1 : Int32)))
  else if p2 = (2 : Int32) then
  (gh_nn v3 fun a10 =>
  gh_bd (gh_geti a10 5 3) fun v11 =>
  gh_ret v11)
  else if p2 = (3 : Int32) then
  (gh_nn v3 fun a12 =>
  gh_bd (gh_geti a12 5 4) fun v13 =>
  gh_ret v13)
  else if p2 = (4 : Int32) then
  (gh_nn v3 fun a14 =>
  gh_bd (gh_geti a14 5 5) fun v15 =>
  gh_ret v15)
  else if p2 = (5 : Int32) then
  (gh_nn v3 fun a16 =>
  gh_bd (gh_geti a16 5 6) fun v17 =>
  gh_ret v17)
  else (gh_nn v3 fun a18 =>
  gh_bd (gh_geti a18 5 7) fun v19 =>
  gh_ret v19)
theorem w_X1_blockOf {x : gh_C} {g : gh_G} {o : (Int32 ⊕ gh_X) × gh_G} {ls : Array Slot} (C : gh_K x cX1_blockOf "GargoyleTower" 4 (some .int) "blockOf" 9 152 []) (t0 : Nat) (p1 : Int32) (p2 : Int32) (hl : gh_lv ls 4 [(0, va_rf (some t0)), (1, .int p1), (2, .int p2)]) (h : gh_run (f_X1_blockOf t0 p1 p2) g = some o) (hk : (gh_K0 x gh_rI) o) : gh_Wd x g (F0 (gh_cm x) 0 ls []) := by
  unfold f_X1_blockOf at h
  refine gr_aload_n (pc := 0) (i := 0) C rfl (gl_at hl 0 rfl) dX1_blockOf_0 ?_
  refine gr_getr (pc := 1) C gh_bX1 (k := 0) (Nat.le_of_ble_eq_true rfl) q271 (fun _ h => h) dX1_blockOf_1 h fun v1 h => ?_
  refine gr_iload_n (pc := 4) (i := 1) C rfl (gl_at hl 1 rfl) dX1_blockOf_4 ?_
  rcases v1 with _ | a2
  · exact gh_stk_inv h
  replace h := gh_nn_ss h
  obtain ⟨⟨fs9, hg9⟩, h⟩ := gh_is_inv h
  refine gh_callQ (pc := 5) (rest := []) C (k_X2_block C.tr a2 p1) (Nat.le_of_ble_eq_true rfl) (Nat.le_of_ble_eq_true rfl) (gh_r4 (Nat.le_of_ble_eq_true rfl)) (fun H9 L9 hp9 => gi_V C hp9 hg9 gh_cX2 q1518 q1223 q1224 q1225 mh_X2 np52 rfl hl.1.1 dX1_blockOf_5 rfl) h (gh_K0_b _ hk) (fun v3 g h => ?_) (fun e g h => ?_)
  rotate_left
  ·
    exact gh_out C (fun _ h => nomatch h) h hk
  refine gr_astore_n (pc := 8) (i := 3) (l' := [(3, va_rf v3), (0, va_rf (some t0)), (1, .int p1), (2, .int p2)]) C rfl hl (Nat.le_of_ble_eq_true rfl) rfl dX1_blockOf_8 fun ls hl => ?_
  refine gr_iload_n (pc := 9) (i := 2) C rfl (gl_at hl 3 rfl) dX1_blockOf_9 ?_
  refine gr_iconst (pc := 10) (v := (0 : Int32)) C rfl dX1_blockOf_10 ?_
  refine gr_bipush (pc := 11) (v := (6 : Int32)) C rfl dX1_blockOf_11 ?_
  refine gh_callI (pc := 13) (rest := []) C (k_X1_inRange C.tr p2 (0 : Int32) (6 : Int32)) (Nat.le_of_ble_eq_true rfl) (Nat.le_of_ble_eq_true rfl) (gh_r4 (Nat.le_of_ble_eq_true rfl)) (fun H9 L9 hp9 => gi_S C q1230 q1231 q75 q1232 mh_X1 np54 rfl hl.1.1 dX1_blockOf_13 rfl) h (gh_K0_b _ hk) (fun v4 g h => ?_) (fun e g h => ?_)
  rotate_left
  ·
    exact gh_out C (fun _ h => nomatch h) h hk
  refine gh_callV (pc := 16) (rest := []) C (k_X1_checkArgument C.tr v4) (Nat.le_of_ble_eq_true rfl) (Nat.le_of_ble_eq_true rfl) (gh_r4 (Nat.le_of_ble_eq_true rfl)) (fun H9 L9 hp9 => gi_S C q1519 q1241 q75 q1242 mh_X1 np55 rfl hl.1.1 dX1_blockOf_16 rfl) h (gh_K0_b _ hk) (fun g h => ?_) (fun e g h => ?_)
  rotate_left
  ·
    exact gh_out C (fun _ h => nomatch h) h hk
  refine gr_iload_n (pc := 19) (i := 2) C rfl (gl_at hl 3 rfl) dX1_blockOf_19 ?_
  by_cases k0 : p2 = (0 : Int32)
  · replace h := gh_ift h k0
    refine gr_table (pc := 20) (v := (0 : Int32)) (off := 40) (tgt := 60) C k0 (by decide) (by decide) (by decide) rfl dX1_blockOf_20 ?_
    refine gr_aload_n (pc := 60) (i := 3) C rfl (gl_at hl 0 rfl) dX1_blockOf_60 ?_
    rcases v3 with _ | a6
    · exact gh_stk_inv h
    replace h := gh_nn_ss h
    refine gr_getiN (pc := 61) C gh_bX6 (k := 1) (Nat.le_of_ble_eq_true rfl) q980 (fun _ h => h) dX1_blockOf_61 h fun v7 h => ?_
    refine gr_goto (pc := 64) (tgt := 114) C rfl dX1_blockOf_64 ?_
    exact gr_iret (pc := 114) C dX1_blockOf_114 h hk
  replace h := gh_iff h k0
  by_cases k1 : p2 = (1 : Int32)
  · replace h := gh_ift h k1
    refine gr_table (pc := 20) (v := (1 : Int32)) (off := 47) (tgt := 67) C k1 (by decide) (by decide) (by decide) rfl dX1_blockOf_20 ?_
    refine gr_aload_n (pc := 67) (i := 3) C rfl (gl_at hl 0 rfl) dX1_blockOf_67 ?_
    rcases v3 with _ | a8
    · exact gh_stk_inv h
    replace h := gh_nn_ss h
    refine gr_getiN (pc := 68) C gh_bX6 (k := 2) (Nat.le_of_ble_eq_true rfl) q982 (fun _ h => h) dX1_blockOf_68 h fun v9 h => ?_
    refine gr_if_eq (pc := 71) (tgt := 78) C rfl dX1_blockOf_71 (fun c9 => ?_) (fun c9 => ?_)
    · replace h := gh_ift h c9
      refine gr_iconst (pc := 78) (v := (0 : Int32)) C rfl dX1_blockOf_78 ?_
      refine gr_goto (pc := 79) (tgt := 114) C rfl dX1_blockOf_79 ?_
      exact gr_iret (pc := 114) C dX1_blockOf_114 h hk
    · replace h := gh_iff h c9
      refine gr_iconst (pc := 74) (v := (1 : Int32)) C rfl dX1_blockOf_74 ?_
      refine gr_goto (pc := 75) (tgt := 114) C rfl dX1_blockOf_75 ?_
      exact gr_iret (pc := 114) C dX1_blockOf_114 h hk
  replace h := gh_iff h k1
  by_cases k2 : p2 = (2 : Int32)
  · replace h := gh_ift h k2
    refine gr_table (pc := 20) (v := (2 : Int32)) (off := 62) (tgt := 82) C k2 (by decide) (by decide) (by decide) rfl dX1_blockOf_20 ?_
    refine gr_aload_n (pc := 82) (i := 3) C rfl (gl_at hl 0 rfl) dX1_blockOf_82 ?_
    rcases v3 with _ | a10
    · exact gh_stk_inv h
    replace h := gh_nn_ss h
    refine gr_getiN (pc := 83) C gh_bX6 (k := 3) (Nat.le_of_ble_eq_true rfl) q985 (fun _ h => h) dX1_blockOf_83 h fun v11 h => ?_
    refine gr_goto (pc := 86) (tgt := 114) C rfl dX1_blockOf_86 ?_
    exact gr_iret (pc := 114) C dX1_blockOf_114 h hk
  replace h := gh_iff h k2
  by_cases k3 : p2 = (3 : Int32)
  · replace h := gh_ift h k3
    refine gr_table (pc := 20) (v := (3 : Int32)) (off := 69) (tgt := 89) C k3 (by decide) (by decide) (by decide) rfl dX1_blockOf_20 ?_
    refine gr_aload_n (pc := 89) (i := 3) C rfl (gl_at hl 0 rfl) dX1_blockOf_89 ?_
    rcases v3 with _ | a12
    · exact gh_stk_inv h
    replace h := gh_nn_ss h
    refine gr_getiN (pc := 90) C gh_bX6 (k := 4) (Nat.le_of_ble_eq_true rfl) q988 (fun _ h => h) dX1_blockOf_90 h fun v13 h => ?_
    refine gr_goto (pc := 93) (tgt := 114) C rfl dX1_blockOf_93 ?_
    exact gr_iret (pc := 114) C dX1_blockOf_114 h hk
  replace h := gh_iff h k3
  by_cases k4 : p2 = (4 : Int32)
  · replace h := gh_ift h k4
    refine gr_table (pc := 20) (v := (4 : Int32)) (off := 76) (tgt := 96) C k4 (by decide) (by decide) (by decide) rfl dX1_blockOf_20 ?_
    refine gr_aload_n (pc := 96) (i := 3) C rfl (gl_at hl 0 rfl) dX1_blockOf_96 ?_
    rcases v3 with _ | a14
    · exact gh_stk_inv h
    replace h := gh_nn_ss h
    refine gr_getiN (pc := 97) C gh_bX6 (k := 5) (Nat.le_of_ble_eq_true rfl) q991 (fun _ h => h) dX1_blockOf_97 h fun v15 h => ?_
    refine gr_goto (pc := 100) (tgt := 114) C rfl dX1_blockOf_100 ?_
    exact gr_iret (pc := 114) C dX1_blockOf_114 h hk
  replace h := gh_iff h k4
  by_cases k5 : p2 = (5 : Int32)
  · replace h := gh_ift h k5
    refine gr_table (pc := 20) (v := (5 : Int32)) (off := 83) (tgt := 103) C k5 (by decide) (by decide) (by decide) rfl dX1_blockOf_20 ?_
    refine gr_aload_n (pc := 103) (i := 3) C rfl (gl_at hl 0 rfl) dX1_blockOf_103 ?_
    rcases v3 with _ | a16
    · exact gh_stk_inv h
    replace h := gh_nn_ss h
    refine gr_getiN (pc := 104) C gh_bX6 (k := 6) (Nat.le_of_ble_eq_true rfl) q994 (fun _ h => h) dX1_blockOf_104 h fun v17 h => ?_
    refine gr_goto (pc := 107) (tgt := 114) C rfl dX1_blockOf_107 ?_
    exact gr_iret (pc := 114) C dX1_blockOf_114 h hk
  replace h := gh_iff h k5
  refine gr_tableD (pc := 20) (tgt := 110) C (gh_tout5 k0 k1 k2 k3 k4 k5) rfl dX1_blockOf_20 ?_
  refine gr_aload_n (pc := 110) (i := 3) C rfl (gl_at hl 0 rfl) dX1_blockOf_110 ?_
  rcases v3 with _ | a18
  · exact gh_stk_inv h
  replace h := gh_nn_ss h
  refine gr_getiN (pc := 111) C gh_bX6 (k := 7) (Nat.le_of_ble_eq_true rfl) q996 (fun _ h => h) dX1_blockOf_111 h fun v19 h => ?_
  exact gr_iret (pc := 114) C dX1_blockOf_114 h hk

theorem k_X1_blockOf {l : Launch} (hst : l.stackTraces = false) (t0 : Nat) (p1 : Int32) (p2 : Int32) : gh_Ct l yX1_blockOf 9 167 (f_X1_blockOf t0 p1 p2) gh_rI [va_rf (some t0), .int p1, .int p2] := gh_intro2 (L1 := 152) hst (by decide +kernel) q1517 q75 rfl ⟨gh_cat _, rfl, rfl, trivial⟩ (Nat.le_of_ble_eq_true rfl) fun x o ls hl C h hk => w_X1_blockOf C t0 p1 p2 hl h hk
-- GargoyleTower.isAhead(LGargoyleTower$Block;LGargoyleTower$Block;)Z
noncomputable def f_X1_isAhead (p0 : Option Nat) (p1 : Option Nat) : gh_M Int32 :=
  gh_nn p0 fun a1 =>
  gh_bd (gh_geti a1 5 3) fun v2 =>
  gh_nn p1 fun a3 =>
  gh_bd (gh_geti a3 5 3) fun v4 =>
  if v4 < v2 then
  (gh_rz .boolean (1 : Int32))
  else
  (gh_bd (gh_geti a1 5 3) fun v5 =>
  gh_bd (gh_geti a3 5 3) fun v6 =>
  if v5 = v6 then
  (gh_bd (gh_geti a1 5 4) fun v7 =>
  gh_bd (gh_geti a3 5 4) fun v8 =>
  if v8 ≤ v7 then
  (gh_rz .boolean (0 : Int32))
  else
  (gh_rz .boolean (1 : Int32)))
  else
  (gh_rz .boolean (0 : Int32)))
theorem w_X1_isAhead {x : gh_C} {g : gh_G} {o : (Int32 ⊕ gh_X) × gh_G} {ls : Array Slot} (C : gh_K x cX1_isAhead "GargoyleTower" 2 (some .boolean) "isAhead" 0 0 []) (p0 : Option Nat) (p1 : Option Nat) (hl : gh_lv ls 2 [(0, va_rf p0), (1, va_rf p1)]) (h : gh_run (f_X1_isAhead p0 p1) g = some o) (hk : (gh_K0 x gh_rI) o) : gh_Wd x g (F0 (gh_cm x) 0 ls []) := by
  unfold f_X1_isAhead at h
  refine gr_aload_n (pc := 0) (i := 0) C rfl (gl_at hl 0 rfl) dX1_isAhead_0 ?_
  rcases p0 with _ | a1
  · exact gh_stk_inv h
  replace h := gh_nn_ss h
  refine gr_getiN (pc := 1) C gh_bX6 (k := 3) (Nat.le_of_ble_eq_true rfl) q985 (fun _ h => h) dX1_isAhead_1 h fun v2 h => ?_
  refine gr_aload_n (pc := 4) (i := 1) C rfl (gl_at hl 1 rfl) dX1_isAhead_4 ?_
  rcases p1 with _ | a3
  · exact gh_stk_inv h
  replace h := gh_nn_ss h
  refine gr_getiN (pc := 5) C gh_bX6 (k := 3) (Nat.le_of_ble_eq_true rfl) q985 (fun _ h => h) dX1_isAhead_5 h fun v4 h => ?_
  refine gr_icmp_gt (pc := 8) (tgt := 33) C rfl dX1_isAhead_8 (fun c9 => ?_) (fun c9 => ?_)
  · replace h := gh_ift h c9
    refine gr_iconst (pc := 33) (v := (1 : Int32)) C rfl dX1_isAhead_33 ?_
    refine gr_goto (pc := 34) (tgt := 38) C rfl dX1_isAhead_34 ?_
    exact gr_bret (pc := 38) C dX1_isAhead_38 h hk
  · replace h := gh_iff h c9
    refine gr_aload_n (pc := 11) (i := 0) C rfl (gl_at hl 0 rfl) dX1_isAhead_11 ?_
    refine gr_getiN (pc := 12) C gh_bX6 (k := 3) (Nat.le_of_ble_eq_true rfl) q985 (fun _ h => h) dX1_isAhead_12 h fun v5 h => ?_
    refine gr_aload_n (pc := 15) (i := 1) C rfl (gl_at hl 1 rfl) dX1_isAhead_15 ?_
    refine gr_getiN (pc := 16) C gh_bX6 (k := 3) (Nat.le_of_ble_eq_true rfl) q985 (fun _ h => h) dX1_isAhead_16 h fun v6 h => ?_
    refine gr_icmp_ne (pc := 19) (tgt := 37) C rfl dX1_isAhead_19 (fun c9 => ?_) (fun c9 => ?_)
    · replace h := gh_iff h c9
      refine gr_iconst (pc := 37) (v := (0 : Int32)) C rfl dX1_isAhead_37 ?_
      exact gr_bret (pc := 38) C dX1_isAhead_38 h hk
    · replace h := gh_ift h c9
      refine gr_aload_n (pc := 22) (i := 0) C rfl (gl_at hl 0 rfl) dX1_isAhead_22 ?_
      refine gr_getiN (pc := 23) C gh_bX6 (k := 4) (Nat.le_of_ble_eq_true rfl) q988 (fun _ h => h) dX1_isAhead_23 h fun v7 h => ?_
      refine gr_aload_n (pc := 26) (i := 1) C rfl (gl_at hl 1 rfl) dX1_isAhead_26 ?_
      refine gr_getiN (pc := 27) C gh_bX6 (k := 4) (Nat.le_of_ble_eq_true rfl) q988 (fun _ h => h) dX1_isAhead_27 h fun v8 h => ?_
      refine gr_icmp_ge (pc := 30) (tgt := 37) C rfl dX1_isAhead_30 (fun c9 => ?_) (fun c9 => ?_)
      · replace h := gh_ift h c9
        refine gr_iconst (pc := 37) (v := (0 : Int32)) C rfl dX1_isAhead_37 ?_
        exact gr_bret (pc := 38) C dX1_isAhead_38 h hk
      · replace h := gh_iff h c9
        refine gr_iconst (pc := 33) (v := (1 : Int32)) C rfl dX1_isAhead_33 ?_
        refine gr_goto (pc := 34) (tgt := 38) C rfl dX1_isAhead_34 ?_
        exact gr_bret (pc := 38) C dX1_isAhead_38 h hk

theorem k_X1_isAhead {l : Launch} (hst : l.stackTraces = false) (p0 : Option Nat) (p1 : Option Nat) : gh_Ct l yX1_isAhead 0 13 (f_X1_isAhead p0 p1) gh_rI [va_rf p0, va_rf p1] := gh_intro2 (L1 := 0) hst (by decide +kernel) q1552 q75 rfl ⟨gh_cat _, gh_cat _, trivial⟩ (Nat.le_of_ble_eq_true rfl) fun x o ls hl C h hk => w_X1_isAhead C p0 p1 hl h hk
-- GargoyleTower.ropeOf(II)I
noncomputable def f_X1_ropeOf (t0 : Nat) (p1 : Int32) (p2 : Int32) : gh_M Int32 :=
  gh_bd (gh_getr t0 0 0) fun v1 =>
  gh_nn v1 fun a2 =>
  gh_bd (gh_is a2 1) fun _ =>
  gh_bd (f_X2_rope a2 p1) fun v3 =>
  gh_bd (f_X1_inRange p2 (0 : Int32) (4 : Int32)) fun v4 =>
  gh_bd (f_X1_checkArgument v4) fun _ =>
  if p2 = (0 : Int32) then
  (gh_nn v3 fun a6 =>
  gh_bd (gh_geti a6 6 0) fun v7 =>
  gh_ret v7)
  else if p2 = (1 : Int32) then
  (gh_nn v3 fun a8 =>
  gh_bd (gh_geti a8 6 1) fun v9 =>
  gh_ret v9)
  else if p2 = (2 : Int32) then
  (gh_nn v3 fun a10 =>
  gh_bd (gh_is a10 6) fun _ =>
  gh_bd (f_X10_holds a10) fun v11 =>
  gh_ret v11)
  else if p2 = (3 : Int32) then
  (gh_nn v3 fun a12 =>
  gh_bd (gh_geti a12 6 3) fun v13 =>
  gh_ret v13)
  else (gh_nn v3 fun a14 =>
  gh_bd (gh_is a14 6) fun _ =>
  gh_bd (f_X10_isTorn a14) fun v15 =>
  if v15 = 0 then
  (gh_ret (0 : Int32))
  else
  (gh_ret (1 : Int32)))
theorem w_X1_ropeOf {x : gh_C} {g : gh_G} {o : (Int32 ⊕ gh_X) × gh_G} {ls : Array Slot} (C : gh_K x cX1_ropeOf "GargoyleTower" 4 (some .int) "ropeOf" 9 152 []) (t0 : Nat) (p1 : Int32) (p2 : Int32) (hl : gh_lv ls 4 [(0, va_rf (some t0)), (1, .int p1), (2, .int p2)]) (h : gh_run (f_X1_ropeOf t0 p1 p2) g = some o) (hk : (gh_K0 x gh_rI) o) : gh_Wd x g (F0 (gh_cm x) 0 ls []) := by
  unfold f_X1_ropeOf at h
  refine gr_aload_n (pc := 0) (i := 0) C rfl (gl_at hl 0 rfl) dX1_ropeOf_0 ?_
  refine gr_getr (pc := 1) C gh_bX1 (k := 0) (Nat.le_of_ble_eq_true rfl) q271 (fun _ h => h) dX1_ropeOf_1 h fun v1 h => ?_
  refine gr_iload_n (pc := 4) (i := 1) C rfl (gl_at hl 1 rfl) dX1_ropeOf_4 ?_
  rcases v1 with _ | a2
  · exact gh_stk_inv h
  replace h := gh_nn_ss h
  obtain ⟨⟨fs9, hg9⟩, h⟩ := gh_is_inv h
  refine gh_callQ (pc := 5) (rest := []) C (k_X2_rope C.tr a2 p1) (Nat.le_of_ble_eq_true rfl) (Nat.le_of_ble_eq_true rfl) (gh_r4 (Nat.le_of_ble_eq_true rfl)) (fun H9 L9 hp9 => gi_V C hp9 hg9 gh_cX2 q1614 q1298 q1299 q1300 mh_X2 np58 rfl hl.1.1 dX1_ropeOf_5 rfl) h (gh_K0_b _ hk) (fun v3 g h => ?_) (fun e g h => ?_)
  rotate_left
  ·
    exact gh_out C (fun _ h => nomatch h) h hk
  refine gr_astore_n (pc := 8) (i := 3) (l' := [(3, va_rf v3), (0, va_rf (some t0)), (1, .int p1), (2, .int p2)]) C rfl hl (Nat.le_of_ble_eq_true rfl) rfl dX1_ropeOf_8 fun ls hl => ?_
  refine gr_iload_n (pc := 9) (i := 2) C rfl (gl_at hl 3 rfl) dX1_ropeOf_9 ?_
  refine gr_iconst (pc := 10) (v := (0 : Int32)) C rfl dX1_ropeOf_10 ?_
  refine gr_iconst (pc := 11) (v := (4 : Int32)) C rfl dX1_ropeOf_11 ?_
  refine gh_callI (pc := 12) (rest := []) C (k_X1_inRange C.tr p2 (0 : Int32) (4 : Int32)) (Nat.le_of_ble_eq_true rfl) (Nat.le_of_ble_eq_true rfl) (gh_r4 (Nat.le_of_ble_eq_true rfl)) (fun H9 L9 hp9 => gi_S C q1230 q1231 q75 q1232 mh_X1 np54 rfl hl.1.1 dX1_ropeOf_12 rfl) h (gh_K0_b _ hk) (fun v4 g h => ?_) (fun e g h => ?_)
  rotate_left
  ·
    exact gh_out C (fun _ h => nomatch h) h hk
  refine gh_callV (pc := 15) (rest := []) C (k_X1_checkArgument C.tr v4) (Nat.le_of_ble_eq_true rfl) (Nat.le_of_ble_eq_true rfl) (gh_r4 (Nat.le_of_ble_eq_true rfl)) (fun H9 L9 hp9 => gi_S C q1519 q1241 q75 q1242 mh_X1 np55 rfl hl.1.1 dX1_ropeOf_15 rfl) h (gh_K0_b _ hk) (fun g h => ?_) (fun e g h => ?_)
  rotate_left
  ·
    exact gh_out C (fun _ h => nomatch h) h hk
  refine gr_iload_n (pc := 18) (i := 2) C rfl (gl_at hl 3 rfl) dX1_ropeOf_18 ?_
  by_cases k0 : p2 = (0 : Int32)
  · replace h := gh_ift h k0
    refine gr_table (pc := 19) (v := (0 : Int32)) (off := 29) (tgt := 48) C k0 (by decide) (by decide) (by decide) rfl dX1_ropeOf_19 ?_
    refine gr_aload_n (pc := 48) (i := 3) C rfl (gl_at hl 0 rfl) dX1_ropeOf_48 ?_
    rcases v3 with _ | a6
    · exact gh_stk_inv h
    replace h := gh_nn_ss h
    refine gr_getiN (pc := 49) C gh_bX7 (k := 0) (Nat.le_of_ble_eq_true rfl) q1052 (fun _ h => h) dX1_ropeOf_49 h fun v7 h => ?_
    refine gr_goto (pc := 52) (tgt := 88) C rfl dX1_ropeOf_52 ?_
    exact gr_iret (pc := 88) C dX1_ropeOf_88 h hk
  replace h := gh_iff h k0
  by_cases k1 : p2 = (1 : Int32)
  · replace h := gh_ift h k1
    refine gr_table (pc := 19) (v := (1 : Int32)) (off := 36) (tgt := 55) C k1 (by decide) (by decide) (by decide) rfl dX1_ropeOf_19 ?_
    refine gr_aload_n (pc := 55) (i := 3) C rfl (gl_at hl 0 rfl) dX1_ropeOf_55 ?_
    rcases v3 with _ | a8
    · exact gh_stk_inv h
    replace h := gh_nn_ss h
    refine gr_getiN (pc := 56) C gh_bX7 (k := 1) (Nat.le_of_ble_eq_true rfl) q1054 (fun _ h => h) dX1_ropeOf_56 h fun v9 h => ?_
    refine gr_goto (pc := 59) (tgt := 88) C rfl dX1_ropeOf_59 ?_
    exact gr_iret (pc := 88) C dX1_ropeOf_88 h hk
  replace h := gh_iff h k1
  by_cases k2 : p2 = (2 : Int32)
  · replace h := gh_ift h k2
    refine gr_table (pc := 19) (v := (2 : Int32)) (off := 43) (tgt := 62) C k2 (by decide) (by decide) (by decide) rfl dX1_ropeOf_19 ?_
    refine gr_aload_n (pc := 62) (i := 3) C rfl (gl_at hl 0 rfl) dX1_ropeOf_62 ?_
    rcases v3 with _ | a10
    · exact gh_stk_inv h
    replace h := gh_nn_ss h
    obtain ⟨⟨fs9, hg9⟩, h⟩ := gh_is_inv h
    refine gh_callI (pc := 63) (rest := []) C (k_X10_holds C.tr a10) (Nat.le_of_ble_eq_true rfl) (Nat.le_of_ble_eq_true rfl) (gh_r4 (Nat.le_of_ble_eq_true rfl)) (fun H9 L9 hp9 => gi_VD C hp9 hg9 gh_cX7 (dw_11) (dw_6) q901 mh_X10 (by decide +kernel) q903 np0 rfl hl.1.1 dX1_ropeOf_63 rfl) h (gh_K0_b _ hk) (fun v11 g h => ?_) (fun e g h => ?_)
    rotate_left
    ·
      exact gh_out C (fun _ h => nomatch h) h hk
    refine gr_goto (pc := 66) (tgt := 88) C rfl dX1_ropeOf_66 ?_
    exact gr_iret (pc := 88) C dX1_ropeOf_88 h hk
  replace h := gh_iff h k2
  by_cases k3 : p2 = (3 : Int32)
  · replace h := gh_ift h k3
    refine gr_table (pc := 19) (v := (3 : Int32)) (off := 50) (tgt := 69) C k3 (by decide) (by decide) (by decide) rfl dX1_ropeOf_19 ?_
    refine gr_aload_n (pc := 69) (i := 3) C rfl (gl_at hl 0 rfl) dX1_ropeOf_69 ?_
    rcases v3 with _ | a12
    · exact gh_stk_inv h
    replace h := gh_nn_ss h
    refine gr_getiN (pc := 70) C gh_bX7 (k := 3) (Nat.le_of_ble_eq_true rfl) q1058 (fun _ h => h) dX1_ropeOf_70 h fun v13 h => ?_
    refine gr_goto (pc := 73) (tgt := 88) C rfl dX1_ropeOf_73 ?_
    exact gr_iret (pc := 88) C dX1_ropeOf_88 h hk
  replace h := gh_iff h k3
  refine gr_tableD (pc := 19) (tgt := 76) C (gh_tout3 k0 k1 k2 k3) rfl dX1_ropeOf_19 ?_
  refine gr_aload_n (pc := 76) (i := 3) C rfl (gl_at hl 0 rfl) dX1_ropeOf_76 ?_
  rcases v3 with _ | a14
  · exact gh_stk_inv h
  replace h := gh_nn_ss h
  obtain ⟨⟨fs9, hg9⟩, h⟩ := gh_is_inv h
  refine gh_callI (pc := 77) (rest := []) C (k_X10_isTorn C.tr a14) (Nat.le_of_ble_eq_true rfl) (Nat.le_of_ble_eq_true rfl) (gh_r4 (Nat.le_of_ble_eq_true rfl)) (fun H9 L9 hp9 => gi_VD C hp9 hg9 gh_cX7 (dw_12) (dw_13) q892 mh_X10 (by decide +kernel) q895 np7 rfl hl.1.1 dX1_ropeOf_77 rfl) h (gh_K0_b _ hk) (fun v15 g h => ?_) (fun e g h => ?_)
  rotate_left
  ·
    exact gh_out C (fun _ h => nomatch h) h hk
  refine gr_if_eq (pc := 80) (tgt := 87) C rfl dX1_ropeOf_80 (fun c9 => ?_) (fun c9 => ?_)
  · replace h := gh_ift h c9
    refine gr_iconst (pc := 87) (v := (0 : Int32)) C rfl dX1_ropeOf_87 ?_
    exact gr_iret (pc := 88) C dX1_ropeOf_88 h hk
  · replace h := gh_iff h c9
    refine gr_iconst (pc := 83) (v := (1 : Int32)) C rfl dX1_ropeOf_83 ?_
    refine gr_goto (pc := 84) (tgt := 88) C rfl dX1_ropeOf_84 ?_
    exact gr_iret (pc := 88) C dX1_ropeOf_88 h hk

theorem k_X1_ropeOf {l : Launch} (hst : l.stackTraces = false) (t0 : Nat) (p1 : Int32) (p2 : Int32) : gh_Ct l yX1_ropeOf 9 167 (f_X1_ropeOf t0 p1 p2) gh_rI [va_rf (some t0), .int p1, .int p2] := gh_intro2 (L1 := 152) hst (by decide +kernel) q1613 q75 rfl ⟨gh_cat _, rfl, rfl, trivial⟩ (Nat.le_of_ble_eq_true rfl) fun x o ls hl C h hk => w_X1_ropeOf C t0 p1 p2 hl h hk
-- GargoyleTower.blockIn(I)I
noncomputable def f_X1_blockIn (t0 : Nat) (p1 : Int32) : gh_M Int32 :=
  gh_bd (f_X1_checkIndex p1 (20 : Int32)) fun _ =>
  gh_bd (gh_getr t0 0 0) fun v2 =>
  gh_nn v2 fun a3 =>
  gh_bd (gh_is a3 1) fun _ =>
  gh_bd (f_X2_blockIn a3 p1) fun v4 =>
  gh_on v4
  (gh_ret (-1 : Int32))
  (fun b5 => gh_bd (gh_geti b5 5 0) fun v6 =>
  gh_ret v6)
theorem w_X1_blockIn {x : gh_C} {g : gh_G} {o : (Int32 ⊕ gh_X) × gh_G} {ls : Array Slot} (C : gh_K x cX1_blockIn "GargoyleTower" 3 (some .int) "blockIn" 8 131 []) (t0 : Nat) (p1 : Int32) (hl : gh_lv ls 3 [(0, va_rf (some t0)), (1, .int p1)]) (h : gh_run (f_X1_blockIn t0 p1) g = some o) (hk : (gh_K0 x gh_rI) o) : gh_Wd x g (F0 (gh_cm x) 0 ls []) := by
  unfold f_X1_blockIn at h
  refine gr_iload_n (pc := 0) (i := 1) C rfl (gl_at hl 1 rfl) dX1_blockIn_0 ?_
  refine gr_bipush (pc := 1) (v := (20 : Int32)) C rfl dX1_blockIn_1 ?_
  refine gh_callV (pc := 3) (rest := []) C (k_X1_checkIndex C.tr p1 (20 : Int32)) (Nat.le_of_ble_eq_true rfl) (Nat.le_of_ble_eq_true rfl) (gh_r4 (Nat.le_of_ble_eq_true rfl)) (fun H9 L9 hp9 => gi_S C q1646 q1228 q75 q1229 mh_X1 np30 rfl hl.1.1 dX1_blockIn_3 rfl) h (gh_K0_b _ hk) (fun g h => ?_) (fun e g h => ?_)
  rotate_left
  ·
    exact gh_out C (fun _ h => nomatch h) h hk
  refine gr_aload_n (pc := 6) (i := 0) C rfl (gl_at hl 0 rfl) dX1_blockIn_6 ?_
  refine gr_getr (pc := 7) C gh_bX1 (k := 0) (Nat.le_of_ble_eq_true rfl) q271 (fun _ h => h) dX1_blockIn_7 h fun v2 h => ?_
  refine gr_iload_n (pc := 10) (i := 1) C rfl (gl_at hl 1 rfl) dX1_blockIn_10 ?_
  rcases v2 with _ | a3
  · exact gh_stk_inv h
  replace h := gh_nn_ss h
  obtain ⟨⟨fs9, hg9⟩, h⟩ := gh_is_inv h
  refine gh_callQ (pc := 11) (rest := []) C (k_X2_blockIn C.tr a3 p1) (Nat.le_of_ble_eq_true rfl) (Nat.le_of_ble_eq_true rfl) (gh_r4 (Nat.le_of_ble_eq_true rfl)) (fun H9 L9 hp9 => gi_V C hp9 hg9 gh_cX2 q947 q948 q949 q950 mh_X2 np52 rfl hl.1.1 dX1_blockIn_11 rfl) h (gh_K0_b _ hk) (fun v4 g h => ?_) (fun e g h => ?_)
  rotate_left
  ·
    exact gh_out C (fun _ h => nomatch h) h hk
  refine gr_astore_n (pc := 14) (i := 2) (l' := [(2, va_rf v4), (0, va_rf (some t0)), (1, .int p1)]) C rfl hl (Nat.le_of_ble_eq_true rfl) rfl dX1_blockIn_14 fun ls hl => ?_
  refine gr_aload_n (pc := 15) (i := 2) C rfl (gl_at hl 0 rfl) dX1_blockIn_15 ?_
  refine gr_ifnonnull (pc := 16) (tgt := 23) C rfl dX1_blockIn_16 (fun b5 c9 => ?_) (fun c9 => ?_)
  · subst c9
    replace h := gh_on_s h
    refine gr_aload_n (pc := 23) (i := 2) C rfl (gl_at hl 0 rfl) dX1_blockIn_23 ?_
    refine gr_getiN (pc := 24) C gh_bX6 (k := 0) (Nat.le_of_ble_eq_true rfl) q976 (fun _ h => h) dX1_blockIn_24 h fun v6 h => ?_
    exact gr_iret (pc := 27) C dX1_blockIn_27 h hk
  · subst c9
    replace h := gh_on_n h
    refine gr_iconst (pc := 19) (v := (-1 : Int32)) C rfl dX1_blockIn_19 ?_
    refine gr_goto (pc := 20) (tgt := 27) C rfl dX1_blockIn_20 ?_
    exact gr_iret (pc := 27) C dX1_blockIn_27 h hk

theorem k_X1_blockIn {l : Launch} (hst : l.stackTraces = false) (t0 : Nat) (p1 : Int32) : gh_Ct l yX1_blockIn 8 145 (f_X1_blockIn t0 p1) gh_rI [va_rf (some t0), .int p1] := gh_intro2 (L1 := 131) hst (by decide +kernel) q1645 q75 rfl ⟨gh_cat _, rfl, trivial⟩ (Nat.le_of_ble_eq_true rfl) fun x o ls hl C h hk => w_X1_blockIn C t0 p1 hl h hk
-- GargoyleTower.weightOn(I)I
def gp_X1_weightOn_18 (x : gh_C) (u18_1 : Int32) (u18_3 : Option Nat) (st : Int32) (g : gh_G) : Prop := ∀ ls : Array Slot, gh_lv ls 5 [(1, .int u18_1), (2, .int st), (3, va_rf u18_3)] → gh_Wd x g (F0 (gh_cm x) 18 ls [])
noncomputable def f_X1_weightOn_68 (u18_1 : Int32) (u18_3 : Option Nat) (s0 : Int32) (s1 : Int32) : gh_M ((Int32) ⊕ Int32) :=
  gh_ret (.inl (s0 + s1))
theorem w_X1_weightOn_68 {x : gh_C} {g : gh_G} {o : (((Int32) ⊕ Int32) ⊕ gh_X) × gh_G} {ls : Array Slot} (C : gh_K x cX1_weightOn "GargoyleTower" 5 (some .int) "weightOn" 8 131 []) (u18_1 : Int32) (u18_3 : Option Nat) (s0 : Int32) (s1 : Int32) (hl : gh_lv ls 5 [(1, .int u18_1), (3, va_rf u18_3)]) (h : gh_run (f_X1_weightOn_68 u18_1 u18_3 s0 s1) g = some o) (hk : (gh_K1 x (gh_K0 x gh_rI) (gp_X1_weightOn_18 x u18_1 u18_3)) o) : gh_Wd x g (F0 (gh_cm x) 68 ls [.int s1, .int s0]) := by
  unfold f_X1_weightOn_68 at h
  refine gr_iadd (pc := 68) C dX1_weightOn_68 ?_
  refine gr_istore_n (pc := 69) (i := 2) (l' := [(2, .int (s0 + s1)), (1, .int u18_1), (3, va_rf u18_3)]) C rfl hl (Nat.le_of_ble_eq_true rfl) rfl dX1_weightOn_69 fun ls hl => ?_
  refine gr_goto (pc := 70) (tgt := 18) C rfl dX1_weightOn_70 ?_
  exact gh_K1_in h hk ls (gl_sub hl [1, 0, 2] rfl)

noncomputable def f_X1_weightOn_67 (u18_1 : Int32) (u18_3 : Option Nat) (s0 : Int32) : gh_M ((Int32) ⊕ Int32) :=
  f_X1_weightOn_68 u18_1 u18_3 s0 (0 : Int32)
theorem w_X1_weightOn_67 {x : gh_C} {g : gh_G} {o : (((Int32) ⊕ Int32) ⊕ gh_X) × gh_G} {ls : Array Slot} (C : gh_K x cX1_weightOn "GargoyleTower" 5 (some .int) "weightOn" 8 131 []) (u18_1 : Int32) (u18_3 : Option Nat) (s0 : Int32) (hl : gh_lv ls 5 [(1, .int u18_1), (3, va_rf u18_3)]) (h : gh_run (f_X1_weightOn_67 u18_1 u18_3 s0) g = some o) (hk : (gh_K1 x (gh_K0 x gh_rI) (gp_X1_weightOn_18 x u18_1 u18_3)) o) : gh_Wd x g (F0 (gh_cm x) 67 ls [.int s0]) := by
  unfold f_X1_weightOn_67 at h
  refine gr_iconst (pc := 67) (v := (0 : Int32)) C rfl dX1_weightOn_67 ?_
  exact w_X1_weightOn_68 C u18_1 u18_3 s0 (0 : Int32) (gl_sub hl [0, 1] rfl) h hk

noncomputable def f_X1_weightOn_18_l (u18_1 : Int32) (p2 : Int32) (u18_3 : Option Nat) : gh_M ((Int32) ⊕ Int32) :=
  gh_nn u18_3 fun a1 =>
  gh_bd (gh_is a1 15) fun _ =>
  gh_bd (f_J8_hasNext a1) fun v2 =>
  if v2 = 0 then
  (gh_up (gh_ret p2))
  else
  (gh_bd (gh_is a1 15) fun _ =>
  gh_bd (f_J8_next a1) fun v3 =>
  gh_nn v3 fun a4 =>
  gh_bd (gh_is a4 5) fun _ =>
  gh_bd (gh_geti a4 5 5) fun v5 =>
  if v5 = (2 : Int32) then
  (gh_bd (gh_geti a4 5 6) fun v6 =>
  if (v6 / (5 : Int32)) = u18_1 then
  (gh_bd (gh_geti a4 5 1) fun v7 =>
  f_X1_weightOn_68 u18_1 (some a1) p2 v7)
  else
  (f_X1_weightOn_67 u18_1 (some a1) p2))
  else
  (f_X1_weightOn_67 u18_1 (some a1) p2))
theorem w_X1_weightOn_18_l {x : gh_C} {g : gh_G} {o : (((Int32) ⊕ Int32) ⊕ gh_X) × gh_G} {ls : Array Slot} (C : gh_K x cX1_weightOn "GargoyleTower" 5 (some .int) "weightOn" 8 131 []) (u18_1 : Int32) (p2 : Int32) (u18_3 : Option Nat) (hl : gh_lv ls 5 [(1, .int u18_1), (2, .int p2), (3, va_rf u18_3)]) (h : gh_run (f_X1_weightOn_18_l u18_1 p2 u18_3) g = some o) (hk : (gh_K1 x (gh_K0 x gh_rI) (gp_X1_weightOn_18 x u18_1 u18_3)) o) : gh_Wd x g (F0 (gh_cm x) 18 ls []) := by
  unfold f_X1_weightOn_18_l at h
  refine gr_aload_n (pc := 18) (i := 3) C rfl (gl_at hl 2 rfl) dX1_weightOn_18 ?_
  rcases u18_3 with _ | a1
  · exact gh_stk_inv h
  replace h := gh_nn_ss h
  obtain ⟨⟨fs9, hg9⟩, h⟩ := gh_is_inv h
  refine gh_callI (pc := 19) (rest := []) C (k_J8_hasNext C.tr a1) (Nat.le_of_ble_eq_true rfl) (Nat.le_of_ble_eq_true rfl) (gh_r4 (Nat.le_of_ble_eq_true rfl)) (fun H9 L9 hp9 => gi_F C hp9 hg9 gh_cJ8 q334 q336 (by decide +kernel) q353 q355 q356 q354 q352 q357 mh_java_util_Iterator np7 rfl hl.1.1 dX1_weightOn_19 rfl) h ((gh_K1_b gh_K0_b) _ hk) (fun v2 g h => ?_) (fun e g h => ?_)
  rotate_left
  ·
    obtain ⟨o, h, hk⟩ := gh_K1_thr h hk
    exact gh_out C (fun _ h => nomatch h) h hk
  refine gr_if_eq (pc := 24) (tgt := 73) C rfl dX1_weightOn_24 (fun c9 => ?_) (fun c9 => ?_)
  · replace h := gh_ift h c9
    refine gr_iload_n (pc := 73) (i := 2) C rfl (gl_at hl 1 rfl) dX1_weightOn_73 ?_
    obtain ⟨o, h, hk⟩ := gh_K1_up h hk
    exact gr_iret (pc := 74) C dX1_weightOn_74 h hk
  · replace h := gh_iff h c9
    refine gr_aload_n (pc := 27) (i := 3) C rfl (gl_at hl 2 rfl) dX1_weightOn_27 ?_
    obtain ⟨⟨fs9, hg9⟩, h⟩ := gh_is_inv h
    refine gh_callQ (pc := 28) (rest := []) C (k_J8_next C.tr a1) (Nat.le_of_ble_eq_true rfl) (Nat.le_of_ble_eq_true rfl) (gh_r4 (Nat.le_of_ble_eq_true rfl)) (fun H9 L9 hp9 => gi_F C hp9 hg9 gh_cJ8 q368 q370 (by decide +kernel) q826 q828 q829 q827 q352 q830 mh_java_util_Iterator np23 rfl hl.1.1 dX1_weightOn_28 rfl) h ((gh_K1_b gh_K0_b) _ hk) (fun v3 g h => ?_) (fun e g h => ?_)
    rotate_left
    ·
      obtain ⟨o, h, hk⟩ := gh_K1_thr h hk
      exact gh_out C (fun _ h => nomatch h) h hk
    rcases v3 with _ | a4
    · exact gh_stk_inv h
    replace h := gh_nn_ss h
    obtain ⟨⟨fs9, hg9⟩, h⟩ := gh_is_inv h
    refine gr_castY (pc := 33) C gh_cX6 q877 (Or.inl rfl) dX1_weightOn_33 hg9 ?_
    refine gr_astore (pc := 36) (i := 4) (l' := [(4, va_rf (some a4)), (1, .int u18_1), (2, .int p2), (3, va_rf (some a1))]) C hl (Nat.le_of_ble_eq_true rfl) rfl dX1_weightOn_36 fun ls hl => ?_
    refine gr_iload_n (pc := 38) (i := 2) C rfl (gl_at hl 2 rfl) dX1_weightOn_38 ?_
    refine gr_aload (pc := 39) (i := 4) C (gl_at hl 0 rfl) dX1_weightOn_39 ?_
    refine gr_getiN (pc := 41) C gh_bX6 (k := 5) (Nat.le_of_ble_eq_true rfl) q991 (fun _ h => h) dX1_weightOn_41 h fun v5 h => ?_
    refine gr_iconst (pc := 44) (v := (2 : Int32)) C rfl dX1_weightOn_44 ?_
    refine gr_icmp_ne (pc := 45) (tgt := 67) C rfl dX1_weightOn_45 (fun c9 => ?_) (fun c9 => ?_)
    · replace h := gh_iff h c9
      exact w_X1_weightOn_67 C u18_1 (some a1) p2 (gl_sub hl [1, 3] rfl) h hk
    · replace h := gh_ift h c9
      refine gr_aload (pc := 48) (i := 4) C (gl_at hl 0 rfl) dX1_weightOn_48 ?_
      refine gr_getiN (pc := 50) C gh_bX6 (k := 6) (Nat.le_of_ble_eq_true rfl) q994 (fun _ h => h) dX1_weightOn_50 h fun v6 h => ?_
      refine gr_iconst (pc := 53) (v := (5 : Int32)) C rfl dX1_weightOn_53 ?_
      refine gr_idiv (pc := 54) C (by decide) dX1_weightOn_54 ?_
      refine gr_iload_n (pc := 55) (i := 1) C rfl (gl_at hl 1 rfl) dX1_weightOn_55 ?_
      refine gr_icmp_ne (pc := 56) (tgt := 67) C rfl dX1_weightOn_56 (fun c9 => ?_) (fun c9 => ?_)
      · replace h := gh_iff h c9
        exact w_X1_weightOn_67 C u18_1 (some a1) p2 (gl_sub hl [1, 3] rfl) h hk
      · replace h := gh_ift h c9
        refine gr_aload (pc := 59) (i := 4) C (gl_at hl 0 rfl) dX1_weightOn_59 ?_
        refine gr_getiN (pc := 61) C gh_bX6 (k := 1) (Nat.le_of_ble_eq_true rfl) q980 (fun _ h => h) dX1_weightOn_61 h fun v7 h => ?_
        refine gr_goto (pc := 64) (tgt := 68) C rfl dX1_weightOn_64 ?_
        exact w_X1_weightOn_68 C u18_1 (some a1) p2 v7 (gl_sub hl [1, 3] rfl) h hk

noncomputable def f_X1_weightOn_18 (p1 : Int32) (p2 : Int32) (p3 : Option Nat) : gh_M Int32 := gh_it (fun st : Int32 => f_X1_weightOn_18_l p1 st p3) (p2)
theorem w_X1_weightOn_18 {x : gh_C} {g : gh_G} {o : (Int32 ⊕ gh_X) × gh_G} {ls : Array Slot} (C : gh_K x cX1_weightOn "GargoyleTower" 5 (some .int) "weightOn" 8 131 []) (p1 : Int32) (p2 : Int32) (p3 : Option Nat) (hl : gh_lv ls 5 [(1, .int p1), (2, .int p2), (3, va_rf p3)]) (h : gh_run (f_X1_weightOn_18 p1 p2 p3) g = some o) (hk : (gh_K0 x gh_rI) o) : gh_Wd x g (F0 (gh_cm x) 18 ls []) := by
  unfold f_X1_weightOn_18 at h
  exact gh_loop gh_K0_b (fun st : Int32 => f_X1_weightOn_18_l p1 st p3) (gp_X1_weightOn_18 x p1 p3) (fun st g o h hk ls hl => w_X1_weightOn_18_l C p1 st p3 hl h hk) _ g o h hk ls hl
noncomputable def f_X1_weightOn (t0 : Nat) (p1 : Int32) : gh_M Int32 :=
  gh_bd (f_X1_checkIndex p1 (4 : Int32)) fun _ =>
  gh_bd (gh_getr t0 0 0) fun v2 =>
  gh_nn v2 fun a3 =>
  gh_bd (gh_getr a3 1 6) fun v4 =>
  gh_nn v4 fun a5 =>
  gh_bd (gh_is a5 11) fun _ =>
  gh_bd (f_J2_iterator a5) fun v6 =>
  f_X1_weightOn_18 p1 (0 : Int32) v6
theorem w_X1_weightOn {x : gh_C} {g : gh_G} {o : (Int32 ⊕ gh_X) × gh_G} {ls : Array Slot} (C : gh_K x cX1_weightOn "GargoyleTower" 5 (some .int) "weightOn" 8 131 []) (t0 : Nat) (p1 : Int32) (hl : gh_lv ls 5 [(0, va_rf (some t0)), (1, .int p1)]) (h : gh_run (f_X1_weightOn t0 p1) g = some o) (hk : (gh_K0 x gh_rI) o) : gh_Wd x g (F0 (gh_cm x) 0 ls []) := by
  unfold f_X1_weightOn at h
  refine gr_iload_n (pc := 0) (i := 1) C rfl (gl_at hl 1 rfl) dX1_weightOn_0 ?_
  refine gr_iconst (pc := 1) (v := (4 : Int32)) C rfl dX1_weightOn_1 ?_
  refine gh_callV (pc := 2) (rest := []) C (k_X1_checkIndex C.tr p1 (4 : Int32)) (Nat.le_of_ble_eq_true rfl) (Nat.le_of_ble_eq_true rfl) (gh_r4 (Nat.le_of_ble_eq_true rfl)) (fun H9 L9 hp9 => gi_S C q1646 q1228 q75 q1229 mh_X1 np30 rfl hl.1.1 dX1_weightOn_2 rfl) h (gh_K0_b _ hk) (fun g h => ?_) (fun e g h => ?_)
  rotate_left
  ·
    exact gh_out C (fun _ h => nomatch h) h hk
  refine gr_iconst (pc := 5) (v := (0 : Int32)) C rfl dX1_weightOn_5 ?_
  refine gr_istore_n (pc := 6) (i := 2) (l' := [(2, .int (0 : Int32)), (0, va_rf (some t0)), (1, .int p1)]) C rfl hl (Nat.le_of_ble_eq_true rfl) rfl dX1_weightOn_6 fun ls hl => ?_
  refine gr_aload_n (pc := 7) (i := 0) C rfl (gl_at hl 1 rfl) dX1_weightOn_7 ?_
  refine gr_getr (pc := 8) C gh_bX1 (k := 0) (Nat.le_of_ble_eq_true rfl) q271 (fun _ h => h) dX1_weightOn_8 h fun v2 h => ?_
  rcases v2 with _ | a3
  · exact gh_stk_inv h
  replace h := gh_nn_ss h
  refine gr_getrN (pc := 11) C gh_bX2 (k := 6) (Nat.le_of_ble_eq_true rfl) q196 (fun _ h => h) dX1_weightOn_11 h fun v4 h => ?_
  rcases v4 with _ | a5
  · exact gh_stk_inv h
  replace h := gh_nn_ss h
  obtain ⟨⟨fs9, hg9⟩, h⟩ := gh_is_inv h
  refine gh_callQ (pc := 14) (rest := []) C (k_J2_iterator C.tr a5) (Nat.le_of_ble_eq_true rfl) (Nat.le_of_ble_eq_true rfl) (gh_r4 (Nat.le_of_ble_eq_true rfl)) (fun H9 L9 hp9 => gi_V C hp9 hg9 gh_cJ2 q308 q309 q310 q311 mh_J2 np46 rfl hl.1.1 dX1_weightOn_14 rfl) h (gh_K0_b _ hk) (fun v6 g h => ?_) (fun e g h => ?_)
  rotate_left
  ·
    exact gh_out C (fun _ h => nomatch h) h hk
  refine gr_astore_n (pc := 17) (i := 3) (l' := [(3, va_rf v6), (2, .int (0 : Int32)), (0, va_rf (some t0)), (1, .int p1)]) C rfl hl (Nat.le_of_ble_eq_true rfl) rfl dX1_weightOn_17 fun ls hl => ?_
  exact w_X1_weightOn_18 C p1 (0 : Int32) v6 (gl_sub hl [3, 1, 0] rfl) h hk

theorem k_X1_weightOn {l : Launch} (hst : l.stackTraces = false) (t0 : Nat) (p1 : Int32) : gh_Ct l yX1_weightOn 8 147 (f_X1_weightOn t0 p1) gh_rI [va_rf (some t0), .int p1] := gh_intro2 (L1 := 131) hst (by decide +kernel) q1653 q75 rfl ⟨gh_cat _, rfl, trivial⟩ (Nat.le_of_ble_eq_true rfl) fun x o ls hl C h hk => w_X1_weightOn C t0 p1 hl h hk
-- GargoyleTower.wouldFall(I)I
def gp_X1_wouldFall_54 (x : gh_C) (u54_2 : Option Nat) (u54_6 : Option Nat) (st : Int32) (g : gh_G) : Prop := ∀ ls : Array Slot, gh_lv ls 8 [(2, va_rf u54_2), (5, .int st), (6, va_rf u54_6)] → gh_Wd x g (F0 (gh_cm x) 54 ls [])
noncomputable def f_X1_wouldFall_120 (u54_2 : Option Nat) (u54_6 : Option Nat) (s0 : Int32) (s1 : Int32) : gh_M ((Int32) ⊕ Int32) :=
  gh_ret (.inl (s0 ||| s1))
theorem w_X1_wouldFall_120 {x : gh_C} {g : gh_G} {o : (((Int32) ⊕ Int32) ⊕ gh_X) × gh_G} {ls : Array Slot} (C : gh_K x cX1_wouldFall "GargoyleTower" 8 (some .int) "wouldFall" 49 1048 []) (u54_2 : Option Nat) (u54_6 : Option Nat) (s0 : Int32) (s1 : Int32) (hl : gh_lv ls 8 [(2, va_rf u54_2), (6, va_rf u54_6)]) (h : gh_run (f_X1_wouldFall_120 u54_2 u54_6 s0 s1) g = some o) (hk : (gh_K1 x (gh_K0 x gh_rI) (gp_X1_wouldFall_54 x u54_2 u54_6)) o) : gh_Wd x g (F0 (gh_cm x) 120 ls [.int s1, .int s0]) := by
  unfold f_X1_wouldFall_120 at h
  refine gr_ior (pc := 120) C dX1_wouldFall_120 ?_
  refine gr_istore (pc := 121) (i := 5) (l' := [(5, .int (s0 ||| s1)), (2, va_rf u54_2), (6, va_rf u54_6)]) C hl (Nat.le_of_ble_eq_true rfl) rfl dX1_wouldFall_121 fun ls hl => ?_
  refine gr_goto (pc := 123) (tgt := 54) C rfl dX1_wouldFall_123 ?_
  exact gh_K1_in h hk ls (gl_sub hl [1, 0, 2] rfl)

noncomputable def f_X1_wouldFall_119 (u54_2 : Option Nat) (u54_6 : Option Nat) (s0 : Int32) : gh_M ((Int32) ⊕ Int32) :=
  f_X1_wouldFall_120 u54_2 u54_6 s0 (0 : Int32)
theorem w_X1_wouldFall_119 {x : gh_C} {g : gh_G} {o : (((Int32) ⊕ Int32) ⊕ gh_X) × gh_G} {ls : Array Slot} (C : gh_K x cX1_wouldFall "GargoyleTower" 8 (some .int) "wouldFall" 49 1048 []) (u54_2 : Option Nat) (u54_6 : Option Nat) (s0 : Int32) (hl : gh_lv ls 8 [(2, va_rf u54_2), (6, va_rf u54_6)]) (h : gh_run (f_X1_wouldFall_119 u54_2 u54_6 s0) g = some o) (hk : (gh_K1 x (gh_K0 x gh_rI) (gp_X1_wouldFall_54 x u54_2 u54_6)) o) : gh_Wd x g (F0 (gh_cm x) 119 ls [.int s0]) := by
  unfold f_X1_wouldFall_119 at h
  refine gr_iconst (pc := 119) (v := (0 : Int32)) C rfl dX1_wouldFall_119 ?_
  exact w_X1_wouldFall_120 C u54_2 u54_6 s0 (0 : Int32) (gl_sub hl [0, 1] rfl) h hk

noncomputable def f_X1_wouldFall_54_l (u54_2 : Option Nat) (p5 : Int32) (u54_6 : Option Nat) : gh_M ((Int32) ⊕ Int32) :=
  gh_nn u54_6 fun a1 =>
  gh_bd (gh_is a1 15) fun _ =>
  gh_bd (f_J8_hasNext a1) fun v2 =>
  if v2 = 0 then
  (gh_up (gh_ret p5))
  else
  (gh_bd (gh_is a1 15) fun _ =>
  gh_bd (f_J8_next a1) fun v3 =>
  gh_nn v3 fun a4 =>
  gh_bd (gh_is a4 5) fun _ =>
  gh_bd (gh_geti a4 5 5) fun v5 =>
  if v5 = (3 : Int32) then
  (f_X1_wouldFall_119 u54_2 (some a1) p5)
  else
  (gh_nn u54_2 fun a6 =>
  gh_bd (gh_getr a6 1 6) fun v7 =>
  gh_bd (gh_geti a4 5 0) fun v8 =>
  gh_nn v7 fun a9 =>
  gh_bd (gh_is a9 11) fun _ =>
  gh_bd (f_J2_get a9 v8) fun v10 =>
  gh_nn v10 fun a11 =>
  gh_bd (gh_is a11 5) fun _ =>
  gh_bd (gh_geti a11 5 5) fun v12 =>
  if v12 = (3 : Int32) then
  (gh_bd (gh_geti a4 5 0) fun v13 =>
  f_X1_wouldFall_120 (some a6) (some a1) p5 ((1 : Int32) <<< (v13 &&& 31)))
  else
  (f_X1_wouldFall_119 (some a6) (some a1) p5)))
theorem w_X1_wouldFall_54_l {x : gh_C} {g : gh_G} {o : (((Int32) ⊕ Int32) ⊕ gh_X) × gh_G} {ls : Array Slot} (C : gh_K x cX1_wouldFall "GargoyleTower" 8 (some .int) "wouldFall" 49 1048 []) (u54_2 : Option Nat) (p5 : Int32) (u54_6 : Option Nat) (hl : gh_lv ls 8 [(2, va_rf u54_2), (5, .int p5), (6, va_rf u54_6)]) (h : gh_run (f_X1_wouldFall_54_l u54_2 p5 u54_6) g = some o) (hk : (gh_K1 x (gh_K0 x gh_rI) (gp_X1_wouldFall_54 x u54_2 u54_6)) o) : gh_Wd x g (F0 (gh_cm x) 54 ls []) := by
  unfold f_X1_wouldFall_54_l at h
  refine gr_aload (pc := 54) (i := 6) C (gl_at hl 2 rfl) dX1_wouldFall_54 ?_
  rcases u54_6 with _ | a1
  · exact gh_stk_inv h
  replace h := gh_nn_ss h
  obtain ⟨⟨fs9, hg9⟩, h⟩ := gh_is_inv h
  refine gh_callI (pc := 56) (rest := []) C (k_J8_hasNext C.tr a1) (Nat.le_of_ble_eq_true rfl) (Nat.le_of_ble_eq_true rfl) (gh_r4 (Nat.le_of_ble_eq_true rfl)) (fun H9 L9 hp9 => gi_F C hp9 hg9 gh_cJ8 q334 q336 (by decide +kernel) q353 q355 q356 q354 q352 q357 mh_java_util_Iterator np7 rfl hl.1.1 dX1_wouldFall_56 rfl) h ((gh_K1_b gh_K0_b) _ hk) (fun v2 g h => ?_) (fun e g h => ?_)
  rotate_left
  ·
    obtain ⟨o, h, hk⟩ := gh_K1_thr h hk
    exact gh_out C (fun _ h => nomatch h) h hk
  refine gr_if_eq (pc := 61) (tgt := 126) C rfl dX1_wouldFall_61 (fun c9 => ?_) (fun c9 => ?_)
  · replace h := gh_ift h c9
    refine gr_iload (pc := 126) (i := 5) C (gl_at hl 1 rfl) dX1_wouldFall_126 ?_
    obtain ⟨o, h, hk⟩ := gh_K1_up h hk
    exact gr_iret (pc := 128) C dX1_wouldFall_128 h hk
  · replace h := gh_iff h c9
    refine gr_aload (pc := 64) (i := 6) C (gl_at hl 2 rfl) dX1_wouldFall_64 ?_
    obtain ⟨⟨fs9, hg9⟩, h⟩ := gh_is_inv h
    refine gh_callQ (pc := 66) (rest := []) C (k_J8_next C.tr a1) (Nat.le_of_ble_eq_true rfl) (Nat.le_of_ble_eq_true rfl) (gh_r4 (Nat.le_of_ble_eq_true rfl)) (fun H9 L9 hp9 => gi_F C hp9 hg9 gh_cJ8 q368 q370 (by decide +kernel) q826 q828 q829 q827 q352 q830 mh_java_util_Iterator np23 rfl hl.1.1 dX1_wouldFall_66 rfl) h ((gh_K1_b gh_K0_b) _ hk) (fun v3 g h => ?_) (fun e g h => ?_)
    rotate_left
    ·
      obtain ⟨o, h, hk⟩ := gh_K1_thr h hk
      exact gh_out C (fun _ h => nomatch h) h hk
    rcases v3 with _ | a4
    · exact gh_stk_inv h
    replace h := gh_nn_ss h
    obtain ⟨⟨fs9, hg9⟩, h⟩ := gh_is_inv h
    refine gr_castY (pc := 71) C gh_cX6 q877 (Or.inl rfl) dX1_wouldFall_71 hg9 ?_
    refine gr_astore (pc := 74) (i := 7) (l' := [(7, va_rf (some a4)), (2, va_rf u54_2), (5, .int p5), (6, va_rf (some a1))]) C hl (Nat.le_of_ble_eq_true rfl) rfl dX1_wouldFall_74 fun ls hl => ?_
    refine gr_iload (pc := 76) (i := 5) C (gl_at hl 2 rfl) dX1_wouldFall_76 ?_
    refine gr_aload (pc := 78) (i := 7) C (gl_at hl 0 rfl) dX1_wouldFall_78 ?_
    refine gr_getiN (pc := 80) C gh_bX6 (k := 5) (Nat.le_of_ble_eq_true rfl) q991 (fun _ h => h) dX1_wouldFall_80 h fun v5 h => ?_
    refine gr_iconst (pc := 83) (v := (3 : Int32)) C rfl dX1_wouldFall_83 ?_
    refine gr_icmp_eq (pc := 84) (tgt := 119) C rfl dX1_wouldFall_84 (fun c9 => ?_) (fun c9 => ?_)
    · replace h := gh_ift h c9
      exact w_X1_wouldFall_119 C u54_2 (some a1) p5 (gl_sub hl [1, 3] rfl) h hk
    · replace h := gh_iff h c9
      refine gr_aload_n (pc := 87) (i := 2) C rfl (gl_at hl 1 rfl) dX1_wouldFall_87 ?_
      rcases u54_2 with _ | a6
      · exact gh_stk_inv h
      replace h := gh_nn_ss h
      refine gr_getrN (pc := 88) C gh_bX2 (k := 6) (Nat.le_of_ble_eq_true rfl) q196 (fun _ h => h) dX1_wouldFall_88 h fun v7 h => ?_
      refine gr_aload (pc := 91) (i := 7) C (gl_at hl 0 rfl) dX1_wouldFall_91 ?_
      refine gr_getiN (pc := 93) C gh_bX6 (k := 0) (Nat.le_of_ble_eq_true rfl) q976 (fun _ h => h) dX1_wouldFall_93 h fun v8 h => ?_
      rcases v7 with _ | a9
      · exact gh_stk_inv h
      replace h := gh_nn_ss h
      obtain ⟨⟨fs9, hg9⟩, h⟩ := gh_is_inv h
      refine gh_callQ (pc := 96) (rest := [.int p5]) C (k_J2_get C.tr a9 v8) (Nat.le_of_ble_eq_true rfl) (Nat.le_of_ble_eq_true rfl) (gh_r4 (Nat.le_of_ble_eq_true rfl)) (fun H9 L9 hp9 => gi_V C hp9 hg9 gh_cJ2 q882 q385 q2725 q386 mh_J2 np21 rfl hl.1.1 dX1_wouldFall_96 rfl) h ((gh_K1_b gh_K0_b) _ hk) (fun v10 g h => ?_) (fun e g h => ?_)
      rotate_left
      ·
        obtain ⟨o, h, hk⟩ := gh_K1_thr h hk
        exact gh_out C (fun _ h => nomatch h) h hk
      rcases v10 with _ | a11
      · exact gh_stk_inv h
      replace h := gh_nn_ss h
      obtain ⟨⟨fs9, hg9⟩, h⟩ := gh_is_inv h
      refine gr_castY (pc := 99) C gh_cX6 q877 (Or.inl rfl) dX1_wouldFall_99 hg9 ?_
      refine gr_getiN (pc := 102) C gh_bX6 (k := 5) (Nat.le_of_ble_eq_true rfl) q991 (fun _ h => h) dX1_wouldFall_102 h fun v12 h => ?_
      refine gr_iconst (pc := 105) (v := (3 : Int32)) C rfl dX1_wouldFall_105 ?_
      refine gr_icmp_ne (pc := 106) (tgt := 119) C rfl dX1_wouldFall_106 (fun c9 => ?_) (fun c9 => ?_)
      · replace h := gh_iff h c9
        exact w_X1_wouldFall_119 C (some a6) (some a1) p5 (gl_sub hl [1, 3] rfl) h hk
      · replace h := gh_ift h c9
        refine gr_iconst (pc := 109) (v := (1 : Int32)) C rfl dX1_wouldFall_109 ?_
        refine gr_aload (pc := 110) (i := 7) C (gl_at hl 0 rfl) dX1_wouldFall_110 ?_
        refine gr_getiN (pc := 112) C gh_bX6 (k := 0) (Nat.le_of_ble_eq_true rfl) q976 (fun _ h => h) dX1_wouldFall_112 h fun v13 h => ?_
        refine gr_ishl (pc := 115) C dX1_wouldFall_115 ?_
        refine gr_goto (pc := 116) (tgt := 120) C rfl dX1_wouldFall_116 ?_
        exact w_X1_wouldFall_120 C (some a6) (some a1) p5 ((1 : Int32) <<< (v13 &&& 31)) (gl_sub hl [1, 3] rfl) h hk

noncomputable def f_X1_wouldFall_54 (p2 : Option Nat) (p5 : Int32) (p6 : Option Nat) : gh_M Int32 := gh_it (fun st : Int32 => f_X1_wouldFall_54_l p2 st p6) (p5)
theorem w_X1_wouldFall_54 {x : gh_C} {g : gh_G} {o : (Int32 ⊕ gh_X) × gh_G} {ls : Array Slot} (C : gh_K x cX1_wouldFall "GargoyleTower" 8 (some .int) "wouldFall" 49 1048 []) (p2 : Option Nat) (p5 : Int32) (p6 : Option Nat) (hl : gh_lv ls 8 [(2, va_rf p2), (5, .int p5), (6, va_rf p6)]) (h : gh_run (f_X1_wouldFall_54 p2 p5 p6) g = some o) (hk : (gh_K0 x gh_rI) o) : gh_Wd x g (F0 (gh_cm x) 54 ls []) := by
  unfold f_X1_wouldFall_54 at h
  exact gh_loop gh_K0_b (fun st : Int32 => f_X1_wouldFall_54_l p2 st p6) (gp_X1_wouldFall_54 x p2 p6) (fun st g o h hk ls hl => w_X1_wouldFall_54_l C p2 st p6 hl h hk) _ g o h hk ls hl
noncomputable def f_X1_wouldFall_37 (t0 : Nat) (p2 : Option Nat) (s0 : Int32) : gh_M Int32 :=
  gh_bd (gh_getr t0 0 0) fun v1 =>
  gh_nn v1 fun a2 =>
  gh_bd (gh_getr a2 1 6) fun v3 =>
  gh_nn v3 fun a4 =>
  gh_bd (gh_is a4 11) fun _ =>
  gh_bd (f_J2_iterator a4) fun v5 =>
  f_X1_wouldFall_54 p2 (0 : Int32) v5
theorem w_X1_wouldFall_37 {x : gh_C} {g : gh_G} {o : (Int32 ⊕ gh_X) × gh_G} {ls : Array Slot} (C : gh_K x cX1_wouldFall "GargoyleTower" 8 (some .int) "wouldFall" 49 1048 []) (t0 : Nat) (p2 : Option Nat) (s0 : Int32) (hl : gh_lv ls 8 [(0, va_rf (some t0)), (2, va_rf p2)]) (h : gh_run (f_X1_wouldFall_37 t0 p2 s0) g = some o) (hk : (gh_K0 x gh_rI) o) : gh_Wd x g (F0 (gh_cm x) 37 ls [.int s0]) := by
  unfold f_X1_wouldFall_37 at h
  refine gr_istore (pc := 37) (i := 4) (l' := [(4, .int s0), (0, va_rf (some t0)), (2, va_rf p2)]) C hl (Nat.le_of_ble_eq_true rfl) rfl dX1_wouldFall_37 fun ls hl => ?_
  refine gr_iconst (pc := 39) (v := (0 : Int32)) C rfl dX1_wouldFall_39 ?_
  refine gr_istore (pc := 40) (i := 5) (l' := [(5, .int (0 : Int32)), (4, .int s0), (0, va_rf (some t0)), (2, va_rf p2)]) C hl (Nat.le_of_ble_eq_true rfl) rfl dX1_wouldFall_40 fun ls hl => ?_
  refine gr_aload_n (pc := 42) (i := 0) C rfl (gl_at hl 2 rfl) dX1_wouldFall_42 ?_
  refine gr_getr (pc := 43) C gh_bX1 (k := 0) (Nat.le_of_ble_eq_true rfl) q271 (fun _ h => h) dX1_wouldFall_43 h fun v1 h => ?_
  rcases v1 with _ | a2
  · exact gh_stk_inv h
  replace h := gh_nn_ss h
  refine gr_getrN (pc := 46) C gh_bX2 (k := 6) (Nat.le_of_ble_eq_true rfl) q196 (fun _ h => h) dX1_wouldFall_46 h fun v3 h => ?_
  rcases v3 with _ | a4
  · exact gh_stk_inv h
  replace h := gh_nn_ss h
  obtain ⟨⟨fs9, hg9⟩, h⟩ := gh_is_inv h
  refine gh_callQ (pc := 49) (rest := []) C (k_J2_iterator C.tr a4) (Nat.le_of_ble_eq_true rfl) (Nat.le_of_ble_eq_true rfl) (gh_r4 (Nat.le_of_ble_eq_true rfl)) (fun H9 L9 hp9 => gi_V C hp9 hg9 gh_cJ2 q308 q309 q310 q311 mh_J2 np46 rfl hl.1.1 dX1_wouldFall_49 rfl) h (gh_K0_b _ hk) (fun v5 g h => ?_) (fun e g h => ?_)
  rotate_left
  ·
    exact gh_out C (fun _ h => nomatch h) h hk
  refine gr_astore (pc := 52) (i := 6) (l' := [(6, va_rf v5), (5, .int (0 : Int32)), (4, .int s0), (0, va_rf (some t0)), (2, va_rf p2)]) C hl (Nat.le_of_ble_eq_true rfl) rfl dX1_wouldFall_52 fun ls hl => ?_
  exact w_X1_wouldFall_54 C p2 (0 : Int32) v5 (gl_sub hl [4, 1, 0] rfl) h hk

noncomputable def f_X1_wouldFall (t0 : Nat) (p1 : Int32) : gh_M Int32 :=
  gh_bd (f_X1_checkIndex p1 (20 : Int32)) fun _ =>
  gh_bd (gh_new 1 9 gh_nX2) fun a2 =>
  gh_bd (gh_getr t0 0 0) fun v3 =>
  gh_bd (f_X2_init_2 a2 v3) fun _ =>
  gh_bd (gh_is a2 1) fun _ =>
  gh_bd (f_X2_blockIn a2 p1) fun v5 =>
  gh_on v5
  (f_X1_wouldFall_37 t0 (some a2) (0 : Int32))
  (fun b6 => gh_bd (gh_is a2 1) fun _ =>
  gh_bd (f_X2_fall 8 a2 (some b6)) fun v7 =>
  f_X1_wouldFall_37 t0 (some a2) v7)
theorem w_X1_wouldFall {x : gh_C} {g : gh_G} {o : (Int32 ⊕ gh_X) × gh_G} {ls : Array Slot} (C : gh_K x cX1_wouldFall "GargoyleTower" 8 (some .int) "wouldFall" 49 1048 []) (t0 : Nat) (p1 : Int32) (hl : gh_lv ls 8 [(0, va_rf (some t0)), (1, .int p1)]) (h : gh_run (f_X1_wouldFall t0 p1) g = some o) (hk : (gh_K0 x gh_rI) o) : gh_Wd x g (F0 (gh_cm x) 0 ls []) := by
  unfold f_X1_wouldFall at h
  refine gr_iload_n (pc := 0) (i := 1) C rfl (gl_at hl 1 rfl) dX1_wouldFall_0 ?_
  refine gr_bipush (pc := 1) (v := (20 : Int32)) C rfl dX1_wouldFall_1 ?_
  refine gh_callV (pc := 3) (rest := []) C (k_X1_checkIndex C.tr p1 (20 : Int32)) (Nat.le_of_ble_eq_true rfl) (Nat.le_of_ble_eq_true rfl) (gh_r4 (Nat.le_of_ble_eq_true rfl)) (fun H9 L9 hp9 => gi_S C q1646 q1228 q75 q1229 mh_X1 np30 rfl hl.1.1 dX1_wouldFall_3 rfl) h (gh_K0_b _ hk) (fun g h => ?_) (fun e g h => ?_)
  rotate_left
  ·
    exact gh_out C (fun _ h => nomatch h) h hk
  refine gr_newo (pc := 6) C gh_bX2 q132 q133 q76 gh_dX2 dX1_wouldFall_6 h (gh_K0_b _ hk) fun a2 g h => ?_
  refine gr_dup (pc := 9) C (gh_cat _) dX1_wouldFall_9 ?_
  refine gr_aload_n (pc := 10) (i := 0) C rfl (gl_at hl 0 rfl) dX1_wouldFall_10 ?_
  refine gr_getr (pc := 11) C gh_bX1 (k := 0) (Nat.le_of_ble_eq_true rfl) q271 (fun _ h => h) dX1_wouldFall_11 h fun v3 h => ?_
  refine gh_callV (pc := 14) (rest := [va_rf (some a2)]) C (k_X2_init_2 C.tr a2 v3) (Nat.le_of_ble_eq_true rfl) (Nat.le_of_ble_eq_true rfl) (gh_r4 (Nat.le_of_ble_eq_true rfl)) (fun H9 L9 hp9 => gi_I C q961 rfl q962 q963 mh_X2 np70 rfl hl.1.1 dX1_wouldFall_14 rfl) h (gh_K0_b _ hk) (fun g h => ?_) (fun e g h => ?_)
  rotate_left
  ·
    exact gh_out C (fun _ h => nomatch h) h hk
  refine gr_astore_n (pc := 17) (i := 2) (l' := [(2, va_rf (some a2)), (0, va_rf (some t0)), (1, .int p1)]) C rfl hl (Nat.le_of_ble_eq_true rfl) rfl dX1_wouldFall_17 fun ls hl => ?_
  refine gr_aload_n (pc := 18) (i := 2) C rfl (gl_at hl 0 rfl) dX1_wouldFall_18 ?_
  refine gr_iload_n (pc := 19) (i := 1) C rfl (gl_at hl 2 rfl) dX1_wouldFall_19 ?_
  obtain ⟨⟨fs9, hg9⟩, h⟩ := gh_is_inv h
  refine gh_callQ (pc := 20) (rest := []) C (k_X2_blockIn C.tr a2 p1) (Nat.le_of_ble_eq_true rfl) (Nat.le_of_ble_eq_true rfl) (gh_r4 (Nat.le_of_ble_eq_true rfl)) (fun H9 L9 hp9 => gi_V C hp9 hg9 gh_cX2 q947 q948 q949 q950 mh_X2 np52 rfl hl.1.1 dX1_wouldFall_20 rfl) h (gh_K0_b _ hk) (fun v5 g h => ?_) (fun e g h => ?_)
  rotate_left
  ·
    exact gh_out C (fun _ h => nomatch h) h hk
  refine gr_astore_n (pc := 23) (i := 3) (l' := [(3, va_rf v5), (2, va_rf (some a2)), (0, va_rf (some t0)), (1, .int p1)]) C rfl hl (Nat.le_of_ble_eq_true rfl) rfl dX1_wouldFall_23 fun ls hl => ?_
  refine gr_aload_n (pc := 24) (i := 3) C rfl (gl_at hl 0 rfl) dX1_wouldFall_24 ?_
  refine gr_ifnonnull (pc := 25) (tgt := 32) C rfl dX1_wouldFall_25 (fun b6 c9 => ?_) (fun c9 => ?_)
  · subst c9
    replace h := gh_on_s h
    refine gr_aload_n (pc := 32) (i := 2) C rfl (gl_at hl 1 rfl) dX1_wouldFall_32 ?_
    refine gr_aload_n (pc := 33) (i := 3) C rfl (gl_at hl 0 rfl) dX1_wouldFall_33 ?_
    obtain ⟨⟨fs9, hg9⟩, h⟩ := gh_is_inv h
    refine gh_callI (pc := 34) (rest := []) C (k_X2_fall C.tr a2 (some b6)) (Nat.le_of_ble_eq_true rfl) (Nat.le_of_ble_eq_true rfl) (gh_r4 (Nat.le_of_ble_eq_true rfl)) (fun H9 L9 hp9 => gi_V C hp9 hg9 gh_cX2 q1661 q1366 q1367 q1368 mh_X2 np59 rfl hl.1.1 dX1_wouldFall_34 rfl) h (gh_K0_b _ hk) (fun v7 g h => ?_) (fun e g h => ?_)
    rotate_left
    ·
      exact gh_out C (fun _ h => nomatch h) h hk
    exact w_X1_wouldFall_37 C t0 (some a2) v7 (gl_sub hl [2, 1] rfl) h hk
  · subst c9
    replace h := gh_on_n h
    refine gr_iconst (pc := 28) (v := (0 : Int32)) C rfl dX1_wouldFall_28 ?_
    refine gr_goto (pc := 29) (tgt := 37) C rfl dX1_wouldFall_29 ?_
    exact w_X1_wouldFall_37 C t0 (some a2) (0 : Int32) (gl_sub hl [2, 1] rfl) h hk

theorem k_X1_wouldFall {l : Launch} (hst : l.stackTraces = false) (t0 : Nat) (p1 : Int32) : gh_Ct l yX1_wouldFall 49 1067 (f_X1_wouldFall t0 p1) gh_rI [va_rf (some t0), .int p1] := gh_intro2 (L1 := 1048) hst (by decide +kernel) q1660 q75 rfl ⟨gh_cat _, rfl, trivial⟩ (Nat.le_of_ble_eq_true rfl) fun x o ls hl C h hk => w_X1_wouldFall C t0 p1 hl h hk
-- GargoyleTower.wouldFallAgain(I)I
def gp_X1_wouldFallAgain_38 (x : gh_C) (t0 : Nat) (st : (Option Nat) × Int32 × (Option Nat)) (g : gh_G) : Prop := ∀ ls : Array Slot, gh_lv ls 5 [(0, va_rf (some t0)), (2, va_rf st.1), (3, .int st.2.1), (4, va_rf st.2.2)] → gh_Wd x g (F0 (gh_cm x) 38 ls [])
noncomputable def f_X1_wouldFallAgain_38_l (t0 : Nat) (p2 : Option Nat) (p3 : Int32) (p4 : Option Nat) : gh_M (((Option Nat) × Int32 × (Option Nat)) ⊕ Int32) :=
  gh_on p4
  (gh_up (gh_ret p3))
  (fun b1 => gh_nn p2 fun a2 =>
  gh_bd (gh_geti a2 5 1) fun v3 =>
  gh_bd (gh_is b1 5) fun _ =>
  gh_bd (f_X11_wouldBeLoose b1 v3) fun v4 =>
  if v4 = 0 then
  (gh_up (gh_ret p3))
  else
  (gh_bd (gh_geti b1 5 0) fun v5 =>
  gh_bd (gh_getr t0 0 0) fun v6 =>
  gh_bd (gh_geti b1 5 6) fun v7 =>
  gh_nn v6 fun a8 =>
  gh_bd (gh_is a8 1) fun _ =>
  gh_bd (f_X2_blockBelow a8 v7) fun v9 =>
  gh_ret (.inl (some b1, p3 ||| ((1 : Int32) <<< (v5 &&& 31)), v9))))
theorem w_X1_wouldFallAgain_38_l {x : gh_C} {g : gh_G} {o : ((((Option Nat) × Int32 × (Option Nat)) ⊕ Int32) ⊕ gh_X) × gh_G} {ls : Array Slot} (C : gh_K x cX1_wouldFallAgain "GargoyleTower" 5 (some .int) "wouldFallAgain" 8 131 []) (t0 : Nat) (p2 : Option Nat) (p3 : Int32) (p4 : Option Nat) (hl : gh_lv ls 5 [(0, va_rf (some t0)), (2, va_rf p2), (3, .int p3), (4, va_rf p4)]) (h : gh_run (f_X1_wouldFallAgain_38_l t0 p2 p3 p4) g = some o) (hk : (gh_K1 x (gh_K0 x gh_rI) (gp_X1_wouldFallAgain_38 x t0)) o) : gh_Wd x g (F0 (gh_cm x) 38 ls []) := by
  unfold f_X1_wouldFallAgain_38_l at h
  refine gr_aload (pc := 38) (i := 4) C (gl_at hl 3 rfl) dX1_wouldFallAgain_38 ?_
  refine gr_ifnull (pc := 40) (tgt := 84) C rfl dX1_wouldFallAgain_40 (fun c9 => ?_) (fun b1 c9 => ?_)
  · subst c9
    replace h := gh_on_n h
    refine gr_iload_n (pc := 84) (i := 3) C rfl (gl_at hl 2 rfl) dX1_wouldFallAgain_84 ?_
    obtain ⟨o, h, hk⟩ := gh_K1_up h hk
    exact gr_iret (pc := 85) C dX1_wouldFallAgain_85 h hk
  · subst c9
    replace h := gh_on_s h
    refine gr_aload (pc := 43) (i := 4) C (gl_at hl 3 rfl) dX1_wouldFallAgain_43 ?_
    refine gr_aload_n (pc := 45) (i := 2) C rfl (gl_at hl 1 rfl) dX1_wouldFallAgain_45 ?_
    rcases p2 with _ | a2
    · exact gh_stk_inv h
    replace h := gh_nn_ss h
    refine gr_getiN (pc := 46) C gh_bX6 (k := 1) (Nat.le_of_ble_eq_true rfl) q980 (fun _ h => h) dX1_wouldFallAgain_46 h fun v3 h => ?_
    obtain ⟨⟨fs9, hg9⟩, h⟩ := gh_is_inv h
    refine gh_callI (pc := 49) (rest := []) C (k_X11_wouldBeLoose C.tr b1 v3) (Nat.le_of_ble_eq_true rfl) (Nat.le_of_ble_eq_true rfl) (gh_r4 (Nat.le_of_ble_eq_true rfl)) (fun H9 L9 hp9 => gi_VD C hp9 hg9 gh_cX6 (dw_14) (dw_15) q1670 mh_X11 (by decide +kernel) q1672 np2 rfl hl.1.1 dX1_wouldFallAgain_49 rfl) h ((gh_K1_b gh_K0_b) _ hk) (fun v4 g h => ?_) (fun e g h => ?_)
    rotate_left
    ·
      obtain ⟨o, h, hk⟩ := gh_K1_thr h hk
      exact gh_out C (fun _ h => nomatch h) h hk
    refine gr_if_eq (pc := 52) (tgt := 84) C rfl dX1_wouldFallAgain_52 (fun c9 => ?_) (fun c9 => ?_)
    · replace h := gh_ift h c9
      refine gr_iload_n (pc := 84) (i := 3) C rfl (gl_at hl 2 rfl) dX1_wouldFallAgain_84 ?_
      obtain ⟨o, h, hk⟩ := gh_K1_up h hk
      exact gr_iret (pc := 85) C dX1_wouldFallAgain_85 h hk
    · replace h := gh_iff h c9
      refine gr_iload_n (pc := 55) (i := 3) C rfl (gl_at hl 2 rfl) dX1_wouldFallAgain_55 ?_
      refine gr_iconst (pc := 56) (v := (1 : Int32)) C rfl dX1_wouldFallAgain_56 ?_
      refine gr_aload (pc := 57) (i := 4) C (gl_at hl 3 rfl) dX1_wouldFallAgain_57 ?_
      refine gr_getiN (pc := 59) C gh_bX6 (k := 0) (Nat.le_of_ble_eq_true rfl) q976 (fun _ h => h) dX1_wouldFallAgain_59 h fun v5 h => ?_
      refine gr_ishl (pc := 62) C dX1_wouldFallAgain_62 ?_
      refine gr_ior (pc := 63) C dX1_wouldFallAgain_63 ?_
      refine gr_istore_n (pc := 64) (i := 3) (l' := [(3, .int (p3 ||| ((1 : Int32) <<< (v5 &&& 31)))), (0, va_rf (some t0)), (2, va_rf (some a2)), (4, va_rf (some b1))]) C rfl hl (Nat.le_of_ble_eq_true rfl) rfl dX1_wouldFallAgain_64 fun ls hl => ?_
      refine gr_aload (pc := 65) (i := 4) C (gl_at hl 3 rfl) dX1_wouldFallAgain_65 ?_
      refine gr_astore_n (pc := 67) (i := 2) (l' := [(2, va_rf (some b1)), (3, .int (p3 ||| ((1 : Int32) <<< (v5 &&& 31)))), (0, va_rf (some t0)), (4, va_rf (some b1))]) C rfl hl (Nat.le_of_ble_eq_true rfl) rfl dX1_wouldFallAgain_67 fun ls hl => ?_
      refine gr_aload_n (pc := 68) (i := 0) C rfl (gl_at hl 2 rfl) dX1_wouldFallAgain_68 ?_
      refine gr_getr (pc := 69) C gh_bX1 (k := 0) (Nat.le_of_ble_eq_true rfl) q271 (fun _ h => h) dX1_wouldFallAgain_69 h fun v6 h => ?_
      refine gr_aload_n (pc := 72) (i := 2) C rfl (gl_at hl 0 rfl) dX1_wouldFallAgain_72 ?_
      refine gr_getiN (pc := 73) C gh_bX6 (k := 6) (Nat.le_of_ble_eq_true rfl) q994 (fun _ h => h) dX1_wouldFallAgain_73 h fun v7 h => ?_
      rcases v6 with _ | a8
      · exact gh_stk_inv h
      replace h := gh_nn_ss h
      obtain ⟨⟨fs9, hg9⟩, h⟩ := gh_is_inv h
      refine gh_callQ (pc := 76) (rest := []) C (k_X2_blockBelow C.tr a8 v7) (Nat.le_of_ble_eq_true rfl) (Nat.le_of_ble_eq_true rfl) (gh_r4 (Nat.le_of_ble_eq_true rfl)) (fun H9 L9 hp9 => gi_V C hp9 hg9 gh_cX2 q1669 q1370 q1371 q1372 mh_X2 np52 rfl hl.1.1 dX1_wouldFallAgain_76 rfl) h ((gh_K1_b gh_K0_b) _ hk) (fun v9 g h => ?_) (fun e g h => ?_)
      rotate_left
      ·
        obtain ⟨o, h, hk⟩ := gh_K1_thr h hk
        exact gh_out C (fun _ h => nomatch h) h hk
      refine gr_astore (pc := 79) (i := 4) (l' := [(4, va_rf v9), (2, va_rf (some b1)), (3, .int (p3 ||| ((1 : Int32) <<< (v5 &&& 31)))), (0, va_rf (some t0))]) C hl (Nat.le_of_ble_eq_true rfl) rfl dX1_wouldFallAgain_79 fun ls hl => ?_
      refine gr_goto (pc := 81) (tgt := 38) C rfl dX1_wouldFallAgain_81 ?_
      exact gh_K1_in h hk ls (gl_sub hl [3, 1, 2, 0] rfl)

noncomputable def f_X1_wouldFallAgain_38 (t0 : Nat) (p2 : Option Nat) (p3 : Int32) (p4 : Option Nat) : gh_M Int32 := gh_it (fun st : (Option Nat) × Int32 × (Option Nat) => f_X1_wouldFallAgain_38_l t0 st.1 st.2.1 st.2.2) (p2, p3, p4)
theorem w_X1_wouldFallAgain_38 {x : gh_C} {g : gh_G} {o : (Int32 ⊕ gh_X) × gh_G} {ls : Array Slot} (C : gh_K x cX1_wouldFallAgain "GargoyleTower" 5 (some .int) "wouldFallAgain" 8 131 []) (t0 : Nat) (p2 : Option Nat) (p3 : Int32) (p4 : Option Nat) (hl : gh_lv ls 5 [(0, va_rf (some t0)), (2, va_rf p2), (3, .int p3), (4, va_rf p4)]) (h : gh_run (f_X1_wouldFallAgain_38 t0 p2 p3 p4) g = some o) (hk : (gh_K0 x gh_rI) o) : gh_Wd x g (F0 (gh_cm x) 38 ls []) := by
  unfold f_X1_wouldFallAgain_38 at h
  exact gh_loop gh_K0_b (fun st : (Option Nat) × Int32 × (Option Nat) => f_X1_wouldFallAgain_38_l t0 st.1 st.2.1 st.2.2) (gp_X1_wouldFallAgain_38 x t0) (fun st g o h hk ls hl => w_X1_wouldFallAgain_38_l C t0 st.1 st.2.1 st.2.2 hl h hk) _ g o h hk ls hl
noncomputable def f_X1_wouldFallAgain (t0 : Nat) (p1 : Int32) : gh_M Int32 :=
  gh_bd (f_X1_checkIndex p1 (20 : Int32)) fun _ =>
  gh_bd (gh_getr t0 0 0) fun v2 =>
  gh_nn v2 fun a3 =>
  gh_bd (gh_is a3 1) fun _ =>
  gh_bd (f_X2_blockIn a3 p1) fun v4 =>
  gh_on v4
  (gh_ret (0 : Int32))
  (fun b5 => gh_bd (gh_geti b5 5 0) fun v6 =>
  gh_bd (gh_getr t0 0 0) fun v7 =>
  gh_nn v7 fun a8 =>
  gh_bd (gh_is a8 1) fun _ =>
  gh_bd (f_X2_blockBelow a8 p1) fun v9 =>
  f_X1_wouldFallAgain_38 t0 (some b5) ((1 : Int32) <<< (v6 &&& 31)) v9)
theorem w_X1_wouldFallAgain {x : gh_C} {g : gh_G} {o : (Int32 ⊕ gh_X) × gh_G} {ls : Array Slot} (C : gh_K x cX1_wouldFallAgain "GargoyleTower" 5 (some .int) "wouldFallAgain" 8 131 []) (t0 : Nat) (p1 : Int32) (hl : gh_lv ls 5 [(0, va_rf (some t0)), (1, .int p1)]) (h : gh_run (f_X1_wouldFallAgain t0 p1) g = some o) (hk : (gh_K0 x gh_rI) o) : gh_Wd x g (F0 (gh_cm x) 0 ls []) := by
  unfold f_X1_wouldFallAgain at h
  refine gr_iload_n (pc := 0) (i := 1) C rfl (gl_at hl 1 rfl) dX1_wouldFallAgain_0 ?_
  refine gr_bipush (pc := 1) (v := (20 : Int32)) C rfl dX1_wouldFallAgain_1 ?_
  refine gh_callV (pc := 3) (rest := []) C (k_X1_checkIndex C.tr p1 (20 : Int32)) (Nat.le_of_ble_eq_true rfl) (Nat.le_of_ble_eq_true rfl) (gh_r4 (Nat.le_of_ble_eq_true rfl)) (fun H9 L9 hp9 => gi_S C q1646 q1228 q75 q1229 mh_X1 np30 rfl hl.1.1 dX1_wouldFallAgain_3 rfl) h (gh_K0_b _ hk) (fun g h => ?_) (fun e g h => ?_)
  rotate_left
  ·
    exact gh_out C (fun _ h => nomatch h) h hk
  refine gr_aload_n (pc := 6) (i := 0) C rfl (gl_at hl 0 rfl) dX1_wouldFallAgain_6 ?_
  refine gr_getr (pc := 7) C gh_bX1 (k := 0) (Nat.le_of_ble_eq_true rfl) q271 (fun _ h => h) dX1_wouldFallAgain_7 h fun v2 h => ?_
  refine gr_iload_n (pc := 10) (i := 1) C rfl (gl_at hl 1 rfl) dX1_wouldFallAgain_10 ?_
  rcases v2 with _ | a3
  · exact gh_stk_inv h
  replace h := gh_nn_ss h
  obtain ⟨⟨fs9, hg9⟩, h⟩ := gh_is_inv h
  refine gh_callQ (pc := 11) (rest := []) C (k_X2_blockIn C.tr a3 p1) (Nat.le_of_ble_eq_true rfl) (Nat.le_of_ble_eq_true rfl) (gh_r4 (Nat.le_of_ble_eq_true rfl)) (fun H9 L9 hp9 => gi_V C hp9 hg9 gh_cX2 q947 q948 q949 q950 mh_X2 np52 rfl hl.1.1 dX1_wouldFallAgain_11 rfl) h (gh_K0_b _ hk) (fun v4 g h => ?_) (fun e g h => ?_)
  rotate_left
  ·
    exact gh_out C (fun _ h => nomatch h) h hk
  refine gr_astore_n (pc := 14) (i := 2) (l' := [(2, va_rf v4), (0, va_rf (some t0)), (1, .int p1)]) C rfl hl (Nat.le_of_ble_eq_true rfl) rfl dX1_wouldFallAgain_14 fun ls hl => ?_
  refine gr_aload_n (pc := 15) (i := 2) C rfl (gl_at hl 0 rfl) dX1_wouldFallAgain_15 ?_
  refine gr_ifnonnull (pc := 16) (tgt := 21) C rfl dX1_wouldFallAgain_16 (fun b5 c9 => ?_) (fun c9 => ?_)
  · subst c9
    replace h := gh_on_s h
    refine gr_iconst (pc := 21) (v := (1 : Int32)) C rfl dX1_wouldFallAgain_21 ?_
    refine gr_aload_n (pc := 22) (i := 2) C rfl (gl_at hl 0 rfl) dX1_wouldFallAgain_22 ?_
    refine gr_getiN (pc := 23) C gh_bX6 (k := 0) (Nat.le_of_ble_eq_true rfl) q976 (fun _ h => h) dX1_wouldFallAgain_23 h fun v6 h => ?_
    refine gr_ishl (pc := 26) C dX1_wouldFallAgain_26 ?_
    refine gr_istore_n (pc := 27) (i := 3) (l' := [(3, .int ((1 : Int32) <<< (v6 &&& 31))), (2, va_rf (some b5)), (0, va_rf (some t0)), (1, .int p1)]) C rfl hl (Nat.le_of_ble_eq_true rfl) rfl dX1_wouldFallAgain_27 fun ls hl => ?_
    refine gr_aload_n (pc := 28) (i := 0) C rfl (gl_at hl 2 rfl) dX1_wouldFallAgain_28 ?_
    refine gr_getr (pc := 29) C gh_bX1 (k := 0) (Nat.le_of_ble_eq_true rfl) q271 (fun _ h => h) dX1_wouldFallAgain_29 h fun v7 h => ?_
    refine gr_iload_n (pc := 32) (i := 1) C rfl (gl_at hl 3 rfl) dX1_wouldFallAgain_32 ?_
    rcases v7 with _ | a8
    · exact gh_stk_inv h
    replace h := gh_nn_ss h
    obtain ⟨⟨fs9, hg9⟩, h⟩ := gh_is_inv h
    refine gh_callQ (pc := 33) (rest := []) C (k_X2_blockBelow C.tr a8 p1) (Nat.le_of_ble_eq_true rfl) (Nat.le_of_ble_eq_true rfl) (gh_r4 (Nat.le_of_ble_eq_true rfl)) (fun H9 L9 hp9 => gi_V C hp9 hg9 gh_cX2 q1669 q1370 q1371 q1372 mh_X2 np52 rfl hl.1.1 dX1_wouldFallAgain_33 rfl) h (gh_K0_b _ hk) (fun v9 g h => ?_) (fun e g h => ?_)
    rotate_left
    ·
      exact gh_out C (fun _ h => nomatch h) h hk
    refine gr_astore (pc := 36) (i := 4) (l' := [(4, va_rf v9), (3, .int ((1 : Int32) <<< (v6 &&& 31))), (2, va_rf (some b5)), (0, va_rf (some t0)), (1, .int p1)]) C hl (Nat.le_of_ble_eq_true rfl) rfl dX1_wouldFallAgain_36 fun ls hl => ?_
    exact w_X1_wouldFallAgain_38 C t0 (some b5) ((1 : Int32) <<< (v6 &&& 31)) v9 (gl_sub hl [3, 2, 1, 0] rfl) h hk
  · subst c9
    replace h := gh_on_n h
    refine gr_iconst (pc := 19) (v := (0 : Int32)) C rfl dX1_wouldFallAgain_19 ?_
    exact gr_iret (pc := 20) C dX1_wouldFallAgain_20 h hk

theorem k_X1_wouldFallAgain {l : Launch} (hst : l.stackTraces = false) (t0 : Nat) (p1 : Int32) : gh_Ct l yX1_wouldFallAgain 8 147 (f_X1_wouldFallAgain t0 p1) gh_rI [va_rf (some t0), .int p1] := gh_intro2 (L1 := 131) hst (by decide +kernel) q1668 q75 rfl ⟨gh_cat _, rfl, trivial⟩ (Nat.le_of_ble_eq_true rfl) fun x o ls hl C h hk => w_X1_wouldFallAgain C t0 p1 hl h hk
-- GargoyleTower.commissionOf(II)I
noncomputable def f_X1_commissionOf (t0 : Nat) (p1 : Int32) (p2 : Int32) : gh_M Int32 :=
  gh_bd (gh_getr t0 0 0) fun v1 =>
  gh_nn v1 fun a2 =>
  gh_bd (gh_is a2 1) fun _ =>
  gh_bd (f_X2_commission a2 p1) fun v3 =>
  gh_bd (f_X1_inRange p2 (0 : Int32) (4 : Int32)) fun v4 =>
  gh_bd (f_X1_checkArgument v4) fun _ =>
  if p2 = (0 : Int32) then
  (gh_nn v3 fun a6 =>
  gh_bd (gh_geti a6 7 0) fun v7 =>
  gh_ret v7)
  else if p2 = (1 : Int32) then
  (gh_nn v3 fun a8 =>
  gh_bd (gh_geti a8 7 1) fun v9 =>
  gh_ret v9)
  else if p2 = (2 : Int32) then
  (gh_nn v3 fun a10 =>
  gh_bd (gh_geti a10 7 2) fun v11 =>
  gh_ret v11)
  else if p2 = (3 : Int32) then
  (gh_nn v3 fun a12 =>
  gh_bd (gh_geti a12 7 3) fun v13 =>
  gh_ret v13)
  else (gh_bd (gh_getr t0 0 0) fun v14 =>
  gh_nn v14 fun a15 =>
  gh_bd (gh_is a15 1) fun _ =>
  gh_bd (f_X2_nicheFor a15 v3) fun v16 =>
  gh_ret v16)
theorem w_X1_commissionOf {x : gh_C} {g : gh_G} {o : (Int32 ⊕ gh_X) × gh_G} {ls : Array Slot} (C : gh_K x cX1_commissionOf "GargoyleTower" 4 (some .int) "commissionOf" 9 157 []) (t0 : Nat) (p1 : Int32) (p2 : Int32) (hl : gh_lv ls 4 [(0, va_rf (some t0)), (1, .int p1), (2, .int p2)]) (h : gh_run (f_X1_commissionOf t0 p1 p2) g = some o) (hk : (gh_K0 x gh_rI) o) : gh_Wd x g (F0 (gh_cm x) 0 ls []) := by
  unfold f_X1_commissionOf at h
  refine gr_aload_n (pc := 0) (i := 0) C rfl (gl_at hl 0 rfl) dX1_commissionOf_0 ?_
  refine gr_getr (pc := 1) C gh_bX1 (k := 0) (Nat.le_of_ble_eq_true rfl) q271 (fun _ h => h) dX1_commissionOf_1 h fun v1 h => ?_
  refine gr_iload_n (pc := 4) (i := 1) C rfl (gl_at hl 1 rfl) dX1_commissionOf_4 ?_
  rcases v1 with _ | a2
  · exact gh_stk_inv h
  replace h := gh_nn_ss h
  obtain ⟨⟨fs9, hg9⟩, h⟩ := gh_is_inv h
  refine gh_callQ (pc := 5) (rest := []) C (k_X2_commission C.tr a2 p1) (Nat.le_of_ble_eq_true rfl) (Nat.le_of_ble_eq_true rfl) (gh_r4 (Nat.le_of_ble_eq_true rfl)) (fun H9 L9 hp9 => gi_V C hp9 hg9 gh_cX2 q1707 q1327 q1328 q1329 mh_X2 np61 rfl hl.1.1 dX1_commissionOf_5 rfl) h (gh_K0_b _ hk) (fun v3 g h => ?_) (fun e g h => ?_)
  rotate_left
  ·
    exact gh_out C (fun _ h => nomatch h) h hk
  refine gr_astore_n (pc := 8) (i := 3) (l' := [(3, va_rf v3), (0, va_rf (some t0)), (1, .int p1), (2, .int p2)]) C rfl hl (Nat.le_of_ble_eq_true rfl) rfl dX1_commissionOf_8 fun ls hl => ?_
  refine gr_iload_n (pc := 9) (i := 2) C rfl (gl_at hl 3 rfl) dX1_commissionOf_9 ?_
  refine gr_iconst (pc := 10) (v := (0 : Int32)) C rfl dX1_commissionOf_10 ?_
  refine gr_iconst (pc := 11) (v := (4 : Int32)) C rfl dX1_commissionOf_11 ?_
  refine gh_callI (pc := 12) (rest := []) C (k_X1_inRange C.tr p2 (0 : Int32) (4 : Int32)) (Nat.le_of_ble_eq_true rfl) (Nat.le_of_ble_eq_true rfl) (gh_r4 (Nat.le_of_ble_eq_true rfl)) (fun H9 L9 hp9 => gi_S C q1230 q1231 q75 q1232 mh_X1 np54 rfl hl.1.1 dX1_commissionOf_12 rfl) h (gh_K0_b _ hk) (fun v4 g h => ?_) (fun e g h => ?_)
  rotate_left
  ·
    exact gh_out C (fun _ h => nomatch h) h hk
  refine gh_callV (pc := 15) (rest := []) C (k_X1_checkArgument C.tr v4) (Nat.le_of_ble_eq_true rfl) (Nat.le_of_ble_eq_true rfl) (gh_r4 (Nat.le_of_ble_eq_true rfl)) (fun H9 L9 hp9 => gi_S C q1519 q1241 q75 q1242 mh_X1 np55 rfl hl.1.1 dX1_commissionOf_15 rfl) h (gh_K0_b _ hk) (fun g h => ?_) (fun e g h => ?_)
  rotate_left
  ·
    exact gh_out C (fun _ h => nomatch h) h hk
  refine gr_iload_n (pc := 18) (i := 2) C rfl (gl_at hl 3 rfl) dX1_commissionOf_18 ?_
  by_cases k0 : p2 = (0 : Int32)
  · replace h := gh_ift h k0
    refine gr_table (pc := 19) (v := (0 : Int32)) (off := 29) (tgt := 48) C k0 (by decide) (by decide) (by decide) rfl dX1_commissionOf_19 ?_
    refine gr_aload_n (pc := 48) (i := 3) C rfl (gl_at hl 0 rfl) dX1_commissionOf_48 ?_
    rcases v3 with _ | a6
    · exact gh_stk_inv h
    replace h := gh_nn_ss h
    refine gr_getiN (pc := 49) C gh_bX8 (k := 0) (Nat.le_of_ble_eq_true rfl) q1078 (fun _ h => h) dX1_commissionOf_49 h fun v7 h => ?_
    refine gr_goto (pc := 52) (tgt := 84) C rfl dX1_commissionOf_52 ?_
    exact gr_iret (pc := 84) C dX1_commissionOf_84 h hk
  replace h := gh_iff h k0
  by_cases k1 : p2 = (1 : Int32)
  · replace h := gh_ift h k1
    refine gr_table (pc := 19) (v := (1 : Int32)) (off := 36) (tgt := 55) C k1 (by decide) (by decide) (by decide) rfl dX1_commissionOf_19 ?_
    refine gr_aload_n (pc := 55) (i := 3) C rfl (gl_at hl 0 rfl) dX1_commissionOf_55 ?_
    rcases v3 with _ | a8
    · exact gh_stk_inv h
    replace h := gh_nn_ss h
    refine gr_getiN (pc := 56) C gh_bX8 (k := 1) (Nat.le_of_ble_eq_true rfl) q1081 (fun _ h => h) dX1_commissionOf_56 h fun v9 h => ?_
    refine gr_goto (pc := 59) (tgt := 84) C rfl dX1_commissionOf_59 ?_
    exact gr_iret (pc := 84) C dX1_commissionOf_84 h hk
  replace h := gh_iff h k1
  by_cases k2 : p2 = (2 : Int32)
  · replace h := gh_ift h k2
    refine gr_table (pc := 19) (v := (2 : Int32)) (off := 43) (tgt := 62) C k2 (by decide) (by decide) (by decide) rfl dX1_commissionOf_19 ?_
    refine gr_aload_n (pc := 62) (i := 3) C rfl (gl_at hl 0 rfl) dX1_commissionOf_62 ?_
    rcases v3 with _ | a10
    · exact gh_stk_inv h
    replace h := gh_nn_ss h
    refine gr_getiN (pc := 63) C gh_bX8 (k := 2) (Nat.le_of_ble_eq_true rfl) q1084 (fun _ h => h) dX1_commissionOf_63 h fun v11 h => ?_
    refine gr_goto (pc := 66) (tgt := 84) C rfl dX1_commissionOf_66 ?_
    exact gr_iret (pc := 84) C dX1_commissionOf_84 h hk
  replace h := gh_iff h k2
  by_cases k3 : p2 = (3 : Int32)
  · replace h := gh_ift h k3
    refine gr_table (pc := 19) (v := (3 : Int32)) (off := 50) (tgt := 69) C k3 (by decide) (by decide) (by decide) rfl dX1_commissionOf_19 ?_
    refine gr_aload_n (pc := 69) (i := 3) C rfl (gl_at hl 0 rfl) dX1_commissionOf_69 ?_
    rcases v3 with _ | a12
    · exact gh_stk_inv h
    replace h := gh_nn_ss h
    refine gr_getiN (pc := 70) C gh_bX8 (k := 3) (Nat.le_of_ble_eq_true rfl) q1087 (fun _ h => h) dX1_commissionOf_70 h fun v13 h => ?_
    refine gr_goto (pc := 73) (tgt := 84) C rfl dX1_commissionOf_73 ?_
    exact gr_iret (pc := 84) C dX1_commissionOf_84 h hk
  replace h := gh_iff h k3
  refine gr_tableD (pc := 19) (tgt := 76) C (gh_tout3 k0 k1 k2 k3) rfl dX1_commissionOf_19 ?_
  refine gr_aload_n (pc := 76) (i := 0) C rfl (gl_at hl 1 rfl) dX1_commissionOf_76 ?_
  refine gr_getr (pc := 77) C gh_bX1 (k := 0) (Nat.le_of_ble_eq_true rfl) q271 (fun _ h => h) dX1_commissionOf_77 h fun v14 h => ?_
  refine gr_aload_n (pc := 80) (i := 3) C rfl (gl_at hl 0 rfl) dX1_commissionOf_80 ?_
  rcases v14 with _ | a15
  · exact gh_stk_inv h
  replace h := gh_nn_ss h
  obtain ⟨⟨fs9, hg9⟩, h⟩ := gh_is_inv h
  refine gh_callI (pc := 81) (rest := []) C (k_X2_nicheFor C.tr a15 v3) (Nat.le_of_ble_eq_true rfl) (Nat.le_of_ble_eq_true rfl) (gh_r4 (Nat.le_of_ble_eq_true rfl)) (fun H9 L9 hp9 => gi_V C hp9 hg9 gh_cX2 q1708 q1709 q1710 q1711 mh_X2 np72 rfl hl.1.1 dX1_commissionOf_81 rfl) h (gh_K0_b _ hk) (fun v16 g h => ?_) (fun e g h => ?_)
  rotate_left
  ·
    exact gh_out C (fun _ h => nomatch h) h hk
  exact gr_iret (pc := 84) C dX1_commissionOf_84 h hk

theorem k_X1_commissionOf {l : Launch} (hst : l.stackTraces = false) (t0 : Nat) (p1 : Int32) (p2 : Int32) : gh_Ct l yX1_commissionOf 9 172 (f_X1_commissionOf t0 p1 p2) gh_rI [va_rf (some t0), .int p1, .int p2] := gh_intro2 (L1 := 157) hst (by decide +kernel) q1706 q75 rfl ⟨gh_cat _, rfl, rfl, trivial⟩ (Nat.le_of_ble_eq_true rfl) fun x o ls hl C h hk => w_X1_commissionOf C t0 p1 p2 hl h hk
-- GargoyleTower.paidFor(I)I
noncomputable def f_X1_paidFor (t0 : Nat) (p1 : Int32) : gh_M Int32 :=
  gh_bd (f_X1_checkIndex p1 (4 : Int32)) fun _ =>
  gh_bd (gh_is t0 0) fun _ =>
  gh_bd (f_X1_paid t0 p1) fun v2 =>
  gh_ret v2
theorem w_X1_paidFor {x : gh_C} {g : gh_G} {o : (Int32 ⊕ gh_X) × gh_G} {ls : Array Slot} (C : gh_K x cX1_paidFor "GargoyleTower" 2 (some .int) "paidFor" 8 131 []) (t0 : Nat) (p1 : Int32) (hl : gh_lv ls 2 [(0, va_rf (some t0)), (1, .int p1)]) (h : gh_run (f_X1_paidFor t0 p1) g = some o) (hk : (gh_K0 x gh_rI) o) : gh_Wd x g (F0 (gh_cm x) 0 ls []) := by
  unfold f_X1_paidFor at h
  refine gr_iload_n (pc := 0) (i := 1) C rfl (gl_at hl 1 rfl) dX1_paidFor_0 ?_
  refine gr_iconst (pc := 1) (v := (4 : Int32)) C rfl dX1_paidFor_1 ?_
  refine gh_callV (pc := 2) (rest := []) C (k_X1_checkIndex C.tr p1 (4 : Int32)) (Nat.le_of_ble_eq_true rfl) (Nat.le_of_ble_eq_true rfl) (gh_r4 (Nat.le_of_ble_eq_true rfl)) (fun H9 L9 hp9 => gi_S C q1646 q1228 q75 q1229 mh_X1 np30 rfl hl.1.1 dX1_paidFor_2 rfl) h (gh_K0_b _ hk) (fun g h => ?_) (fun e g h => ?_)
  rotate_left
  ·
    exact gh_out C (fun _ h => nomatch h) h hk
  refine gr_aload_n (pc := 5) (i := 0) C rfl (gl_at hl 0 rfl) dX1_paidFor_5 ?_
  refine gr_iload_n (pc := 6) (i := 1) C rfl (gl_at hl 1 rfl) dX1_paidFor_6 ?_
  obtain ⟨⟨fs9, hg9⟩, h⟩ := gh_is_inv h
  refine gh_callI (pc := 7) (rest := []) C (k_X1_paid C.tr t0 p1) (Nat.le_of_ble_eq_true rfl) (Nat.le_of_ble_eq_true rfl) (gh_r4 (Nat.le_of_ble_eq_true rfl)) (fun H9 L9 hp9 => gi_V C hp9 hg9 gh_cX1 q304 q306 qs0 q307 mh_X1 np6 rfl hl.1.1 dX1_paidFor_7 rfl) h (gh_K0_b _ hk) (fun v2 g h => ?_) (fun e g h => ?_)
  rotate_left
  ·
    exact gh_out C (fun _ h => nomatch h) h hk
  exact gr_iret (pc := 10) C dX1_paidFor_10 h hk

theorem k_X1_paidFor {l : Launch} (hst : l.stackTraces = false) (t0 : Nat) (p1 : Int32) : gh_Ct l yX1_paidFor 8 144 (f_X1_paidFor t0 p1) gh_rI [va_rf (some t0), .int p1] := gh_intro2 (L1 := 131) hst (by decide +kernel) q1718 q75 rfl ⟨gh_cat _, rfl, trivial⟩ (Nat.le_of_ble_eq_true rfl) fun x o ls hl C h hk => w_X1_paidFor C t0 p1 hl h hk
-- GargoyleTower.weather(I)I
def gp_X1_weather_27 (x : gh_C) (u27_1 : Int32) (u27_2 : Option Nat) (st : Int32) (g : gh_G) : Prop := ∀ ls : Array Slot, gh_lv ls 4 [(1, .int u27_1), (2, va_rf u27_2), (3, .int st)] → gh_Wd x g (F0 (gh_cm x) 27 ls [])
noncomputable def f_X1_weather_27_l (u27_1 : Int32) (u27_2 : Option Nat) (p3 : Int32) : gh_M ((Int32) ⊕ Int32) :=
  if u27_1 ≤ p3 then
  (gh_nn u27_2 fun a1 =>
  gh_bd (gh_is a1 2) fun _ =>
  gh_bd (f_X3_face a1) fun v2 =>
  gh_bd (gh_is a1 2) fun _ =>
  gh_bd (f_X3_isStorm a1) fun v3 =>
  if v3 = 0 then
  (gh_up (gh_ret (v2 + (0 : Int32))))
  else
  (gh_up (gh_ret (v2 + (10 : Int32)))))
  else
  (gh_nn u27_2 fun a4 =>
  gh_bd (gh_is a4 2) fun _ =>
  gh_bd (f_X3_draw a4) fun _ =>
  gh_ret (.inl (p3 + (1 : Int32))))
theorem w_X1_weather_27_l {x : gh_C} {g : gh_G} {o : (((Int32) ⊕ Int32) ⊕ gh_X) × gh_G} {ls : Array Slot} (C : gh_K x cX1_weather "GargoyleTower" 4 (some .int) "weather" 8 130 []) (u27_1 : Int32) (u27_2 : Option Nat) (p3 : Int32) (hl : gh_lv ls 4 [(1, .int u27_1), (2, va_rf u27_2), (3, .int p3)]) (h : gh_run (f_X1_weather_27_l u27_1 u27_2 p3) g = some o) (hk : (gh_K1 x (gh_K0 x gh_rI) (gp_X1_weather_27 x u27_1 u27_2)) o) : gh_Wd x g (F0 (gh_cm x) 27 ls []) := by
  unfold f_X1_weather_27_l at h
  refine gr_iload_n (pc := 27) (i := 3) C rfl (gl_at hl 2 rfl) dX1_weather_27 ?_
  refine gr_iload_n (pc := 28) (i := 1) C rfl (gl_at hl 0 rfl) dX1_weather_28 ?_
  refine gr_icmp_ge (pc := 29) (tgt := 42) C rfl dX1_weather_29 (fun c9 => ?_) (fun c9 => ?_)
  · replace h := gh_ift h c9
    refine gr_aload_n (pc := 42) (i := 2) C rfl (gl_at hl 1 rfl) dX1_weather_42 ?_
    rcases u27_2 with _ | a1
    · exact gh_stk_inv h
    replace h := gh_nn_ss h
    obtain ⟨⟨fs9, hg9⟩, h⟩ := gh_is_inv h
    refine gh_callI (pc := 43) (rest := []) C (k_X3_face C.tr a1) (Nat.le_of_ble_eq_true rfl) (Nat.le_of_ble_eq_true rfl) (gh_r4 (Nat.le_of_ble_eq_true rfl)) (fun H9 L9 hp9 => gi_V C hp9 hg9 gh_cX3 q1737 q1362 q1363 q1364 mh_X3 np0 rfl hl.1.1 dX1_weather_43 rfl) h ((gh_K1_b gh_K0_b) _ hk) (fun v2 g h => ?_) (fun e g h => ?_)
    rotate_left
    ·
      obtain ⟨o, h, hk⟩ := gh_K1_thr h hk
      exact gh_out C (fun _ h => nomatch h) h hk
    refine gr_aload_n (pc := 46) (i := 2) C rfl (gl_at hl 1 rfl) dX1_weather_46 ?_
    obtain ⟨⟨fs9, hg9⟩, h⟩ := gh_is_inv h
    refine gh_callI (pc := 47) (rest := [.int v2]) C (k_X3_isStorm C.tr a1) (Nat.le_of_ble_eq_true rfl) (Nat.le_of_ble_eq_true rfl) (gh_r4 (Nat.le_of_ble_eq_true rfl)) (fun H9 L9 hp9 => gi_V C hp9 hg9 gh_cX3 q1738 q1354 q1355 q1356 mh_X3 np7 rfl hl.1.1 dX1_weather_47 rfl) h ((gh_K1_b gh_K0_b) _ hk) (fun v3 g h => ?_) (fun e g h => ?_)
    rotate_left
    ·
      obtain ⟨o, h, hk⟩ := gh_K1_thr h hk
      exact gh_out C (fun _ h => nomatch h) h hk
    refine gr_if_eq (pc := 50) (tgt := 58) C rfl dX1_weather_50 (fun c9 => ?_) (fun c9 => ?_)
    · replace h := gh_ift h c9
      refine gr_iconst (pc := 58) (v := (0 : Int32)) C rfl dX1_weather_58 ?_
      refine gr_iadd (pc := 59) C dX1_weather_59 ?_
      obtain ⟨o, h, hk⟩ := gh_K1_up h hk
      exact gr_iret (pc := 60) C dX1_weather_60 h hk
    · replace h := gh_iff h c9
      refine gr_bipush (pc := 53) (v := (10 : Int32)) C rfl dX1_weather_53 ?_
      refine gr_goto (pc := 55) (tgt := 59) C rfl dX1_weather_55 ?_
      refine gr_iadd (pc := 59) C dX1_weather_59 ?_
      obtain ⟨o, h, hk⟩ := gh_K1_up h hk
      exact gr_iret (pc := 60) C dX1_weather_60 h hk
  · replace h := gh_iff h c9
    refine gr_aload_n (pc := 32) (i := 2) C rfl (gl_at hl 1 rfl) dX1_weather_32 ?_
    rcases u27_2 with _ | a4
    · exact gh_stk_inv h
    replace h := gh_nn_ss h
    obtain ⟨⟨fs9, hg9⟩, h⟩ := gh_is_inv h
    refine gh_callV (pc := 33) (rest := []) C (k_X3_draw C.tr a4) (Nat.le_of_ble_eq_true rfl) (Nat.le_of_ble_eq_true rfl) (gh_r4 (Nat.le_of_ble_eq_true rfl)) (fun H9 L9 hp9 => gi_V C hp9 hg9 gh_cX3 q1736 q1350 q1351 q1352 mh_X3 np8 rfl hl.1.1 dX1_weather_33 rfl) h ((gh_K1_b gh_K0_b) _ hk) (fun g h => ?_) (fun e g h => ?_)
    rotate_left
    ·
      obtain ⟨o, h, hk⟩ := gh_K1_thr h hk
      exact gh_out C (fun _ h => nomatch h) h hk
    refine gr_iinc (pc := 36) (i := 3) (z := 2) (v := p3 + (1 : Int32)) (l' := [(3, .int (p3 + (1 : Int32))), (1, .int u27_1), (2, va_rf (some a4))]) C hl rfl rfl (Nat.le_of_ble_eq_true rfl) rfl dX1_weather_36 fun ls hl => ?_
    refine gr_goto (pc := 39) (tgt := 27) C rfl dX1_weather_39 ?_
    exact gh_K1_in h hk ls (gl_sub hl [1, 2, 0] rfl)

noncomputable def f_X1_weather_27 (p1 : Int32) (p2 : Option Nat) (p3 : Int32) : gh_M Int32 := gh_it (fun st : Int32 => f_X1_weather_27_l p1 p2 st) (p3)
theorem w_X1_weather_27 {x : gh_C} {g : gh_G} {o : (Int32 ⊕ gh_X) × gh_G} {ls : Array Slot} (C : gh_K x cX1_weather "GargoyleTower" 4 (some .int) "weather" 8 130 []) (p1 : Int32) (p2 : Option Nat) (p3 : Int32) (hl : gh_lv ls 4 [(1, .int p1), (2, va_rf p2), (3, .int p3)]) (h : gh_run (f_X1_weather_27 p1 p2 p3) g = some o) (hk : (gh_K0 x gh_rI) o) : gh_Wd x g (F0 (gh_cm x) 27 ls []) := by
  unfold f_X1_weather_27 at h
  exact gh_loop gh_K0_b (fun st : Int32 => f_X1_weather_27_l p1 p2 st) (gp_X1_weather_27 x p1 p2) (fun st g o h hk ls hl => w_X1_weather_27_l C p1 p2 st hl h hk) _ g o h hk ls hl
noncomputable def f_X1_weather (t0 : Nat) (p1 : Int32) : gh_M Int32 :=
  gh_bd (f_X1_inRange p1 (1 : Int32) (40 : Int32)) fun v1 =>
  gh_bd (f_X1_checkArgument v1) fun _ =>
  gh_bd (gh_new 2 1 gh_nX3) fun a3 =>
  gh_bd (gh_getr t0 0 0) fun v4 =>
  gh_nn v4 fun a5 =>
  gh_bd (gh_getr a5 1 5) fun v6 =>
  gh_bd (f_X3_init_2 a3 v6) fun _ =>
  f_X1_weather_27 p1 (some a3) (0 : Int32)
theorem w_X1_weather {x : gh_C} {g : gh_G} {o : (Int32 ⊕ gh_X) × gh_G} {ls : Array Slot} (C : gh_K x cX1_weather "GargoyleTower" 4 (some .int) "weather" 8 130 []) (t0 : Nat) (p1 : Int32) (hl : gh_lv ls 4 [(0, va_rf (some t0)), (1, .int p1)]) (h : gh_run (f_X1_weather t0 p1) g = some o) (hk : (gh_K0 x gh_rI) o) : gh_Wd x g (F0 (gh_cm x) 0 ls []) := by
  unfold f_X1_weather at h
  refine gr_iload_n (pc := 0) (i := 1) C rfl (gl_at hl 1 rfl) dX1_weather_0 ?_
  refine gr_iconst (pc := 1) (v := (1 : Int32)) C rfl dX1_weather_1 ?_
  refine gr_bipush (pc := 2) (v := (40 : Int32)) C rfl dX1_weather_2 ?_
  refine gh_callI (pc := 4) (rest := []) C (k_X1_inRange C.tr p1 (1 : Int32) (40 : Int32)) (Nat.le_of_ble_eq_true rfl) (Nat.le_of_ble_eq_true rfl) (gh_r4 (Nat.le_of_ble_eq_true rfl)) (fun H9 L9 hp9 => gi_S C q1230 q1231 q75 q1232 mh_X1 np54 rfl hl.1.1 dX1_weather_4 rfl) h (gh_K0_b _ hk) (fun v1 g h => ?_) (fun e g h => ?_)
  rotate_left
  ·
    exact gh_out C (fun _ h => nomatch h) h hk
  refine gh_callV (pc := 7) (rest := []) C (k_X1_checkArgument C.tr v1) (Nat.le_of_ble_eq_true rfl) (Nat.le_of_ble_eq_true rfl) (gh_r4 (Nat.le_of_ble_eq_true rfl)) (fun H9 L9 hp9 => gi_S C q1519 q1241 q75 q1242 mh_X1 np55 rfl hl.1.1 dX1_weather_7 rfl) h (gh_K0_b _ hk) (fun g h => ?_) (fun e g h => ?_)
  rotate_left
  ·
    exact gh_out C (fun _ h => nomatch h) h hk
  refine gr_newo (pc := 10) C gh_bX3 q1734 q172 q80 gh_dX3 dX1_weather_10 h (gh_K0_b _ hk) fun a3 g h => ?_
  refine gr_dup (pc := 13) C (gh_cat _) dX1_weather_13 ?_
  refine gr_aload_n (pc := 14) (i := 0) C rfl (gl_at hl 0 rfl) dX1_weather_14 ?_
  refine gr_getr (pc := 15) C gh_bX1 (k := 0) (Nat.le_of_ble_eq_true rfl) q271 (fun _ h => h) dX1_weather_15 h fun v4 h => ?_
  rcases v4 with _ | a5
  · exact gh_stk_inv h
  replace h := gh_nn_ss h
  refine gr_getrN (pc := 18) C gh_bX2 (k := 5) (Nat.le_of_ble_eq_true rfl) q194 (fun _ h => h) dX1_weather_18 h fun v6 h => ?_
  refine gh_callV (pc := 21) (rest := [va_rf (some a3)]) C (k_X3_init_2 C.tr a3 v6) (Nat.le_of_ble_eq_true rfl) (Nat.le_of_ble_eq_true rfl) (gh_r4 (Nat.le_of_ble_eq_true rfl)) (fun H9 L9 hp9 => gi_I C q1735 rfl q965 q966 mh_X3 np51 rfl hl.1.1 dX1_weather_21 rfl) h (gh_K0_b _ hk) (fun g h => ?_) (fun e g h => ?_)
  rotate_left
  ·
    exact gh_out C (fun _ h => nomatch h) h hk
  refine gr_astore_n (pc := 24) (i := 2) (l' := [(2, va_rf (some a3)), (0, va_rf (some t0)), (1, .int p1)]) C rfl hl (Nat.le_of_ble_eq_true rfl) rfl dX1_weather_24 fun ls hl => ?_
  refine gr_iconst (pc := 25) (v := (0 : Int32)) C rfl dX1_weather_25 ?_
  refine gr_istore_n (pc := 26) (i := 3) (l' := [(3, .int (0 : Int32)), (2, va_rf (some a3)), (0, va_rf (some t0)), (1, .int p1)]) C rfl hl (Nat.le_of_ble_eq_true rfl) rfl dX1_weather_26 fun ls hl => ?_
  exact w_X1_weather_27 C p1 (some a3) (0 : Int32) (gl_sub hl [3, 1, 0] rfl) h hk

theorem k_X1_weather {l : Launch} (hst : l.stackTraces = false) (t0 : Nat) (p1 : Int32) : gh_Ct l yX1_weather 8 145 (f_X1_weather t0 p1) gh_rI [va_rf (some t0), .int p1] := gh_intro2 (L1 := 130) hst (by decide +kernel) q1733 q75 rfl ⟨gh_cat _, rfl, trivial⟩ (Nat.le_of_ble_eq_true rfl) fun x o ls hl C h hk => w_X1_weather C t0 p1 hl h hk
-- GargoyleTower.brokenIn(I)I
def gp_X1_brokenIn_21 (x : gh_C) (u21_2 : Option Nat) (u21_3 : Option Nat) (st : Int32) (g : gh_G) : Prop := ∀ ls : Array Slot, gh_lv ls 6 [(2, va_rf u21_2), (3, va_rf u21_3), (4, .int st)] → gh_Wd x g (F0 (gh_cm x) 21 ls [])
noncomputable def f_X1_brokenIn_61 (p4 : Int32) (s0 : Int32) : gh_M Int32 :=
  gh_bd (f_X1_checkFound s0) fun _ =>
  gh_ret p4
theorem w_X1_brokenIn_61 {x : gh_C} {g : gh_G} {o : (Int32 ⊕ gh_X) × gh_G} {ls : Array Slot} (C : gh_K x cX1_brokenIn "GargoyleTower" 6 (some .int) "brokenIn" 51 1094 []) (p4 : Int32) (s0 : Int32) (hl : gh_lv ls 6 [(4, .int p4)]) (h : gh_run (f_X1_brokenIn_61 p4 s0) g = some o) (hk : (gh_K0 x gh_rI) o) : gh_Wd x g (F0 (gh_cm x) 61 ls [.int s0]) := by
  unfold f_X1_brokenIn_61 at h
  refine gh_callV (pc := 61) (rest := []) C (k_X1_checkFound C.tr s0) (Nat.le_of_ble_eq_true rfl) (Nat.le_of_ble_eq_true rfl) (gh_r4 (Nat.le_of_ble_eq_true rfl)) (fun H9 L9 hp9 => gi_S C q1594 q1595 q75 q1596 mh_X1 np55 rfl hl.1.1 dX1_brokenIn_61 rfl) h (gh_K0_b _ hk) (fun g h => ?_) (fun e g h => ?_)
  rotate_left
  ·
    exact gh_out C (fun _ h => nomatch h) h hk
  refine gr_iload (pc := 64) (i := 4) C (gl_at hl 0 rfl) dX1_brokenIn_64 ?_
  exact gr_iret (pc := 66) C dX1_brokenIn_66 h hk

noncomputable def f_X1_brokenIn_48 (p3 : Option Nat) (p4 : Int32) : gh_M Int32 :=
  gh_nn p3 fun a1 =>
  gh_bd (gh_geti a1 5 5) fun v2 =>
  if v2 = (3 : Int32) then
  (f_X1_brokenIn_61 p4 (1 : Int32))
  else
  (f_X1_brokenIn_61 p4 (0 : Int32))
theorem w_X1_brokenIn_48 {x : gh_C} {g : gh_G} {o : (Int32 ⊕ gh_X) × gh_G} {ls : Array Slot} (C : gh_K x cX1_brokenIn "GargoyleTower" 6 (some .int) "brokenIn" 51 1094 []) (p3 : Option Nat) (p4 : Int32) (hl : gh_lv ls 6 [(3, va_rf p3), (4, .int p4)]) (h : gh_run (f_X1_brokenIn_48 p3 p4) g = some o) (hk : (gh_K0 x gh_rI) o) : gh_Wd x g (F0 (gh_cm x) 48 ls []) := by
  unfold f_X1_brokenIn_48 at h
  refine gr_aload_n (pc := 48) (i := 3) C rfl (gl_at hl 0 rfl) dX1_brokenIn_48 ?_
  rcases p3 with _ | a1
  · exact gh_stk_inv h
  replace h := gh_nn_ss h
  refine gr_getiN (pc := 49) C gh_bX6 (k := 5) (Nat.le_of_ble_eq_true rfl) q991 (fun _ h => h) dX1_brokenIn_49 h fun v2 h => ?_
  refine gr_iconst (pc := 52) (v := (3 : Int32)) C rfl dX1_brokenIn_52 ?_
  refine gr_icmp_ne (pc := 53) (tgt := 60) C rfl dX1_brokenIn_53 (fun c9 => ?_) (fun c9 => ?_)
  · replace h := gh_iff h c9
    refine gr_iconst (pc := 60) (v := (0 : Int32)) C rfl dX1_brokenIn_60 ?_
    exact w_X1_brokenIn_61 C p4 (0 : Int32) (gl_sub hl [1] rfl) h hk
  · replace h := gh_ift h c9
    refine gr_iconst (pc := 56) (v := (1 : Int32)) C rfl dX1_brokenIn_56 ?_
    refine gr_goto (pc := 57) (tgt := 61) C rfl dX1_brokenIn_57 ?_
    exact w_X1_brokenIn_61 C p4 (1 : Int32) (gl_sub hl [1] rfl) h hk

noncomputable def f_X1_brokenIn_21_l (u21_2 : Option Nat) (u21_3 : Option Nat) (p4 : Int32) : gh_M ((Int32) ⊕ Int32) :=
  if (60 : Int32) ≤ p4 then
  (gh_up (f_X1_brokenIn_48 u21_3 p4))
  else
  (gh_nn u21_3 fun a1 =>
  gh_bd (gh_geti a1 5 5) fun v2 =>
  if v2 = (3 : Int32) then
  (gh_up (f_X1_brokenIn_48 (some a1) p4))
  else
  (gh_nn u21_2 fun a3 =>
  gh_bd (gh_is a3 1) fun _ =>
  gh_bd (f_X2_endDay a3) fun v4 =>
  gh_ret (.inl (p4 + (1 : Int32)))))
theorem w_X1_brokenIn_21_l {x : gh_C} {g : gh_G} {o : (((Int32) ⊕ Int32) ⊕ gh_X) × gh_G} {ls : Array Slot} (C : gh_K x cX1_brokenIn "GargoyleTower" 6 (some .int) "brokenIn" 51 1094 []) (u21_2 : Option Nat) (u21_3 : Option Nat) (p4 : Int32) (hl : gh_lv ls 6 [(2, va_rf u21_2), (3, va_rf u21_3), (4, .int p4)]) (h : gh_run (f_X1_brokenIn_21_l u21_2 u21_3 p4) g = some o) (hk : (gh_K1 x (gh_K0 x gh_rI) (gp_X1_brokenIn_21 x u21_2 u21_3)) o) : gh_Wd x g (F0 (gh_cm x) 21 ls []) := by
  unfold f_X1_brokenIn_21_l at h
  refine gr_iload (pc := 21) (i := 4) C (gl_at hl 2 rfl) dX1_brokenIn_21 ?_
  refine gr_bipush (pc := 23) (v := (60 : Int32)) C rfl dX1_brokenIn_23 ?_
  refine gr_icmp_ge (pc := 25) (tgt := 48) C rfl dX1_brokenIn_25 (fun c9 => ?_) (fun c9 => ?_)
  · replace h := gh_ift h c9
    obtain ⟨o, h, hk⟩ := gh_K1_up h hk
    exact w_X1_brokenIn_48 C u21_3 p4 (gl_sub hl [1, 2] rfl) h hk
  · replace h := gh_iff h c9
    refine gr_aload_n (pc := 28) (i := 3) C rfl (gl_at hl 1 rfl) dX1_brokenIn_28 ?_
    rcases u21_3 with _ | a1
    · exact gh_stk_inv h
    replace h := gh_nn_ss h
    refine gr_getiN (pc := 29) C gh_bX6 (k := 5) (Nat.le_of_ble_eq_true rfl) q991 (fun _ h => h) dX1_brokenIn_29 h fun v2 h => ?_
    refine gr_iconst (pc := 32) (v := (3 : Int32)) C rfl dX1_brokenIn_32 ?_
    refine gr_icmp_eq (pc := 33) (tgt := 48) C rfl dX1_brokenIn_33 (fun c9 => ?_) (fun c9 => ?_)
    · replace h := gh_ift h c9
      obtain ⟨o, h, hk⟩ := gh_K1_up h hk
      exact w_X1_brokenIn_48 C (some a1) p4 (gl_sub hl [1, 2] rfl) h hk
    · replace h := gh_iff h c9
      refine gr_aload_n (pc := 36) (i := 2) C rfl (gl_at hl 0 rfl) dX1_brokenIn_36 ?_
      rcases u21_2 with _ | a3
      · exact gh_stk_inv h
      replace h := gh_nn_ss h
      obtain ⟨⟨fs9, hg9⟩, h⟩ := gh_is_inv h
      refine gh_callI (pc := 37) (rest := []) C (k_X2_endDay C.tr a3) (Nat.le_of_ble_eq_true rfl) (Nat.le_of_ble_eq_true rfl) (gh_r4 (Nat.le_of_ble_eq_true rfl)) (fun H9 L9 hp9 => gi_V C hp9 hg9 gh_cX2 q1754 q1346 q1347 q1348 mh_X2 np0 rfl hl.1.1 dX1_brokenIn_37 rfl) h ((gh_K1_b gh_K0_b) _ hk) (fun v4 g h => ?_) (fun e g h => ?_)
      rotate_left
      ·
        obtain ⟨o, h, hk⟩ := gh_K1_thr h hk
        exact gh_out C (fun _ h => nomatch h) h hk
      refine gr_istore (pc := 40) (i := 5) (l' := [(5, .int v4), (2, va_rf (some a3)), (3, va_rf (some a1)), (4, .int p4)]) C hl (Nat.le_of_ble_eq_true rfl) rfl dX1_brokenIn_40 fun ls hl => ?_
      refine gr_iinc (pc := 42) (i := 4) (z := 3) (v := p4 + (1 : Int32)) (l' := [(4, .int (p4 + (1 : Int32))), (5, .int v4), (2, va_rf (some a3)), (3, va_rf (some a1))]) C hl rfl rfl (Nat.le_of_ble_eq_true rfl) rfl dX1_brokenIn_42 fun ls hl => ?_
      refine gr_goto (pc := 45) (tgt := 21) C rfl dX1_brokenIn_45 ?_
      exact gh_K1_in h hk ls (gl_sub hl [2, 3, 0] rfl)

noncomputable def f_X1_brokenIn_21 (p2 : Option Nat) (p3 : Option Nat) (p4 : Int32) : gh_M Int32 := gh_it (fun st : Int32 => f_X1_brokenIn_21_l p2 p3 st) (p4)
theorem w_X1_brokenIn_21 {x : gh_C} {g : gh_G} {o : (Int32 ⊕ gh_X) × gh_G} {ls : Array Slot} (C : gh_K x cX1_brokenIn "GargoyleTower" 6 (some .int) "brokenIn" 51 1094 []) (p2 : Option Nat) (p3 : Option Nat) (p4 : Int32) (hl : gh_lv ls 6 [(2, va_rf p2), (3, va_rf p3), (4, .int p4)]) (h : gh_run (f_X1_brokenIn_21 p2 p3 p4) g = some o) (hk : (gh_K0 x gh_rI) o) : gh_Wd x g (F0 (gh_cm x) 21 ls []) := by
  unfold f_X1_brokenIn_21 at h
  exact gh_loop gh_K0_b (fun st : Int32 => f_X1_brokenIn_21_l p2 p3 st) (gp_X1_brokenIn_21 x p2 p3) (fun st g o h hk ls hl => w_X1_brokenIn_21_l C p2 p3 st hl h hk) _ g o h hk ls hl
noncomputable def f_X1_brokenIn (t0 : Nat) (p1 : Int32) : gh_M Int32 :=
  gh_bd (gh_new 1 9 gh_nX2) fun a1 =>
  gh_bd (gh_getr t0 0 0) fun v2 =>
  gh_bd (f_X2_init_2 a1 v2) fun _ =>
  gh_bd (gh_is a1 1) fun _ =>
  gh_bd (f_X2_block a1 p1) fun v4 =>
  f_X1_brokenIn_21 (some a1) v4 (0 : Int32)
theorem w_X1_brokenIn {x : gh_C} {g : gh_G} {o : (Int32 ⊕ gh_X) × gh_G} {ls : Array Slot} (C : gh_K x cX1_brokenIn "GargoyleTower" 6 (some .int) "brokenIn" 51 1094 []) (t0 : Nat) (p1 : Int32) (hl : gh_lv ls 6 [(0, va_rf (some t0)), (1, .int p1)]) (h : gh_run (f_X1_brokenIn t0 p1) g = some o) (hk : (gh_K0 x gh_rI) o) : gh_Wd x g (F0 (gh_cm x) 0 ls []) := by
  unfold f_X1_brokenIn at h
  refine gr_newo (pc := 0) C gh_bX2 q132 q133 q76 gh_dX2 dX1_brokenIn_0 h (gh_K0_b _ hk) fun a1 g h => ?_
  refine gr_dup (pc := 3) C (gh_cat _) dX1_brokenIn_3 ?_
  refine gr_aload_n (pc := 4) (i := 0) C rfl (gl_at hl 0 rfl) dX1_brokenIn_4 ?_
  refine gr_getr (pc := 5) C gh_bX1 (k := 0) (Nat.le_of_ble_eq_true rfl) q271 (fun _ h => h) dX1_brokenIn_5 h fun v2 h => ?_
  refine gh_callV (pc := 8) (rest := [va_rf (some a1)]) C (k_X2_init_2 C.tr a1 v2) (Nat.le_of_ble_eq_true rfl) (Nat.le_of_ble_eq_true rfl) (gh_r4 (Nat.le_of_ble_eq_true rfl)) (fun H9 L9 hp9 => gi_I C q961 rfl q962 q963 mh_X2 np70 rfl hl.1.1 dX1_brokenIn_8 rfl) h (gh_K0_b _ hk) (fun g h => ?_) (fun e g h => ?_)
  rotate_left
  ·
    exact gh_out C (fun _ h => nomatch h) h hk
  refine gr_astore_n (pc := 11) (i := 2) (l' := [(2, va_rf (some a1)), (0, va_rf (some t0)), (1, .int p1)]) C rfl hl (Nat.le_of_ble_eq_true rfl) rfl dX1_brokenIn_11 fun ls hl => ?_
  refine gr_aload_n (pc := 12) (i := 2) C rfl (gl_at hl 0 rfl) dX1_brokenIn_12 ?_
  refine gr_iload_n (pc := 13) (i := 1) C rfl (gl_at hl 2 rfl) dX1_brokenIn_13 ?_
  obtain ⟨⟨fs9, hg9⟩, h⟩ := gh_is_inv h
  refine gh_callQ (pc := 14) (rest := []) C (k_X2_block C.tr a1 p1) (Nat.le_of_ble_eq_true rfl) (Nat.le_of_ble_eq_true rfl) (gh_r4 (Nat.le_of_ble_eq_true rfl)) (fun H9 L9 hp9 => gi_V C hp9 hg9 gh_cX2 q1518 q1223 q1224 q1225 mh_X2 np52 rfl hl.1.1 dX1_brokenIn_14 rfl) h (gh_K0_b _ hk) (fun v4 g h => ?_) (fun e g h => ?_)
  rotate_left
  ·
    exact gh_out C (fun _ h => nomatch h) h hk
  refine gr_astore_n (pc := 17) (i := 3) (l' := [(3, va_rf v4), (2, va_rf (some a1)), (0, va_rf (some t0)), (1, .int p1)]) C rfl hl (Nat.le_of_ble_eq_true rfl) rfl dX1_brokenIn_17 fun ls hl => ?_
  refine gr_iconst (pc := 18) (v := (0 : Int32)) C rfl dX1_brokenIn_18 ?_
  refine gr_istore (pc := 19) (i := 4) (l' := [(4, .int (0 : Int32)), (3, va_rf v4), (2, va_rf (some a1)), (0, va_rf (some t0)), (1, .int p1)]) C hl (Nat.le_of_ble_eq_true rfl) rfl dX1_brokenIn_19 fun ls hl => ?_
  exact w_X1_brokenIn_21 C (some a1) v4 (0 : Int32) (gl_sub hl [2, 1, 0] rfl) h hk

theorem k_X1_brokenIn {l : Launch} (hst : l.stackTraces = false) (t0 : Nat) (p1 : Int32) : gh_Ct l yX1_brokenIn 51 1111 (f_X1_brokenIn t0 p1) gh_rI [va_rf (some t0), .int p1] := gh_intro2 (L1 := 1094) hst (by decide +kernel) q1753 q75 rfl ⟨gh_cat _, rfl, trivial⟩ (Nat.le_of_ble_eq_true rfl) fun x o ls hl C h hk => w_X1_brokenIn C t0 p1 hl h hk
-- GargoyleTower.shown(LGargoyleTower$Block;)Ljava/lang/CharSequence;
def gp_X1_shown_40 (x : gh_C) (u40_0 : Option Nat) (u40_1 : Option Nat) (st : (Option Nat) × Int32) (g : gh_G) : Prop := ∀ ls : Array Slot, gh_lv ls 4 [(0, va_rf u40_0), (1, va_rf u40_1), (2, va_rf st.1), (3, .int st.2)] → gh_Wd x g (F0 (gh_cm x) 40 ls [])
noncomputable def f_X1_shown_61 (p2 : Option Nat) : gh_M (Option Nat) :=
  gh_nn p2 fun a1 =>
  gh_bd (gh_is a1 13) fun _ =>
  gh_bd (f_J5_append_4 a1 (93 : Int32)) fun v2 =>
  gh_ret v2
theorem w_X1_shown_61 {x : gh_C} {g : gh_G} {o : ((Option Nat) ⊕ gh_X) × gh_G} {ls : Array Slot} (C : gh_K x cX1_shown "GargoyleTower" 4 (some (.object "java/lang/CharSequence")) "shown" 9 214 []) (p2 : Option Nat) (hl : gh_lv ls 4 [(2, va_rf p2)]) (h : gh_run (f_X1_shown_61 p2) g = some o) (hk : (gh_K0 x gh_rQ) o) : gh_Wd x g (F0 (gh_cm x) 61 ls []) := by
  unfold f_X1_shown_61 at h
  refine gr_aload_n (pc := 61) (i := 2) C rfl (gl_at hl 0 rfl) dX1_shown_61 ?_
  refine gr_bipush (pc := 62) (v := (93 : Int32)) C rfl dX1_shown_62 ?_
  rcases p2 with _ | a1
  · exact gh_stk_inv h
  replace h := gh_nn_ss h
  obtain ⟨⟨fs9, hg9⟩, h⟩ := gh_is_inv h
  refine gh_callQ (pc := 64) (rest := []) C (k_J5_append_4 C.tr a1 (93 : Int32)) (Nat.le_of_ble_eq_true rfl) (Nat.le_of_ble_eq_true rfl) (gh_r4 (Nat.le_of_ble_eq_true rfl)) (fun H9 L9 hp9 => gi_V C hp9 hg9 gh_cJ5 q1830 q1831 q1832 q1833 mh_J5 np73 rfl hl.1.1 dX1_shown_64 rfl) h (gh_K0_b _ hk) (fun v2 g h => ?_) (fun e g h => ?_)
  rotate_left
  ·
    exact gh_out C (fun _ h => nomatch h) h hk
  exact gr_aret (pc := 67) C (Or.inl ⟨_, rfl⟩) dX1_shown_67 h hk

noncomputable def f_X1_shown_40_l (u40_0 : Option Nat) (u40_1 : Option Nat) (p2 : Option Nat) (p3 : Int32) : gh_M (((Option Nat) × Int32) ⊕ (Option Nat)) :=
  gh_nn u40_0 fun a1 =>
  gh_bd (gh_geti a1 5 4) fun v2 =>
  if v2 < p3 then
  (gh_up (f_X1_shown_61 p2))
  else
  (gh_nn u40_1 fun a3 =>
  gh_bd (gh_is a3 13) fun _ =>
  gh_bd (f_J5_append_4 a3 (33 : Int32)) fun v4 =>
  gh_ret (.inl (v4, p3 + (4 : Int32))))
theorem w_X1_shown_40_l {x : gh_C} {g : gh_G} {o : ((((Option Nat) × Int32) ⊕ (Option Nat)) ⊕ gh_X) × gh_G} {ls : Array Slot} (C : gh_K x cX1_shown "GargoyleTower" 4 (some (.object "java/lang/CharSequence")) "shown" 9 214 []) (u40_0 : Option Nat) (u40_1 : Option Nat) (p2 : Option Nat) (p3 : Int32) (hl : gh_lv ls 4 [(0, va_rf u40_0), (1, va_rf u40_1), (2, va_rf p2), (3, .int p3)]) (h : gh_run (f_X1_shown_40_l u40_0 u40_1 p2 p3) g = some o) (hk : (gh_K1 x (gh_K0 x gh_rQ) (gp_X1_shown_40 x u40_0 u40_1)) o) : gh_Wd x g (F0 (gh_cm x) 40 ls []) := by
  unfold f_X1_shown_40_l at h
  refine gr_iload_n (pc := 40) (i := 3) C rfl (gl_at hl 3 rfl) dX1_shown_40 ?_
  refine gr_aload_n (pc := 41) (i := 0) C rfl (gl_at hl 0 rfl) dX1_shown_41 ?_
  rcases u40_0 with _ | a1
  · exact gh_stk_inv h
  replace h := gh_nn_ss h
  refine gr_getiN (pc := 42) C gh_bX6 (k := 4) (Nat.le_of_ble_eq_true rfl) q988 (fun _ h => h) dX1_shown_42 h fun v2 h => ?_
  refine gr_icmp_gt (pc := 45) (tgt := 61) C rfl dX1_shown_45 (fun c9 => ?_) (fun c9 => ?_)
  · replace h := gh_ift h c9
    obtain ⟨o, h, hk⟩ := gh_K1_up h hk
    exact w_X1_shown_61 C p2 (gl_sub hl [2] rfl) h hk
  · replace h := gh_iff h c9
    refine gr_aload_n (pc := 48) (i := 1) C rfl (gl_at hl 1 rfl) dX1_shown_48 ?_
    refine gr_bipush (pc := 49) (v := (33 : Int32)) C rfl dX1_shown_49 ?_
    rcases u40_1 with _ | a3
    · exact gh_stk_inv h
    replace h := gh_nn_ss h
    obtain ⟨⟨fs9, hg9⟩, h⟩ := gh_is_inv h
    refine gh_callQ (pc := 51) (rest := []) C (k_J5_append_4 C.tr a3 (33 : Int32)) (Nat.le_of_ble_eq_true rfl) (Nat.le_of_ble_eq_true rfl) (gh_r4 (Nat.le_of_ble_eq_true rfl)) (fun H9 L9 hp9 => gi_V C hp9 hg9 gh_cJ5 q1830 q1831 q1832 q1833 mh_J5 np73 rfl hl.1.1 dX1_shown_51 rfl) h ((gh_K1_b gh_K0_b) _ hk) (fun v4 g h => ?_) (fun e g h => ?_)
    rotate_left
    ·
      obtain ⟨o, h, hk⟩ := gh_K1_thr h hk
      exact gh_out C (fun _ h => nomatch h) h hk
    refine gr_astore_n (pc := 54) (i := 2) (l' := [(2, va_rf v4), (0, va_rf (some a1)), (1, va_rf (some a3)), (3, .int p3)]) C rfl hl (Nat.le_of_ble_eq_true rfl) rfl dX1_shown_54 fun ls hl => ?_
    refine gr_iinc (pc := 55) (i := 3) (z := 3) (v := p3 + (4 : Int32)) (l' := [(3, .int (p3 + (4 : Int32))), (2, va_rf v4), (0, va_rf (some a1)), (1, va_rf (some a3))]) C hl rfl rfl (Nat.le_of_ble_eq_true rfl) rfl dX1_shown_55 fun ls hl => ?_
    refine gr_goto (pc := 58) (tgt := 40) C rfl dX1_shown_58 ?_
    exact gh_K1_in h hk ls (gl_sub hl [2, 3, 1, 0] rfl)

noncomputable def f_X1_shown_40 (p0 : Option Nat) (p1 : Option Nat) (p2 : Option Nat) (p3 : Int32) : gh_M (Option Nat) := gh_it (fun st : (Option Nat) × Int32 => f_X1_shown_40_l p0 p1 st.1 st.2) (p2, p3)
theorem w_X1_shown_40 {x : gh_C} {g : gh_G} {o : ((Option Nat) ⊕ gh_X) × gh_G} {ls : Array Slot} (C : gh_K x cX1_shown "GargoyleTower" 4 (some (.object "java/lang/CharSequence")) "shown" 9 214 []) (p0 : Option Nat) (p1 : Option Nat) (p2 : Option Nat) (p3 : Int32) (hl : gh_lv ls 4 [(0, va_rf p0), (1, va_rf p1), (2, va_rf p2), (3, .int p3)]) (h : gh_run (f_X1_shown_40 p0 p1 p2 p3) g = some o) (hk : (gh_K0 x gh_rQ) o) : gh_Wd x g (F0 (gh_cm x) 40 ls []) := by
  unfold f_X1_shown_40 at h
  exact gh_loop gh_K0_b (fun st : (Option Nat) × Int32 => f_X1_shown_40_l p0 p1 st.1 st.2) (gp_X1_shown_40 x p0 p1) (fun st g o h hk ls hl => w_X1_shown_40_l C p0 p1 st.1 st.2 hl h hk) _ g o h hk ls hl
noncomputable def f_X1_shown (p0 : Option Nat) : gh_M (Option Nat) :=
  gh_bd (gh_new 13 4 gh_nJ5) fun a1 =>
  gh_bd (gh_cst 12) fun v2 =>
  gh_bd (f_J5_init_2 a1 v2) fun _ =>
  gh_on p0
  (f_X1_shown_61 (some a1))
  (fun b4 => gh_bd (gh_geti b4 5 0) fun v5 =>
  gh_bd (gh_is a1 13) fun _ =>
  gh_bd (f_J5_append_2 a1 v5) fun v6 =>
  gh_nn v6 fun a7 =>
  gh_bd (gh_is a7 13) fun _ =>
  gh_bd (f_J5_append_4 a7 (58 : Int32)) fun v8 =>
  gh_bd (gh_geti b4 5 3) fun v9 =>
  gh_nn v8 fun a10 =>
  gh_bd (gh_is a10 13) fun _ =>
  gh_bd (f_J5_append_2 a10 v9) fun v11 =>
  f_X1_shown_40 (some b4) (some a1) v11 (4 : Int32))
theorem w_X1_shown {x : gh_C} {g : gh_G} {o : ((Option Nat) ⊕ gh_X) × gh_G} {ls : Array Slot} (C : gh_K x cX1_shown "GargoyleTower" 4 (some (.object "java/lang/CharSequence")) "shown" 9 214 []) (p0 : Option Nat) (hl : gh_lv ls 4 [(0, va_rf p0)]) (h : gh_run (f_X1_shown p0) g = some o) (hk : (gh_K0 x gh_rQ) o) : gh_Wd x g (F0 (gh_cm x) 0 ls []) := by
  unfold f_X1_shown at h
  refine gr_newo (pc := 0) C gh_bJ5 q238 q239 q83 gh_dJ5 dX1_shown_0 h (gh_K0_b _ hk) fun a1 g h => ?_
  refine gr_dup (pc := 3) C (gh_cat _) dX1_shown_3 ?_
  refine gr_ldcSw (pc := 4) C (index := 291) (j := 12) (tx := "[") (by decide +kernel) dX1_shown_4 h fun v2 h => ?_
  refine gh_callV (pc := 7) (rest := [va_rf (some a1)]) C (k_J5_init_2 C.tr a1 v2) (Nat.le_of_ble_eq_true rfl) (Nat.le_of_ble_eq_true rfl) (gh_r4 (Nat.le_of_ble_eq_true rfl)) (fun H9 L9 hp9 => gi_I C q1818 rfl q1819 q1820 mh_J5 np39 rfl hl.1.1 dX1_shown_7 rfl) h (gh_K0_b _ hk) (fun g h => ?_) (fun e g h => ?_)
  rotate_left
  ·
    exact gh_out C (fun _ h => nomatch h) h hk
  refine gr_astore_n (pc := 10) (i := 1) (l' := [(1, va_rf (some a1)), (0, va_rf p0)]) C rfl hl (Nat.le_of_ble_eq_true rfl) rfl dX1_shown_10 fun ls hl => ?_
  refine gr_aload_n (pc := 11) (i := 1) C rfl (gl_at hl 0 rfl) dX1_shown_11 ?_
  refine gr_astore_n (pc := 12) (i := 2) (l' := [(2, va_rf (some a1)), (1, va_rf (some a1)), (0, va_rf p0)]) C rfl hl (Nat.le_of_ble_eq_true rfl) rfl dX1_shown_12 fun ls hl => ?_
  refine gr_aload_n (pc := 13) (i := 0) C rfl (gl_at hl 2 rfl) dX1_shown_13 ?_
  refine gr_ifnull (pc := 14) (tgt := 61) C rfl dX1_shown_14 (fun c9 => ?_) (fun b4 c9 => ?_)
  · subst c9
    replace h := gh_on_n h
    exact w_X1_shown_61 C (some a1) (gl_sub hl [0] rfl) h hk
  · subst c9
    replace h := gh_on_s h
    refine gr_aload_n (pc := 17) (i := 1) C rfl (gl_at hl 1 rfl) dX1_shown_17 ?_
    refine gr_aload_n (pc := 18) (i := 0) C rfl (gl_at hl 2 rfl) dX1_shown_18 ?_
    refine gr_getiN (pc := 19) C gh_bX6 (k := 0) (Nat.le_of_ble_eq_true rfl) q976 (fun _ h => h) dX1_shown_19 h fun v5 h => ?_
    obtain ⟨⟨fs9, hg9⟩, h⟩ := gh_is_inv h
    refine gh_callQ (pc := 22) (rest := []) C (k_J5_append_2 C.tr a1 v5) (Nat.le_of_ble_eq_true rfl) (Nat.le_of_ble_eq_true rfl) (gh_r4 (Nat.le_of_ble_eq_true rfl)) (fun H9 L9 hp9 => gi_V C hp9 hg9 gh_cJ5 q1829 q585 q586 q587 mh_J5 np74 rfl hl.1.1 dX1_shown_22 rfl) h (gh_K0_b _ hk) (fun v6 g h => ?_) (fun e g h => ?_)
    rotate_left
    ·
      exact gh_out C (fun _ h => nomatch h) h hk
    refine gr_bipush (pc := 25) (v := (58 : Int32)) C rfl dX1_shown_25 ?_
    rcases v6 with _ | a7
    · exact gh_stk_inv h
    replace h := gh_nn_ss h
    obtain ⟨⟨fs9, hg9⟩, h⟩ := gh_is_inv h
    refine gh_callQ (pc := 27) (rest := []) C (k_J5_append_4 C.tr a7 (58 : Int32)) (Nat.le_of_ble_eq_true rfl) (Nat.le_of_ble_eq_true rfl) (gh_r4 (Nat.le_of_ble_eq_true rfl)) (fun H9 L9 hp9 => gi_V C hp9 hg9 gh_cJ5 q1830 q1831 q1832 q1833 mh_J5 np73 rfl hl.1.1 dX1_shown_27 rfl) h (gh_K0_b _ hk) (fun v8 g h => ?_) (fun e g h => ?_)
    rotate_left
    ·
      exact gh_out C (fun _ h => nomatch h) h hk
    refine gr_aload_n (pc := 30) (i := 0) C rfl (gl_at hl 2 rfl) dX1_shown_30 ?_
    refine gr_getiN (pc := 31) C gh_bX6 (k := 3) (Nat.le_of_ble_eq_true rfl) q985 (fun _ h => h) dX1_shown_31 h fun v9 h => ?_
    rcases v8 with _ | a10
    · exact gh_stk_inv h
    replace h := gh_nn_ss h
    obtain ⟨⟨fs9, hg9⟩, h⟩ := gh_is_inv h
    refine gh_callQ (pc := 34) (rest := []) C (k_J5_append_2 C.tr a10 v9) (Nat.le_of_ble_eq_true rfl) (Nat.le_of_ble_eq_true rfl) (gh_r4 (Nat.le_of_ble_eq_true rfl)) (fun H9 L9 hp9 => gi_V C hp9 hg9 gh_cJ5 q1829 q585 q586 q587 mh_J5 np74 rfl hl.1.1 dX1_shown_34 rfl) h (gh_K0_b _ hk) (fun v11 g h => ?_) (fun e g h => ?_)
    rotate_left
    ·
      exact gh_out C (fun _ h => nomatch h) h hk
    refine gr_astore_n (pc := 37) (i := 2) (l' := [(2, va_rf v11), (1, va_rf (some a1)), (0, va_rf (some b4))]) C rfl hl (Nat.le_of_ble_eq_true rfl) rfl dX1_shown_37 fun ls hl => ?_
    refine gr_iconst (pc := 38) (v := (4 : Int32)) C rfl dX1_shown_38 ?_
    refine gr_istore_n (pc := 39) (i := 3) (l' := [(3, .int (4 : Int32)), (2, va_rf v11), (1, va_rf (some a1)), (0, va_rf (some b4))]) C rfl hl (Nat.le_of_ble_eq_true rfl) rfl dX1_shown_39 fun ls hl => ?_
    exact w_X1_shown_40 C (some b4) (some a1) v11 (4 : Int32) (gl_sub hl [3, 2, 1, 0] rfl) h hk

theorem k_X1_shown {l : Launch} (hst : l.stackTraces = false) (p0 : Option Nat) : gh_Ct l yX1_shown 9 229 (f_X1_shown p0) gh_rQ [va_rf p0] := gh_intro2 (L1 := 214) hst (by decide +kernel) q1816 q75 rfl ⟨gh_cat _, trivial⟩ (Nat.le_of_ble_eq_true rfl) fun x o ls hl C h hk => w_X1_shown C p0 hl h hk
-- GargoyleTower.character(I)C
noncomputable def f_X1_character (t0 : Nat) (p1 : Int32) : gh_M Int32 :=
  gh_bd (gh_getr t0 0 4) fun v1 =>
  gh_nn v1 fun a2 =>
  gh_bd (gh_is a2 13) fun _ =>
  gh_bd (f_J5_length a2) fun v3 =>
  gh_bd (f_X1_checkIndex p1 v3) fun _ =>
  gh_bd (gh_getr t0 0 4) fun v5 =>
  gh_nn v5 fun a6 =>
  gh_bd (gh_is a6 13) fun _ =>
  gh_bd (f_J5_charAt a6 p1) fun v7 =>
  gh_rz .char v7
theorem w_X1_character {x : gh_C} {g : gh_G} {o : (Int32 ⊕ gh_X) × gh_G} {ls : Array Slot} (C : gh_K x cX1_character "GargoyleTower" 2 (some .char) "character" 8 131 []) (t0 : Nat) (p1 : Int32) (hl : gh_lv ls 2 [(0, va_rf (some t0)), (1, .int p1)]) (h : gh_run (f_X1_character t0 p1) g = some o) (hk : (gh_K0 x gh_rI) o) : gh_Wd x g (F0 (gh_cm x) 0 ls []) := by
  unfold f_X1_character at h
  refine gr_iload_n (pc := 0) (i := 1) C rfl (gl_at hl 1 rfl) dX1_character_0 ?_
  refine gr_aload_n (pc := 1) (i := 0) C rfl (gl_at hl 0 rfl) dX1_character_1 ?_
  refine gr_getr (pc := 2) C gh_bX1 (k := 4) (Nat.le_of_ble_eq_true rfl) q275 (fun _ h => h) dX1_character_2 h fun v1 h => ?_
  rcases v1 with _ | a2
  · exact gh_stk_inv h
  replace h := gh_nn_ss h
  obtain ⟨⟨fs9, hg9⟩, h⟩ := gh_is_inv h
  refine gh_callI (pc := 5) (rest := [.int p1]) C (k_J5_length C.tr a2) (Nat.le_of_ble_eq_true rfl) (Nat.le_of_ble_eq_true rfl) (gh_r4 (Nat.le_of_ble_eq_true rfl)) (fun H9 L9 hp9 => gi_V C hp9 hg9 gh_cJ5 q1955 q632 q2737 q633 mh_J5 np0 rfl hl.1.1 dX1_character_5 rfl) h (gh_K0_b _ hk) (fun v3 g h => ?_) (fun e g h => ?_)
  rotate_left
  ·
    exact gh_out C (fun _ h => nomatch h) h hk
  refine gh_callV (pc := 8) (rest := []) C (k_X1_checkIndex C.tr p1 v3) (Nat.le_of_ble_eq_true rfl) (Nat.le_of_ble_eq_true rfl) (gh_r4 (Nat.le_of_ble_eq_true rfl)) (fun H9 L9 hp9 => gi_S C q1646 q1228 q75 q1229 mh_X1 np30 rfl hl.1.1 dX1_character_8 rfl) h (gh_K0_b _ hk) (fun g h => ?_) (fun e g h => ?_)
  rotate_left
  ·
    exact gh_out C (fun _ h => nomatch h) h hk
  refine gr_aload_n (pc := 11) (i := 0) C rfl (gl_at hl 0 rfl) dX1_character_11 ?_
  refine gr_getr (pc := 12) C gh_bX1 (k := 4) (Nat.le_of_ble_eq_true rfl) q275 (fun _ h => h) dX1_character_12 h fun v5 h => ?_
  refine gr_iload_n (pc := 15) (i := 1) C rfl (gl_at hl 1 rfl) dX1_character_15 ?_
  rcases v5 with _ | a6
  · exact gh_stk_inv h
  replace h := gh_nn_ss h
  obtain ⟨⟨fs9, hg9⟩, h⟩ := gh_is_inv h
  refine gh_callI (pc := 16) (rest := []) C (k_J5_charAt C.tr a6 p1) (Nat.le_of_ble_eq_true rfl) (Nat.le_of_ble_eq_true rfl) (gh_r4 (Nat.le_of_ble_eq_true rfl)) (fun H9 L9 hp9 => gi_V C hp9 hg9 gh_cJ5 q1963 q1940 q2738 q1942 mh_J5 np38 rfl hl.1.1 dX1_character_16 rfl) h (gh_K0_b _ hk) (fun v7 g h => ?_) (fun e g h => ?_)
  rotate_left
  ·
    exact gh_out C (fun _ h => nomatch h) h hk
  exact gr_bret (pc := 19) C dX1_character_19 h hk

theorem k_X1_character {l : Launch} (hst : l.stackTraces = false) (t0 : Nat) (p1 : Int32) : gh_Ct l yX1_character 8 144 (f_X1_character t0 p1) gh_rI [va_rf (some t0), .int p1] := gh_intro2 (L1 := 131) hst (by decide +kernel) q1962 q75 rfl ⟨gh_cat _, rfl, trivial⟩ (Nat.le_of_ble_eq_true rfl) fun x o ls hl C h hk => w_X1_character C t0 p1 hl h hk
-- GargoyleTower.meanDetail()D
def gp_X1_meanDetail_34 (x : gh_C) (u34_1 : Int32) (u34_3 : Option Nat) (st : Int32) (g : gh_G) : Prop := ∀ ls : Array Slot, gh_lv ls 5 [(1, .int u34_1), (2, .int st), (3, va_rf u34_3)] → gh_Wd x g (F0 (gh_cm x) 34 ls [])
noncomputable def f_X1_meanDetail_73 (u34_1 : Int32) (u34_3 : Option Nat) (s0 : Int32) (s1 : Int32) : gh_M ((Int32) ⊕ UInt64) :=
  gh_ret (.inl (s0 + s1))
theorem w_X1_meanDetail_73 {x : gh_C} {g : gh_G} {o : (((Int32) ⊕ UInt64) ⊕ gh_X) × gh_G} {ls : Array Slot} (C : gh_K x cX1_meanDetail "GargoyleTower" 5 (some .double) "meanDetail" 7 110 []) (u34_1 : Int32) (u34_3 : Option Nat) (s0 : Int32) (s1 : Int32) (hl : gh_lv ls 5 [(1, .int u34_1), (3, va_rf u34_3)]) (h : gh_run (f_X1_meanDetail_73 u34_1 u34_3 s0 s1) g = some o) (hk : (gh_K1 x (gh_K0 x gh_rD) (gp_X1_meanDetail_34 x u34_1 u34_3)) o) : gh_Wd x g (F0 (gh_cm x) 73 ls [.int s1, .int s0]) := by
  unfold f_X1_meanDetail_73 at h
  refine gr_iadd (pc := 73) C dX1_meanDetail_73 ?_
  refine gr_istore_n (pc := 74) (i := 2) (l' := [(2, .int (s0 + s1)), (1, .int u34_1), (3, va_rf u34_3)]) C rfl hl (Nat.le_of_ble_eq_true rfl) rfl dX1_meanDetail_74 fun ls hl => ?_
  refine gr_goto (pc := 75) (tgt := 34) C rfl dX1_meanDetail_75 ?_
  exact gh_K1_in h hk ls (gl_sub hl [1, 0, 2] rfl)

noncomputable def f_X1_meanDetail_34_l (u34_1 : Int32) (p2 : Int32) (u34_3 : Option Nat) : gh_M ((Int32) ⊕ UInt64) :=
  gh_nn u34_3 fun a1 =>
  gh_bd (gh_is a1 15) fun _ =>
  gh_bd (f_J8_hasNext a1) fun v2 =>
  if v2 = 0 then
  (gh_ok (gh_n64 (FP.ddiv (FP.i2d p2) (FP.i2d u34_1))) <|
  gh_up (gh_ret (FP.ddiv (FP.i2d p2) (FP.i2d u34_1))))
  else
  (gh_bd (gh_is a1 15) fun _ =>
  gh_bd (f_J8_next a1) fun v3 =>
  gh_nn v3 fun a4 =>
  gh_bd (gh_is a4 5) fun _ =>
  gh_bd (gh_geti a4 5 5) fun v5 =>
  if v5 = (2 : Int32) then
  (gh_bd (gh_geti a4 5 3) fun v6 =>
  f_X1_meanDetail_73 u34_1 (some a1) p2 v6)
  else
  (f_X1_meanDetail_73 u34_1 (some a1) p2 (0 : Int32)))
theorem w_X1_meanDetail_34_l {x : gh_C} {g : gh_G} {o : (((Int32) ⊕ UInt64) ⊕ gh_X) × gh_G} {ls : Array Slot} (C : gh_K x cX1_meanDetail "GargoyleTower" 5 (some .double) "meanDetail" 7 110 []) (u34_1 : Int32) (p2 : Int32) (u34_3 : Option Nat) (hl : gh_lv ls 5 [(1, .int u34_1), (2, .int p2), (3, va_rf u34_3)]) (h : gh_run (f_X1_meanDetail_34_l u34_1 p2 u34_3) g = some o) (hk : (gh_K1 x (gh_K0 x gh_rD) (gp_X1_meanDetail_34 x u34_1 u34_3)) o) : gh_Wd x g (F0 (gh_cm x) 34 ls []) := by
  unfold f_X1_meanDetail_34_l at h
  refine gr_aload_n (pc := 34) (i := 3) C rfl (gl_at hl 2 rfl) dX1_meanDetail_34 ?_
  rcases u34_3 with _ | a1
  · exact gh_stk_inv h
  replace h := gh_nn_ss h
  obtain ⟨⟨fs9, hg9⟩, h⟩ := gh_is_inv h
  refine gh_callI (pc := 35) (rest := []) C (k_J8_hasNext C.tr a1) (Nat.le_of_ble_eq_true rfl) (Nat.le_of_ble_eq_true rfl) (gh_r4 (Nat.le_of_ble_eq_true rfl)) (fun H9 L9 hp9 => gi_F C hp9 hg9 gh_cJ8 q334 q336 (by decide +kernel) q353 q355 q356 q354 q352 q357 mh_java_util_Iterator np7 rfl hl.1.1 dX1_meanDetail_35 rfl) h ((gh_K1_b gh_K0_b) _ hk) (fun v2 g h => ?_) (fun e g h => ?_)
  rotate_left
  ·
    obtain ⟨o, h, hk⟩ := gh_K1_thr h hk
    exact gh_out C (fun _ h => nomatch h) h hk
  refine gr_if_eq (pc := 40) (tgt := 78) C rfl dX1_meanDetail_40 (fun c9 => ?_) (fun c9 => ?_)
  · replace h := gh_ift h c9
    refine gr_iload_n (pc := 78) (i := 2) C rfl (gl_at hl 1 rfl) dX1_meanDetail_78 ?_
    refine gr_i2d (pc := 79) C dX1_meanDetail_79 ?_
    refine gr_iload_n (pc := 80) (i := 1) C rfl (gl_at hl 0 rfl) dX1_meanDetail_80 ?_
    refine gr_i2d (pc := 81) C dX1_meanDetail_81 ?_
    obtain ⟨hz9, h⟩ := gh_ok_inv h
    refine gr_ddiv (pc := 82) C (gh_n64_of hz9) dX1_meanDetail_82 ?_
    obtain ⟨o, h, hk⟩ := gh_K1_up h hk
    exact gr_dret (pc := 83) C dX1_meanDetail_83 h hk
  · replace h := gh_iff h c9
    refine gr_aload_n (pc := 43) (i := 3) C rfl (gl_at hl 2 rfl) dX1_meanDetail_43 ?_
    obtain ⟨⟨fs9, hg9⟩, h⟩ := gh_is_inv h
    refine gh_callQ (pc := 44) (rest := []) C (k_J8_next C.tr a1) (Nat.le_of_ble_eq_true rfl) (Nat.le_of_ble_eq_true rfl) (gh_r4 (Nat.le_of_ble_eq_true rfl)) (fun H9 L9 hp9 => gi_F C hp9 hg9 gh_cJ8 q368 q370 (by decide +kernel) q826 q828 q829 q827 q352 q830 mh_java_util_Iterator np23 rfl hl.1.1 dX1_meanDetail_44 rfl) h ((gh_K1_b gh_K0_b) _ hk) (fun v3 g h => ?_) (fun e g h => ?_)
    rotate_left
    ·
      obtain ⟨o, h, hk⟩ := gh_K1_thr h hk
      exact gh_out C (fun _ h => nomatch h) h hk
    rcases v3 with _ | a4
    · exact gh_stk_inv h
    replace h := gh_nn_ss h
    obtain ⟨⟨fs9, hg9⟩, h⟩ := gh_is_inv h
    refine gr_castY (pc := 49) C gh_cX6 q877 (Or.inl rfl) dX1_meanDetail_49 hg9 ?_
    refine gr_astore (pc := 52) (i := 4) (l' := [(4, va_rf (some a4)), (1, .int u34_1), (2, .int p2), (3, va_rf (some a1))]) C hl (Nat.le_of_ble_eq_true rfl) rfl dX1_meanDetail_52 fun ls hl => ?_
    refine gr_iload_n (pc := 54) (i := 2) C rfl (gl_at hl 2 rfl) dX1_meanDetail_54 ?_
    refine gr_aload (pc := 55) (i := 4) C (gl_at hl 0 rfl) dX1_meanDetail_55 ?_
    refine gr_getiN (pc := 57) C gh_bX6 (k := 5) (Nat.le_of_ble_eq_true rfl) q991 (fun _ h => h) dX1_meanDetail_57 h fun v5 h => ?_
    refine gr_iconst (pc := 60) (v := (2 : Int32)) C rfl dX1_meanDetail_60 ?_
    refine gr_icmp_ne (pc := 61) (tgt := 72) C rfl dX1_meanDetail_61 (fun c9 => ?_) (fun c9 => ?_)
    · replace h := gh_iff h c9
      refine gr_iconst (pc := 72) (v := (0 : Int32)) C rfl dX1_meanDetail_72 ?_
      exact w_X1_meanDetail_73 C u34_1 (some a1) p2 (0 : Int32) (gl_sub hl [1, 3] rfl) h hk
    · replace h := gh_ift h c9
      refine gr_aload (pc := 64) (i := 4) C (gl_at hl 0 rfl) dX1_meanDetail_64 ?_
      refine gr_getiN (pc := 66) C gh_bX6 (k := 3) (Nat.le_of_ble_eq_true rfl) q985 (fun _ h => h) dX1_meanDetail_66 h fun v6 h => ?_
      refine gr_goto (pc := 69) (tgt := 73) C rfl dX1_meanDetail_69 ?_
      exact w_X1_meanDetail_73 C u34_1 (some a1) p2 v6 (gl_sub hl [1, 3] rfl) h hk

noncomputable def f_X1_meanDetail_34 (p1 : Int32) (p2 : Int32) (p3 : Option Nat) : gh_M UInt64 := gh_it (fun st : Int32 => f_X1_meanDetail_34_l p1 st p3) (p2)
theorem w_X1_meanDetail_34 {x : gh_C} {g : gh_G} {o : (UInt64 ⊕ gh_X) × gh_G} {ls : Array Slot} (C : gh_K x cX1_meanDetail "GargoyleTower" 5 (some .double) "meanDetail" 7 110 []) (p1 : Int32) (p2 : Int32) (p3 : Option Nat) (hl : gh_lv ls 5 [(1, .int p1), (2, .int p2), (3, va_rf p3)]) (h : gh_run (f_X1_meanDetail_34 p1 p2 p3) g = some o) (hk : (gh_K0 x gh_rD) o) : gh_Wd x g (F0 (gh_cm x) 34 ls []) := by
  unfold f_X1_meanDetail_34 at h
  exact gh_loop gh_K0_b (fun st : Int32 => f_X1_meanDetail_34_l p1 st p3) (gp_X1_meanDetail_34 x p1 p3) (fun st g o h hk ls hl => w_X1_meanDetail_34_l C p1 st p3 hl h hk) _ g o h hk ls hl
noncomputable def f_X1_meanDetail (t0 : Nat) : gh_M UInt64 :=
  gh_bd (gh_getr t0 0 0) fun v1 =>
  gh_nn v1 fun a2 =>
  gh_bd (gh_is a2 1) fun _ =>
  gh_bd (f_X2_count a2 (2 : Int32)) fun v3 =>
  if v3 = 0 then
  (gh_tro 23)
  else
  (gh_bd (gh_getr t0 0 0) fun v4 =>
  gh_nn v4 fun a5 =>
  gh_bd (gh_getr a5 1 6) fun v6 =>
  gh_nn v6 fun a7 =>
  gh_bd (gh_is a7 11) fun _ =>
  gh_bd (f_J2_iterator a7) fun v8 =>
  f_X1_meanDetail_34 v3 (0 : Int32) v8)
theorem w_X1_meanDetail {x : gh_C} {g : gh_G} {o : (UInt64 ⊕ gh_X) × gh_G} {ls : Array Slot} (C : gh_K x cX1_meanDetail "GargoyleTower" 5 (some .double) "meanDetail" 7 110 []) (t0 : Nat) (hl : gh_lv ls 5 [(0, va_rf (some t0))]) (h : gh_run (f_X1_meanDetail t0) g = some o) (hk : (gh_K0 x gh_rD) o) : gh_Wd x g (F0 (gh_cm x) 0 ls []) := by
  unfold f_X1_meanDetail at h
  refine gr_aload_n (pc := 0) (i := 0) C rfl (gl_at hl 0 rfl) dX1_meanDetail_0 ?_
  refine gr_getr (pc := 1) C gh_bX1 (k := 0) (Nat.le_of_ble_eq_true rfl) q271 (fun _ h => h) dX1_meanDetail_1 h fun v1 h => ?_
  refine gr_iconst (pc := 4) (v := (2 : Int32)) C rfl dX1_meanDetail_4 ?_
  rcases v1 with _ | a2
  · exact gh_stk_inv h
  replace h := gh_nn_ss h
  obtain ⟨⟨fs9, hg9⟩, h⟩ := gh_is_inv h
  refine gh_callI (pc := 5) (rest := []) C (k_X2_count C.tr a2 (2 : Int32)) (Nat.le_of_ble_eq_true rfl) (Nat.le_of_ble_eq_true rfl) (gh_r4 (Nat.le_of_ble_eq_true rfl)) (fun H9 L9 hp9 => gi_V C hp9 hg9 gh_cX2 q1985 q1986 q1987 q1988 mh_X2 np6 rfl hl.1.1 dX1_meanDetail_5 rfl) h (gh_K0_b _ hk) (fun v3 g h => ?_) (fun e g h => ?_)
  rotate_left
  ·
    exact gh_out C (fun _ h => nomatch h) h hk
  refine gr_istore_n (pc := 8) (i := 1) (l' := [(1, .int v3), (0, va_rf (some t0))]) C rfl hl (Nat.le_of_ble_eq_true rfl) rfl dX1_meanDetail_8 fun ls hl => ?_
  refine gr_iload_n (pc := 9) (i := 1) C rfl (gl_at hl 0 rfl) dX1_meanDetail_9 ?_
  refine gr_if_ne (pc := 10) (tgt := 21) C rfl dX1_meanDetail_10 (fun c9 => ?_) (fun c9 => ?_)
  · replace h := gh_iff h c9
    refine gr_iconst (pc := 21) (v := (0 : Int32)) C rfl dX1_meanDetail_21 ?_
    refine gr_istore_n (pc := 22) (i := 2) (l' := [(2, .int (0 : Int32)), (1, .int v3), (0, va_rf (some t0))]) C rfl hl (Nat.le_of_ble_eq_true rfl) rfl dX1_meanDetail_22 fun ls hl => ?_
    refine gr_aload_n (pc := 23) (i := 0) C rfl (gl_at hl 2 rfl) dX1_meanDetail_23 ?_
    refine gr_getr (pc := 24) C gh_bX1 (k := 0) (Nat.le_of_ble_eq_true rfl) q271 (fun _ h => h) dX1_meanDetail_24 h fun v4 h => ?_
    rcases v4 with _ | a5
    · exact gh_stk_inv h
    replace h := gh_nn_ss h
    refine gr_getrN (pc := 27) C gh_bX2 (k := 6) (Nat.le_of_ble_eq_true rfl) q196 (fun _ h => h) dX1_meanDetail_27 h fun v6 h => ?_
    rcases v6 with _ | a7
    · exact gh_stk_inv h
    replace h := gh_nn_ss h
    obtain ⟨⟨fs9, hg9⟩, h⟩ := gh_is_inv h
    refine gh_callQ (pc := 30) (rest := []) C (k_J2_iterator C.tr a7) (Nat.le_of_ble_eq_true rfl) (Nat.le_of_ble_eq_true rfl) (gh_r4 (Nat.le_of_ble_eq_true rfl)) (fun H9 L9 hp9 => gi_V C hp9 hg9 gh_cJ2 q308 q309 q310 q311 mh_J2 np46 rfl hl.1.1 dX1_meanDetail_30 rfl) h (gh_K0_b _ hk) (fun v8 g h => ?_) (fun e g h => ?_)
    rotate_left
    ·
      exact gh_out C (fun _ h => nomatch h) h hk
    refine gr_astore_n (pc := 33) (i := 3) (l' := [(3, va_rf v8), (2, .int (0 : Int32)), (1, .int v3), (0, va_rf (some t0))]) C rfl hl (Nat.le_of_ble_eq_true rfl) rfl dX1_meanDetail_33 fun ls hl => ?_
    exact w_X1_meanDetail_34 C v3 (0 : Int32) v8 (gl_sub hl [2, 1, 0] rfl) h hk
  · replace h := gh_ift h c9
    exact gr_tro (pc := 13) C gh_cJ29 (by decide +kernel) (by decide +kernel) q1989 q117 at0_X1_J29 hl.1.1 dX1_meanDetail_13 dX1_meanDetail_16 dX1_meanDetail_17 dX1_meanDetail_20 (fun _ h => nomatch h) (Nat.le_of_ble_eq_true rfl) (Nat.le_of_ble_eq_true rfl) (Nat.le_of_ble_eq_true rfl) (Nat.le_of_ble_eq_true rfl) h hk

theorem k_X1_meanDetail {l : Launch} (hst : l.stackTraces = false) (t0 : Nat) : gh_Ct l yX1_meanDetail 7 126 (f_X1_meanDetail t0) gh_rD [va_rf (some t0)] := gh_intro2 (L1 := 110) hst (by decide +kernel) q1984 q75 rfl ⟨gh_cat _, trivial⟩ (Nat.le_of_ble_eq_true rfl) fun x o ls hl C h hk => w_X1_meanDetail C t0 hl h hk
-- GargoyleTower.brokenShare()F
noncomputable def f_X1_brokenShare (t0 : Nat) : gh_M UInt32 :=
  gh_bd (gh_getr t0 0 0) fun v1 =>
  gh_nn v1 fun a2 =>
  gh_bd (gh_getr a2 1 6) fun v3 =>
  gh_nn v3 fun a4 =>
  gh_bd (gh_is a4 11) fun _ =>
  gh_bd (f_J2_isEmpty a4) fun v5 =>
  if v5 = 0 then
  (gh_bd (gh_getr t0 0 0) fun v6 =>
  gh_nn v6 fun a7 =>
  gh_bd (gh_is a7 1) fun _ =>
  gh_bd (f_X2_count a7 (3 : Int32)) fun v8 =>
  gh_bd (gh_getr t0 0 0) fun v9 =>
  gh_nn v9 fun a10 =>
  gh_bd (gh_getr a10 1 6) fun v11 =>
  gh_nn v11 fun a12 =>
  gh_bd (gh_is a12 11) fun _ =>
  gh_bd (f_J2_size a12) fun v13 =>
  gh_ok (gh_n32 (FP.fdiv (FP.i2f v8) (FP.i2f v13))) <|
  gh_ret (FP.fdiv (FP.i2f v8) (FP.i2f v13)))
  else
  (gh_tro 23)
theorem w_X1_brokenShare {x : gh_C} {g : gh_G} {o : (UInt32 ⊕ gh_X) × gh_G} {ls : Array Slot} (C : gh_K x cX1_brokenShare "GargoyleTower" 1 (some .float) "brokenShare" 7 110 []) (t0 : Nat) (hl : gh_lv ls 1 [(0, va_rf (some t0))]) (h : gh_run (f_X1_brokenShare t0) g = some o) (hk : (gh_K0 x gh_rF) o) : gh_Wd x g (F0 (gh_cm x) 0 ls []) := by
  unfold f_X1_brokenShare at h
  refine gr_aload_n (pc := 0) (i := 0) C rfl (gl_at hl 0 rfl) dX1_brokenShare_0 ?_
  refine gr_getr (pc := 1) C gh_bX1 (k := 0) (Nat.le_of_ble_eq_true rfl) q271 (fun _ h => h) dX1_brokenShare_1 h fun v1 h => ?_
  rcases v1 with _ | a2
  · exact gh_stk_inv h
  replace h := gh_nn_ss h
  refine gr_getrN (pc := 4) C gh_bX2 (k := 6) (Nat.le_of_ble_eq_true rfl) q196 (fun _ h => h) dX1_brokenShare_4 h fun v3 h => ?_
  rcases v3 with _ | a4
  · exact gh_stk_inv h
  replace h := gh_nn_ss h
  obtain ⟨⟨fs9, hg9⟩, h⟩ := gh_is_inv h
  refine gh_callI (pc := 7) (rest := []) C (k_J2_isEmpty C.tr a4) (Nat.le_of_ble_eq_true rfl) (Nat.le_of_ble_eq_true rfl) (gh_r4 (Nat.le_of_ble_eq_true rfl)) (fun H9 L9 hp9 => gi_V C hp9 hg9 gh_cJ2 q2001 q2002 q2003 q2004 mh_J2 np7 rfl hl.1.1 dX1_brokenShare_7 rfl) h (gh_K0_b _ hk) (fun v5 g h => ?_) (fun e g h => ?_)
  rotate_left
  ·
    exact gh_out C (fun _ h => nomatch h) h hk
  refine gr_if_eq (pc := 10) (tgt := 21) C rfl dX1_brokenShare_10 (fun c9 => ?_) (fun c9 => ?_)
  · replace h := gh_ift h c9
    refine gr_aload_n (pc := 21) (i := 0) C rfl (gl_at hl 0 rfl) dX1_brokenShare_21 ?_
    refine gr_getr (pc := 22) C gh_bX1 (k := 0) (Nat.le_of_ble_eq_true rfl) q271 (fun _ h => h) dX1_brokenShare_22 h fun v6 h => ?_
    refine gr_iconst (pc := 25) (v := (3 : Int32)) C rfl dX1_brokenShare_25 ?_
    rcases v6 with _ | a7
    · exact gh_stk_inv h
    replace h := gh_nn_ss h
    obtain ⟨⟨fs9, hg9⟩, h⟩ := gh_is_inv h
    refine gh_callI (pc := 26) (rest := []) C (k_X2_count C.tr a7 (3 : Int32)) (Nat.le_of_ble_eq_true rfl) (Nat.le_of_ble_eq_true rfl) (gh_r4 (Nat.le_of_ble_eq_true rfl)) (fun H9 L9 hp9 => gi_V C hp9 hg9 gh_cX2 q1985 q1986 q1987 q1988 mh_X2 np6 rfl hl.1.1 dX1_brokenShare_26 rfl) h (gh_K0_b _ hk) (fun v8 g h => ?_) (fun e g h => ?_)
    rotate_left
    ·
      exact gh_out C (fun _ h => nomatch h) h hk
    refine gr_i2f (pc := 29) C dX1_brokenShare_29 ?_
    refine gr_aload_n (pc := 30) (i := 0) C rfl (gl_at hl 0 rfl) dX1_brokenShare_30 ?_
    refine gr_getr (pc := 31) C gh_bX1 (k := 0) (Nat.le_of_ble_eq_true rfl) q271 (fun _ h => h) dX1_brokenShare_31 h fun v9 h => ?_
    rcases v9 with _ | a10
    · exact gh_stk_inv h
    replace h := gh_nn_ss h
    refine gr_getrN (pc := 34) C gh_bX2 (k := 6) (Nat.le_of_ble_eq_true rfl) q196 (fun _ h => h) dX1_brokenShare_34 h fun v11 h => ?_
    rcases v11 with _ | a12
    · exact gh_stk_inv h
    replace h := gh_nn_ss h
    obtain ⟨⟨fs9, hg9⟩, h⟩ := gh_is_inv h
    refine gh_callI (pc := 37) (rest := [.float (FP.i2f v8)]) C (k_J2_size C.tr a12) (Nat.le_of_ble_eq_true rfl) (Nat.le_of_ble_eq_true rfl) (gh_r4 (Nat.le_of_ble_eq_true rfl)) (fun H9 L9 hp9 => gi_V C hp9 hg9 gh_cJ2 q2005 q347 q2726 q348 mh_J2 np0 rfl hl.1.1 dX1_brokenShare_37 rfl) h (gh_K0_b _ hk) (fun v13 g h => ?_) (fun e g h => ?_)
    rotate_left
    ·
      exact gh_out C (fun _ h => nomatch h) h hk
    refine gr_i2f (pc := 40) C dX1_brokenShare_40 ?_
    obtain ⟨hz9, h⟩ := gh_ok_inv h
    refine gr_fdiv (pc := 41) C (gh_n32_of hz9) dX1_brokenShare_41 ?_
    exact gr_fret (pc := 42) C dX1_brokenShare_42 h hk
  · replace h := gh_iff h c9
    exact gr_tro (pc := 13) C gh_cJ29 (by decide +kernel) (by decide +kernel) q1989 q117 at0_X1_J29 hl.1.1 dX1_brokenShare_13 dX1_brokenShare_16 dX1_brokenShare_17 dX1_brokenShare_20 (fun _ h => nomatch h) (Nat.le_of_ble_eq_true rfl) (Nat.le_of_ble_eq_true rfl) (Nat.le_of_ble_eq_true rfl) (Nat.le_of_ble_eq_true rfl) h hk

theorem k_X1_brokenShare {l : Launch} (hst : l.stackTraces = false) (t0 : Nat) : gh_Ct l yX1_brokenShare 7 122 (f_X1_brokenShare t0) gh_rF [va_rf (some t0)] := gh_intro2 (L1 := 110) hst (by decide +kernel) q2000 q75 rfl ⟨gh_cat _, trivial⟩ (Nat.le_of_ble_eq_true rfl) fun x o ls hl C h hk => w_X1_brokenShare C t0 hl h hk
-- GargoyleTower.torn()I
def gp_X1_torn_13 (x : gh_C) (u13_2 : Option Nat) (st : Int32) (g : gh_G) : Prop := ∀ ls : Array Slot, gh_lv ls 4 [(1, .int st), (2, va_rf u13_2)] → gh_Wd x g (F0 (gh_cm x) 13 ls [])
noncomputable def f_X1_torn_45 (u13_2 : Option Nat) (s0 : Int32) (s1 : Int32) : gh_M ((Int32) ⊕ Int32) :=
  gh_ret (.inl (s0 + s1))
theorem w_X1_torn_45 {x : gh_C} {g : gh_G} {o : (((Int32) ⊕ Int32) ⊕ gh_X) × gh_G} {ls : Array Slot} (C : gh_K x cX1_torn "GargoyleTower" 4 (some .int) "torn" 4 81 []) (u13_2 : Option Nat) (s0 : Int32) (s1 : Int32) (hl : gh_lv ls 4 [(2, va_rf u13_2)]) (h : gh_run (f_X1_torn_45 u13_2 s0 s1) g = some o) (hk : (gh_K1 x (gh_K0 x gh_rI) (gp_X1_torn_13 x u13_2)) o) : gh_Wd x g (F0 (gh_cm x) 45 ls [.int s1, .int s0]) := by
  unfold f_X1_torn_45 at h
  refine gr_iadd (pc := 45) C dX1_torn_45 ?_
  refine gr_istore_n (pc := 46) (i := 1) (l' := [(1, .int (s0 + s1)), (2, va_rf u13_2)]) C rfl hl (Nat.le_of_ble_eq_true rfl) rfl dX1_torn_46 fun ls hl => ?_
  refine gr_goto (pc := 47) (tgt := 13) C rfl dX1_torn_47 ?_
  exact gh_K1_in h hk ls (gl_sub hl [0, 1] rfl)

noncomputable def f_X1_torn_13_l (p1 : Int32) (u13_2 : Option Nat) : gh_M ((Int32) ⊕ Int32) :=
  gh_nn u13_2 fun a1 =>
  gh_bd (gh_is a1 15) fun _ =>
  gh_bd (f_J8_hasNext a1) fun v2 =>
  if v2 = 0 then
  (gh_up (gh_ret p1))
  else
  (gh_bd (gh_is a1 15) fun _ =>
  gh_bd (f_J8_next a1) fun v3 =>
  gh_nn v3 fun a4 =>
  gh_bd (gh_is a4 6) fun _ =>
  gh_bd (gh_is a4 6) fun _ =>
  gh_bd (f_X10_isTorn a4) fun v5 =>
  if v5 = 0 then
  (f_X1_torn_45 (some a1) p1 (0 : Int32))
  else
  (f_X1_torn_45 (some a1) p1 (1 : Int32)))
theorem w_X1_torn_13_l {x : gh_C} {g : gh_G} {o : (((Int32) ⊕ Int32) ⊕ gh_X) × gh_G} {ls : Array Slot} (C : gh_K x cX1_torn "GargoyleTower" 4 (some .int) "torn" 4 81 []) (p1 : Int32) (u13_2 : Option Nat) (hl : gh_lv ls 4 [(1, .int p1), (2, va_rf u13_2)]) (h : gh_run (f_X1_torn_13_l p1 u13_2) g = some o) (hk : (gh_K1 x (gh_K0 x gh_rI) (gp_X1_torn_13 x u13_2)) o) : gh_Wd x g (F0 (gh_cm x) 13 ls []) := by
  unfold f_X1_torn_13_l at h
  refine gr_aload_n (pc := 13) (i := 2) C rfl (gl_at hl 1 rfl) dX1_torn_13 ?_
  rcases u13_2 with _ | a1
  · exact gh_stk_inv h
  replace h := gh_nn_ss h
  obtain ⟨⟨fs9, hg9⟩, h⟩ := gh_is_inv h
  refine gh_callI (pc := 14) (rest := []) C (k_J8_hasNext C.tr a1) (Nat.le_of_ble_eq_true rfl) (Nat.le_of_ble_eq_true rfl) (gh_r4 (Nat.le_of_ble_eq_true rfl)) (fun H9 L9 hp9 => gi_F C hp9 hg9 gh_cJ8 q334 q336 (by decide +kernel) q353 q355 q356 q354 q352 q357 mh_java_util_Iterator np7 rfl hl.1.1 dX1_torn_14 rfl) h ((gh_K1_b gh_K0_b) _ hk) (fun v2 g h => ?_) (fun e g h => ?_)
  rotate_left
  ·
    obtain ⟨o, h, hk⟩ := gh_K1_thr h hk
    exact gh_out C (fun _ h => nomatch h) h hk
  refine gr_if_eq (pc := 19) (tgt := 50) C rfl dX1_torn_19 (fun c9 => ?_) (fun c9 => ?_)
  · replace h := gh_ift h c9
    refine gr_iload_n (pc := 50) (i := 1) C rfl (gl_at hl 0 rfl) dX1_torn_50 ?_
    obtain ⟨o, h, hk⟩ := gh_K1_up h hk
    exact gr_iret (pc := 51) C dX1_torn_51 h hk
  · replace h := gh_iff h c9
    refine gr_aload_n (pc := 22) (i := 2) C rfl (gl_at hl 1 rfl) dX1_torn_22 ?_
    obtain ⟨⟨fs9, hg9⟩, h⟩ := gh_is_inv h
    refine gh_callQ (pc := 23) (rest := []) C (k_J8_next C.tr a1) (Nat.le_of_ble_eq_true rfl) (Nat.le_of_ble_eq_true rfl) (gh_r4 (Nat.le_of_ble_eq_true rfl)) (fun H9 L9 hp9 => gi_F C hp9 hg9 gh_cJ8 q368 q370 (by decide +kernel) q826 q828 q829 q827 q352 q830 mh_java_util_Iterator np23 rfl hl.1.1 dX1_torn_23 rfl) h ((gh_K1_b gh_K0_b) _ hk) (fun v3 g h => ?_) (fun e g h => ?_)
    rotate_left
    ·
      obtain ⟨o, h, hk⟩ := gh_K1_thr h hk
      exact gh_out C (fun _ h => nomatch h) h hk
    rcases v3 with _ | a4
    · exact gh_stk_inv h
    replace h := gh_nn_ss h
    obtain ⟨⟨fs9, hg9⟩, h⟩ := gh_is_inv h
    refine gr_castY (pc := 28) C gh_cX7 q867 (Or.inl rfl) dX1_torn_28 hg9 ?_
    refine gr_astore_n (pc := 31) (i := 3) (l' := [(3, va_rf (some a4)), (1, .int p1), (2, va_rf (some a1))]) C rfl hl (Nat.le_of_ble_eq_true rfl) rfl dX1_torn_31 fun ls hl => ?_
    refine gr_iload_n (pc := 32) (i := 1) C rfl (gl_at hl 1 rfl) dX1_torn_32 ?_
    refine gr_aload_n (pc := 33) (i := 3) C rfl (gl_at hl 0 rfl) dX1_torn_33 ?_
    obtain ⟨⟨fs9, hg9⟩, h⟩ := gh_is_inv h
    refine gh_callI (pc := 34) (rest := [.int p1]) C (k_X10_isTorn C.tr a4) (Nat.le_of_ble_eq_true rfl) (Nat.le_of_ble_eq_true rfl) (gh_r4 (Nat.le_of_ble_eq_true rfl)) (fun H9 L9 hp9 => gi_VD C hp9 hg9 gh_cX7 (dw_12) (dw_13) q892 mh_X10 (by decide +kernel) q895 np7 rfl hl.1.1 dX1_torn_34 rfl) h ((gh_K1_b gh_K0_b) _ hk) (fun v5 g h => ?_) (fun e g h => ?_)
    rotate_left
    ·
      obtain ⟨o, h, hk⟩ := gh_K1_thr h hk
      exact gh_out C (fun _ h => nomatch h) h hk
    refine gr_if_eq (pc := 37) (tgt := 44) C rfl dX1_torn_37 (fun c9 => ?_) (fun c9 => ?_)
    · replace h := gh_ift h c9
      refine gr_iconst (pc := 44) (v := (0 : Int32)) C rfl dX1_torn_44 ?_
      exact w_X1_torn_45 C (some a1) p1 (0 : Int32) (gl_sub hl [2] rfl) h hk
    · replace h := gh_iff h c9
      refine gr_iconst (pc := 40) (v := (1 : Int32)) C rfl dX1_torn_40 ?_
      refine gr_goto (pc := 41) (tgt := 45) C rfl dX1_torn_41 ?_
      exact w_X1_torn_45 C (some a1) p1 (1 : Int32) (gl_sub hl [2] rfl) h hk

noncomputable def f_X1_torn_13 (p1 : Int32) (p2 : Option Nat) : gh_M Int32 := gh_it (fun st : Int32 => f_X1_torn_13_l st p2) (p1)
theorem w_X1_torn_13 {x : gh_C} {g : gh_G} {o : (Int32 ⊕ gh_X) × gh_G} {ls : Array Slot} (C : gh_K x cX1_torn "GargoyleTower" 4 (some .int) "torn" 4 81 []) (p1 : Int32) (p2 : Option Nat) (hl : gh_lv ls 4 [(1, .int p1), (2, va_rf p2)]) (h : gh_run (f_X1_torn_13 p1 p2) g = some o) (hk : (gh_K0 x gh_rI) o) : gh_Wd x g (F0 (gh_cm x) 13 ls []) := by
  unfold f_X1_torn_13 at h
  exact gh_loop gh_K0_b (fun st : Int32 => f_X1_torn_13_l st p2) (gp_X1_torn_13 x p2) (fun st g o h hk ls hl => w_X1_torn_13_l C st p2 hl h hk) _ g o h hk ls hl
noncomputable def f_X1_torn (t0 : Nat) : gh_M Int32 :=
  gh_bd (gh_getr t0 0 0) fun v1 =>
  gh_nn v1 fun a2 =>
  gh_bd (gh_getr a2 1 7) fun v3 =>
  gh_nn v3 fun a4 =>
  gh_bd (gh_is a4 11) fun _ =>
  gh_bd (f_J2_iterator a4) fun v5 =>
  f_X1_torn_13 (0 : Int32) v5
theorem w_X1_torn {x : gh_C} {g : gh_G} {o : (Int32 ⊕ gh_X) × gh_G} {ls : Array Slot} (C : gh_K x cX1_torn "GargoyleTower" 4 (some .int) "torn" 4 81 []) (t0 : Nat) (hl : gh_lv ls 4 [(0, va_rf (some t0))]) (h : gh_run (f_X1_torn t0) g = some o) (hk : (gh_K0 x gh_rI) o) : gh_Wd x g (F0 (gh_cm x) 0 ls []) := by
  unfold f_X1_torn at h
  refine gr_iconst (pc := 0) (v := (0 : Int32)) C rfl dX1_torn_0 ?_
  refine gr_istore_n (pc := 1) (i := 1) (l' := [(1, .int (0 : Int32)), (0, va_rf (some t0))]) C rfl hl (Nat.le_of_ble_eq_true rfl) rfl dX1_torn_1 fun ls hl => ?_
  refine gr_aload_n (pc := 2) (i := 0) C rfl (gl_at hl 1 rfl) dX1_torn_2 ?_
  refine gr_getr (pc := 3) C gh_bX1 (k := 0) (Nat.le_of_ble_eq_true rfl) q271 (fun _ h => h) dX1_torn_3 h fun v1 h => ?_
  rcases v1 with _ | a2
  · exact gh_stk_inv h
  replace h := gh_nn_ss h
  refine gr_getrN (pc := 6) C gh_bX2 (k := 7) (Nat.le_of_ble_eq_true rfl) q198 (fun _ h => h) dX1_torn_6 h fun v3 h => ?_
  rcases v3 with _ | a4
  · exact gh_stk_inv h
  replace h := gh_nn_ss h
  obtain ⟨⟨fs9, hg9⟩, h⟩ := gh_is_inv h
  refine gh_callQ (pc := 9) (rest := []) C (k_J2_iterator C.tr a4) (Nat.le_of_ble_eq_true rfl) (Nat.le_of_ble_eq_true rfl) (gh_r4 (Nat.le_of_ble_eq_true rfl)) (fun H9 L9 hp9 => gi_V C hp9 hg9 gh_cJ2 q308 q309 q310 q311 mh_J2 np46 rfl hl.1.1 dX1_torn_9 rfl) h (gh_K0_b _ hk) (fun v5 g h => ?_) (fun e g h => ?_)
  rotate_left
  ·
    exact gh_out C (fun _ h => nomatch h) h hk
  refine gr_astore_n (pc := 12) (i := 2) (l' := [(2, va_rf v5), (1, .int (0 : Int32)), (0, va_rf (some t0))]) C rfl hl (Nat.le_of_ble_eq_true rfl) rfl dX1_torn_12 fun ls hl => ?_
  exact w_X1_torn_13 C (0 : Int32) v5 (gl_sub hl [1, 0] rfl) h hk

theorem k_X1_torn {l : Launch} (hst : l.stackTraces = false) (t0 : Nat) : gh_Ct l yX1_torn 4 96 (f_X1_torn t0) gh_rI [va_rf (some t0)] := gh_intro2 (L1 := 81) hst (by decide +kernel) q2037 q75 rfl ⟨gh_cat _, trivial⟩ (Nat.le_of_ble_eq_true rfl) fun x o ls hl C h hk => w_X1_torn C t0 hl h hk
-- GargoyleTower.fulfilled()I
def gp_X1_fulfilled_13 (x : gh_C) (u13_2 : Option Nat) (st : Int32) (g : gh_G) : Prop := ∀ ls : Array Slot, gh_lv ls 4 [(1, .int st), (2, va_rf u13_2)] → gh_Wd x g (F0 (gh_cm x) 13 ls [])
noncomputable def f_X1_fulfilled_45 (u13_2 : Option Nat) (s0 : Int32) (s1 : Int32) : gh_M ((Int32) ⊕ Int32) :=
  gh_ret (.inl (s0 + s1))
theorem w_X1_fulfilled_45 {x : gh_C} {g : gh_G} {o : (((Int32) ⊕ Int32) ⊕ gh_X) × gh_G} {ls : Array Slot} (C : gh_K x cX1_fulfilled "GargoyleTower" 4 (some .int) "fulfilled" 3 61 []) (u13_2 : Option Nat) (s0 : Int32) (s1 : Int32) (hl : gh_lv ls 4 [(2, va_rf u13_2)]) (h : gh_run (f_X1_fulfilled_45 u13_2 s0 s1) g = some o) (hk : (gh_K1 x (gh_K0 x gh_rI) (gp_X1_fulfilled_13 x u13_2)) o) : gh_Wd x g (F0 (gh_cm x) 45 ls [.int s1, .int s0]) := by
  unfold f_X1_fulfilled_45 at h
  refine gr_iadd (pc := 45) C dX1_fulfilled_45 ?_
  refine gr_istore_n (pc := 46) (i := 1) (l' := [(1, .int (s0 + s1)), (2, va_rf u13_2)]) C rfl hl (Nat.le_of_ble_eq_true rfl) rfl dX1_fulfilled_46 fun ls hl => ?_
  refine gr_goto (pc := 47) (tgt := 13) C rfl dX1_fulfilled_47 ?_
  exact gh_K1_in h hk ls (gl_sub hl [0, 1] rfl)

noncomputable def f_X1_fulfilled_13_l (p1 : Int32) (u13_2 : Option Nat) : gh_M ((Int32) ⊕ Int32) :=
  gh_nn u13_2 fun a1 =>
  gh_bd (gh_is a1 15) fun _ =>
  gh_bd (f_J8_hasNext a1) fun v2 =>
  if v2 = 0 then
  (gh_up (gh_ret p1))
  else
  (gh_bd (gh_is a1 15) fun _ =>
  gh_bd (f_J8_next a1) fun v3 =>
  gh_nn v3 fun a4 =>
  gh_bd (gh_is a4 7) fun _ =>
  gh_bd (gh_is a4 7) fun _ =>
  gh_bd (f_X8_isFulfilled a4) fun v5 =>
  if v5 = 0 then
  (f_X1_fulfilled_45 (some a1) p1 (0 : Int32))
  else
  (f_X1_fulfilled_45 (some a1) p1 (1 : Int32)))
theorem w_X1_fulfilled_13_l {x : gh_C} {g : gh_G} {o : (((Int32) ⊕ Int32) ⊕ gh_X) × gh_G} {ls : Array Slot} (C : gh_K x cX1_fulfilled "GargoyleTower" 4 (some .int) "fulfilled" 3 61 []) (p1 : Int32) (u13_2 : Option Nat) (hl : gh_lv ls 4 [(1, .int p1), (2, va_rf u13_2)]) (h : gh_run (f_X1_fulfilled_13_l p1 u13_2) g = some o) (hk : (gh_K1 x (gh_K0 x gh_rI) (gp_X1_fulfilled_13 x u13_2)) o) : gh_Wd x g (F0 (gh_cm x) 13 ls []) := by
  unfold f_X1_fulfilled_13_l at h
  refine gr_aload_n (pc := 13) (i := 2) C rfl (gl_at hl 1 rfl) dX1_fulfilled_13 ?_
  rcases u13_2 with _ | a1
  · exact gh_stk_inv h
  replace h := gh_nn_ss h
  obtain ⟨⟨fs9, hg9⟩, h⟩ := gh_is_inv h
  refine gh_callI (pc := 14) (rest := []) C (k_J8_hasNext C.tr a1) (Nat.le_of_ble_eq_true rfl) (Nat.le_of_ble_eq_true rfl) (gh_r4 (Nat.le_of_ble_eq_true rfl)) (fun H9 L9 hp9 => gi_F C hp9 hg9 gh_cJ8 q334 q336 (by decide +kernel) q353 q355 q356 q354 q352 q357 mh_java_util_Iterator np7 rfl hl.1.1 dX1_fulfilled_14 rfl) h ((gh_K1_b gh_K0_b) _ hk) (fun v2 g h => ?_) (fun e g h => ?_)
  rotate_left
  ·
    obtain ⟨o, h, hk⟩ := gh_K1_thr h hk
    exact gh_out C (fun _ h => nomatch h) h hk
  refine gr_if_eq (pc := 19) (tgt := 50) C rfl dX1_fulfilled_19 (fun c9 => ?_) (fun c9 => ?_)
  · replace h := gh_ift h c9
    refine gr_iload_n (pc := 50) (i := 1) C rfl (gl_at hl 0 rfl) dX1_fulfilled_50 ?_
    obtain ⟨o, h, hk⟩ := gh_K1_up h hk
    exact gr_iret (pc := 51) C dX1_fulfilled_51 h hk
  · replace h := gh_iff h c9
    refine gr_aload_n (pc := 22) (i := 2) C rfl (gl_at hl 1 rfl) dX1_fulfilled_22 ?_
    obtain ⟨⟨fs9, hg9⟩, h⟩ := gh_is_inv h
    refine gh_callQ (pc := 23) (rest := []) C (k_J8_next C.tr a1) (Nat.le_of_ble_eq_true rfl) (Nat.le_of_ble_eq_true rfl) (gh_r4 (Nat.le_of_ble_eq_true rfl)) (fun H9 L9 hp9 => gi_F C hp9 hg9 gh_cJ8 q368 q370 (by decide +kernel) q826 q828 q829 q827 q352 q830 mh_java_util_Iterator np23 rfl hl.1.1 dX1_fulfilled_23 rfl) h ((gh_K1_b gh_K0_b) _ hk) (fun v3 g h => ?_) (fun e g h => ?_)
    rotate_left
    ·
      obtain ⟨o, h, hk⟩ := gh_K1_thr h hk
      exact gh_out C (fun _ h => nomatch h) h hk
    rcases v3 with _ | a4
    · exact gh_stk_inv h
    replace h := gh_nn_ss h
    obtain ⟨⟨fs9, hg9⟩, h⟩ := gh_is_inv h
    refine gr_castY (pc := 28) C gh_cX8 q862 (Or.inl rfl) dX1_fulfilled_28 hg9 ?_
    refine gr_astore_n (pc := 31) (i := 3) (l' := [(3, va_rf (some a4)), (1, .int p1), (2, va_rf (some a1))]) C rfl hl (Nat.le_of_ble_eq_true rfl) rfl dX1_fulfilled_31 fun ls hl => ?_
    refine gr_iload_n (pc := 32) (i := 1) C rfl (gl_at hl 1 rfl) dX1_fulfilled_32 ?_
    refine gr_aload_n (pc := 33) (i := 3) C rfl (gl_at hl 0 rfl) dX1_fulfilled_33 ?_
    obtain ⟨⟨fs9, hg9⟩, h⟩ := gh_is_inv h
    refine gh_callI (pc := 34) (rest := [.int p1]) C (k_X8_isFulfilled C.tr a4) (Nat.le_of_ble_eq_true rfl) (Nat.le_of_ble_eq_true rfl) (gh_r4 (Nat.le_of_ble_eq_true rfl)) (fun H9 L9 hp9 => gi_V C hp9 hg9 gh_cX8 q863 q864 q865 q866 mh_X8 np7 rfl hl.1.1 dX1_fulfilled_34 rfl) h ((gh_K1_b gh_K0_b) _ hk) (fun v5 g h => ?_) (fun e g h => ?_)
    rotate_left
    ·
      obtain ⟨o, h, hk⟩ := gh_K1_thr h hk
      exact gh_out C (fun _ h => nomatch h) h hk
    refine gr_if_eq (pc := 37) (tgt := 44) C rfl dX1_fulfilled_37 (fun c9 => ?_) (fun c9 => ?_)
    · replace h := gh_ift h c9
      refine gr_iconst (pc := 44) (v := (0 : Int32)) C rfl dX1_fulfilled_44 ?_
      exact w_X1_fulfilled_45 C (some a1) p1 (0 : Int32) (gl_sub hl [2] rfl) h hk
    · replace h := gh_iff h c9
      refine gr_iconst (pc := 40) (v := (1 : Int32)) C rfl dX1_fulfilled_40 ?_
      refine gr_goto (pc := 41) (tgt := 45) C rfl dX1_fulfilled_41 ?_
      exact w_X1_fulfilled_45 C (some a1) p1 (1 : Int32) (gl_sub hl [2] rfl) h hk

noncomputable def f_X1_fulfilled_13 (p1 : Int32) (p2 : Option Nat) : gh_M Int32 := gh_it (fun st : Int32 => f_X1_fulfilled_13_l st p2) (p1)
theorem w_X1_fulfilled_13 {x : gh_C} {g : gh_G} {o : (Int32 ⊕ gh_X) × gh_G} {ls : Array Slot} (C : gh_K x cX1_fulfilled "GargoyleTower" 4 (some .int) "fulfilled" 3 61 []) (p1 : Int32) (p2 : Option Nat) (hl : gh_lv ls 4 [(1, .int p1), (2, va_rf p2)]) (h : gh_run (f_X1_fulfilled_13 p1 p2) g = some o) (hk : (gh_K0 x gh_rI) o) : gh_Wd x g (F0 (gh_cm x) 13 ls []) := by
  unfold f_X1_fulfilled_13 at h
  exact gh_loop gh_K0_b (fun st : Int32 => f_X1_fulfilled_13_l st p2) (gp_X1_fulfilled_13 x p2) (fun st g o h hk ls hl => w_X1_fulfilled_13_l C st p2 hl h hk) _ g o h hk ls hl
noncomputable def f_X1_fulfilled (t0 : Nat) : gh_M Int32 :=
  gh_bd (gh_getr t0 0 0) fun v1 =>
  gh_nn v1 fun a2 =>
  gh_bd (gh_getr a2 1 8) fun v3 =>
  gh_nn v3 fun a4 =>
  gh_bd (gh_is a4 11) fun _ =>
  gh_bd (f_J2_iterator a4) fun v5 =>
  f_X1_fulfilled_13 (0 : Int32) v5
theorem w_X1_fulfilled {x : gh_C} {g : gh_G} {o : (Int32 ⊕ gh_X) × gh_G} {ls : Array Slot} (C : gh_K x cX1_fulfilled "GargoyleTower" 4 (some .int) "fulfilled" 3 61 []) (t0 : Nat) (hl : gh_lv ls 4 [(0, va_rf (some t0))]) (h : gh_run (f_X1_fulfilled t0) g = some o) (hk : (gh_K0 x gh_rI) o) : gh_Wd x g (F0 (gh_cm x) 0 ls []) := by
  unfold f_X1_fulfilled at h
  refine gr_iconst (pc := 0) (v := (0 : Int32)) C rfl dX1_fulfilled_0 ?_
  refine gr_istore_n (pc := 1) (i := 1) (l' := [(1, .int (0 : Int32)), (0, va_rf (some t0))]) C rfl hl (Nat.le_of_ble_eq_true rfl) rfl dX1_fulfilled_1 fun ls hl => ?_
  refine gr_aload_n (pc := 2) (i := 0) C rfl (gl_at hl 1 rfl) dX1_fulfilled_2 ?_
  refine gr_getr (pc := 3) C gh_bX1 (k := 0) (Nat.le_of_ble_eq_true rfl) q271 (fun _ h => h) dX1_fulfilled_3 h fun v1 h => ?_
  rcases v1 with _ | a2
  · exact gh_stk_inv h
  replace h := gh_nn_ss h
  refine gr_getrN (pc := 6) C gh_bX2 (k := 8) (Nat.le_of_ble_eq_true rfl) q200 (fun _ h => h) dX1_fulfilled_6 h fun v3 h => ?_
  rcases v3 with _ | a4
  · exact gh_stk_inv h
  replace h := gh_nn_ss h
  obtain ⟨⟨fs9, hg9⟩, h⟩ := gh_is_inv h
  refine gh_callQ (pc := 9) (rest := []) C (k_J2_iterator C.tr a4) (Nat.le_of_ble_eq_true rfl) (Nat.le_of_ble_eq_true rfl) (gh_r4 (Nat.le_of_ble_eq_true rfl)) (fun H9 L9 hp9 => gi_V C hp9 hg9 gh_cJ2 q308 q309 q310 q311 mh_J2 np46 rfl hl.1.1 dX1_fulfilled_9 rfl) h (gh_K0_b _ hk) (fun v5 g h => ?_) (fun e g h => ?_)
  rotate_left
  ·
    exact gh_out C (fun _ h => nomatch h) h hk
  refine gr_astore_n (pc := 12) (i := 2) (l' := [(2, va_rf v5), (1, .int (0 : Int32)), (0, va_rf (some t0))]) C rfl hl (Nat.le_of_ble_eq_true rfl) rfl dX1_fulfilled_12 fun ls hl => ?_
  exact w_X1_fulfilled_13 C (0 : Int32) v5 (gl_sub hl [1, 0] rfl) h hk

theorem k_X1_fulfilled {l : Launch} (hst : l.stackTraces = false) (t0 : Nat) : gh_Ct l yX1_fulfilled 3 76 (f_X1_fulfilled t0) gh_rI [va_rf (some t0)] := gh_intro2 (L1 := 61) hst (by decide +kernel) q2041 q75 rfl ⟨gh_cat _, trivial⟩ (Nat.le_of_ble_eq_true rfl) fun x o ls hl C h hk => w_X1_fulfilled C t0 hl h hk
-- GargoyleTower.feed(C)I
noncomputable def f_X1_feed_14 (t0 : Nat) (p1 : Int32) (s0 : Int32) : gh_M Int32 :=
  gh_bd (f_X1_checkState s0) fun _ =>
  gh_bd (gh_getr t0 0 5) fun v2 =>
  gh_bd (gh_geti t0 0 6) fun v3 =>
  gh_nn v2 fun a4 =>
  gh_bd (gh_iast 3 a4 v3 p1) fun _ =>
  gh_bd (gh_geti t0 0 6) fun v5 =>
  gh_bd (gh_putv t0 0 6 .int (.int (v5 + (1 : Int32)))) fun _ =>
  gh_bd (gh_geti t0 0 6) fun v6 =>
  gh_ret v6
theorem w_X1_feed_14 {x : gh_C} {g : gh_G} {o : (Int32 ⊕ gh_X) × gh_G} {ls : Array Slot} (C : gh_K x cX1_feed "GargoyleTower" 2 (some .int) "feed" 8 130 []) (t0 : Nat) (p1 : Int32) (s0 : Int32) (hl : gh_lv ls 2 [(0, va_rf (some t0)), (1, .int p1)]) (h : gh_run (f_X1_feed_14 t0 p1 s0) g = some o) (hk : (gh_K0 x gh_rI) o) : gh_Wd x g (F0 (gh_cm x) 14 ls [.int s0]) := by
  unfold f_X1_feed_14 at h
  refine gh_callV (pc := 14) (rest := []) C (k_X1_checkState C.tr s0) (Nat.le_of_ble_eq_true rfl) (Nat.le_of_ble_eq_true rfl) (gh_r4 (Nat.le_of_ble_eq_true rfl)) (fun H9 L9 hp9 => gi_S C q2050 q2051 q75 q2052 mh_X1 np55 rfl hl.1.1 dX1_feed_14 rfl) h (gh_K0_b _ hk) (fun g h => ?_) (fun e g h => ?_)
  rotate_left
  ·
    exact gh_out C (fun _ h => nomatch h) h hk
  refine gr_aload_n (pc := 17) (i := 0) C rfl (gl_at hl 0 rfl) dX1_feed_17 ?_
  refine gr_getr (pc := 18) C gh_bX1 (k := 5) (Nat.le_of_ble_eq_true rfl) q277 (fun _ h => h) dX1_feed_18 h fun v2 h => ?_
  refine gr_aload_n (pc := 21) (i := 0) C rfl (gl_at hl 0 rfl) dX1_feed_21 ?_
  refine gr_geti (pc := 22) C gh_bX1 (k := 6) (Nat.le_of_ble_eq_true rfl) q279 (fun _ h => h) dX1_feed_22 h fun v3 h => ?_
  refine gr_iload_n (pc := 25) (i := 1) C rfl (gl_at hl 1 rfl) dX1_feed_25 ?_
  rcases v2 with _ | a4
  · exact gh_stk_inv h
  replace h := gh_nn_ss h
  refine gr_cast (pc := 26) C dX1_feed_26 h fun g h => ?_
  refine gr_aload_n (pc := 27) (i := 0) C rfl (gl_at hl 0 rfl) dX1_feed_27 ?_
  refine gr_dup (pc := 28) C (gh_cat _) dX1_feed_28 ?_
  refine gr_geti (pc := 29) C gh_bX1 (k := 6) (Nat.le_of_ble_eq_true rfl) q279 (fun _ h => h) dX1_feed_29 h fun v5 h => ?_
  refine gr_iconst (pc := 32) (v := (1 : Int32)) C rfl dX1_feed_32 ?_
  refine gr_iadd (pc := 33) C dX1_feed_33 ?_
  refine gr_putp (pc := 34) C gh_bX1 (k := 6) (Nat.le_of_ble_eq_true rfl) q279 (fun _ h => h) rfl dX1_feed_34 h fun g h => ?_
  refine gr_aload_n (pc := 37) (i := 0) C rfl (gl_at hl 0 rfl) dX1_feed_37 ?_
  refine gr_geti (pc := 38) C gh_bX1 (k := 6) (Nat.le_of_ble_eq_true rfl) q279 (fun _ h => h) dX1_feed_38 h fun v6 h => ?_
  exact gr_iret (pc := 41) C dX1_feed_41 h hk

noncomputable def f_X1_feed (t0 : Nat) (p1 : Int32) : gh_M Int32 :=
  gh_bd (gh_geti t0 0 6) fun v1 =>
  if (60 : Int32) ≤ v1 then
  (f_X1_feed_14 t0 p1 (0 : Int32))
  else
  (f_X1_feed_14 t0 p1 (1 : Int32))
theorem w_X1_feed {x : gh_C} {g : gh_G} {o : (Int32 ⊕ gh_X) × gh_G} {ls : Array Slot} (C : gh_K x cX1_feed "GargoyleTower" 2 (some .int) "feed" 8 130 []) (t0 : Nat) (p1 : Int32) (hl : gh_lv ls 2 [(0, va_rf (some t0)), (1, .int p1)]) (h : gh_run (f_X1_feed t0 p1) g = some o) (hk : (gh_K0 x gh_rI) o) : gh_Wd x g (F0 (gh_cm x) 0 ls []) := by
  unfold f_X1_feed at h
  refine gr_aload_n (pc := 0) (i := 0) C rfl (gl_at hl 0 rfl) dX1_feed_0 ?_
  refine gr_geti (pc := 1) C gh_bX1 (k := 6) (Nat.le_of_ble_eq_true rfl) q279 (fun _ h => h) dX1_feed_1 h fun v1 h => ?_
  refine gr_bipush (pc := 4) (v := (60 : Int32)) C rfl dX1_feed_4 ?_
  refine gr_icmp_ge (pc := 6) (tgt := 13) C rfl dX1_feed_6 (fun c9 => ?_) (fun c9 => ?_)
  · replace h := gh_ift h c9
    refine gr_iconst (pc := 13) (v := (0 : Int32)) C rfl dX1_feed_13 ?_
    exact w_X1_feed_14 C t0 p1 (0 : Int32) (gl_sub hl [0, 1] rfl) h hk
  · replace h := gh_iff h c9
    refine gr_iconst (pc := 9) (v := (1 : Int32)) C rfl dX1_feed_9 ?_
    refine gr_goto (pc := 10) (tgt := 14) C rfl dX1_feed_10 ?_
    exact w_X1_feed_14 C t0 p1 (1 : Int32) (gl_sub hl [0, 1] rfl) h hk

theorem k_X1_feed {l : Launch} (hst : l.stackTraces = false) (t0 : Nat) (p1 : Int32) : gh_Ct l yX1_feed 8 143 (f_X1_feed t0 p1) gh_rI [va_rf (some t0), .int p1] := gh_intro2 (L1 := 130) hst (by decide +kernel) q2049 q75 rfl ⟨gh_cat _, rfl, trivial⟩ (Nat.le_of_ble_eq_true rfl) fun x o ls hl C h hk => w_X1_feed C t0 p1 hl h hk
-- GargoyleTower.carryOutAll(Ljava/util/LinkedList;)I
def gp_X1_carryOutAll_20 (x : gh_C) (t0 : Nat) (u20_2 : Option Nat) (u20_4 : Option Nat) (st : Int32) (g : gh_G) : Prop := ∀ ls : Array Slot, gh_lv ls 6 [(0, va_rf (some t0)), (2, va_rf u20_2), (3, .int st), (4, va_rf u20_4)] → gh_Wd x g (F0 (gh_cm x) 20 ls [])
noncomputable def f_X1_carryOutAll_20_l (t0 : Nat) (u20_2 : Option Nat) (p3 : Int32) (u20_4 : Option Nat) : gh_M ((Int32) ⊕ Int32) :=
  gh_nn u20_4 fun a1 =>
  gh_bd (gh_is a1 24) fun _ =>
  gh_bd (f_J32_hasNext a1) fun v2 =>
  if v2 = 0 then
  (gh_bd (gh_is t0 0) fun _ =>
  gh_bd (f_X1_change t0 u20_2) fun _ =>
  gh_up (gh_ret p3))
  else
  (gh_bd (gh_is a1 24) fun _ =>
  gh_bd (f_J32_next a1) fun v4 =>
  gh_nn v4 fun a5 =>
  gh_bd (gh_is a5 4) fun _ =>
  gh_bd (gh_is a5 4) fun _ =>
  gh_bd (f_X5_carryOutAs a5 p3 u20_2) fun _ =>
  gh_ret (.inl (p3 + (1 : Int32))))
theorem w_X1_carryOutAll_20_l {x : gh_C} {g : gh_G} {o : (((Int32) ⊕ Int32) ⊕ gh_X) × gh_G} {ls : Array Slot} (C : gh_K x cX1_carryOutAll "GargoyleTower" 6 (some .int) "carryOutAll" 54 1163 []) (t0 : Nat) (u20_2 : Option Nat) (p3 : Int32) (u20_4 : Option Nat) (hl : gh_lv ls 6 [(0, va_rf (some t0)), (2, va_rf u20_2), (3, .int p3), (4, va_rf u20_4)]) (h : gh_run (f_X1_carryOutAll_20_l t0 u20_2 p3 u20_4) g = some o) (hk : (gh_K1 x (gh_K0 x gh_rI) (gp_X1_carryOutAll_20 x t0 u20_2 u20_4)) o) : gh_Wd x g (F0 (gh_cm x) 20 ls []) := by
  unfold f_X1_carryOutAll_20_l at h
  refine gr_aload (pc := 20) (i := 4) C (gl_at hl 3 rfl) dX1_carryOutAll_20 ?_
  rcases u20_4 with _ | a1
  · exact gh_stk_inv h
  replace h := gh_nn_ss h
  obtain ⟨⟨fs9, hg9⟩, h⟩ := gh_is_inv h
  refine gh_callI (pc := 22) (rest := []) C (k_J32_hasNext C.tr a1) (Nat.le_of_ble_eq_true rfl) (Nat.le_of_ble_eq_true rfl) (gh_r4 (Nat.le_of_ble_eq_true rfl)) (fun H9 L9 hp9 => gi_F C hp9 hg9 gh_cJ32 q334 q336 (by decide +kernel) q362 q364 q365 q363 q361 q366 mh_java_util_Iterator np7 rfl hl.1.1 dX1_carryOutAll_22 rfl) h ((gh_K1_b gh_K0_b) _ hk) (fun v2 g h => ?_) (fun e g h => ?_)
  rotate_left
  ·
    obtain ⟨o, h, hk⟩ := gh_K1_thr h hk
    exact gh_out C (fun _ h => nomatch h) h hk
  refine gr_if_eq (pc := 27) (tgt := 55) C rfl dX1_carryOutAll_27 (fun c9 => ?_) (fun c9 => ?_)
  · replace h := gh_ift h c9
    refine gr_aload_n (pc := 55) (i := 0) C rfl (gl_at hl 0 rfl) dX1_carryOutAll_55 ?_
    refine gr_aload_n (pc := 56) (i := 2) C rfl (gl_at hl 1 rfl) dX1_carryOutAll_56 ?_
    obtain ⟨⟨fs9, hg9⟩, h⟩ := gh_is_inv h
    refine gh_callV (pc := 57) (rest := []) C (k_X1_change C.tr t0 u20_2) (Nat.le_of_ble_eq_true rfl) (Nat.le_of_ble_eq_true rfl) (gh_r4 (Nat.le_of_ble_eq_true rfl)) (fun H9 L9 hp9 => gi_V C hp9 hg9 gh_cX1 q1401 q1403 qs15 q1404 mh_X1 np70 rfl hl.1.1 dX1_carryOutAll_57 rfl) h ((gh_K1_b gh_K0_b) _ hk) (fun g h => ?_) (fun e g h => ?_)
    rotate_left
    ·
      obtain ⟨o, h, hk⟩ := gh_K1_thr h hk
      exact gh_out C (fun _ h => nomatch h) h hk
    refine gr_iload_n (pc := 60) (i := 3) C rfl (gl_at hl 2 rfl) dX1_carryOutAll_60 ?_
    obtain ⟨o, h, hk⟩ := gh_K1_up h hk
    exact gr_iret (pc := 61) C dX1_carryOutAll_61 h hk
  · replace h := gh_iff h c9
    refine gr_aload (pc := 30) (i := 4) C (gl_at hl 3 rfl) dX1_carryOutAll_30 ?_
    obtain ⟨⟨fs9, hg9⟩, h⟩ := gh_is_inv h
    refine gh_callQ (pc := 32) (rest := []) C (k_J32_next C.tr a1) (Nat.le_of_ble_eq_true rfl) (Nat.le_of_ble_eq_true rfl) (gh_r4 (Nat.le_of_ble_eq_true rfl)) (fun H9 L9 hp9 => gi_F C hp9 hg9 gh_cJ32 q368 q370 (by decide +kernel) q850 q852 q853 q851 q361 q854 mh_java_util_Iterator np23 rfl hl.1.1 dX1_carryOutAll_32 rfl) h ((gh_K1_b gh_K0_b) _ hk) (fun v4 g h => ?_) (fun e g h => ?_)
    rotate_left
    ·
      obtain ⟨o, h, hk⟩ := gh_K1_thr h hk
      exact gh_out C (fun _ h => nomatch h) h hk
    rcases v4 with _ | a5
    · exact gh_stk_inv h
    replace h := gh_nn_ss h
    obtain ⟨⟨fs9, hg9⟩, h⟩ := gh_is_inv h
    refine gr_castY (pc := 37) C gh_cX5 q1106 (Or.inl rfl) dX1_carryOutAll_37 hg9 ?_
    refine gr_astore (pc := 40) (i := 5) (l' := [(5, va_rf (some a5)), (0, va_rf (some t0)), (2, va_rf u20_2), (3, .int p3), (4, va_rf (some a1))]) C hl (Nat.le_of_ble_eq_true rfl) rfl dX1_carryOutAll_40 fun ls hl => ?_
    refine gr_aload (pc := 42) (i := 5) C (gl_at hl 0 rfl) dX1_carryOutAll_42 ?_
    refine gr_iload_n (pc := 44) (i := 3) C rfl (gl_at hl 3 rfl) dX1_carryOutAll_44 ?_
    refine gr_aload_n (pc := 45) (i := 2) C rfl (gl_at hl 2 rfl) dX1_carryOutAll_45 ?_
    obtain ⟨⟨fs9, hg9⟩, h⟩ := gh_is_inv h
    refine gh_callV (pc := 46) (rest := []) C (k_X5_carryOutAs C.tr a5 p3 u20_2) (Nat.le_of_ble_eq_true rfl) (Nat.le_of_ble_eq_true rfl) (gh_r4 (Nat.le_of_ble_eq_true rfl)) (fun H9 L9 hp9 => gi_VX C hp9 hg9 gh_cX5 q2251 q2252 q2253 q2254 mh_X5 np78 rfl hl.1.1 dX1_carryOutAll_46 rfl) h ((gh_K1_b gh_K0_b) _ hk) (fun g h => ?_) (fun e g h => ?_)
    rotate_left
    ·
      obtain ⟨o, h, hk⟩ := gh_K1_thr h hk
      exact gh_out C (fun _ h => nomatch h) h hk
    refine gr_iinc (pc := 49) (i := 3) (z := 3) (v := p3 + (1 : Int32)) (l' := [(3, .int (p3 + (1 : Int32))), (5, va_rf (some a5)), (0, va_rf (some t0)), (2, va_rf u20_2), (4, va_rf (some a1))]) C hl rfl rfl (Nat.le_of_ble_eq_true rfl) rfl dX1_carryOutAll_49 fun ls hl => ?_
    refine gr_goto (pc := 52) (tgt := 20) C rfl dX1_carryOutAll_52 ?_
    exact gh_K1_in h hk ls (gl_sub hl [2, 3, 0, 4] rfl)

noncomputable def f_X1_carryOutAll_20 (t0 : Nat) (p2 : Option Nat) (p3 : Int32) (p4 : Option Nat) : gh_M Int32 := gh_it (fun st : Int32 => f_X1_carryOutAll_20_l t0 p2 st p4) (p3)
theorem w_X1_carryOutAll_20 {x : gh_C} {g : gh_G} {o : (Int32 ⊕ gh_X) × gh_G} {ls : Array Slot} (C : gh_K x cX1_carryOutAll "GargoyleTower" 6 (some .int) "carryOutAll" 54 1163 []) (t0 : Nat) (p2 : Option Nat) (p3 : Int32) (p4 : Option Nat) (hl : gh_lv ls 6 [(0, va_rf (some t0)), (2, va_rf p2), (3, .int p3), (4, va_rf p4)]) (h : gh_run (f_X1_carryOutAll_20 t0 p2 p3 p4) g = some o) (hk : (gh_K0 x gh_rI) o) : gh_Wd x g (F0 (gh_cm x) 20 ls []) := by
  unfold f_X1_carryOutAll_20 at h
  exact gh_loop gh_K0_b (fun st : Int32 => f_X1_carryOutAll_20_l t0 p2 st p4) (gp_X1_carryOutAll_20 x t0 p2 p4) (fun st g o h hk ls hl => w_X1_carryOutAll_20_l C t0 p2 st p4 hl h hk) _ g o h hk ls hl
noncomputable def f_X1_carryOutAll (t0 : Nat) (p1 : Option Nat) : gh_M Int32 :=
  gh_bd (gh_new 1 9 gh_nX2) fun a1 =>
  gh_bd (gh_getr t0 0 0) fun v2 =>
  gh_bd (f_X2_init_2 a1 v2) fun _ =>
  gh_nn p1 fun a4 =>
  gh_bd (gh_is a4 21) fun _ =>
  gh_bd (f_J25_iterator_J26 a4) fun v5 =>
  f_X1_carryOutAll_20 t0 (some a1) (0 : Int32) v5
theorem w_X1_carryOutAll {x : gh_C} {g : gh_G} {o : (Int32 ⊕ gh_X) × gh_G} {ls : Array Slot} (C : gh_K x cX1_carryOutAll "GargoyleTower" 6 (some .int) "carryOutAll" 54 1163 []) (t0 : Nat) (p1 : Option Nat) (hl : gh_lv ls 6 [(0, va_rf (some t0)), (1, va_rf p1)]) (h : gh_run (f_X1_carryOutAll t0 p1) g = some o) (hk : (gh_K0 x gh_rI) o) : gh_Wd x g (F0 (gh_cm x) 0 ls []) := by
  unfold f_X1_carryOutAll at h
  refine gr_newo (pc := 0) C gh_bX2 q132 q133 q76 gh_dX2 dX1_carryOutAll_0 h (gh_K0_b _ hk) fun a1 g h => ?_
  refine gr_dup (pc := 3) C (gh_cat _) dX1_carryOutAll_3 ?_
  refine gr_aload_n (pc := 4) (i := 0) C rfl (gl_at hl 0 rfl) dX1_carryOutAll_4 ?_
  refine gr_getr (pc := 5) C gh_bX1 (k := 0) (Nat.le_of_ble_eq_true rfl) q271 (fun _ h => h) dX1_carryOutAll_5 h fun v2 h => ?_
  refine gh_callV (pc := 8) (rest := [va_rf (some a1)]) C (k_X2_init_2 C.tr a1 v2) (Nat.le_of_ble_eq_true rfl) (Nat.le_of_ble_eq_true rfl) (gh_r4 (Nat.le_of_ble_eq_true rfl)) (fun H9 L9 hp9 => gi_I C q961 rfl q962 q963 mh_X2 np70 rfl hl.1.1 dX1_carryOutAll_8 rfl) h (gh_K0_b _ hk) (fun g h => ?_) (fun e g h => ?_)
  rotate_left
  ·
    exact gh_out C (fun _ h => nomatch h) h hk
  refine gr_astore_n (pc := 11) (i := 2) (l' := [(2, va_rf (some a1)), (0, va_rf (some t0)), (1, va_rf p1)]) C rfl hl (Nat.le_of_ble_eq_true rfl) rfl dX1_carryOutAll_11 fun ls hl => ?_
  refine gr_iconst (pc := 12) (v := (0 : Int32)) C rfl dX1_carryOutAll_12 ?_
  refine gr_istore_n (pc := 13) (i := 3) (l' := [(3, .int (0 : Int32)), (2, va_rf (some a1)), (0, va_rf (some t0)), (1, va_rf p1)]) C rfl hl (Nat.le_of_ble_eq_true rfl) rfl dX1_carryOutAll_13 fun ls hl => ?_
  refine gr_aload_n (pc := 14) (i := 1) C rfl (gl_at hl 3 rfl) dX1_carryOutAll_14 ?_
  rcases p1 with _ | a4
  · exact gh_stk_inv h
  replace h := gh_nn_ss h
  obtain ⟨⟨fs9, hg9⟩, h⟩ := gh_is_inv h
  refine gh_callQ (pc := 15) (rest := []) C (k_J25_iterator_J26 C.tr a4) (Nat.le_of_ble_eq_true rfl) (Nat.le_of_ble_eq_true rfl) (gh_r4 (Nat.le_of_ble_eq_true rfl)) (fun H9 L9 hp9 => gi_U C hp9 hg9 gh_cJ26 q2175 q2176 (va_Decl.of (C.ts _ q2179) (C.ts _ q2180)) mh_J25 q2179 q2178 q2180 np46 rfl hl.1.1 dX1_carryOutAll_15 rfl) h (gh_K0_b _ hk) (fun v5 g h => ?_) (fun e g h => ?_)
  rotate_left
  ·
    exact gh_out C (fun _ h => nomatch h) h hk
  refine gr_astore (pc := 18) (i := 4) (l' := [(4, va_rf v5), (3, .int (0 : Int32)), (2, va_rf (some a1)), (0, va_rf (some t0)), (1, va_rf (some a4))]) C hl (Nat.le_of_ble_eq_true rfl) rfl dX1_carryOutAll_18 fun ls hl => ?_
  exact w_X1_carryOutAll_20 C t0 (some a1) (0 : Int32) v5 (gl_sub hl [3, 2, 1, 0] rfl) h hk

theorem k_X1_carryOutAll {l : Launch} (hst : l.stackTraces = false) (t0 : Nat) (p1 : Option Nat) : gh_Ct l yX1_carryOutAll 54 1180 (f_X1_carryOutAll t0 p1) gh_rI [va_rf (some t0), va_rf p1] := gh_intro2 (L1 := 1163) hst (by decide +kernel) q2174 q75 rfl ⟨gh_cat _, gh_cat _, trivial⟩ (Nat.le_of_ble_eq_true rfl) fun x o ls hl C h hk => w_X1_carryOutAll C t0 p1 hl h hk
-- GargoyleTower.undo()I
noncomputable def f_X1_undo_15 (t0 : Nat) (s0 : Int32) : gh_M Int32 :=
  gh_bd (f_X1_checkState s0) fun _ =>
  gh_bd (gh_getr t0 0 2) fun v2 =>
  gh_nn v2 fun a3 =>
  gh_bd (gh_is a3 12) fun _ =>
  gh_bd (f_J3_removeLast a3) fun v4 =>
  gh_nn v4 fun a5 =>
  gh_bd (gh_is a5 1) fun _ =>
  gh_bd (gh_putv t0 0 0 (.object "GargoyleTower$World") (va_rf (some a5))) fun _ =>
  gh_bd (gh_getr t0 0 2) fun v6 =>
  gh_nn v6 fun a7 =>
  gh_bd (gh_is a7 12) fun _ =>
  gh_bd (f_J3_size a7) fun v8 =>
  gh_ret v8
theorem w_X1_undo_15 {x : gh_C} {g : gh_G} {o : (Int32 ⊕ gh_X) × gh_G} {ls : Array Slot} (C : gh_K x cX1_undo "GargoyleTower" 1 (some .int) "undo" 8 130 []) (t0 : Nat) (s0 : Int32) (hl : gh_lv ls 1 [(0, va_rf (some t0))]) (h : gh_run (f_X1_undo_15 t0 s0) g = some o) (hk : (gh_K0 x gh_rI) o) : gh_Wd x g (F0 (gh_cm x) 15 ls [.int s0]) := by
  unfold f_X1_undo_15 at h
  refine gh_callV (pc := 15) (rest := []) C (k_X1_checkState C.tr s0) (Nat.le_of_ble_eq_true rfl) (Nat.le_of_ble_eq_true rfl) (gh_r4 (Nat.le_of_ble_eq_true rfl)) (fun H9 L9 hp9 => gi_S C q2050 q2051 q75 q2052 mh_X1 np55 rfl hl.1.1 dX1_undo_15 rfl) h (gh_K0_b _ hk) (fun g h => ?_) (fun e g h => ?_)
  rotate_left
  ·
    exact gh_out C (fun _ h => nomatch h) h hk
  refine gr_aload_n (pc := 18) (i := 0) C rfl (gl_at hl 0 rfl) dX1_undo_18 ?_
  refine gr_aload_n (pc := 19) (i := 0) C rfl (gl_at hl 0 rfl) dX1_undo_19 ?_
  refine gr_getr (pc := 20) C gh_bX1 (k := 2) (Nat.le_of_ble_eq_true rfl) q273 (fun _ h => h) dX1_undo_20 h fun v2 h => ?_
  rcases v2 with _ | a3
  · exact gh_stk_inv h
  replace h := gh_nn_ss h
  obtain ⟨⟨fs9, hg9⟩, h⟩ := gh_is_inv h
  refine gh_callQ (pc := 23) (rest := [va_rf (some t0)]) C (k_J3_removeLast C.tr a3) (Nat.le_of_ble_eq_true rfl) (Nat.le_of_ble_eq_true rfl) (gh_r4 (Nat.le_of_ble_eq_true rfl)) (fun H9 L9 hp9 => gi_V C hp9 hg9 gh_cJ3 q2272 q2273 q2274 q2275 mh_J3 np23 rfl hl.1.1 dX1_undo_23 rfl) h (gh_K0_b _ hk) (fun v4 g h => ?_) (fun e g h => ?_)
  rotate_left
  ·
    exact gh_out C (fun _ h => nomatch h) h hk
  rcases v4 with _ | a5
  · exact gh_stk_inv h
  replace h := gh_nn_ss h
  obtain ⟨⟨fs9, hg9⟩, h⟩ := gh_is_inv h
  refine gr_castY (pc := 26) C gh_cX2 q132 (Or.inl rfl) dX1_undo_26 hg9 ?_
  refine gr_putp (pc := 29) C gh_bX1 (k := 0) (Nat.le_of_ble_eq_true rfl) q271 (fun _ h => h) rfl dX1_undo_29 h fun g h => ?_
  refine gr_aload_n (pc := 32) (i := 0) C rfl (gl_at hl 0 rfl) dX1_undo_32 ?_
  refine gr_getr (pc := 33) C gh_bX1 (k := 2) (Nat.le_of_ble_eq_true rfl) q273 (fun _ h => h) dX1_undo_33 h fun v6 h => ?_
  rcases v6 with _ | a7
  · exact gh_stk_inv h
  replace h := gh_nn_ss h
  obtain ⟨⟨fs9, hg9⟩, h⟩ := gh_is_inv h
  refine gh_callI (pc := 36) (rest := []) C (k_J3_size C.tr a7) (Nat.le_of_ble_eq_true rfl) (Nat.le_of_ble_eq_true rfl) (gh_r4 (Nat.le_of_ble_eq_true rfl)) (fun H9 L9 hp9 => gi_V C hp9 hg9 gh_cJ3 q1405 q1406 q1407 q1408 mh_J3 np0 rfl hl.1.1 dX1_undo_36 rfl) h (gh_K0_b _ hk) (fun v8 g h => ?_) (fun e g h => ?_)
  rotate_left
  ·
    exact gh_out C (fun _ h => nomatch h) h hk
  exact gr_iret (pc := 39) C dX1_undo_39 h hk

noncomputable def f_X1_undo (t0 : Nat) : gh_M Int32 :=
  gh_bd (gh_getr t0 0 2) fun v1 =>
  gh_nn v1 fun a2 =>
  gh_bd (gh_is a2 12) fun _ =>
  gh_bd (f_J3_isEmpty a2) fun v3 =>
  if v3 = 0 then
  (f_X1_undo_15 t0 (1 : Int32))
  else
  (f_X1_undo_15 t0 (0 : Int32))
theorem w_X1_undo {x : gh_C} {g : gh_G} {o : (Int32 ⊕ gh_X) × gh_G} {ls : Array Slot} (C : gh_K x cX1_undo "GargoyleTower" 1 (some .int) "undo" 8 130 []) (t0 : Nat) (hl : gh_lv ls 1 [(0, va_rf (some t0))]) (h : gh_run (f_X1_undo t0) g = some o) (hk : (gh_K0 x gh_rI) o) : gh_Wd x g (F0 (gh_cm x) 0 ls []) := by
  unfold f_X1_undo at h
  refine gr_aload_n (pc := 0) (i := 0) C rfl (gl_at hl 0 rfl) dX1_undo_0 ?_
  refine gr_getr (pc := 1) C gh_bX1 (k := 2) (Nat.le_of_ble_eq_true rfl) q273 (fun _ h => h) dX1_undo_1 h fun v1 h => ?_
  rcases v1 with _ | a2
  · exact gh_stk_inv h
  replace h := gh_nn_ss h
  obtain ⟨⟨fs9, hg9⟩, h⟩ := gh_is_inv h
  refine gh_callI (pc := 4) (rest := []) C (k_J3_isEmpty C.tr a2) (Nat.le_of_ble_eq_true rfl) (Nat.le_of_ble_eq_true rfl) (gh_r4 (Nat.le_of_ble_eq_true rfl)) (fun H9 L9 hp9 => gi_V C hp9 hg9 gh_cJ3 q2268 q2269 q2270 q2271 mh_J3 np7 rfl hl.1.1 dX1_undo_4 rfl) h (gh_K0_b _ hk) (fun v3 g h => ?_) (fun e g h => ?_)
  rotate_left
  ·
    exact gh_out C (fun _ h => nomatch h) h hk
  refine gr_if_ne (pc := 7) (tgt := 14) C rfl dX1_undo_7 (fun c9 => ?_) (fun c9 => ?_)
  · replace h := gh_iff h c9
    refine gr_iconst (pc := 14) (v := (0 : Int32)) C rfl dX1_undo_14 ?_
    exact w_X1_undo_15 C t0 (0 : Int32) (gl_sub hl [0] rfl) h hk
  · replace h := gh_ift h c9
    refine gr_iconst (pc := 10) (v := (1 : Int32)) C rfl dX1_undo_10 ?_
    refine gr_goto (pc := 11) (tgt := 15) C rfl dX1_undo_11 ?_
    exact w_X1_undo_15 C t0 (1 : Int32) (gl_sub hl [0] rfl) h hk

theorem k_X1_undo {l : Launch} (hst : l.stackTraces = false) (t0 : Nat) : gh_Ct l yX1_undo 8 142 (f_X1_undo t0) gh_rI [va_rf (some t0)] := gh_intro2 (L1 := 130) hst (by decide +kernel) q2267 q75 rfl ⟨gh_cat _, trivial⟩ (Nat.le_of_ble_eq_true rfl) fun x o ls hl C h hk => w_X1_undo C t0 hl h hk
-- GargoyleTower.restore()I
noncomputable def f_X1_restore_12 (t0 : Nat) (s0 : Int32) : gh_M Int32 :=
  gh_bd (f_X1_checkState s0) fun _ =>
  gh_bd (gh_new 1 9 gh_nX2) fun a2 =>
  gh_bd (gh_getr t0 0 1) fun v3 =>
  gh_bd (f_X2_init_2 a2 v3) fun _ =>
  gh_bd (gh_putv t0 0 0 (.object "GargoyleTower$World") (va_rf (some a2))) fun _ =>
  gh_bd (gh_getr t0 0 2) fun v5 =>
  gh_nn v5 fun a6 =>
  gh_bd (gh_is a6 12) fun _ =>
  gh_bd (f_J3_clear a6) fun _ =>
  gh_bd (gh_getr t0 0 0) fun v8 =>
  gh_nn v8 fun a9 =>
  gh_bd (gh_geti a9 1 1) fun v10 =>
  gh_ret v10
theorem w_X1_restore_12 {x : gh_C} {g : gh_G} {o : (Int32 ⊕ gh_X) × gh_G} {ls : Array Slot} (C : gh_K x cX1_restore "GargoyleTower" 1 (some .int) "restore" 8 215 []) (t0 : Nat) (s0 : Int32) (hl : gh_lv ls 1 [(0, va_rf (some t0))]) (h : gh_run (f_X1_restore_12 t0 s0) g = some o) (hk : (gh_K0 x gh_rI) o) : gh_Wd x g (F0 (gh_cm x) 12 ls [.int s0]) := by
  unfold f_X1_restore_12 at h
  refine gh_callV (pc := 12) (rest := []) C (k_X1_checkState C.tr s0) (Nat.le_of_ble_eq_true rfl) (Nat.le_of_ble_eq_true rfl) (gh_r4 (Nat.le_of_ble_eq_true rfl)) (fun H9 L9 hp9 => gi_S C q2050 q2051 q75 q2052 mh_X1 np55 rfl hl.1.1 dX1_restore_12 rfl) h (gh_K0_b _ hk) (fun g h => ?_) (fun e g h => ?_)
  rotate_left
  ·
    exact gh_out C (fun _ h => nomatch h) h hk
  refine gr_aload_n (pc := 15) (i := 0) C rfl (gl_at hl 0 rfl) dX1_restore_15 ?_
  refine gr_newo (pc := 16) C gh_bX2 q132 q133 q76 gh_dX2 dX1_restore_16 h (gh_K0_b _ hk) fun a2 g h => ?_
  refine gr_dup (pc := 19) C (gh_cat _) dX1_restore_19 ?_
  refine gr_aload_n (pc := 20) (i := 0) C rfl (gl_at hl 0 rfl) dX1_restore_20 ?_
  refine gr_getr (pc := 21) C gh_bX1 (k := 1) (Nat.le_of_ble_eq_true rfl) q272 (fun _ h => h) dX1_restore_21 h fun v3 h => ?_
  refine gh_callV (pc := 24) (rest := [va_rf (some a2), va_rf (some t0)]) C (k_X2_init_2 C.tr a2 v3) (Nat.le_of_ble_eq_true rfl) (Nat.le_of_ble_eq_true rfl) (gh_r4 (Nat.le_of_ble_eq_true rfl)) (fun H9 L9 hp9 => gi_I C q961 rfl q962 q963 mh_X2 np70 rfl hl.1.1 dX1_restore_24 rfl) h (gh_K0_b _ hk) (fun g h => ?_) (fun e g h => ?_)
  rotate_left
  ·
    exact gh_out C (fun _ h => nomatch h) h hk
  refine gr_putp (pc := 27) C gh_bX1 (k := 0) (Nat.le_of_ble_eq_true rfl) q271 (fun _ h => h) rfl dX1_restore_27 h fun g h => ?_
  refine gr_aload_n (pc := 30) (i := 0) C rfl (gl_at hl 0 rfl) dX1_restore_30 ?_
  refine gr_getr (pc := 31) C gh_bX1 (k := 2) (Nat.le_of_ble_eq_true rfl) q273 (fun _ h => h) dX1_restore_31 h fun v5 h => ?_
  rcases v5 with _ | a6
  · exact gh_stk_inv h
  replace h := gh_nn_ss h
  obtain ⟨⟨fs9, hg9⟩, h⟩ := gh_is_inv h
  refine gh_callV (pc := 34) (rest := []) C (k_J3_clear C.tr a6) (Nat.le_of_ble_eq_true rfl) (Nat.le_of_ble_eq_true rfl) (gh_r4 (Nat.le_of_ble_eq_true rfl)) (fun H9 L9 hp9 => gi_V C hp9 hg9 gh_cJ3 q2290 q2291 q2292 q2293 mh_J3 np8 rfl hl.1.1 dX1_restore_34 rfl) h (gh_K0_b _ hk) (fun g h => ?_) (fun e g h => ?_)
  rotate_left
  ·
    exact gh_out C (fun _ h => nomatch h) h hk
  refine gr_aload_n (pc := 37) (i := 0) C rfl (gl_at hl 0 rfl) dX1_restore_37 ?_
  refine gr_getr (pc := 38) C gh_bX1 (k := 0) (Nat.le_of_ble_eq_true rfl) q271 (fun _ h => h) dX1_restore_38 h fun v8 h => ?_
  rcases v8 with _ | a9
  · exact gh_stk_inv h
  replace h := gh_nn_ss h
  refine gr_getiN (pc := 41) C gh_bX2 (k := 1) (Nat.le_of_ble_eq_true rfl) q186 (fun _ h => h) dX1_restore_41 h fun v10 h => ?_
  exact gr_iret (pc := 44) C dX1_restore_44 h hk

noncomputable def f_X1_restore (t0 : Nat) : gh_M Int32 :=
  gh_bd (gh_getr t0 0 1) fun v1 =>
  gh_on v1
  (f_X1_restore_12 t0 (0 : Int32))
  (fun b2 => f_X1_restore_12 t0 (1 : Int32))
theorem w_X1_restore {x : gh_C} {g : gh_G} {o : (Int32 ⊕ gh_X) × gh_G} {ls : Array Slot} (C : gh_K x cX1_restore "GargoyleTower" 1 (some .int) "restore" 8 215 []) (t0 : Nat) (hl : gh_lv ls 1 [(0, va_rf (some t0))]) (h : gh_run (f_X1_restore t0) g = some o) (hk : (gh_K0 x gh_rI) o) : gh_Wd x g (F0 (gh_cm x) 0 ls []) := by
  unfold f_X1_restore at h
  refine gr_aload_n (pc := 0) (i := 0) C rfl (gl_at hl 0 rfl) dX1_restore_0 ?_
  refine gr_getr (pc := 1) C gh_bX1 (k := 1) (Nat.le_of_ble_eq_true rfl) q272 (fun _ h => h) dX1_restore_1 h fun v1 h => ?_
  refine gr_ifnull (pc := 4) (tgt := 11) C rfl dX1_restore_4 (fun c9 => ?_) (fun b2 c9 => ?_)
  · subst c9
    replace h := gh_on_n h
    refine gr_iconst (pc := 11) (v := (0 : Int32)) C rfl dX1_restore_11 ?_
    exact w_X1_restore_12 C t0 (0 : Int32) (gl_sub hl [0] rfl) h hk
  · subst c9
    replace h := gh_on_s h
    refine gr_iconst (pc := 7) (v := (1 : Int32)) C rfl dX1_restore_7 ?_
    refine gr_goto (pc := 8) (tgt := 12) C rfl dX1_restore_8 ?_
    exact w_X1_restore_12 C t0 (1 : Int32) (gl_sub hl [0] rfl) h hk

theorem k_X1_restore {l : Launch} (hst : l.stackTraces = false) (t0 : Nat) : gh_Ct l yX1_restore 8 227 (f_X1_restore t0) gh_rI [va_rf (some t0)] := gh_intro2 (L1 := 215) hst (by decide +kernel) q2289 q75 rfl ⟨gh_cat _, trivial⟩ (Nat.le_of_ble_eq_true rfl) fun x o ls hl C h hk => w_X1_restore C t0 hl h hk
-- GargoyleTower.coinsAgain()I
def gp_X1_coinsAgain_28 (x : gh_C) (u28_2 : Option Nat) (st : Int32) (g : gh_G) : Prop := ∀ ls : Array Slot, gh_lv ls 4 [(1, .int st), (2, va_rf u28_2)] → gh_Wd x g (F0 (gh_cm x) 28 ls [])
noncomputable def f_X1_coinsAgain_28_l (p1 : Int32) (u28_2 : Option Nat) : gh_M ((Int32) ⊕ Int32) :=
  gh_nn u28_2 fun a1 =>
  gh_bd (gh_is a1 15) fun _ =>
  gh_bd (f_J8_hasNext a1) fun v2 =>
  if v2 = 0 then
  (gh_up (gh_ret p1))
  else
  (gh_bd (gh_is a1 15) fun _ =>
  gh_bd (f_J8_next a1) fun v3 =>
  gh_nn v3 fun a4 =>
  gh_bd (gh_is a4 6) fun _ =>
  gh_bd (gh_is a4 6) fun _ =>
  gh_bd (f_X7_price a4) fun v5 =>
  gh_ret (.inl (p1 - v5)))
theorem w_X1_coinsAgain_28_l {x : gh_C} {g : gh_G} {o : (((Int32) ⊕ Int32) ⊕ gh_X) × gh_G} {ls : Array Slot} (C : gh_K x cX1_coinsAgain "GargoyleTower" 4 (some .int) "coinsAgain" 4 85 []) (p1 : Int32) (u28_2 : Option Nat) (hl : gh_lv ls 4 [(1, .int p1), (2, va_rf u28_2)]) (h : gh_run (f_X1_coinsAgain_28_l p1 u28_2) g = some o) (hk : (gh_K1 x (gh_K0 x gh_rI) (gp_X1_coinsAgain_28 x u28_2)) o) : gh_Wd x g (F0 (gh_cm x) 28 ls []) := by
  unfold f_X1_coinsAgain_28_l at h
  refine gr_aload_n (pc := 28) (i := 2) C rfl (gl_at hl 1 rfl) dX1_coinsAgain_28 ?_
  rcases u28_2 with _ | a1
  · exact gh_stk_inv h
  replace h := gh_nn_ss h
  obtain ⟨⟨fs9, hg9⟩, h⟩ := gh_is_inv h
  refine gh_callI (pc := 29) (rest := []) C (k_J8_hasNext C.tr a1) (Nat.le_of_ble_eq_true rfl) (Nat.le_of_ble_eq_true rfl) (gh_r4 (Nat.le_of_ble_eq_true rfl)) (fun H9 L9 hp9 => gi_F C hp9 hg9 gh_cJ8 q334 q336 (by decide +kernel) q353 q355 q356 q354 q352 q357 mh_java_util_Iterator np7 rfl hl.1.1 dX1_coinsAgain_29 rfl) h ((gh_K1_b gh_K0_b) _ hk) (fun v2 g h => ?_) (fun e g h => ?_)
  rotate_left
  ·
    obtain ⟨o, h, hk⟩ := gh_K1_thr h hk
    exact gh_out C (fun _ h => nomatch h) h hk
  refine gr_if_eq (pc := 34) (tgt := 57) C rfl dX1_coinsAgain_34 (fun c9 => ?_) (fun c9 => ?_)
  · replace h := gh_ift h c9
    refine gr_iload_n (pc := 57) (i := 1) C rfl (gl_at hl 0 rfl) dX1_coinsAgain_57 ?_
    obtain ⟨o, h, hk⟩ := gh_K1_up h hk
    exact gr_iret (pc := 58) C dX1_coinsAgain_58 h hk
  · replace h := gh_iff h c9
    refine gr_aload_n (pc := 37) (i := 2) C rfl (gl_at hl 1 rfl) dX1_coinsAgain_37 ?_
    obtain ⟨⟨fs9, hg9⟩, h⟩ := gh_is_inv h
    refine gh_callQ (pc := 38) (rest := []) C (k_J8_next C.tr a1) (Nat.le_of_ble_eq_true rfl) (Nat.le_of_ble_eq_true rfl) (gh_r4 (Nat.le_of_ble_eq_true rfl)) (fun H9 L9 hp9 => gi_F C hp9 hg9 gh_cJ8 q368 q370 (by decide +kernel) q826 q828 q829 q827 q352 q830 mh_java_util_Iterator np23 rfl hl.1.1 dX1_coinsAgain_38 rfl) h ((gh_K1_b gh_K0_b) _ hk) (fun v3 g h => ?_) (fun e g h => ?_)
    rotate_left
    ·
      obtain ⟨o, h, hk⟩ := gh_K1_thr h hk
      exact gh_out C (fun _ h => nomatch h) h hk
    rcases v3 with _ | a4
    · exact gh_stk_inv h
    replace h := gh_nn_ss h
    obtain ⟨⟨fs9, hg9⟩, h⟩ := gh_is_inv h
    refine gr_castY (pc := 43) C gh_cX7 q867 (Or.inl rfl) dX1_coinsAgain_43 hg9 ?_
    refine gr_astore_n (pc := 46) (i := 3) (l' := [(3, va_rf (some a4)), (1, .int p1), (2, va_rf (some a1))]) C rfl hl (Nat.le_of_ble_eq_true rfl) rfl dX1_coinsAgain_46 fun ls hl => ?_
    refine gr_iload_n (pc := 47) (i := 1) C rfl (gl_at hl 1 rfl) dX1_coinsAgain_47 ?_
    refine gr_aload_n (pc := 48) (i := 3) C rfl (gl_at hl 0 rfl) dX1_coinsAgain_48 ?_
    obtain ⟨⟨fs9, hg9⟩, h⟩ := gh_is_inv h
    refine gh_callI (pc := 49) (rest := [.int p1]) C (k_X7_price C.tr a4) (Nat.le_of_ble_eq_true rfl) (Nat.le_of_ble_eq_true rfl) (gh_r4 (Nat.le_of_ble_eq_true rfl)) (fun H9 L9 hp9 => gi_V C hp9 hg9 gh_cX7 q868 q869 q870 q871 mh_X7 np0 rfl hl.1.1 dX1_coinsAgain_49 rfl) h ((gh_K1_b gh_K0_b) _ hk) (fun v5 g h => ?_) (fun e g h => ?_)
    rotate_left
    ·
      obtain ⟨o, h, hk⟩ := gh_K1_thr h hk
      exact gh_out C (fun _ h => nomatch h) h hk
    refine gr_isub (pc := 52) C dX1_coinsAgain_52 ?_
    refine gr_istore_n (pc := 53) (i := 1) (l' := [(1, .int (p1 - v5)), (3, va_rf (some a4)), (2, va_rf (some a1))]) C rfl hl (Nat.le_of_ble_eq_true rfl) rfl dX1_coinsAgain_53 fun ls hl => ?_
    refine gr_goto (pc := 54) (tgt := 28) C rfl dX1_coinsAgain_54 ?_
    exact gh_K1_in h hk ls (gl_sub hl [0, 2] rfl)

noncomputable def f_X1_coinsAgain_28 (p1 : Int32) (p2 : Option Nat) : gh_M Int32 := gh_it (fun st : Int32 => f_X1_coinsAgain_28_l st p2) (p1)
theorem w_X1_coinsAgain_28 {x : gh_C} {g : gh_G} {o : (Int32 ⊕ gh_X) × gh_G} {ls : Array Slot} (C : gh_K x cX1_coinsAgain "GargoyleTower" 4 (some .int) "coinsAgain" 4 85 []) (p1 : Int32) (p2 : Option Nat) (hl : gh_lv ls 4 [(1, .int p1), (2, va_rf p2)]) (h : gh_run (f_X1_coinsAgain_28 p1 p2) g = some o) (hk : (gh_K0 x gh_rI) o) : gh_Wd x g (F0 (gh_cm x) 28 ls []) := by
  unfold f_X1_coinsAgain_28 at h
  exact gh_loop gh_K0_b (fun st : Int32 => f_X1_coinsAgain_28_l st p2) (gp_X1_coinsAgain_28 x p2) (fun st g o h hk ls hl => w_X1_coinsAgain_28_l C st p2 hl h hk) _ g o h hk ls hl
noncomputable def f_X1_coinsAgain (t0 : Nat) : gh_M Int32 :=
  gh_bd (gh_is t0 0) fun _ =>
  gh_bd (f_X1_paid t0 (-1 : Int32)) fun v1 =>
  gh_bd (gh_getr t0 0 0) fun v2 =>
  gh_nn v2 fun a3 =>
  gh_bd (gh_geti a3 1 3) fun v4 =>
  gh_bd (gh_getr t0 0 0) fun v5 =>
  gh_nn v5 fun a6 =>
  gh_bd (gh_getr a6 1 7) fun v7 =>
  gh_nn v7 fun a8 =>
  gh_bd (gh_is a8 11) fun _ =>
  gh_bd (f_J2_iterator a8) fun v9 =>
  f_X1_coinsAgain_28 (((60 : Int32) + v1) - v4) v9
theorem w_X1_coinsAgain {x : gh_C} {g : gh_G} {o : (Int32 ⊕ gh_X) × gh_G} {ls : Array Slot} (C : gh_K x cX1_coinsAgain "GargoyleTower" 4 (some .int) "coinsAgain" 4 85 []) (t0 : Nat) (hl : gh_lv ls 4 [(0, va_rf (some t0))]) (h : gh_run (f_X1_coinsAgain t0) g = some o) (hk : (gh_K0 x gh_rI) o) : gh_Wd x g (F0 (gh_cm x) 0 ls []) := by
  unfold f_X1_coinsAgain at h
  refine gr_bipush (pc := 0) (v := (60 : Int32)) C rfl dX1_coinsAgain_0 ?_
  refine gr_aload_n (pc := 2) (i := 0) C rfl (gl_at hl 0 rfl) dX1_coinsAgain_2 ?_
  refine gr_iconst (pc := 3) (v := (-1 : Int32)) C rfl dX1_coinsAgain_3 ?_
  obtain ⟨⟨fs9, hg9⟩, h⟩ := gh_is_inv h
  refine gh_callI (pc := 4) (rest := [.int (60 : Int32)]) C (k_X1_paid C.tr t0 (-1 : Int32)) (Nat.le_of_ble_eq_true rfl) (Nat.le_of_ble_eq_true rfl) (gh_r4 (Nat.le_of_ble_eq_true rfl)) (fun H9 L9 hp9 => gi_V C hp9 hg9 gh_cX1 q304 q306 qs0 q307 mh_X1 np6 rfl hl.1.1 dX1_coinsAgain_4 rfl) h (gh_K0_b _ hk) (fun v1 g h => ?_) (fun e g h => ?_)
  rotate_left
  ·
    exact gh_out C (fun _ h => nomatch h) h hk
  refine gr_iadd (pc := 7) C dX1_coinsAgain_7 ?_
  refine gr_aload_n (pc := 8) (i := 0) C rfl (gl_at hl 0 rfl) dX1_coinsAgain_8 ?_
  refine gr_getr (pc := 9) C gh_bX1 (k := 0) (Nat.le_of_ble_eq_true rfl) q271 (fun _ h => h) dX1_coinsAgain_9 h fun v2 h => ?_
  rcases v2 with _ | a3
  · exact gh_stk_inv h
  replace h := gh_nn_ss h
  refine gr_getiN (pc := 12) C gh_bX2 (k := 3) (Nat.le_of_ble_eq_true rfl) q190 (fun _ h => h) dX1_coinsAgain_12 h fun v4 h => ?_
  refine gr_isub (pc := 15) C dX1_coinsAgain_15 ?_
  refine gr_istore_n (pc := 16) (i := 1) (l' := [(1, .int (((60 : Int32) + v1) - v4)), (0, va_rf (some t0))]) C rfl hl (Nat.le_of_ble_eq_true rfl) rfl dX1_coinsAgain_16 fun ls hl => ?_
  refine gr_aload_n (pc := 17) (i := 0) C rfl (gl_at hl 1 rfl) dX1_coinsAgain_17 ?_
  refine gr_getr (pc := 18) C gh_bX1 (k := 0) (Nat.le_of_ble_eq_true rfl) q271 (fun _ h => h) dX1_coinsAgain_18 h fun v5 h => ?_
  rcases v5 with _ | a6
  · exact gh_stk_inv h
  replace h := gh_nn_ss h
  refine gr_getrN (pc := 21) C gh_bX2 (k := 7) (Nat.le_of_ble_eq_true rfl) q198 (fun _ h => h) dX1_coinsAgain_21 h fun v7 h => ?_
  rcases v7 with _ | a8
  · exact gh_stk_inv h
  replace h := gh_nn_ss h
  obtain ⟨⟨fs9, hg9⟩, h⟩ := gh_is_inv h
  refine gh_callQ (pc := 24) (rest := []) C (k_J2_iterator C.tr a8) (Nat.le_of_ble_eq_true rfl) (Nat.le_of_ble_eq_true rfl) (gh_r4 (Nat.le_of_ble_eq_true rfl)) (fun H9 L9 hp9 => gi_V C hp9 hg9 gh_cJ2 q308 q309 q310 q311 mh_J2 np46 rfl hl.1.1 dX1_coinsAgain_24 rfl) h (gh_K0_b _ hk) (fun v9 g h => ?_) (fun e g h => ?_)
  rotate_left
  ·
    exact gh_out C (fun _ h => nomatch h) h hk
  refine gr_astore_n (pc := 27) (i := 2) (l' := [(2, va_rf v9), (1, .int (((60 : Int32) + v1) - v4)), (0, va_rf (some t0))]) C rfl hl (Nat.le_of_ble_eq_true rfl) rfl dX1_coinsAgain_27 fun ls hl => ?_
  exact w_X1_coinsAgain_28 C (((60 : Int32) + v1) - v4) v9 (gl_sub hl [1, 0] rfl) h hk

theorem k_X1_coinsAgain {l : Launch} (hst : l.stackTraces = false) (t0 : Nat) : gh_Ct l yX1_coinsAgain 4 100 (f_X1_coinsAgain t0) gh_rI [va_rf (some t0)] := gh_intro2 (L1 := 85) hst (by decide +kernel) q303 q75 rfl ⟨gh_cat _, trivial⟩ (Nat.le_of_ble_eq_true rfl) fun x o ls hl C h hk => w_X1_coinsAgain C t0 hl h hk
-- GargoyleTower.isBalanced()Z
def gp_X1_isBalanced_31 (x : gh_C) (t0 : Nat) (u31_2 : Option Nat) (st : Int32) (g : gh_G) : Prop := ∀ ls : Array Slot, gh_lv ls 4 [(0, va_rf (some t0)), (1, .int st), (2, va_rf u31_2)] → gh_Wd x g (F0 (gh_cm x) 31 ls [])
def gp_X1_isBalanced_72 (x : gh_C) (t0 : Nat) (u72_2 : Option Nat) (st : Int32) (g : gh_G) : Prop := ∀ ls : Array Slot, gh_lv ls 4 [(0, va_rf (some t0)), (1, .int st), (2, va_rf u72_2)] → gh_Wd x g (F0 (gh_cm x) 72 ls [])
noncomputable def f_X1_isBalanced_129 (t0 : Nat) (u72_2 : Option Nat) (s0 : Int32) (s1 : Int32) : gh_M ((Int32) ⊕ Int32) :=
  gh_ret (.inl (s0 &&& s1))
theorem w_X1_isBalanced_129 {x : gh_C} {g : gh_G} {o : (((Int32) ⊕ Int32) ⊕ gh_X) × gh_G} {ls : Array Slot} (C : gh_K x cX1_isBalanced "GargoyleTower" 4 (some .boolean) "isBalanced" 6 123 []) (t0 : Nat) (u72_2 : Option Nat) (s0 : Int32) (s1 : Int32) (hl : gh_lv ls 4 [(0, va_rf (some t0)), (2, va_rf u72_2)]) (h : gh_run (f_X1_isBalanced_129 t0 u72_2 s0 s1) g = some o) (hk : (gh_K1 x (gh_K0 x gh_rI) (gp_X1_isBalanced_72 x t0 u72_2)) o) : gh_Wd x g (F0 (gh_cm x) 129 ls [.int s1, .int s0]) := by
  unfold f_X1_isBalanced_129 at h
  refine gr_iand (pc := 129) C dX1_isBalanced_129 ?_
  refine gr_istore_n (pc := 130) (i := 1) (l' := [(1, .int (s0 &&& s1)), (0, va_rf (some t0)), (2, va_rf u72_2)]) C rfl hl (Nat.le_of_ble_eq_true rfl) rfl dX1_isBalanced_130 fun ls hl => ?_
  refine gr_goto (pc := 131) (tgt := 72) C rfl dX1_isBalanced_131 ?_
  exact gh_K1_in h hk ls (gl_sub hl [1, 0, 2] rfl)

noncomputable def f_X1_isBalanced_124 (t0 : Nat) (u72_2 : Option Nat) (s0 : Int32) : gh_M ((Int32) ⊕ Int32) :=
  f_X1_isBalanced_129 t0 u72_2 s0 (1 : Int32)
theorem w_X1_isBalanced_124 {x : gh_C} {g : gh_G} {o : (((Int32) ⊕ Int32) ⊕ gh_X) × gh_G} {ls : Array Slot} (C : gh_K x cX1_isBalanced "GargoyleTower" 4 (some .boolean) "isBalanced" 6 123 []) (t0 : Nat) (u72_2 : Option Nat) (s0 : Int32) (hl : gh_lv ls 4 [(0, va_rf (some t0)), (2, va_rf u72_2)]) (h : gh_run (f_X1_isBalanced_124 t0 u72_2 s0) g = some o) (hk : (gh_K1 x (gh_K0 x gh_rI) (gp_X1_isBalanced_72 x t0 u72_2)) o) : gh_Wd x g (F0 (gh_cm x) 124 ls [.int s0]) := by
  unfold f_X1_isBalanced_124 at h
  refine gr_iconst (pc := 124) (v := (1 : Int32)) C rfl dX1_isBalanced_124 ?_
  refine gr_goto (pc := 125) (tgt := 129) C rfl dX1_isBalanced_125 ?_
  exact w_X1_isBalanced_129 C t0 u72_2 s0 (1 : Int32) (gl_sub hl [0, 1] rfl) h hk

noncomputable def f_X1_isBalanced_72_l (t0 : Nat) (p1 : Int32) (u72_2 : Option Nat) : gh_M ((Int32) ⊕ Int32) :=
  gh_nn u72_2 fun a1 =>
  gh_bd (gh_is a1 15) fun _ =>
  gh_bd (f_J8_hasNext a1) fun v2 =>
  if v2 = 0 then
  (gh_up (gh_rz .boolean p1))
  else
  (gh_bd (gh_is a1 15) fun _ =>
  gh_bd (f_J8_next a1) fun v3 =>
  gh_nn v3 fun a4 =>
  gh_bd (gh_is a4 6) fun _ =>
  gh_bd (gh_geti a4 6 3) fun v5 =>
  if v5 = (-1 : Int32) then
  (f_X1_isBalanced_124 t0 (some a1) p1)
  else
  (gh_bd (gh_getr t0 0 0) fun v6 =>
  gh_nn v6 fun a7 =>
  gh_bd (gh_getr a7 1 6) fun v8 =>
  gh_bd (gh_geti a4 6 3) fun v9 =>
  gh_nn v8 fun a10 =>
  gh_bd (gh_is a10 11) fun _ =>
  gh_bd (f_J2_get a10 v9) fun v11 =>
  gh_nn v11 fun a12 =>
  gh_bd (gh_is a12 5) fun _ =>
  gh_bd (gh_geti a12 5 5) fun v13 =>
  if v13 = (1 : Int32) then
  (f_X1_isBalanced_124 t0 (some a1) p1)
  else
  (f_X1_isBalanced_129 t0 (some a1) p1 (0 : Int32))))
theorem w_X1_isBalanced_72_l {x : gh_C} {g : gh_G} {o : (((Int32) ⊕ Int32) ⊕ gh_X) × gh_G} {ls : Array Slot} (C : gh_K x cX1_isBalanced "GargoyleTower" 4 (some .boolean) "isBalanced" 6 123 []) (t0 : Nat) (p1 : Int32) (u72_2 : Option Nat) (hl : gh_lv ls 4 [(0, va_rf (some t0)), (1, .int p1), (2, va_rf u72_2)]) (h : gh_run (f_X1_isBalanced_72_l t0 p1 u72_2) g = some o) (hk : (gh_K1 x (gh_K0 x gh_rI) (gp_X1_isBalanced_72 x t0 u72_2)) o) : gh_Wd x g (F0 (gh_cm x) 72 ls []) := by
  unfold f_X1_isBalanced_72_l at h
  refine gr_aload_n (pc := 72) (i := 2) C rfl (gl_at hl 2 rfl) dX1_isBalanced_72 ?_
  rcases u72_2 with _ | a1
  · exact gh_stk_inv h
  replace h := gh_nn_ss h
  obtain ⟨⟨fs9, hg9⟩, h⟩ := gh_is_inv h
  refine gh_callI (pc := 73) (rest := []) C (k_J8_hasNext C.tr a1) (Nat.le_of_ble_eq_true rfl) (Nat.le_of_ble_eq_true rfl) (gh_r4 (Nat.le_of_ble_eq_true rfl)) (fun H9 L9 hp9 => gi_F C hp9 hg9 gh_cJ8 q334 q336 (by decide +kernel) q353 q355 q356 q354 q352 q357 mh_java_util_Iterator np7 rfl hl.1.1 dX1_isBalanced_73 rfl) h ((gh_K1_b gh_K0_b) _ hk) (fun v2 g h => ?_) (fun e g h => ?_)
  rotate_left
  ·
    obtain ⟨o, h, hk⟩ := gh_K1_thr h hk
    exact gh_out C (fun _ h => nomatch h) h hk
  refine gr_if_eq (pc := 78) (tgt := 134) C rfl dX1_isBalanced_78 (fun c9 => ?_) (fun c9 => ?_)
  · replace h := gh_ift h c9
    refine gr_iload_n (pc := 134) (i := 1) C rfl (gl_at hl 1 rfl) dX1_isBalanced_134 ?_
    obtain ⟨o, h, hk⟩ := gh_K1_up h hk
    exact gr_bret (pc := 135) C dX1_isBalanced_135 h hk
  · replace h := gh_iff h c9
    refine gr_aload_n (pc := 81) (i := 2) C rfl (gl_at hl 2 rfl) dX1_isBalanced_81 ?_
    obtain ⟨⟨fs9, hg9⟩, h⟩ := gh_is_inv h
    refine gh_callQ (pc := 82) (rest := []) C (k_J8_next C.tr a1) (Nat.le_of_ble_eq_true rfl) (Nat.le_of_ble_eq_true rfl) (gh_r4 (Nat.le_of_ble_eq_true rfl)) (fun H9 L9 hp9 => gi_F C hp9 hg9 gh_cJ8 q368 q370 (by decide +kernel) q826 q828 q829 q827 q352 q830 mh_java_util_Iterator np23 rfl hl.1.1 dX1_isBalanced_82 rfl) h ((gh_K1_b gh_K0_b) _ hk) (fun v3 g h => ?_) (fun e g h => ?_)
    rotate_left
    ·
      obtain ⟨o, h, hk⟩ := gh_K1_thr h hk
      exact gh_out C (fun _ h => nomatch h) h hk
    rcases v3 with _ | a4
    · exact gh_stk_inv h
    replace h := gh_nn_ss h
    obtain ⟨⟨fs9, hg9⟩, h⟩ := gh_is_inv h
    refine gr_castY (pc := 87) C gh_cX7 q867 (Or.inl rfl) dX1_isBalanced_87 hg9 ?_
    refine gr_astore_n (pc := 90) (i := 3) (l' := [(3, va_rf (some a4)), (0, va_rf (some t0)), (1, .int p1), (2, va_rf (some a1))]) C rfl hl (Nat.le_of_ble_eq_true rfl) rfl dX1_isBalanced_90 fun ls hl => ?_
    refine gr_iload_n (pc := 91) (i := 1) C rfl (gl_at hl 2 rfl) dX1_isBalanced_91 ?_
    refine gr_aload_n (pc := 92) (i := 3) C rfl (gl_at hl 0 rfl) dX1_isBalanced_92 ?_
    refine gr_getiN (pc := 93) C gh_bX7 (k := 3) (Nat.le_of_ble_eq_true rfl) q1058 (fun _ h => h) dX1_isBalanced_93 h fun v5 h => ?_
    refine gr_iconst (pc := 96) (v := (-1 : Int32)) C rfl dX1_isBalanced_96 ?_
    refine gr_icmp_eq (pc := 97) (tgt := 124) C rfl dX1_isBalanced_97 (fun c9 => ?_) (fun c9 => ?_)
    · replace h := gh_ift h c9
      exact w_X1_isBalanced_124 C t0 (some a1) p1 (gl_sub hl [1, 3] rfl) h hk
    · replace h := gh_iff h c9
      refine gr_aload_n (pc := 100) (i := 0) C rfl (gl_at hl 1 rfl) dX1_isBalanced_100 ?_
      refine gr_getr (pc := 101) C gh_bX1 (k := 0) (Nat.le_of_ble_eq_true rfl) q271 (fun _ h => h) dX1_isBalanced_101 h fun v6 h => ?_
      rcases v6 with _ | a7
      · exact gh_stk_inv h
      replace h := gh_nn_ss h
      refine gr_getrN (pc := 104) C gh_bX2 (k := 6) (Nat.le_of_ble_eq_true rfl) q196 (fun _ h => h) dX1_isBalanced_104 h fun v8 h => ?_
      refine gr_aload_n (pc := 107) (i := 3) C rfl (gl_at hl 0 rfl) dX1_isBalanced_107 ?_
      refine gr_getiN (pc := 108) C gh_bX7 (k := 3) (Nat.le_of_ble_eq_true rfl) q1058 (fun _ h => h) dX1_isBalanced_108 h fun v9 h => ?_
      rcases v8 with _ | a10
      · exact gh_stk_inv h
      replace h := gh_nn_ss h
      obtain ⟨⟨fs9, hg9⟩, h⟩ := gh_is_inv h
      refine gh_callQ (pc := 111) (rest := [.int p1]) C (k_J2_get C.tr a10 v9) (Nat.le_of_ble_eq_true rfl) (Nat.le_of_ble_eq_true rfl) (gh_r4 (Nat.le_of_ble_eq_true rfl)) (fun H9 L9 hp9 => gi_V C hp9 hg9 gh_cJ2 q882 q385 q2725 q386 mh_J2 np21 rfl hl.1.1 dX1_isBalanced_111 rfl) h ((gh_K1_b gh_K0_b) _ hk) (fun v11 g h => ?_) (fun e g h => ?_)
      rotate_left
      ·
        obtain ⟨o, h, hk⟩ := gh_K1_thr h hk
        exact gh_out C (fun _ h => nomatch h) h hk
      rcases v11 with _ | a12
      · exact gh_stk_inv h
      replace h := gh_nn_ss h
      obtain ⟨⟨fs9, hg9⟩, h⟩ := gh_is_inv h
      refine gr_castY (pc := 114) C gh_cX6 q877 (Or.inl rfl) dX1_isBalanced_114 hg9 ?_
      refine gr_getiN (pc := 117) C gh_bX6 (k := 5) (Nat.le_of_ble_eq_true rfl) q991 (fun _ h => h) dX1_isBalanced_117 h fun v13 h => ?_
      refine gr_iconst (pc := 120) (v := (1 : Int32)) C rfl dX1_isBalanced_120 ?_
      refine gr_icmp_ne (pc := 121) (tgt := 128) C rfl dX1_isBalanced_121 (fun c9 => ?_) (fun c9 => ?_)
      · replace h := gh_iff h c9
        refine gr_iconst (pc := 128) (v := (0 : Int32)) C rfl dX1_isBalanced_128 ?_
        exact w_X1_isBalanced_129 C t0 (some a1) p1 (0 : Int32) (gl_sub hl [1, 3] rfl) h hk
      · replace h := gh_ift h c9
        exact w_X1_isBalanced_124 C t0 (some a1) p1 (gl_sub hl [1, 3] rfl) h hk

noncomputable def f_X1_isBalanced_72 (t0 : Nat) (p1 : Int32) (p2 : Option Nat) : gh_M Int32 := gh_it (fun st : Int32 => f_X1_isBalanced_72_l t0 st p2) (p1)
theorem w_X1_isBalanced_72 {x : gh_C} {g : gh_G} {o : (Int32 ⊕ gh_X) × gh_G} {ls : Array Slot} (C : gh_K x cX1_isBalanced "GargoyleTower" 4 (some .boolean) "isBalanced" 6 123 []) (t0 : Nat) (p1 : Int32) (p2 : Option Nat) (hl : gh_lv ls 4 [(0, va_rf (some t0)), (1, .int p1), (2, va_rf p2)]) (h : gh_run (f_X1_isBalanced_72 t0 p1 p2) g = some o) (hk : (gh_K0 x gh_rI) o) : gh_Wd x g (F0 (gh_cm x) 72 ls []) := by
  unfold f_X1_isBalanced_72 at h
  exact gh_loop gh_K0_b (fun st : Int32 => f_X1_isBalanced_72_l t0 st p2) (gp_X1_isBalanced_72 x t0 p2) (fun st g o h hk ls hl => w_X1_isBalanced_72_l C t0 st p2 hl h hk) _ g o h hk ls hl
noncomputable def f_X1_isBalanced_31_l (t0 : Nat) (p1 : Int32) (u31_2 : Option Nat) : gh_M ((Int32) ⊕ Int32) :=
  gh_nn u31_2 fun a1 =>
  gh_bd (gh_is a1 15) fun _ =>
  gh_bd (f_J8_hasNext a1) fun v2 =>
  if v2 = 0 then
  (gh_bd (gh_getr t0 0 0) fun v3 =>
  gh_nn v3 fun a4 =>
  gh_bd (gh_getr a4 1 7) fun v5 =>
  gh_nn v5 fun a6 =>
  gh_bd (gh_is a6 11) fun _ =>
  gh_bd (f_J2_iterator a6) fun v7 =>
  gh_up (f_X1_isBalanced_72 t0 p1 v7))
  else
  (gh_bd (gh_is a1 15) fun _ =>
  gh_bd (f_J8_next a1) fun v8 =>
  gh_nn v8 fun a9 =>
  gh_bd (gh_is a9 5) fun _ =>
  gh_bd (gh_is t0 0) fun _ =>
  gh_bd (f_X1_isRight t0 (some a9)) fun v10 =>
  gh_ret (.inl (p1 &&& v10)))
theorem w_X1_isBalanced_31_l {x : gh_C} {g : gh_G} {o : (((Int32) ⊕ Int32) ⊕ gh_X) × gh_G} {ls : Array Slot} (C : gh_K x cX1_isBalanced "GargoyleTower" 4 (some .boolean) "isBalanced" 6 123 []) (t0 : Nat) (p1 : Int32) (u31_2 : Option Nat) (hl : gh_lv ls 4 [(0, va_rf (some t0)), (1, .int p1), (2, va_rf u31_2)]) (h : gh_run (f_X1_isBalanced_31_l t0 p1 u31_2) g = some o) (hk : (gh_K1 x (gh_K0 x gh_rI) (gp_X1_isBalanced_31 x t0 u31_2)) o) : gh_Wd x g (F0 (gh_cm x) 31 ls []) := by
  unfold f_X1_isBalanced_31_l at h
  refine gr_aload_n (pc := 31) (i := 2) C rfl (gl_at hl 2 rfl) dX1_isBalanced_31 ?_
  rcases u31_2 with _ | a1
  · exact gh_stk_inv h
  replace h := gh_nn_ss h
  obtain ⟨⟨fs9, hg9⟩, h⟩ := gh_is_inv h
  refine gh_callI (pc := 32) (rest := []) C (k_J8_hasNext C.tr a1) (Nat.le_of_ble_eq_true rfl) (Nat.le_of_ble_eq_true rfl) (gh_r4 (Nat.le_of_ble_eq_true rfl)) (fun H9 L9 hp9 => gi_F C hp9 hg9 gh_cJ8 q334 q336 (by decide +kernel) q353 q355 q356 q354 q352 q357 mh_java_util_Iterator np7 rfl hl.1.1 dX1_isBalanced_32 rfl) h ((gh_K1_b gh_K0_b) _ hk) (fun v2 g h => ?_) (fun e g h => ?_)
  rotate_left
  ·
    obtain ⟨o, h, hk⟩ := gh_K1_thr h hk
    exact gh_out C (fun _ h => nomatch h) h hk
  refine gr_if_eq (pc := 37) (tgt := 61) C rfl dX1_isBalanced_37 (fun c9 => ?_) (fun c9 => ?_)
  · replace h := gh_ift h c9
    refine gr_aload_n (pc := 61) (i := 0) C rfl (gl_at hl 0 rfl) dX1_isBalanced_61 ?_
    refine gr_getr (pc := 62) C gh_bX1 (k := 0) (Nat.le_of_ble_eq_true rfl) q271 (fun _ h => h) dX1_isBalanced_62 h fun v3 h => ?_
    rcases v3 with _ | a4
    · exact gh_stk_inv h
    replace h := gh_nn_ss h
    refine gr_getrN (pc := 65) C gh_bX2 (k := 7) (Nat.le_of_ble_eq_true rfl) q198 (fun _ h => h) dX1_isBalanced_65 h fun v5 h => ?_
    rcases v5 with _ | a6
    · exact gh_stk_inv h
    replace h := gh_nn_ss h
    obtain ⟨⟨fs9, hg9⟩, h⟩ := gh_is_inv h
    refine gh_callQ (pc := 68) (rest := []) C (k_J2_iterator C.tr a6) (Nat.le_of_ble_eq_true rfl) (Nat.le_of_ble_eq_true rfl) (gh_r4 (Nat.le_of_ble_eq_true rfl)) (fun H9 L9 hp9 => gi_V C hp9 hg9 gh_cJ2 q308 q309 q310 q311 mh_J2 np46 rfl hl.1.1 dX1_isBalanced_68 rfl) h ((gh_K1_b gh_K0_b) _ hk) (fun v7 g h => ?_) (fun e g h => ?_)
    rotate_left
    ·
      obtain ⟨o, h, hk⟩ := gh_K1_thr h hk
      exact gh_out C (fun _ h => nomatch h) h hk
    refine gr_astore_n (pc := 71) (i := 2) (l' := [(2, va_rf v7), (0, va_rf (some t0)), (1, .int p1)]) C rfl hl (Nat.le_of_ble_eq_true rfl) rfl dX1_isBalanced_71 fun ls hl => ?_
    obtain ⟨o, h, hk⟩ := gh_K1_up h hk
    exact w_X1_isBalanced_72 C t0 p1 v7 (gl_sub hl [1, 2, 0] rfl) h hk
  · replace h := gh_iff h c9
    refine gr_aload_n (pc := 40) (i := 2) C rfl (gl_at hl 2 rfl) dX1_isBalanced_40 ?_
    obtain ⟨⟨fs9, hg9⟩, h⟩ := gh_is_inv h
    refine gh_callQ (pc := 41) (rest := []) C (k_J8_next C.tr a1) (Nat.le_of_ble_eq_true rfl) (Nat.le_of_ble_eq_true rfl) (gh_r4 (Nat.le_of_ble_eq_true rfl)) (fun H9 L9 hp9 => gi_F C hp9 hg9 gh_cJ8 q368 q370 (by decide +kernel) q826 q828 q829 q827 q352 q830 mh_java_util_Iterator np23 rfl hl.1.1 dX1_isBalanced_41 rfl) h ((gh_K1_b gh_K0_b) _ hk) (fun v8 g h => ?_) (fun e g h => ?_)
    rotate_left
    ·
      obtain ⟨o, h, hk⟩ := gh_K1_thr h hk
      exact gh_out C (fun _ h => nomatch h) h hk
    rcases v8 with _ | a9
    · exact gh_stk_inv h
    replace h := gh_nn_ss h
    obtain ⟨⟨fs9, hg9⟩, h⟩ := gh_is_inv h
    refine gr_castY (pc := 46) C gh_cX6 q877 (Or.inl rfl) dX1_isBalanced_46 hg9 ?_
    refine gr_astore_n (pc := 49) (i := 3) (l' := [(3, va_rf (some a9)), (0, va_rf (some t0)), (1, .int p1), (2, va_rf (some a1))]) C rfl hl (Nat.le_of_ble_eq_true rfl) rfl dX1_isBalanced_49 fun ls hl => ?_
    refine gr_iload_n (pc := 50) (i := 1) C rfl (gl_at hl 2 rfl) dX1_isBalanced_50 ?_
    refine gr_aload_n (pc := 51) (i := 0) C rfl (gl_at hl 1 rfl) dX1_isBalanced_51 ?_
    refine gr_aload_n (pc := 52) (i := 3) C rfl (gl_at hl 0 rfl) dX1_isBalanced_52 ?_
    obtain ⟨⟨fs9, hg9⟩, h⟩ := gh_is_inv h
    refine gh_callI (pc := 53) (rest := [.int p1]) C (k_X1_isRight C.tr t0 (some a9)) (Nat.le_of_ble_eq_true rfl) (Nat.le_of_ble_eq_true rfl) (gh_r4 (Nat.le_of_ble_eq_true rfl)) (fun H9 L9 hp9 => gi_V C hp9 hg9 gh_cX1 q878 q880 qs5 q881 mh_X1 np79 rfl hl.1.1 dX1_isBalanced_53 rfl) h ((gh_K1_b gh_K0_b) _ hk) (fun v10 g h => ?_) (fun e g h => ?_)
    rotate_left
    ·
      obtain ⟨o, h, hk⟩ := gh_K1_thr h hk
      exact gh_out C (fun _ h => nomatch h) h hk
    refine gr_iand (pc := 56) C dX1_isBalanced_56 ?_
    refine gr_istore_n (pc := 57) (i := 1) (l' := [(1, .int (p1 &&& v10)), (3, va_rf (some a9)), (0, va_rf (some t0)), (2, va_rf (some a1))]) C rfl hl (Nat.le_of_ble_eq_true rfl) rfl dX1_isBalanced_57 fun ls hl => ?_
    refine gr_goto (pc := 58) (tgt := 31) C rfl dX1_isBalanced_58 ?_
    exact gh_K1_in h hk ls (gl_sub hl [2, 0, 3] rfl)

noncomputable def f_X1_isBalanced_31 (t0 : Nat) (p1 : Int32) (p2 : Option Nat) : gh_M Int32 := gh_it (fun st : Int32 => f_X1_isBalanced_31_l t0 st p2) (p1)
theorem w_X1_isBalanced_31 {x : gh_C} {g : gh_G} {o : (Int32 ⊕ gh_X) × gh_G} {ls : Array Slot} (C : gh_K x cX1_isBalanced "GargoyleTower" 4 (some .boolean) "isBalanced" 6 123 []) (t0 : Nat) (p1 : Int32) (p2 : Option Nat) (hl : gh_lv ls 4 [(0, va_rf (some t0)), (1, .int p1), (2, va_rf p2)]) (h : gh_run (f_X1_isBalanced_31 t0 p1 p2) g = some o) (hk : (gh_K0 x gh_rI) o) : gh_Wd x g (F0 (gh_cm x) 31 ls []) := by
  unfold f_X1_isBalanced_31 at h
  exact gh_loop gh_K0_b (fun st : Int32 => f_X1_isBalanced_31_l t0 st p2) (gp_X1_isBalanced_31 x t0 p2) (fun st g o h hk ls hl => w_X1_isBalanced_31_l C t0 st p2 hl h hk) _ g o h hk ls hl
noncomputable def f_X1_isBalanced_19 (t0 : Nat) (s0 : Int32) : gh_M Int32 :=
  gh_bd (gh_getr t0 0 0) fun v1 =>
  gh_nn v1 fun a2 =>
  gh_bd (gh_getr a2 1 6) fun v3 =>
  gh_nn v3 fun a4 =>
  gh_bd (gh_is a4 11) fun _ =>
  gh_bd (f_J2_iterator a4) fun v5 =>
  f_X1_isBalanced_31 t0 s0 v5
theorem w_X1_isBalanced_19 {x : gh_C} {g : gh_G} {o : (Int32 ⊕ gh_X) × gh_G} {ls : Array Slot} (C : gh_K x cX1_isBalanced "GargoyleTower" 4 (some .boolean) "isBalanced" 6 123 []) (t0 : Nat) (s0 : Int32) (hl : gh_lv ls 4 [(0, va_rf (some t0))]) (h : gh_run (f_X1_isBalanced_19 t0 s0) g = some o) (hk : (gh_K0 x gh_rI) o) : gh_Wd x g (F0 (gh_cm x) 19 ls [.int s0]) := by
  unfold f_X1_isBalanced_19 at h
  refine gr_istore_n (pc := 19) (i := 1) (l' := [(1, .int s0), (0, va_rf (some t0))]) C rfl hl (Nat.le_of_ble_eq_true rfl) rfl dX1_isBalanced_19 fun ls hl => ?_
  refine gr_aload_n (pc := 20) (i := 0) C rfl (gl_at hl 1 rfl) dX1_isBalanced_20 ?_
  refine gr_getr (pc := 21) C gh_bX1 (k := 0) (Nat.le_of_ble_eq_true rfl) q271 (fun _ h => h) dX1_isBalanced_21 h fun v1 h => ?_
  rcases v1 with _ | a2
  · exact gh_stk_inv h
  replace h := gh_nn_ss h
  refine gr_getrN (pc := 24) C gh_bX2 (k := 6) (Nat.le_of_ble_eq_true rfl) q196 (fun _ h => h) dX1_isBalanced_24 h fun v3 h => ?_
  rcases v3 with _ | a4
  · exact gh_stk_inv h
  replace h := gh_nn_ss h
  obtain ⟨⟨fs9, hg9⟩, h⟩ := gh_is_inv h
  refine gh_callQ (pc := 27) (rest := []) C (k_J2_iterator C.tr a4) (Nat.le_of_ble_eq_true rfl) (Nat.le_of_ble_eq_true rfl) (gh_r4 (Nat.le_of_ble_eq_true rfl)) (fun H9 L9 hp9 => gi_V C hp9 hg9 gh_cJ2 q308 q309 q310 q311 mh_J2 np46 rfl hl.1.1 dX1_isBalanced_27 rfl) h (gh_K0_b _ hk) (fun v5 g h => ?_) (fun e g h => ?_)
  rotate_left
  ·
    exact gh_out C (fun _ h => nomatch h) h hk
  refine gr_astore_n (pc := 30) (i := 2) (l' := [(2, va_rf v5), (1, .int s0), (0, va_rf (some t0))]) C rfl hl (Nat.le_of_ble_eq_true rfl) rfl dX1_isBalanced_30 fun ls hl => ?_
  exact w_X1_isBalanced_31 C t0 s0 v5 (gl_sub hl [2, 1, 0] rfl) h hk

noncomputable def f_X1_isBalanced (t0 : Nat) : gh_M Int32 :=
  gh_bd (gh_getr t0 0 0) fun v1 =>
  gh_nn v1 fun a2 =>
  gh_bd (gh_geti a2 1 0) fun v3 =>
  gh_bd (gh_is t0 0) fun _ =>
  gh_bd (f_X1_coinsAgain t0) fun v4 =>
  if v3 = v4 then
  (f_X1_isBalanced_19 t0 (1 : Int32))
  else
  (f_X1_isBalanced_19 t0 (0 : Int32))
theorem w_X1_isBalanced {x : gh_C} {g : gh_G} {o : (Int32 ⊕ gh_X) × gh_G} {ls : Array Slot} (C : gh_K x cX1_isBalanced "GargoyleTower" 4 (some .boolean) "isBalanced" 6 123 []) (t0 : Nat) (hl : gh_lv ls 4 [(0, va_rf (some t0))]) (h : gh_run (f_X1_isBalanced t0) g = some o) (hk : (gh_K0 x gh_rI) o) : gh_Wd x g (F0 (gh_cm x) 0 ls []) := by
  unfold f_X1_isBalanced at h
  refine gr_aload_n (pc := 0) (i := 0) C rfl (gl_at hl 0 rfl) dX1_isBalanced_0 ?_
  refine gr_getr (pc := 1) C gh_bX1 (k := 0) (Nat.le_of_ble_eq_true rfl) q271 (fun _ h => h) dX1_isBalanced_1 h fun v1 h => ?_
  rcases v1 with _ | a2
  · exact gh_stk_inv h
  replace h := gh_nn_ss h
  refine gr_getiN (pc := 4) C gh_bX2 (k := 0) (Nat.le_of_ble_eq_true rfl) q184 (fun _ h => h) dX1_isBalanced_4 h fun v3 h => ?_
  refine gr_aload_n (pc := 7) (i := 0) C rfl (gl_at hl 0 rfl) dX1_isBalanced_7 ?_
  obtain ⟨⟨fs9, hg9⟩, h⟩ := gh_is_inv h
  refine gh_callI (pc := 8) (rest := [.int v3]) C (k_X1_coinsAgain C.tr t0) (Nat.le_of_ble_eq_true rfl) (Nat.le_of_ble_eq_true rfl) (gh_r4 (Nat.le_of_ble_eq_true rfl)) (fun H9 L9 hp9 => gi_V C hp9 hg9 gh_cX1 q876 q301 q302 q303 mh_X1 np0 rfl hl.1.1 dX1_isBalanced_8 rfl) h (gh_K0_b _ hk) (fun v4 g h => ?_) (fun e g h => ?_)
  rotate_left
  ·
    exact gh_out C (fun _ h => nomatch h) h hk
  refine gr_icmp_ne (pc := 11) (tgt := 18) C rfl dX1_isBalanced_11 (fun c9 => ?_) (fun c9 => ?_)
  · replace h := gh_iff h c9
    refine gr_iconst (pc := 18) (v := (0 : Int32)) C rfl dX1_isBalanced_18 ?_
    exact w_X1_isBalanced_19 C t0 (0 : Int32) (gl_sub hl [0] rfl) h hk
  · replace h := gh_ift h c9
    refine gr_iconst (pc := 14) (v := (1 : Int32)) C rfl dX1_isBalanced_14 ?_
    refine gr_goto (pc := 15) (tgt := 19) C rfl dX1_isBalanced_15 ?_
    exact w_X1_isBalanced_19 C t0 (1 : Int32) (gl_sub hl [0] rfl) h hk

theorem k_X1_isBalanced {l : Launch} (hst : l.stackTraces = false) (t0 : Nat) : gh_Ct l yX1_isBalanced 6 138 (f_X1_isBalanced t0) gh_rI [va_rf (some t0)] := gh_intro2 (L1 := 123) hst (by decide +kernel) q875 q75 rfl ⟨gh_cat _, trivial⟩ (Nat.le_of_ble_eq_true rfl) fun x o ls hl C h hk => w_X1_isBalanced C t0 hl h hk
-- GargoyleTower.carryOut(LGargoyleTower$Deed;)I
abbrev hh_X1_carryOut : List ExceptionTableEntry := tableOf [(12, 24, 25, 22)]
noncomputable def f_X1_carryOut_25 (t0 : Nat) (s0 : Option Nat) : gh_M Int32 :=
  gh_bd (gh_is t0 0) fun _ =>
  gh_bd (f_X1_refused t0 s0) fun v1 =>
  gh_ret v1
theorem w_X1_carryOut_25 {x : gh_C} {g : gh_G} {o : (Int32 ⊕ gh_X) × gh_G} {ls : Array Slot} (C : gh_K x cX1_carryOut "GargoyleTower" 4 (some .int) "carryOut" 53 1140 hh_X1_carryOut) (t0 : Nat) (s0 : Option Nat) (hl : gh_lv ls 4 [(0, va_rf (some t0))]) (h : gh_run (f_X1_carryOut_25 t0 s0) g = some o) (hk : (gh_K0 x gh_rI) o) : gh_Wd x g (F0 (gh_cm x) 25 ls [va_rf s0]) := by
  unfold f_X1_carryOut_25 at h
  refine gr_astore_n (pc := 25) (i := 3) (l' := [(3, va_rf s0), (0, va_rf (some t0))]) C rfl hl (Nat.le_of_ble_eq_true rfl) rfl dX1_carryOut_25 fun ls hl => ?_
  refine gr_aload_n (pc := 26) (i := 0) C rfl (gl_at hl 1 rfl) dX1_carryOut_26 ?_
  refine gr_aload_n (pc := 27) (i := 3) C rfl (gl_at hl 0 rfl) dX1_carryOut_27 ?_
  obtain ⟨⟨fs9, hg9⟩, h⟩ := gh_is_inv h
  refine gh_callI (pc := 28) (rest := []) C (k_X1_refused C.tr t0 s0) (Nat.le_of_ble_eq_true rfl) (Nat.le_of_ble_eq_true rfl) (gh_r4 (Nat.le_of_ble_eq_true rfl)) (fun H9 L9 hp9 => gi_V C hp9 hg9 gh_cX1 q1460 q1462 qs18 q1463 mh_X1 np75 rfl hl.1.1 dX1_carryOut_28 rfl) h (gh_K0_b _ hk) (fun v1 g h => ?_) (fun e g h => ?_)
  rotate_left
  ·
    exact gh_out C (by decide) h hk
  exact gr_iret (pc := 31) C dX1_carryOut_31 h hk

noncomputable def f_X1_carryOut (t0 : Nat) (p1 : Option Nat) : gh_M Int32 :=
  gh_bd (gh_new 1 9 gh_nX2) fun a1 =>
  gh_bd (gh_getr t0 0 0) fun v2 =>
  gh_bd (f_X2_init_2 a1 v2) fun _ =>
  gh_nn p1 fun a4 =>
  gh_bd (gh_is a4 4) fun _ =>
  gh_tc (f_X5_carryOut a4 (some a1)) (fun v5 =>
  gh_bd (gh_is t0 0) fun _ =>
  gh_tc (f_X1_change t0 (some a1)) (fun _ =>
  gh_ret v5)
  (fun e => if e.1 = 8 then (f_X1_carryOut_25 t0 (some e.2)) else if e.1 = 17 then gh_thr e else if e.1 = 16 then gh_thr e else gh_stk))
  (fun e => if e.1 = 8 then (f_X1_carryOut_25 t0 (some e.2)) else if e.1 = 17 then gh_thr e else if e.1 = 16 then gh_thr e else gh_stk)
theorem w_X1_carryOut {x : gh_C} {g : gh_G} {o : (Int32 ⊕ gh_X) × gh_G} {ls : Array Slot} (C : gh_K x cX1_carryOut "GargoyleTower" 4 (some .int) "carryOut" 53 1140 hh_X1_carryOut) (t0 : Nat) (p1 : Option Nat) (hl : gh_lv ls 4 [(0, va_rf (some t0)), (1, va_rf p1)]) (h : gh_run (f_X1_carryOut t0 p1) g = some o) (hk : (gh_K0 x gh_rI) o) : gh_Wd x g (F0 (gh_cm x) 0 ls []) := by
  unfold f_X1_carryOut at h
  refine gr_newo (pc := 0) C gh_bX2 q132 q133 q76 gh_dX2 dX1_carryOut_0 h (gh_K0_b _ hk) fun a1 g h => ?_
  refine gr_dup (pc := 3) C (gh_cat _) dX1_carryOut_3 ?_
  refine gr_aload_n (pc := 4) (i := 0) C rfl (gl_at hl 0 rfl) dX1_carryOut_4 ?_
  refine gr_getr (pc := 5) C gh_bX1 (k := 0) (Nat.le_of_ble_eq_true rfl) q271 (fun _ h => h) dX1_carryOut_5 h fun v2 h => ?_
  refine gh_callV (pc := 8) (rest := [va_rf (some a1)]) C (k_X2_init_2 C.tr a1 v2) (Nat.le_of_ble_eq_true rfl) (Nat.le_of_ble_eq_true rfl) (gh_r4 (Nat.le_of_ble_eq_true rfl)) (fun H9 L9 hp9 => gi_I C q961 rfl q962 q963 mh_X2 np70 rfl hl.1.1 dX1_carryOut_8 rfl) h (gh_K0_b _ hk) (fun g h => ?_) (fun e g h => ?_)
  rotate_left
  ·
    exact gh_out C (by decide) h hk
  refine gr_astore_n (pc := 11) (i := 2) (l' := [(2, va_rf (some a1)), (0, va_rf (some t0)), (1, va_rf p1)]) C rfl hl (Nat.le_of_ble_eq_true rfl) rfl dX1_carryOut_11 fun ls hl => ?_
  refine gr_aload_n (pc := 12) (i := 1) C rfl (gl_at hl 2 rfl) dX1_carryOut_12 ?_
  refine gr_aload_n (pc := 13) (i := 2) C rfl (gl_at hl 0 rfl) dX1_carryOut_13 ?_
  rcases p1 with _ | a4
  · exact gh_stk_inv h
  replace h := gh_nn_ss h
  obtain ⟨⟨fs9, hg9⟩, h⟩ := gh_is_inv h
  refine gh_callI (pc := 14) (rest := []) C (k_X5_carryOut C.tr a4 (some a1)) (Nat.le_of_ble_eq_true rfl) (Nat.le_of_ble_eq_true rfl) (gh_r4 (Nat.le_of_ble_eq_true rfl)) (fun H9 L9 hp9 => gi_V C hp9 hg9 gh_cX5 q1134 q1135 q1136 q1137 mh_X5 np63 rfl hl.1.1 dX1_carryOut_14 rfl) h (gh_K0_b _ hk) (fun v5 g h => ?_) (fun e g h => ?_)
  rotate_left
  ·
    by_cases c7 : e.1 = 8
    · replace h := gh_ift h c7
      refine gh_catch C (q := (RX9, TX9, 8)) (by rw [c7]; exact gh_cX9) [] ⟨12, 24, 25, 22⟩ [] rfl (fun _ h => nomatch h) rfl (by decide) q1133 q1252 ?_
      exact w_X1_carryOut_25 C t0 (some e.2) (gl_sub hl [1] rfl) h hk
    replace h := gh_iff h c7
    by_cases c7 : e.1 = 17
    · replace h := gh_ift h c7
      exact gh_outP C (q := (RJ20, TJ20, 6)) (by rw [c7]; exact gh_cJ20) (List.forall_mem_cons.mpr ⟨Or.inr ⟨by decide, _, q1133, by decide +kernel⟩, (fun _ h => nomatch h)⟩) h hk
    replace h := gh_iff h c7
    by_cases c7 : e.1 = 16
    · replace h := gh_ift h c7
      exact gh_outP C (q := (RJ14, TJ14, 6)) (by rw [c7]; exact gh_cJ14) (List.forall_mem_cons.mpr ⟨Or.inr ⟨by decide, _, q1133, by decide +kernel⟩, (fun _ h => nomatch h)⟩) h hk
    replace h := gh_iff h c7
    exact gh_stk_inv h
  refine gr_istore_n (pc := 17) (i := 3) (l' := [(3, .int v5), (2, va_rf (some a1)), (0, va_rf (some t0)), (1, va_rf (some a4))]) C rfl hl (Nat.le_of_ble_eq_true rfl) rfl dX1_carryOut_17 fun ls hl => ?_
  refine gr_aload_n (pc := 18) (i := 0) C rfl (gl_at hl 2 rfl) dX1_carryOut_18 ?_
  refine gr_aload_n (pc := 19) (i := 2) C rfl (gl_at hl 1 rfl) dX1_carryOut_19 ?_
  obtain ⟨⟨fs9, hg9⟩, h⟩ := gh_is_inv h
  refine gh_callV (pc := 20) (rest := []) C (k_X1_change C.tr t0 (some a1)) (Nat.le_of_ble_eq_true rfl) (Nat.le_of_ble_eq_true rfl) (gh_r4 (Nat.le_of_ble_eq_true rfl)) (fun H9 L9 hp9 => gi_V C hp9 hg9 gh_cX1 q1401 q1403 qs15 q1404 mh_X1 np70 rfl hl.1.1 dX1_carryOut_20 rfl) h (gh_K0_b _ hk) (fun g h => ?_) (fun e g h => ?_)
  rotate_left
  ·
    by_cases c7 : e.1 = 8
    · replace h := gh_ift h c7
      refine gh_catch C (q := (RX9, TX9, 8)) (by rw [c7]; exact gh_cX9) [] ⟨12, 24, 25, 22⟩ [] rfl (fun _ h => nomatch h) rfl (by decide) q1133 q1252 ?_
      exact w_X1_carryOut_25 C t0 (some e.2) (gl_sub hl [2] rfl) h hk
    replace h := gh_iff h c7
    by_cases c7 : e.1 = 17
    · replace h := gh_ift h c7
      exact gh_outP C (q := (RJ20, TJ20, 6)) (by rw [c7]; exact gh_cJ20) (List.forall_mem_cons.mpr ⟨Or.inr ⟨by decide, _, q1133, by decide +kernel⟩, (fun _ h => nomatch h)⟩) h hk
    replace h := gh_iff h c7
    by_cases c7 : e.1 = 16
    · replace h := gh_ift h c7
      exact gh_outP C (q := (RJ14, TJ14, 6)) (by rw [c7]; exact gh_cJ14) (List.forall_mem_cons.mpr ⟨Or.inr ⟨by decide, _, q1133, by decide +kernel⟩, (fun _ h => nomatch h)⟩) h hk
    replace h := gh_iff h c7
    exact gh_stk_inv h
  refine gr_iload_n (pc := 23) (i := 3) C rfl (gl_at hl 0 rfl) dX1_carryOut_23 ?_
  exact gr_iret (pc := 24) C dX1_carryOut_24 h hk

theorem k_X1_carryOut {l : Launch} (hst : l.stackTraces = false) (t0 : Nat) (p1 : Option Nat) : gh_Ct l yX1_carryOut 53 1155 (f_X1_carryOut t0 p1) gh_rI [va_rf (some t0), va_rf p1] := gh_introW2 (L1 := 1140) hst (by decide +kernel) q1132 q75 rfl ⟨gh_cat _, gh_cat _, trivial⟩ (Nat.le_of_ble_eq_true rfl) fun x o ls hl C h hk => w_X1_carryOut C t0 p1 hl h hk
-- GargoyleTower.carve(II)I
noncomputable def f_X1_carve (t0 : Nat) (p1 : Int32) (p2 : Int32) : gh_M Int32 :=
  gh_bd (gh_new 4 4 gh_nX5) fun a1 =>
  gh_bd (gh_cst 1) fun v2 =>
  gh_bd (f_X5_init a1 v2 p1 p2) fun _ =>
  gh_bd (gh_is t0 0) fun _ =>
  gh_bd (f_X1_carryOut t0 (some a1)) fun v4 =>
  gh_ret v4
theorem w_X1_carve {x : gh_C} {g : gh_G} {o : (Int32 ⊕ gh_X) × gh_G} {ls : Array Slot} (C : gh_K x cX1_carve "GargoyleTower" 3 (some .int) "carve" 54 1163 []) (t0 : Nat) (p1 : Int32) (p2 : Int32) (hl : gh_lv ls 3 [(0, va_rf (some t0)), (1, .int p1), (2, .int p2)]) (h : gh_run (f_X1_carve t0 p1 p2) g = some o) (hk : (gh_K0 x gh_rI) o) : gh_Wd x g (F0 (gh_cm x) 0 ls []) := by
  unfold f_X1_carve at h
  refine gr_aload_n (pc := 0) (i := 0) C rfl (gl_at hl 0 rfl) dX1_carve_0 ?_
  refine gr_newo (pc := 1) C gh_bX5 q1106 q1107 q87 gh_dX5 dX1_carve_1 h (gh_K0_b _ hk) fun a1 g h => ?_
  refine gr_dup (pc := 4) C (gh_cat _) dX1_carve_4 ?_
  refine gr_ldcS (pc := 5) C (index := 98) (j := 1) (tx := "carve ") (by decide +kernel) dX1_carve_5 h fun v2 h => ?_
  refine gr_iload_n (pc := 7) (i := 1) C rfl (gl_at hl 1 rfl) dX1_carve_7 ?_
  refine gr_iload_n (pc := 8) (i := 2) C rfl (gl_at hl 2 rfl) dX1_carve_8 ?_
  refine gh_callV (pc := 9) (rest := [va_rf (some a1), va_rf (some t0)]) C (k_X5_init C.tr a1 v2 p1 p2) (Nat.le_of_ble_eq_true rfl) (Nat.le_of_ble_eq_true rfl) (gh_r4 (Nat.le_of_ble_eq_true rfl)) (fun H9 L9 hp9 => gi_I C q1109 rfl q1110 q1111 mh_X5 np65 rfl hl.1.1 dX1_carve_9 rfl) h (gh_K0_b _ hk) (fun g h => ?_) (fun e g h => ?_)
  rotate_left
  ·
    exact gh_out C (fun _ h => nomatch h) h hk
  obtain ⟨⟨fs9, hg9⟩, h⟩ := gh_is_inv h
  refine gh_callI (pc := 12) (rest := []) C (k_X1_carryOut C.tr t0 (some a1)) (Nat.le_of_ble_eq_true rfl) (Nat.le_of_ble_eq_true rfl) (gh_r4 (Nat.le_of_ble_eq_true rfl)) (fun H9 L9 hp9 => gi_VX C hp9 hg9 gh_cX1 q1129 q1131 qs9 q1132 mh_X1 np80 rfl hl.1.1 dX1_carve_12 rfl) h (gh_K0_b _ hk) (fun v4 g h => ?_) (fun e g h => ?_)
  rotate_left
  ·
    exact gh_out C (fun _ h => nomatch h) h hk
  exact gr_iret (pc := 15) C dX1_carve_15 h hk

theorem k_X1_carve {l : Launch} (hst : l.stackTraces = false) (t0 : Nat) (p1 : Int32) (p2 : Int32) : gh_Ct l yX1_carve 54 1177 (f_X1_carve t0 p1 p2) gh_rI [va_rf (some t0), .int p1, .int p2] := gh_intro2 (L1 := 1163) hst (by decide +kernel) q1501 q75 rfl ⟨gh_cat _, rfl, rfl, trivial⟩ (Nat.le_of_ble_eq_true rfl) fun x o ls hl C h hk => w_X1_carve C t0 p1 p2 hl h hk
-- GargoyleTower.whet()I
noncomputable def f_X1_whet (t0 : Nat) : gh_M Int32 :=
  gh_bd (gh_new 4 4 gh_nX5) fun a1 =>
  gh_bd (gh_cst 2) fun v2 =>
  gh_bd (f_X5_init a1 v2 (0 : Int32) (0 : Int32)) fun _ =>
  gh_bd (gh_is t0 0) fun _ =>
  gh_bd (f_X1_carryOut t0 (some a1)) fun v4 =>
  gh_ret v4
theorem w_X1_whet {x : gh_C} {g : gh_G} {o : (Int32 ⊕ gh_X) × gh_G} {ls : Array Slot} (C : gh_K x cX1_whet "GargoyleTower" 1 (some .int) "whet" 54 1163 []) (t0 : Nat) (hl : gh_lv ls 1 [(0, va_rf (some t0))]) (h : gh_run (f_X1_whet t0) g = some o) (hk : (gh_K0 x gh_rI) o) : gh_Wd x g (F0 (gh_cm x) 0 ls []) := by
  unfold f_X1_whet at h
  refine gr_aload_n (pc := 0) (i := 0) C rfl (gl_at hl 0 rfl) dX1_whet_0 ?_
  refine gr_newo (pc := 1) C gh_bX5 q1106 q1107 q87 gh_dX5 dX1_whet_1 h (gh_K0_b _ hk) fun a1 g h => ?_
  refine gr_dup (pc := 4) C (gh_cat _) dX1_whet_4 ?_
  refine gr_ldcS (pc := 5) C (index := 100) (j := 2) (tx := "whet") (by decide +kernel) dX1_whet_5 h fun v2 h => ?_
  refine gr_iconst (pc := 7) (v := (0 : Int32)) C rfl dX1_whet_7 ?_
  refine gr_iconst (pc := 8) (v := (0 : Int32)) C rfl dX1_whet_8 ?_
  refine gh_callV (pc := 9) (rest := [va_rf (some a1), va_rf (some t0)]) C (k_X5_init C.tr a1 v2 (0 : Int32) (0 : Int32)) (Nat.le_of_ble_eq_true rfl) (Nat.le_of_ble_eq_true rfl) (gh_r4 (Nat.le_of_ble_eq_true rfl)) (fun H9 L9 hp9 => gi_I C q1109 rfl q1110 q1111 mh_X5 np65 rfl hl.1.1 dX1_whet_9 rfl) h (gh_K0_b _ hk) (fun g h => ?_) (fun e g h => ?_)
  rotate_left
  ·
    exact gh_out C (fun _ h => nomatch h) h hk
  obtain ⟨⟨fs9, hg9⟩, h⟩ := gh_is_inv h
  refine gh_callI (pc := 12) (rest := []) C (k_X1_carryOut C.tr t0 (some a1)) (Nat.le_of_ble_eq_true rfl) (Nat.le_of_ble_eq_true rfl) (gh_r4 (Nat.le_of_ble_eq_true rfl)) (fun H9 L9 hp9 => gi_VX C hp9 hg9 gh_cX1 q1129 q1131 qs9 q1132 mh_X1 np80 rfl hl.1.1 dX1_whet_12 rfl) h (gh_K0_b _ hk) (fun v4 g h => ?_) (fun e g h => ?_)
  rotate_left
  ·
    exact gh_out C (fun _ h => nomatch h) h hk
  exact gr_iret (pc := 15) C dX1_whet_15 h hk

theorem k_X1_whet {l : Launch} (hst : l.stackTraces = false) (t0 : Nat) : gh_Ct l yX1_whet 54 1175 (f_X1_whet t0) gh_rI [va_rf (some t0)] := gh_intro2 (L1 := 1163) hst (by decide +kernel) q1509 q75 rfl ⟨gh_cat _, trivial⟩ (Nat.le_of_ble_eq_true rfl) fun x o ls hl C h hk => w_X1_whet C t0 hl h hk
-- GargoyleTower.ranked(I)I
def gp_X1_ranked_19 (x : gh_C) (u19_1 : Int32) (u19_2 : Option Nat) (u19_3 : Option Nat) (st : Unit) (g : gh_G) : Prop := ∀ ls : Array Slot, gh_lv ls 6 [(1, .int u19_1), (2, va_rf u19_2), (3, va_rf u19_3)] → gh_Wd x g (F0 (gh_cm x) 19 ls [])
def gp_X1_ranked_51 (x : gh_C) (u19_1 : Int32) (u19_2 : Option Nat) (u19_3 : Option Nat) (u51_4 : Option Nat) (st : Int32) (g : gh_G) : Prop := ∀ ls : Array Slot, gh_lv ls 6 [(1, .int u19_1), (2, va_rf u19_2), (3, va_rf u19_3), (4, va_rf u51_4), (5, .int st)] → gh_Wd x g (F0 (gh_cm x) 51 ls [])
noncomputable def f_X1_ranked_91 (u19_1 : Int32) (u19_2 : Option Nat) (u19_3 : Option Nat) : gh_M ((Unit) ⊕ Int32) :=
  gh_ret (.inl ())
theorem w_X1_ranked_91 {x : gh_C} {g : gh_G} {o : (((Unit) ⊕ Int32) ⊕ gh_X) × gh_G} {ls : Array Slot} (C : gh_K x cX1_ranked "GargoyleTower" 6 (some .int) "ranked" 8 130 []) (u19_1 : Int32) (u19_2 : Option Nat) (u19_3 : Option Nat) (hl : gh_lv ls 6 [(1, .int u19_1), (2, va_rf u19_2), (3, va_rf u19_3)]) (h : gh_run (f_X1_ranked_91 u19_1 u19_2 u19_3) g = some o) (hk : (gh_K1 x (gh_K0 x gh_rI) (gp_X1_ranked_19 x u19_1 u19_2 u19_3)) o) : gh_Wd x g (F0 (gh_cm x) 91 ls []) := by
  unfold f_X1_ranked_91 at h
  refine gr_goto (pc := 91) (tgt := 19) C rfl dX1_ranked_91 ?_
  exact gh_K1_in h hk ls (gl_sub hl [0, 1, 2] rfl)

noncomputable def f_X1_ranked_83 (u19_1 : Int32) (u19_2 : Option Nat) (u19_3 : Option Nat) (p4 : Option Nat) (p5 : Int32) : gh_M ((Unit) ⊕ Int32) :=
  gh_nn u19_2 fun a1 =>
  gh_bd (gh_is a1 21) fun _ =>
  gh_bd (f_J26_add a1 p5 p4) fun _ =>
  f_X1_ranked_91 u19_1 (some a1) u19_3
theorem w_X1_ranked_83 {x : gh_C} {g : gh_G} {o : (((Unit) ⊕ Int32) ⊕ gh_X) × gh_G} {ls : Array Slot} (C : gh_K x cX1_ranked "GargoyleTower" 6 (some .int) "ranked" 8 130 []) (u19_1 : Int32) (u19_2 : Option Nat) (u19_3 : Option Nat) (p4 : Option Nat) (p5 : Int32) (hl : gh_lv ls 6 [(1, .int u19_1), (2, va_rf u19_2), (3, va_rf u19_3), (4, va_rf p4), (5, .int p5)]) (h : gh_run (f_X1_ranked_83 u19_1 u19_2 u19_3 p4 p5) g = some o) (hk : (gh_K1 x (gh_K0 x gh_rI) (gp_X1_ranked_19 x u19_1 u19_2 u19_3)) o) : gh_Wd x g (F0 (gh_cm x) 83 ls []) := by
  unfold f_X1_ranked_83 at h
  refine gr_aload_n (pc := 83) (i := 2) C rfl (gl_at hl 1 rfl) dX1_ranked_83 ?_
  refine gr_iload (pc := 84) (i := 5) C (gl_at hl 4 rfl) dX1_ranked_84 ?_
  refine gr_aload (pc := 86) (i := 4) C (gl_at hl 3 rfl) dX1_ranked_86 ?_
  rcases u19_2 with _ | a1
  · exact gh_stk_inv h
  replace h := gh_nn_ss h
  obtain ⟨⟨fs9, hg9⟩, h⟩ := gh_is_inv h
  refine gh_callV (pc := 88) (rest := []) C (k_J26_add C.tr a1 p5 p4) (Nat.le_of_ble_eq_true rfl) (Nat.le_of_ble_eq_true rfl) (gh_r4 (Nat.le_of_ble_eq_true rfl)) (fun H9 L9 hp9 => gi_V C hp9 hg9 gh_cJ26 q1553 q1554 q1555 q1556 mh_J26 np71 rfl hl.1.1 dX1_ranked_88 rfl) h ((gh_K1_b gh_K0_b) _ hk) (fun g h => ?_) (fun e g h => ?_)
  rotate_left
  ·
    obtain ⟨o, h, hk⟩ := gh_K1_thr h hk
    exact gh_out C (fun _ h => nomatch h) h hk
  exact w_X1_ranked_91 C u19_1 (some a1) u19_3 (gl_sub hl [0, 1, 2] rfl) h hk

noncomputable def f_X1_ranked_51_l (u19_1 : Int32) (u19_2 : Option Nat) (u19_3 : Option Nat) (u51_4 : Option Nat) (p5 : Int32) : gh_M ((Int32) ⊕ ((Unit) ⊕ Int32)) :=
  gh_nn u19_2 fun a1 =>
  gh_bd (gh_is a1 21) fun _ =>
  gh_bd (f_J26_size a1) fun v2 =>
  if v2 ≤ p5 then
  (gh_up (f_X1_ranked_83 u19_1 (some a1) u19_3 u51_4 p5))
  else
  (gh_bd (gh_is a1 21) fun _ =>
  gh_bd (f_J26_get a1 p5) fun v3 =>
  gh_nn v3 fun a4 =>
  gh_bd (gh_is a4 5) fun _ =>
  gh_bd (f_X1_isAhead u51_4 (some a4)) fun v5 =>
  if v5 = 0 then
  (gh_ret (.inl (p5 + (1 : Int32))))
  else
  (gh_up (f_X1_ranked_83 u19_1 (some a1) u19_3 u51_4 p5)))
theorem w_X1_ranked_51_l {x : gh_C} {g : gh_G} {o : (((Int32) ⊕ ((Unit) ⊕ Int32)) ⊕ gh_X) × gh_G} {ls : Array Slot} (C : gh_K x cX1_ranked "GargoyleTower" 6 (some .int) "ranked" 8 130 []) (u19_1 : Int32) (u19_2 : Option Nat) (u19_3 : Option Nat) (u51_4 : Option Nat) (p5 : Int32) (hl : gh_lv ls 6 [(1, .int u19_1), (2, va_rf u19_2), (3, va_rf u19_3), (4, va_rf u51_4), (5, .int p5)]) (h : gh_run (f_X1_ranked_51_l u19_1 u19_2 u19_3 u51_4 p5) g = some o) (hk : (gh_K1 x (gh_K1 x (gh_K0 x gh_rI) (gp_X1_ranked_19 x u19_1 u19_2 u19_3)) (gp_X1_ranked_51 x u19_1 u19_2 u19_3 u51_4)) o) : gh_Wd x g (F0 (gh_cm x) 51 ls []) := by
  unfold f_X1_ranked_51_l at h
  refine gr_iload (pc := 51) (i := 5) C (gl_at hl 4 rfl) dX1_ranked_51 ?_
  refine gr_aload_n (pc := 53) (i := 2) C rfl (gl_at hl 1 rfl) dX1_ranked_53 ?_
  rcases u19_2 with _ | a1
  · exact gh_stk_inv h
  replace h := gh_nn_ss h
  obtain ⟨⟨fs9, hg9⟩, h⟩ := gh_is_inv h
  refine gh_callI (pc := 54) (rest := [.int p5]) C (k_J26_size C.tr a1) (Nat.le_of_ble_eq_true rfl) (Nat.le_of_ble_eq_true rfl) (gh_r4 (Nat.le_of_ble_eq_true rfl)) (fun H9 L9 hp9 => gi_V C hp9 hg9 gh_cJ26 q1548 q350 q2727 q351 mh_J26 np0 rfl hl.1.1 dX1_ranked_54 rfl) h ((gh_K1_b (gh_K1_b gh_K0_b)) _ hk) (fun v2 g h => ?_) (fun e g h => ?_)
  rotate_left
  ·
    obtain ⟨o, h, hk⟩ := gh_K1_thr h hk
    obtain ⟨o, h, hk⟩ := gh_K1_thr h hk
    exact gh_out C (fun _ h => nomatch h) h hk
  refine gr_icmp_ge (pc := 57) (tgt := 83) C rfl dX1_ranked_57 (fun c9 => ?_) (fun c9 => ?_)
  · replace h := gh_ift h c9
    obtain ⟨o, h, hk⟩ := gh_K1_up h hk
    exact w_X1_ranked_83 C u19_1 (some a1) u19_3 u51_4 p5 (gl_sub hl [0, 1, 2, 3, 4] rfl) h hk
  · replace h := gh_iff h c9
    refine gr_aload (pc := 60) (i := 4) C (gl_at hl 3 rfl) dX1_ranked_60 ?_
    refine gr_aload_n (pc := 62) (i := 2) C rfl (gl_at hl 1 rfl) dX1_ranked_62 ?_
    refine gr_iload (pc := 63) (i := 5) C (gl_at hl 4 rfl) dX1_ranked_63 ?_
    obtain ⟨⟨fs9, hg9⟩, h⟩ := gh_is_inv h
    refine gh_callQ (pc := 65) (rest := [va_rf u51_4]) C (k_J26_get C.tr a1 p5) (Nat.le_of_ble_eq_true rfl) (Nat.le_of_ble_eq_true rfl) (gh_r4 (Nat.le_of_ble_eq_true rfl)) (fun H9 L9 hp9 => gi_V C hp9 hg9 gh_cJ26 q1549 q398 q2728 q399 mh_J26 np21 rfl hl.1.1 dX1_ranked_65 rfl) h ((gh_K1_b (gh_K1_b gh_K0_b)) _ hk) (fun v3 g h => ?_) (fun e g h => ?_)
    rotate_left
    ·
      obtain ⟨o, h, hk⟩ := gh_K1_thr h hk
      obtain ⟨o, h, hk⟩ := gh_K1_thr h hk
      exact gh_out C (fun _ h => nomatch h) h hk
    rcases v3 with _ | a4
    · exact gh_stk_inv h
    replace h := gh_nn_ss h
    obtain ⟨⟨fs9, hg9⟩, h⟩ := gh_is_inv h
    refine gr_castY (pc := 68) C gh_cX6 q877 (Or.inl rfl) dX1_ranked_68 hg9 ?_
    refine gh_callI (pc := 71) (rest := []) C (k_X1_isAhead C.tr u51_4 (some a4)) (Nat.le_of_ble_eq_true rfl) (Nat.le_of_ble_eq_true rfl) (gh_r4 (Nat.le_of_ble_eq_true rfl)) (fun H9 L9 hp9 => gi_S C q1550 q1551 q75 q1552 mh_X1 np81 rfl hl.1.1 dX1_ranked_71 rfl) h ((gh_K1_b (gh_K1_b gh_K0_b)) _ hk) (fun v5 g h => ?_) (fun e g h => ?_)
    rotate_left
    ·
      obtain ⟨o, h, hk⟩ := gh_K1_thr h hk
      obtain ⟨o, h, hk⟩ := gh_K1_thr h hk
      exact gh_out C (fun _ h => nomatch h) h hk
    refine gr_if_ne (pc := 74) (tgt := 83) C rfl dX1_ranked_74 (fun c9 => ?_) (fun c9 => ?_)
    · replace h := gh_iff h c9
      obtain ⟨o, h, hk⟩ := gh_K1_up h hk
      exact w_X1_ranked_83 C u19_1 (some a1) u19_3 u51_4 p5 (gl_sub hl [0, 1, 2, 3, 4] rfl) h hk
    · replace h := gh_ift h c9
      refine gr_iinc (pc := 77) (i := 5) (z := 4) (v := p5 + (1 : Int32)) (l' := [(5, .int (p5 + (1 : Int32))), (1, .int u19_1), (2, va_rf (some a1)), (3, va_rf u19_3), (4, va_rf u51_4)]) C hl rfl rfl (Nat.le_of_ble_eq_true rfl) rfl dX1_ranked_77 fun ls hl => ?_
      refine gr_goto (pc := 80) (tgt := 51) C rfl dX1_ranked_80 ?_
      exact gh_K1_in h hk ls (gl_sub hl [1, 2, 3, 4, 0] rfl)

noncomputable def f_X1_ranked_51 (u19_1 : Int32) (u19_2 : Option Nat) (u19_3 : Option Nat) (p4 : Option Nat) (p5 : Int32) : gh_M ((Unit) ⊕ Int32) := gh_it (fun st : Int32 => f_X1_ranked_51_l u19_1 u19_2 u19_3 p4 st) (p5)
theorem w_X1_ranked_51 {x : gh_C} {g : gh_G} {o : (((Unit) ⊕ Int32) ⊕ gh_X) × gh_G} {ls : Array Slot} (C : gh_K x cX1_ranked "GargoyleTower" 6 (some .int) "ranked" 8 130 []) (u19_1 : Int32) (u19_2 : Option Nat) (u19_3 : Option Nat) (p4 : Option Nat) (p5 : Int32) (hl : gh_lv ls 6 [(1, .int u19_1), (2, va_rf u19_2), (3, va_rf u19_3), (4, va_rf p4), (5, .int p5)]) (h : gh_run (f_X1_ranked_51 u19_1 u19_2 u19_3 p4 p5) g = some o) (hk : (gh_K1 x (gh_K0 x gh_rI) (gp_X1_ranked_19 x u19_1 u19_2 u19_3)) o) : gh_Wd x g (F0 (gh_cm x) 51 ls []) := by
  unfold f_X1_ranked_51 at h
  exact gh_loop (gh_K1_b gh_K0_b) (fun st : Int32 => f_X1_ranked_51_l u19_1 u19_2 u19_3 p4 st) (gp_X1_ranked_51 x u19_1 u19_2 u19_3 p4) (fun st g o h hk ls hl => w_X1_ranked_51_l C u19_1 u19_2 u19_3 p4 st hl h hk) _ g o h hk ls hl
noncomputable def f_X1_ranked_19_l (u19_1 : Int32) (u19_2 : Option Nat) (u19_3 : Option Nat) : gh_M ((Unit) ⊕ Int32) :=
  gh_nn u19_3 fun a1 =>
  gh_bd (gh_is a1 15) fun _ =>
  gh_bd (f_J8_hasNext a1) fun v2 =>
  if v2 = 0 then
  (gh_nn u19_2 fun a3 =>
  gh_bd (gh_is a3 21) fun _ =>
  gh_bd (f_J26_size a3) fun v4 =>
  gh_bd (f_X1_inRange u19_1 (0 : Int32) (v4 - (1 : Int32))) fun v5 =>
  gh_bd (f_X1_checkFound v5) fun _ =>
  gh_bd (gh_is a3 21) fun _ =>
  gh_bd (f_J26_get a3 u19_1) fun v7 =>
  gh_nn v7 fun a8 =>
  gh_bd (gh_is a8 5) fun _ =>
  gh_bd (gh_geti a8 5 0) fun v9 =>
  gh_up (gh_ret v9))
  else
  (gh_bd (gh_is a1 15) fun _ =>
  gh_bd (f_J8_next a1) fun v10 =>
  gh_nn v10 fun a11 =>
  gh_bd (gh_is a11 5) fun _ =>
  gh_bd (gh_geti a11 5 5) fun v12 =>
  if v12 = (3 : Int32) then
  (f_X1_ranked_91 u19_1 u19_2 (some a1))
  else
  (f_X1_ranked_51 u19_1 u19_2 (some a1) (some a11) (0 : Int32)))
theorem w_X1_ranked_19_l {x : gh_C} {g : gh_G} {o : (((Unit) ⊕ Int32) ⊕ gh_X) × gh_G} {ls : Array Slot} (C : gh_K x cX1_ranked "GargoyleTower" 6 (some .int) "ranked" 8 130 []) (u19_1 : Int32) (u19_2 : Option Nat) (u19_3 : Option Nat) (hl : gh_lv ls 6 [(1, .int u19_1), (2, va_rf u19_2), (3, va_rf u19_3)]) (h : gh_run (f_X1_ranked_19_l u19_1 u19_2 u19_3) g = some o) (hk : (gh_K1 x (gh_K0 x gh_rI) (gp_X1_ranked_19 x u19_1 u19_2 u19_3)) o) : gh_Wd x g (F0 (gh_cm x) 19 ls []) := by
  unfold f_X1_ranked_19_l at h
  refine gr_aload_n (pc := 19) (i := 3) C rfl (gl_at hl 2 rfl) dX1_ranked_19 ?_
  rcases u19_3 with _ | a1
  · exact gh_stk_inv h
  replace h := gh_nn_ss h
  obtain ⟨⟨fs9, hg9⟩, h⟩ := gh_is_inv h
  refine gh_callI (pc := 20) (rest := []) C (k_J8_hasNext C.tr a1) (Nat.le_of_ble_eq_true rfl) (Nat.le_of_ble_eq_true rfl) (gh_r4 (Nat.le_of_ble_eq_true rfl)) (fun H9 L9 hp9 => gi_F C hp9 hg9 gh_cJ8 q334 q336 (by decide +kernel) q353 q355 q356 q354 q352 q357 mh_java_util_Iterator np7 rfl hl.1.1 dX1_ranked_20 rfl) h ((gh_K1_b gh_K0_b) _ hk) (fun v2 g h => ?_) (fun e g h => ?_)
  rotate_left
  ·
    obtain ⟨o, h, hk⟩ := gh_K1_thr h hk
    exact gh_out C (fun _ h => nomatch h) h hk
  refine gr_if_eq (pc := 25) (tgt := 94) C rfl dX1_ranked_25 (fun c9 => ?_) (fun c9 => ?_)
  · replace h := gh_ift h c9
    refine gr_iload_n (pc := 94) (i := 1) C rfl (gl_at hl 0 rfl) dX1_ranked_94 ?_
    refine gr_iconst (pc := 95) (v := (0 : Int32)) C rfl dX1_ranked_95 ?_
    refine gr_aload_n (pc := 96) (i := 2) C rfl (gl_at hl 1 rfl) dX1_ranked_96 ?_
    rcases u19_2 with _ | a3
    · exact gh_stk_inv h
    replace h := gh_nn_ss h
    obtain ⟨⟨fs9, hg9⟩, h⟩ := gh_is_inv h
    refine gh_callI (pc := 97) (rest := [.int (0 : Int32), .int u19_1]) C (k_J26_size C.tr a3) (Nat.le_of_ble_eq_true rfl) (Nat.le_of_ble_eq_true rfl) (gh_r4 (Nat.le_of_ble_eq_true rfl)) (fun H9 L9 hp9 => gi_V C hp9 hg9 gh_cJ26 q1548 q350 q2727 q351 mh_J26 np0 rfl hl.1.1 dX1_ranked_97 rfl) h ((gh_K1_b gh_K0_b) _ hk) (fun v4 g h => ?_) (fun e g h => ?_)
    rotate_left
    ·
      obtain ⟨o, h, hk⟩ := gh_K1_thr h hk
      exact gh_out C (fun _ h => nomatch h) h hk
    refine gr_iconst (pc := 100) (v := (1 : Int32)) C rfl dX1_ranked_100 ?_
    refine gr_isub (pc := 101) C dX1_ranked_101 ?_
    refine gh_callI (pc := 102) (rest := []) C (k_X1_inRange C.tr u19_1 (0 : Int32) (v4 - (1 : Int32))) (Nat.le_of_ble_eq_true rfl) (Nat.le_of_ble_eq_true rfl) (gh_r4 (Nat.le_of_ble_eq_true rfl)) (fun H9 L9 hp9 => gi_S C q1230 q1231 q75 q1232 mh_X1 np54 rfl hl.1.1 dX1_ranked_102 rfl) h ((gh_K1_b gh_K0_b) _ hk) (fun v5 g h => ?_) (fun e g h => ?_)
    rotate_left
    ·
      obtain ⟨o, h, hk⟩ := gh_K1_thr h hk
      exact gh_out C (fun _ h => nomatch h) h hk
    refine gh_callV (pc := 105) (rest := []) C (k_X1_checkFound C.tr v5) (Nat.le_of_ble_eq_true rfl) (Nat.le_of_ble_eq_true rfl) (gh_r4 (Nat.le_of_ble_eq_true rfl)) (fun H9 L9 hp9 => gi_S C q1594 q1595 q75 q1596 mh_X1 np55 rfl hl.1.1 dX1_ranked_105 rfl) h ((gh_K1_b gh_K0_b) _ hk) (fun g h => ?_) (fun e g h => ?_)
    rotate_left
    ·
      obtain ⟨o, h, hk⟩ := gh_K1_thr h hk
      exact gh_out C (fun _ h => nomatch h) h hk
    refine gr_aload_n (pc := 108) (i := 2) C rfl (gl_at hl 1 rfl) dX1_ranked_108 ?_
    refine gr_iload_n (pc := 109) (i := 1) C rfl (gl_at hl 0 rfl) dX1_ranked_109 ?_
    obtain ⟨⟨fs9, hg9⟩, h⟩ := gh_is_inv h
    refine gh_callQ (pc := 110) (rest := []) C (k_J26_get C.tr a3 u19_1) (Nat.le_of_ble_eq_true rfl) (Nat.le_of_ble_eq_true rfl) (gh_r4 (Nat.le_of_ble_eq_true rfl)) (fun H9 L9 hp9 => gi_V C hp9 hg9 gh_cJ26 q1549 q398 q2728 q399 mh_J26 np21 rfl hl.1.1 dX1_ranked_110 rfl) h ((gh_K1_b gh_K0_b) _ hk) (fun v7 g h => ?_) (fun e g h => ?_)
    rotate_left
    ·
      obtain ⟨o, h, hk⟩ := gh_K1_thr h hk
      exact gh_out C (fun _ h => nomatch h) h hk
    rcases v7 with _ | a8
    · exact gh_stk_inv h
    replace h := gh_nn_ss h
    obtain ⟨⟨fs9, hg9⟩, h⟩ := gh_is_inv h
    refine gr_castY (pc := 113) C gh_cX6 q877 (Or.inl rfl) dX1_ranked_113 hg9 ?_
    refine gr_getiN (pc := 116) C gh_bX6 (k := 0) (Nat.le_of_ble_eq_true rfl) q976 (fun _ h => h) dX1_ranked_116 h fun v9 h => ?_
    obtain ⟨o, h, hk⟩ := gh_K1_up h hk
    exact gr_iret (pc := 119) C dX1_ranked_119 h hk
  · replace h := gh_iff h c9
    refine gr_aload_n (pc := 28) (i := 3) C rfl (gl_at hl 2 rfl) dX1_ranked_28 ?_
    obtain ⟨⟨fs9, hg9⟩, h⟩ := gh_is_inv h
    refine gh_callQ (pc := 29) (rest := []) C (k_J8_next C.tr a1) (Nat.le_of_ble_eq_true rfl) (Nat.le_of_ble_eq_true rfl) (gh_r4 (Nat.le_of_ble_eq_true rfl)) (fun H9 L9 hp9 => gi_F C hp9 hg9 gh_cJ8 q368 q370 (by decide +kernel) q826 q828 q829 q827 q352 q830 mh_java_util_Iterator np23 rfl hl.1.1 dX1_ranked_29 rfl) h ((gh_K1_b gh_K0_b) _ hk) (fun v10 g h => ?_) (fun e g h => ?_)
    rotate_left
    ·
      obtain ⟨o, h, hk⟩ := gh_K1_thr h hk
      exact gh_out C (fun _ h => nomatch h) h hk
    rcases v10 with _ | a11
    · exact gh_stk_inv h
    replace h := gh_nn_ss h
    obtain ⟨⟨fs9, hg9⟩, h⟩ := gh_is_inv h
    refine gr_castY (pc := 34) C gh_cX6 q877 (Or.inl rfl) dX1_ranked_34 hg9 ?_
    refine gr_astore (pc := 37) (i := 4) (l' := [(4, va_rf (some a11)), (1, .int u19_1), (2, va_rf u19_2), (3, va_rf (some a1))]) C hl (Nat.le_of_ble_eq_true rfl) rfl dX1_ranked_37 fun ls hl => ?_
    refine gr_aload (pc := 39) (i := 4) C (gl_at hl 0 rfl) dX1_ranked_39 ?_
    refine gr_getiN (pc := 41) C gh_bX6 (k := 5) (Nat.le_of_ble_eq_true rfl) q991 (fun _ h => h) dX1_ranked_41 h fun v12 h => ?_
    refine gr_iconst (pc := 44) (v := (3 : Int32)) C rfl dX1_ranked_44 ?_
    refine gr_icmp_eq (pc := 45) (tgt := 91) C rfl dX1_ranked_45 (fun c9 => ?_) (fun c9 => ?_)
    · replace h := gh_ift h c9
      exact w_X1_ranked_91 C u19_1 u19_2 (some a1) (gl_sub hl [1, 2, 3] rfl) h hk
    · replace h := gh_iff h c9
      refine gr_iconst (pc := 48) (v := (0 : Int32)) C rfl dX1_ranked_48 ?_
      refine gr_istore (pc := 49) (i := 5) (l' := [(5, .int (0 : Int32)), (4, va_rf (some a11)), (1, .int u19_1), (2, va_rf u19_2), (3, va_rf (some a1))]) C hl (Nat.le_of_ble_eq_true rfl) rfl dX1_ranked_49 fun ls hl => ?_
      exact w_X1_ranked_51 C u19_1 u19_2 (some a1) (some a11) (0 : Int32) (gl_sub hl [2, 3, 4, 1, 0] rfl) h hk

noncomputable def f_X1_ranked_19 (p1 : Int32) (p2 : Option Nat) (p3 : Option Nat) : gh_M Int32 := gh_it (fun st : Unit => f_X1_ranked_19_l p1 p2 p3) ()
theorem w_X1_ranked_19 {x : gh_C} {g : gh_G} {o : (Int32 ⊕ gh_X) × gh_G} {ls : Array Slot} (C : gh_K x cX1_ranked "GargoyleTower" 6 (some .int) "ranked" 8 130 []) (p1 : Int32) (p2 : Option Nat) (p3 : Option Nat) (hl : gh_lv ls 6 [(1, .int p1), (2, va_rf p2), (3, va_rf p3)]) (h : gh_run (f_X1_ranked_19 p1 p2 p3) g = some o) (hk : (gh_K0 x gh_rI) o) : gh_Wd x g (F0 (gh_cm x) 19 ls []) := by
  unfold f_X1_ranked_19 at h
  exact gh_loop gh_K0_b (fun st : Unit => f_X1_ranked_19_l p1 p2 p3) (gp_X1_ranked_19 x p1 p2 p3) (fun st g o h hk ls hl => w_X1_ranked_19_l C p1 p2 p3 hl h hk) _ g o h hk ls hl
noncomputable def f_X1_ranked (t0 : Nat) (p1 : Int32) : gh_M Int32 :=
  gh_bd (gh_new 21 4 gh_nJ26) fun a1 =>
  gh_bd (f_J26_init a1) fun _ =>
  gh_bd (gh_getr t0 0 0) fun v3 =>
  gh_nn v3 fun a4 =>
  gh_bd (gh_getr a4 1 6) fun v5 =>
  gh_nn v5 fun a6 =>
  gh_bd (gh_is a6 11) fun _ =>
  gh_bd (f_J2_iterator a6) fun v7 =>
  f_X1_ranked_19 p1 (some a1) v7
theorem w_X1_ranked {x : gh_C} {g : gh_G} {o : (Int32 ⊕ gh_X) × gh_G} {ls : Array Slot} (C : gh_K x cX1_ranked "GargoyleTower" 6 (some .int) "ranked" 8 130 []) (t0 : Nat) (p1 : Int32) (hl : gh_lv ls 6 [(0, va_rf (some t0)), (1, .int p1)]) (h : gh_run (f_X1_ranked t0 p1) g = some o) (hk : (gh_K0 x gh_rI) o) : gh_Wd x g (F0 (gh_cm x) 0 ls []) := by
  unfold f_X1_ranked at h
  refine gr_newo (pc := 0) C gh_bJ26 q1528 q403 q114 gh_dJ26 dX1_ranked_0 h (gh_K0_b _ hk) fun a1 g h => ?_
  refine gr_dup (pc := 3) C (gh_cat _) dX1_ranked_3 ?_
  refine gh_callV (pc := 4) (rest := [va_rf (some a1)]) C (k_J26_init C.tr a1) (Nat.le_of_ble_eq_true rfl) (Nat.le_of_ble_eq_true rfl) (gh_r4 (Nat.le_of_ble_eq_true rfl)) (fun H9 L9 hp9 => gi_I C q1529 rfl q1530 q1531 mh_J26 np8 rfl hl.1.1 dX1_ranked_4 rfl) h (gh_K0_b _ hk) (fun g h => ?_) (fun e g h => ?_)
  rotate_left
  ·
    exact gh_out C (fun _ h => nomatch h) h hk
  refine gr_astore_n (pc := 7) (i := 2) (l' := [(2, va_rf (some a1)), (0, va_rf (some t0)), (1, .int p1)]) C rfl hl (Nat.le_of_ble_eq_true rfl) rfl dX1_ranked_7 fun ls hl => ?_
  refine gr_aload_n (pc := 8) (i := 0) C rfl (gl_at hl 1 rfl) dX1_ranked_8 ?_
  refine gr_getr (pc := 9) C gh_bX1 (k := 0) (Nat.le_of_ble_eq_true rfl) q271 (fun _ h => h) dX1_ranked_9 h fun v3 h => ?_
  rcases v3 with _ | a4
  · exact gh_stk_inv h
  replace h := gh_nn_ss h
  refine gr_getrN (pc := 12) C gh_bX2 (k := 6) (Nat.le_of_ble_eq_true rfl) q196 (fun _ h => h) dX1_ranked_12 h fun v5 h => ?_
  rcases v5 with _ | a6
  · exact gh_stk_inv h
  replace h := gh_nn_ss h
  obtain ⟨⟨fs9, hg9⟩, h⟩ := gh_is_inv h
  refine gh_callQ (pc := 15) (rest := []) C (k_J2_iterator C.tr a6) (Nat.le_of_ble_eq_true rfl) (Nat.le_of_ble_eq_true rfl) (gh_r4 (Nat.le_of_ble_eq_true rfl)) (fun H9 L9 hp9 => gi_V C hp9 hg9 gh_cJ2 q308 q309 q310 q311 mh_J2 np46 rfl hl.1.1 dX1_ranked_15 rfl) h (gh_K0_b _ hk) (fun v7 g h => ?_) (fun e g h => ?_)
  rotate_left
  ·
    exact gh_out C (fun _ h => nomatch h) h hk
  refine gr_astore_n (pc := 18) (i := 3) (l' := [(3, va_rf v7), (2, va_rf (some a1)), (0, va_rf (some t0)), (1, .int p1)]) C rfl hl (Nat.le_of_ble_eq_true rfl) rfl dX1_ranked_18 fun ls hl => ?_
  exact w_X1_ranked_19 C p1 (some a1) v7 (gl_sub hl [3, 1, 0] rfl) h hk

theorem k_X1_ranked {l : Launch} (hst : l.stackTraces = false) (t0 : Nat) (p1 : Int32) : gh_Ct l yX1_ranked 8 147 (f_X1_ranked t0 p1) gh_rI [va_rf (some t0), .int p1] := gh_intro2 (L1 := 130) hst (by decide +kernel) q1527 q75 rfl ⟨gh_cat _, rfl, trivial⟩ (Nat.le_of_ble_eq_true rfl) fun x o ls hl C h hk => w_X1_ranked C t0 p1 hl h hk
-- GargoyleTower.rope(I)I
noncomputable def f_X1_rope (t0 : Nat) (p1 : Int32) : gh_M Int32 :=
  gh_bd (gh_new 4 4 gh_nX5) fun a1 =>
  gh_bd (gh_cst 3) fun v2 =>
  gh_bd (f_X5_init a1 v2 p1 (0 : Int32)) fun _ =>
  gh_bd (gh_is t0 0) fun _ =>
  gh_bd (f_X1_carryOut t0 (some a1)) fun v4 =>
  gh_ret v4
theorem w_X1_rope {x : gh_C} {g : gh_G} {o : (Int32 ⊕ gh_X) × gh_G} {ls : Array Slot} (C : gh_K x cX1_rope "GargoyleTower" 2 (some .int) "rope" 54 1163 []) (t0 : Nat) (p1 : Int32) (hl : gh_lv ls 2 [(0, va_rf (some t0)), (1, .int p1)]) (h : gh_run (f_X1_rope t0 p1) g = some o) (hk : (gh_K0 x gh_rI) o) : gh_Wd x g (F0 (gh_cm x) 0 ls []) := by
  unfold f_X1_rope at h
  refine gr_aload_n (pc := 0) (i := 0) C rfl (gl_at hl 0 rfl) dX1_rope_0 ?_
  refine gr_newo (pc := 1) C gh_bX5 q1106 q1107 q87 gh_dX5 dX1_rope_1 h (gh_K0_b _ hk) fun a1 g h => ?_
  refine gr_dup (pc := 4) C (gh_cat _) dX1_rope_4 ?_
  refine gr_ldcS (pc := 5) C (index := 175) (j := 3) (tx := "rope") (by decide +kernel) dX1_rope_5 h fun v2 h => ?_
  refine gr_iload_n (pc := 7) (i := 1) C rfl (gl_at hl 1 rfl) dX1_rope_7 ?_
  refine gr_iconst (pc := 8) (v := (0 : Int32)) C rfl dX1_rope_8 ?_
  refine gh_callV (pc := 9) (rest := [va_rf (some a1), va_rf (some t0)]) C (k_X5_init C.tr a1 v2 p1 (0 : Int32)) (Nat.le_of_ble_eq_true rfl) (Nat.le_of_ble_eq_true rfl) (gh_r4 (Nat.le_of_ble_eq_true rfl)) (fun H9 L9 hp9 => gi_I C q1109 rfl q1110 q1111 mh_X5 np65 rfl hl.1.1 dX1_rope_9 rfl) h (gh_K0_b _ hk) (fun g h => ?_) (fun e g h => ?_)
  rotate_left
  ·
    exact gh_out C (fun _ h => nomatch h) h hk
  obtain ⟨⟨fs9, hg9⟩, h⟩ := gh_is_inv h
  refine gh_callI (pc := 12) (rest := []) C (k_X1_carryOut C.tr t0 (some a1)) (Nat.le_of_ble_eq_true rfl) (Nat.le_of_ble_eq_true rfl) (gh_r4 (Nat.le_of_ble_eq_true rfl)) (fun H9 L9 hp9 => gi_VX C hp9 hg9 gh_cX1 q1129 q1131 qs9 q1132 mh_X1 np80 rfl hl.1.1 dX1_rope_12 rfl) h (gh_K0_b _ hk) (fun v4 g h => ?_) (fun e g h => ?_)
  rotate_left
  ·
    exact gh_out C (fun _ h => nomatch h) h hk
  exact gr_iret (pc := 15) C dX1_rope_15 h hk

theorem k_X1_rope {l : Launch} (hst : l.stackTraces = false) (t0 : Nat) (p1 : Int32) : gh_Ct l yX1_rope 54 1176 (f_X1_rope t0 p1) gh_rI [va_rf (some t0), .int p1] := gh_intro2 (L1 := 1163) hst (by decide +kernel) q1605 q75 rfl ⟨gh_cat _, rfl, trivial⟩ (Nat.le_of_ble_eq_true rfl) fun x o ls hl C h hk => w_X1_rope C t0 p1 hl h hk
-- GargoyleTower.hoist(II)I
noncomputable def f_X1_hoist (t0 : Nat) (p1 : Int32) (p2 : Int32) : gh_M Int32 :=
  gh_bd (gh_new 4 4 gh_nX5) fun a1 =>
  gh_bd (gh_cst 4) fun v2 =>
  gh_bd (f_X5_init a1 v2 p1 p2) fun _ =>
  gh_bd (gh_is t0 0) fun _ =>
  gh_bd (f_X1_carryOut t0 (some a1)) fun v4 =>
  gh_ret v4
theorem w_X1_hoist {x : gh_C} {g : gh_G} {o : (Int32 ⊕ gh_X) × gh_G} {ls : Array Slot} (C : gh_K x cX1_hoist "GargoyleTower" 3 (some .int) "hoist" 54 1163 []) (t0 : Nat) (p1 : Int32) (p2 : Int32) (hl : gh_lv ls 3 [(0, va_rf (some t0)), (1, .int p1), (2, .int p2)]) (h : gh_run (f_X1_hoist t0 p1 p2) g = some o) (hk : (gh_K0 x gh_rI) o) : gh_Wd x g (F0 (gh_cm x) 0 ls []) := by
  unfold f_X1_hoist at h
  refine gr_aload_n (pc := 0) (i := 0) C rfl (gl_at hl 0 rfl) dX1_hoist_0 ?_
  refine gr_newo (pc := 1) C gh_bX5 q1106 q1107 q87 gh_dX5 dX1_hoist_1 h (gh_K0_b _ hk) fun a1 g h => ?_
  refine gr_dup (pc := 4) C (gh_cat _) dX1_hoist_4 ?_
  refine gr_ldcS (pc := 5) C (index := 196) (j := 4) (tx := "hoist ") (by decide +kernel) dX1_hoist_5 h fun v2 h => ?_
  refine gr_iload_n (pc := 7) (i := 1) C rfl (gl_at hl 1 rfl) dX1_hoist_7 ?_
  refine gr_iload_n (pc := 8) (i := 2) C rfl (gl_at hl 2 rfl) dX1_hoist_8 ?_
  refine gh_callV (pc := 9) (rest := [va_rf (some a1), va_rf (some t0)]) C (k_X5_init C.tr a1 v2 p1 p2) (Nat.le_of_ble_eq_true rfl) (Nat.le_of_ble_eq_true rfl) (gh_r4 (Nat.le_of_ble_eq_true rfl)) (fun H9 L9 hp9 => gi_I C q1109 rfl q1110 q1111 mh_X5 np65 rfl hl.1.1 dX1_hoist_9 rfl) h (gh_K0_b _ hk) (fun g h => ?_) (fun e g h => ?_)
  rotate_left
  ·
    exact gh_out C (fun _ h => nomatch h) h hk
  obtain ⟨⟨fs9, hg9⟩, h⟩ := gh_is_inv h
  refine gh_callI (pc := 12) (rest := []) C (k_X1_carryOut C.tr t0 (some a1)) (Nat.le_of_ble_eq_true rfl) (Nat.le_of_ble_eq_true rfl) (gh_r4 (Nat.le_of_ble_eq_true rfl)) (fun H9 L9 hp9 => gi_VX C hp9 hg9 gh_cX1 q1129 q1131 qs9 q1132 mh_X1 np80 rfl hl.1.1 dX1_hoist_12 rfl) h (gh_K0_b _ hk) (fun v4 g h => ?_) (fun e g h => ?_)
  rotate_left
  ·
    exact gh_out C (fun _ h => nomatch h) h hk
  exact gr_iret (pc := 15) C dX1_hoist_15 h hk

theorem k_X1_hoist {l : Launch} (hst : l.stackTraces = false) (t0 : Nat) (p1 : Int32) (p2 : Int32) : gh_Ct l yX1_hoist 54 1177 (f_X1_hoist t0 p1 p2) gh_rI [va_rf (some t0), .int p1, .int p2] := gh_intro2 (L1 := 1163) hst (by decide +kernel) q1621 q75 rfl ⟨gh_cat _, rfl, rfl, trivial⟩ (Nat.le_of_ble_eq_true rfl) fun x o ls hl C h hk => w_X1_hoist C t0 p1 p2 hl h hk
-- GargoyleTower.lower(I)I
noncomputable def f_X1_lower (t0 : Nat) (p1 : Int32) : gh_M Int32 :=
  gh_bd (gh_new 4 4 gh_nX5) fun a1 =>
  gh_bd (gh_cst 5) fun v2 =>
  gh_bd (f_X5_init a1 v2 p1 (0 : Int32)) fun _ =>
  gh_bd (gh_is t0 0) fun _ =>
  gh_bd (f_X1_carryOut t0 (some a1)) fun v4 =>
  gh_ret v4
theorem w_X1_lower {x : gh_C} {g : gh_G} {o : (Int32 ⊕ gh_X) × gh_G} {ls : Array Slot} (C : gh_K x cX1_lower "GargoyleTower" 2 (some .int) "lower" 54 1163 []) (t0 : Nat) (p1 : Int32) (hl : gh_lv ls 2 [(0, va_rf (some t0)), (1, .int p1)]) (h : gh_run (f_X1_lower t0 p1) g = some o) (hk : (gh_K0 x gh_rI) o) : gh_Wd x g (F0 (gh_cm x) 0 ls []) := by
  unfold f_X1_lower at h
  refine gr_aload_n (pc := 0) (i := 0) C rfl (gl_at hl 0 rfl) dX1_lower_0 ?_
  refine gr_newo (pc := 1) C gh_bX5 q1106 q1107 q87 gh_dX5 dX1_lower_1 h (gh_K0_b _ hk) fun a1 g h => ?_
  refine gr_dup (pc := 4) C (gh_cat _) dX1_lower_4 ?_
  refine gr_ldcS (pc := 5) C (index := 198) (j := 5) (tx := "lower ") (by decide +kernel) dX1_lower_5 h fun v2 h => ?_
  refine gr_iload_n (pc := 7) (i := 1) C rfl (gl_at hl 1 rfl) dX1_lower_7 ?_
  refine gr_iconst (pc := 8) (v := (0 : Int32)) C rfl dX1_lower_8 ?_
  refine gh_callV (pc := 9) (rest := [va_rf (some a1), va_rf (some t0)]) C (k_X5_init C.tr a1 v2 p1 (0 : Int32)) (Nat.le_of_ble_eq_true rfl) (Nat.le_of_ble_eq_true rfl) (gh_r4 (Nat.le_of_ble_eq_true rfl)) (fun H9 L9 hp9 => gi_I C q1109 rfl q1110 q1111 mh_X5 np65 rfl hl.1.1 dX1_lower_9 rfl) h (gh_K0_b _ hk) (fun g h => ?_) (fun e g h => ?_)
  rotate_left
  ·
    exact gh_out C (fun _ h => nomatch h) h hk
  obtain ⟨⟨fs9, hg9⟩, h⟩ := gh_is_inv h
  refine gh_callI (pc := 12) (rest := []) C (k_X1_carryOut C.tr t0 (some a1)) (Nat.le_of_ble_eq_true rfl) (Nat.le_of_ble_eq_true rfl) (gh_r4 (Nat.le_of_ble_eq_true rfl)) (fun H9 L9 hp9 => gi_VX C hp9 hg9 gh_cX1 q1129 q1131 qs9 q1132 mh_X1 np80 rfl hl.1.1 dX1_lower_12 rfl) h (gh_K0_b _ hk) (fun v4 g h => ?_) (fun e g h => ?_)
  rotate_left
  ·
    exact gh_out C (fun _ h => nomatch h) h hk
  exact gr_iret (pc := 15) C dX1_lower_15 h hk

theorem k_X1_lower {l : Launch} (hst : l.stackTraces = false) (t0 : Nat) (p1 : Int32) : gh_Ct l yX1_lower 54 1176 (f_X1_lower t0 p1) gh_rI [va_rf (some t0), .int p1] := gh_intro2 (L1 := 1163) hst (by decide +kernel) q1629 q75 rfl ⟨gh_cat _, rfl, trivial⟩ (Nat.le_of_ble_eq_true rfl) fun x o ls hl C h hk => w_X1_lower C t0 p1 hl h hk
-- GargoyleTower.set(II)I
noncomputable def f_X1_set (t0 : Nat) (p1 : Int32) (p2 : Int32) : gh_M Int32 :=
  gh_bd (gh_new 4 4 gh_nX5) fun a1 =>
  gh_bd (gh_cst 6) fun v2 =>
  gh_bd (f_X5_init a1 v2 p1 p2) fun _ =>
  gh_bd (gh_is t0 0) fun _ =>
  gh_bd (f_X1_carryOut t0 (some a1)) fun v4 =>
  gh_ret v4
theorem w_X1_set {x : gh_C} {g : gh_G} {o : (Int32 ⊕ gh_X) × gh_G} {ls : Array Slot} (C : gh_K x cX1_set "GargoyleTower" 3 (some .int) "set" 54 1163 []) (t0 : Nat) (p1 : Int32) (p2 : Int32) (hl : gh_lv ls 3 [(0, va_rf (some t0)), (1, .int p1), (2, .int p2)]) (h : gh_run (f_X1_set t0 p1 p2) g = some o) (hk : (gh_K0 x gh_rI) o) : gh_Wd x g (F0 (gh_cm x) 0 ls []) := by
  unfold f_X1_set at h
  refine gr_aload_n (pc := 0) (i := 0) C rfl (gl_at hl 0 rfl) dX1_set_0 ?_
  refine gr_newo (pc := 1) C gh_bX5 q1106 q1107 q87 gh_dX5 dX1_set_1 h (gh_K0_b _ hk) fun a1 g h => ?_
  refine gr_dup (pc := 4) C (gh_cat _) dX1_set_4 ?_
  refine gr_ldcS (pc := 5) C (index := 200) (j := 6) (tx := "set ") (by decide +kernel) dX1_set_5 h fun v2 h => ?_
  refine gr_iload_n (pc := 7) (i := 1) C rfl (gl_at hl 1 rfl) dX1_set_7 ?_
  refine gr_iload_n (pc := 8) (i := 2) C rfl (gl_at hl 2 rfl) dX1_set_8 ?_
  refine gh_callV (pc := 9) (rest := [va_rf (some a1), va_rf (some t0)]) C (k_X5_init C.tr a1 v2 p1 p2) (Nat.le_of_ble_eq_true rfl) (Nat.le_of_ble_eq_true rfl) (gh_r4 (Nat.le_of_ble_eq_true rfl)) (fun H9 L9 hp9 => gi_I C q1109 rfl q1110 q1111 mh_X5 np65 rfl hl.1.1 dX1_set_9 rfl) h (gh_K0_b _ hk) (fun g h => ?_) (fun e g h => ?_)
  rotate_left
  ·
    exact gh_out C (fun _ h => nomatch h) h hk
  obtain ⟨⟨fs9, hg9⟩, h⟩ := gh_is_inv h
  refine gh_callI (pc := 12) (rest := []) C (k_X1_carryOut C.tr t0 (some a1)) (Nat.le_of_ble_eq_true rfl) (Nat.le_of_ble_eq_true rfl) (gh_r4 (Nat.le_of_ble_eq_true rfl)) (fun H9 L9 hp9 => gi_VX C hp9 hg9 gh_cX1 q1129 q1131 qs9 q1132 mh_X1 np80 rfl hl.1.1 dX1_set_12 rfl) h (gh_K0_b _ hk) (fun v4 g h => ?_) (fun e g h => ?_)
  rotate_left
  ·
    exact gh_out C (fun _ h => nomatch h) h hk
  exact gr_iret (pc := 15) C dX1_set_15 h hk

theorem k_X1_set {l : Launch} (hst : l.stackTraces = false) (t0 : Nat) (p1 : Int32) (p2 : Int32) : gh_Ct l yX1_set 54 1177 (f_X1_set t0 p1 p2) gh_rI [va_rf (some t0), .int p1, .int p2] := gh_intro2 (L1 := 1163) hst (by decide +kernel) q1637 q75 rfl ⟨gh_cat _, rfl, rfl, trivial⟩ (Nat.le_of_ble_eq_true rfl) fun x o ls hl C h hk => w_X1_set C t0 p1 p2 hl h hk
-- GargoyleTower.push(I)I
noncomputable def f_X1_push (t0 : Nat) (p1 : Int32) : gh_M Int32 :=
  gh_bd (gh_new 4 4 gh_nX5) fun a1 =>
  gh_bd (gh_cst 7) fun v2 =>
  gh_bd (f_X5_init a1 v2 p1 (0 : Int32)) fun _ =>
  gh_bd (gh_is t0 0) fun _ =>
  gh_bd (f_X1_carryOut t0 (some a1)) fun v4 =>
  gh_ret v4
theorem w_X1_push {x : gh_C} {g : gh_G} {o : (Int32 ⊕ gh_X) × gh_G} {ls : Array Slot} (C : gh_K x cX1_push "GargoyleTower" 2 (some .int) "push" 54 1163 []) (t0 : Nat) (p1 : Int32) (hl : gh_lv ls 2 [(0, va_rf (some t0)), (1, .int p1)]) (h : gh_run (f_X1_push t0 p1) g = some o) (hk : (gh_K0 x gh_rI) o) : gh_Wd x g (F0 (gh_cm x) 0 ls []) := by
  unfold f_X1_push at h
  refine gr_aload_n (pc := 0) (i := 0) C rfl (gl_at hl 0 rfl) dX1_push_0 ?_
  refine gr_newo (pc := 1) C gh_bX5 q1106 q1107 q87 gh_dX5 dX1_push_1 h (gh_K0_b _ hk) fun a1 g h => ?_
  refine gr_dup (pc := 4) C (gh_cat _) dX1_push_4 ?_
  refine gr_ldcS (pc := 5) C (index := 220) (j := 7) (tx := "push") (by decide +kernel) dX1_push_5 h fun v2 h => ?_
  refine gr_iload_n (pc := 7) (i := 1) C rfl (gl_at hl 1 rfl) dX1_push_7 ?_
  refine gr_iconst (pc := 8) (v := (0 : Int32)) C rfl dX1_push_8 ?_
  refine gh_callV (pc := 9) (rest := [va_rf (some a1), va_rf (some t0)]) C (k_X5_init C.tr a1 v2 p1 (0 : Int32)) (Nat.le_of_ble_eq_true rfl) (Nat.le_of_ble_eq_true rfl) (gh_r4 (Nat.le_of_ble_eq_true rfl)) (fun H9 L9 hp9 => gi_I C q1109 rfl q1110 q1111 mh_X5 np65 rfl hl.1.1 dX1_push_9 rfl) h (gh_K0_b _ hk) (fun g h => ?_) (fun e g h => ?_)
  rotate_left
  ·
    exact gh_out C (fun _ h => nomatch h) h hk
  obtain ⟨⟨fs9, hg9⟩, h⟩ := gh_is_inv h
  refine gh_callI (pc := 12) (rest := []) C (k_X1_carryOut C.tr t0 (some a1)) (Nat.le_of_ble_eq_true rfl) (Nat.le_of_ble_eq_true rfl) (gh_r4 (Nat.le_of_ble_eq_true rfl)) (fun H9 L9 hp9 => gi_VX C hp9 hg9 gh_cX1 q1129 q1131 qs9 q1132 mh_X1 np80 rfl hl.1.1 dX1_push_12 rfl) h (gh_K0_b _ hk) (fun v4 g h => ?_) (fun e g h => ?_)
  rotate_left
  ·
    exact gh_out C (fun _ h => nomatch h) h hk
  exact gr_iret (pc := 15) C dX1_push_15 h hk

theorem k_X1_push {l : Launch} (hst : l.stackTraces = false) (t0 : Nat) (p1 : Int32) : gh_Ct l yX1_push 54 1176 (f_X1_push t0 p1) gh_rI [va_rf (some t0), .int p1] := gh_intro2 (L1 := 1163) hst (by decide +kernel) q1681 q75 rfl ⟨gh_cat _, rfl, trivial⟩ (Nat.le_of_ble_eq_true rfl) fun x o ls hl C h hk => w_X1_push C t0 p1 hl h hk
-- GargoyleTower.commission(III)I
noncomputable def f_X1_commission (t0 : Nat) (p1 : Int32) (p2 : Int32) (p3 : Int32) : gh_M Int32 :=
  gh_bd (gh_new 4 4 gh_nX5) fun a1 =>
  gh_bd (gh_cst 8) fun v2 =>
  gh_bd (f_X5_init_2 a1 v2 p1 p2 p3) fun _ =>
  gh_bd (gh_is t0 0) fun _ =>
  gh_bd (f_X1_carryOut t0 (some a1)) fun v4 =>
  gh_ret v4
theorem w_X1_commission {x : gh_C} {g : gh_G} {o : (Int32 ⊕ gh_X) × gh_G} {ls : Array Slot} (C : gh_K x cX1_commission "GargoyleTower" 4 (some .int) "commission" 54 1163 []) (t0 : Nat) (p1 : Int32) (p2 : Int32) (p3 : Int32) (hl : gh_lv ls 4 [(0, va_rf (some t0)), (1, .int p1), (2, .int p2), (3, .int p3)]) (h : gh_run (f_X1_commission t0 p1 p2 p3) g = some o) (hk : (gh_K0 x gh_rI) o) : gh_Wd x g (F0 (gh_cm x) 0 ls []) := by
  unfold f_X1_commission at h
  refine gr_aload_n (pc := 0) (i := 0) C rfl (gl_at hl 0 rfl) dX1_commission_0 ?_
  refine gr_newo (pc := 1) C gh_bX5 q1106 q1107 q87 gh_dX5 dX1_commission_1 h (gh_K0_b _ hk) fun a1 g h => ?_
  refine gr_dup (pc := 4) C (gh_cat _) dX1_commission_4 ?_
  refine gr_ldcS (pc := 5) C (index := 222) (j := 8) (tx := "commission") (by decide +kernel) dX1_commission_5 h fun v2 h => ?_
  refine gr_iload_n (pc := 7) (i := 1) C rfl (gl_at hl 1 rfl) dX1_commission_7 ?_
  refine gr_iload_n (pc := 8) (i := 2) C rfl (gl_at hl 2 rfl) dX1_commission_8 ?_
  refine gr_iload_n (pc := 9) (i := 3) C rfl (gl_at hl 3 rfl) dX1_commission_9 ?_
  refine gh_callV (pc := 10) (rest := [va_rf (some a1), va_rf (some t0)]) C (k_X5_init_2 C.tr a1 v2 p1 p2 p3) (Nat.le_of_ble_eq_true rfl) (Nat.le_of_ble_eq_true rfl) (gh_r4 (Nat.le_of_ble_eq_true rfl)) (fun H9 L9 hp9 => gi_I C q1691 rfl q1113 q1114 mh_X5 np64 rfl hl.1.1 dX1_commission_10 rfl) h (gh_K0_b _ hk) (fun g h => ?_) (fun e g h => ?_)
  rotate_left
  ·
    exact gh_out C (fun _ h => nomatch h) h hk
  obtain ⟨⟨fs9, hg9⟩, h⟩ := gh_is_inv h
  refine gh_callI (pc := 13) (rest := []) C (k_X1_carryOut C.tr t0 (some a1)) (Nat.le_of_ble_eq_true rfl) (Nat.le_of_ble_eq_true rfl) (gh_r4 (Nat.le_of_ble_eq_true rfl)) (fun H9 L9 hp9 => gi_VX C hp9 hg9 gh_cX1 q1129 q1131 qs9 q1132 mh_X1 np80 rfl hl.1.1 dX1_commission_13 rfl) h (gh_K0_b _ hk) (fun v4 g h => ?_) (fun e g h => ?_)
  rotate_left
  ·
    exact gh_out C (fun _ h => nomatch h) h hk
  exact gr_iret (pc := 16) C dX1_commission_16 h hk

theorem k_X1_commission {l : Launch} (hst : l.stackTraces = false) (t0 : Nat) (p1 : Int32) (p2 : Int32) (p3 : Int32) : gh_Ct l yX1_commission 54 1178 (f_X1_commission t0 p1 p2 p3) gh_rI [va_rf (some t0), .int p1, .int p2, .int p3] := gh_intro2 (L1 := 1163) hst (by decide +kernel) q1689 q75 rfl ⟨gh_cat _, rfl, rfl, rfl, trivial⟩ (Nat.le_of_ble_eq_true rfl) fun x o ls hl C h hk => w_X1_commission C t0 p1 p2 p3 hl h hk
-- GargoyleTower.deliver(II)I
noncomputable def f_X1_deliver (t0 : Nat) (p1 : Int32) (p2 : Int32) : gh_M Int32 :=
  gh_bd (gh_new 4 4 gh_nX5) fun a1 =>
  gh_bd (gh_cst 9) fun v2 =>
  gh_bd (f_X5_init a1 v2 p1 p2) fun _ =>
  gh_bd (gh_is t0 0) fun _ =>
  gh_bd (f_X1_carryOut t0 (some a1)) fun v4 =>
  gh_ret v4
theorem w_X1_deliver {x : gh_C} {g : gh_G} {o : (Int32 ⊕ gh_X) × gh_G} {ls : Array Slot} (C : gh_K x cX1_deliver "GargoyleTower" 3 (some .int) "deliver" 54 1163 []) (t0 : Nat) (p1 : Int32) (p2 : Int32) (hl : gh_lv ls 3 [(0, va_rf (some t0)), (1, .int p1), (2, .int p2)]) (h : gh_run (f_X1_deliver t0 p1 p2) g = some o) (hk : (gh_K0 x gh_rI) o) : gh_Wd x g (F0 (gh_cm x) 0 ls []) := by
  unfold f_X1_deliver at h
  refine gr_aload_n (pc := 0) (i := 0) C rfl (gl_at hl 0 rfl) dX1_deliver_0 ?_
  refine gr_newo (pc := 1) C gh_bX5 q1106 q1107 q87 gh_dX5 dX1_deliver_1 h (gh_K0_b _ hk) fun a1 g h => ?_
  refine gr_dup (pc := 4) C (gh_cat _) dX1_deliver_4 ?_
  refine gr_ldcS (pc := 5) C (index := 226) (j := 9) (tx := "deliver ") (by decide +kernel) dX1_deliver_5 h fun v2 h => ?_
  refine gr_iload_n (pc := 7) (i := 1) C rfl (gl_at hl 1 rfl) dX1_deliver_7 ?_
  refine gr_iload_n (pc := 8) (i := 2) C rfl (gl_at hl 2 rfl) dX1_deliver_8 ?_
  refine gh_callV (pc := 9) (rest := [va_rf (some a1), va_rf (some t0)]) C (k_X5_init C.tr a1 v2 p1 p2) (Nat.le_of_ble_eq_true rfl) (Nat.le_of_ble_eq_true rfl) (gh_r4 (Nat.le_of_ble_eq_true rfl)) (fun H9 L9 hp9 => gi_I C q1109 rfl q1110 q1111 mh_X5 np65 rfl hl.1.1 dX1_deliver_9 rfl) h (gh_K0_b _ hk) (fun g h => ?_) (fun e g h => ?_)
  rotate_left
  ·
    exact gh_out C (fun _ h => nomatch h) h hk
  obtain ⟨⟨fs9, hg9⟩, h⟩ := gh_is_inv h
  refine gh_callI (pc := 12) (rest := []) C (k_X1_carryOut C.tr t0 (some a1)) (Nat.le_of_ble_eq_true rfl) (Nat.le_of_ble_eq_true rfl) (gh_r4 (Nat.le_of_ble_eq_true rfl)) (fun H9 L9 hp9 => gi_VX C hp9 hg9 gh_cX1 q1129 q1131 qs9 q1132 mh_X1 np80 rfl hl.1.1 dX1_deliver_12 rfl) h (gh_K0_b _ hk) (fun v4 g h => ?_) (fun e g h => ?_)
  rotate_left
  ·
    exact gh_out C (fun _ h => nomatch h) h hk
  exact gr_iret (pc := 15) C dX1_deliver_15 h hk

theorem k_X1_deliver {l : Launch} (hst : l.stackTraces = false) (t0 : Nat) (p1 : Int32) (p2 : Int32) : gh_Ct l yX1_deliver 54 1177 (f_X1_deliver t0 p1 p2) gh_rI [va_rf (some t0), .int p1, .int p2] := gh_intro2 (L1 := 1163) hst (by decide +kernel) q1698 q75 rfl ⟨gh_cat _, rfl, rfl, trivial⟩ (Nat.le_of_ble_eq_true rfl) fun x o ls hl C h hk => w_X1_deliver C t0 p1 p2 hl h hk
-- GargoyleTower.seed(I)I
noncomputable def f_X1_seed (t0 : Nat) (p1 : Int32) : gh_M Int32 :=
  gh_bd (gh_new 4 4 gh_nX5) fun a1 =>
  gh_bd (gh_cst 10) fun v2 =>
  gh_bd (f_X5_init a1 v2 p1 (0 : Int32)) fun _ =>
  gh_bd (gh_is t0 0) fun _ =>
  gh_bd (f_X1_carryOut t0 (some a1)) fun v4 =>
  gh_ret v4
theorem w_X1_seed {x : gh_C} {g : gh_G} {o : (Int32 ⊕ gh_X) × gh_G} {ls : Array Slot} (C : gh_K x cX1_seed "GargoyleTower" 2 (some .int) "seed" 54 1163 []) (t0 : Nat) (p1 : Int32) (hl : gh_lv ls 2 [(0, va_rf (some t0)), (1, .int p1)]) (h : gh_run (f_X1_seed t0 p1) g = some o) (hk : (gh_K0 x gh_rI) o) : gh_Wd x g (F0 (gh_cm x) 0 ls []) := by
  unfold f_X1_seed at h
  refine gr_aload_n (pc := 0) (i := 0) C rfl (gl_at hl 0 rfl) dX1_seed_0 ?_
  refine gr_newo (pc := 1) C gh_bX5 q1106 q1107 q87 gh_dX5 dX1_seed_1 h (gh_K0_b _ hk) fun a1 g h => ?_
  refine gr_dup (pc := 4) C (gh_cat _) dX1_seed_4 ?_
  refine gr_ldcS (pc := 5) C (index := 255) (j := 10) (tx := "seed") (by decide +kernel) dX1_seed_5 h fun v2 h => ?_
  refine gr_iload_n (pc := 7) (i := 1) C rfl (gl_at hl 1 rfl) dX1_seed_7 ?_
  refine gr_iconst (pc := 8) (v := (0 : Int32)) C rfl dX1_seed_8 ?_
  refine gh_callV (pc := 9) (rest := [va_rf (some a1), va_rf (some t0)]) C (k_X5_init C.tr a1 v2 p1 (0 : Int32)) (Nat.le_of_ble_eq_true rfl) (Nat.le_of_ble_eq_true rfl) (gh_r4 (Nat.le_of_ble_eq_true rfl)) (fun H9 L9 hp9 => gi_I C q1109 rfl q1110 q1111 mh_X5 np65 rfl hl.1.1 dX1_seed_9 rfl) h (gh_K0_b _ hk) (fun g h => ?_) (fun e g h => ?_)
  rotate_left
  ·
    exact gh_out C (fun _ h => nomatch h) h hk
  obtain ⟨⟨fs9, hg9⟩, h⟩ := gh_is_inv h
  refine gh_callI (pc := 12) (rest := []) C (k_X1_carryOut C.tr t0 (some a1)) (Nat.le_of_ble_eq_true rfl) (Nat.le_of_ble_eq_true rfl) (gh_r4 (Nat.le_of_ble_eq_true rfl)) (fun H9 L9 hp9 => gi_VX C hp9 hg9 gh_cX1 q1129 q1131 qs9 q1132 mh_X1 np80 rfl hl.1.1 dX1_seed_12 rfl) h (gh_K0_b _ hk) (fun v4 g h => ?_) (fun e g h => ?_)
  rotate_left
  ·
    exact gh_out C (fun _ h => nomatch h) h hk
  exact gr_iret (pc := 15) C dX1_seed_15 h hk

theorem k_X1_seed {l : Launch} (hst : l.stackTraces = false) (t0 : Nat) (p1 : Int32) : gh_Ct l yX1_seed 54 1176 (f_X1_seed t0 p1) gh_rI [va_rf (some t0), .int p1] := gh_intro2 (L1 := 1163) hst (by decide +kernel) q1725 q75 rfl ⟨gh_cat _, rfl, trivial⟩ (Nat.le_of_ble_eq_true rfl) fun x o ls hl C h hk => w_X1_seed C t0 p1 hl h hk
-- GargoyleTower.pass(I)I
noncomputable def f_X1_pass (t0 : Nat) (p1 : Int32) : gh_M Int32 :=
  gh_bd (gh_new 4 4 gh_nX5) fun a1 =>
  gh_bd (gh_cst 11) fun v2 =>
  gh_bd (f_X5_init a1 v2 p1 (0 : Int32)) fun _ =>
  gh_bd (gh_is t0 0) fun _ =>
  gh_bd (f_X1_carryOut t0 (some a1)) fun v4 =>
  gh_ret v4
theorem w_X1_pass {x : gh_C} {g : gh_G} {o : (Int32 ⊕ gh_X) × gh_G} {ls : Array Slot} (C : gh_K x cX1_pass "GargoyleTower" 2 (some .int) "pass" 54 1163 []) (t0 : Nat) (p1 : Int32) (hl : gh_lv ls 2 [(0, va_rf (some t0)), (1, .int p1)]) (h : gh_run (f_X1_pass t0 p1) g = some o) (hk : (gh_K0 x gh_rI) o) : gh_Wd x g (F0 (gh_cm x) 0 ls []) := by
  unfold f_X1_pass at h
  refine gr_aload_n (pc := 0) (i := 0) C rfl (gl_at hl 0 rfl) dX1_pass_0 ?_
  refine gr_newo (pc := 1) C gh_bX5 q1106 q1107 q87 gh_dX5 dX1_pass_1 h (gh_K0_b _ hk) fun a1 g h => ?_
  refine gr_dup (pc := 4) C (gh_cat _) dX1_pass_4 ?_
  refine gr_ldcSw (pc := 5) C (index := 274) (j := 11) (tx := "wait ") (by decide +kernel) dX1_pass_5 h fun v2 h => ?_
  refine gr_iload_n (pc := 8) (i := 1) C rfl (gl_at hl 1 rfl) dX1_pass_8 ?_
  refine gr_iconst (pc := 9) (v := (0 : Int32)) C rfl dX1_pass_9 ?_
  refine gh_callV (pc := 10) (rest := [va_rf (some a1), va_rf (some t0)]) C (k_X5_init C.tr a1 v2 p1 (0 : Int32)) (Nat.le_of_ble_eq_true rfl) (Nat.le_of_ble_eq_true rfl) (gh_r4 (Nat.le_of_ble_eq_true rfl)) (fun H9 L9 hp9 => gi_I C q1109 rfl q1110 q1111 mh_X5 np65 rfl hl.1.1 dX1_pass_10 rfl) h (gh_K0_b _ hk) (fun g h => ?_) (fun e g h => ?_)
  rotate_left
  ·
    exact gh_out C (fun _ h => nomatch h) h hk
  obtain ⟨⟨fs9, hg9⟩, h⟩ := gh_is_inv h
  refine gh_callI (pc := 13) (rest := []) C (k_X1_carryOut C.tr t0 (some a1)) (Nat.le_of_ble_eq_true rfl) (Nat.le_of_ble_eq_true rfl) (gh_r4 (Nat.le_of_ble_eq_true rfl)) (fun H9 L9 hp9 => gi_VX C hp9 hg9 gh_cX1 q1129 q1131 qs9 q1132 mh_X1 np80 rfl hl.1.1 dX1_pass_13 rfl) h (gh_K0_b _ hk) (fun v4 g h => ?_) (fun e g h => ?_)
  rotate_left
  ·
    exact gh_out C (fun _ h => nomatch h) h hk
  exact gr_iret (pc := 16) C dX1_pass_16 h hk

theorem k_X1_pass {l : Launch} (hst : l.stackTraces = false) (t0 : Nat) (p1 : Int32) : gh_Ct l yX1_pass 54 1176 (f_X1_pass t0 p1) gh_rI [va_rf (some t0), .int p1] := gh_intro2 (L1 := 1163) hst (by decide +kernel) q1745 q75 rfl ⟨gh_cat _, rfl, trivial⟩ (Nat.le_of_ble_eq_true rfl) fun x o ls hl C h hk => w_X1_pass C t0 p1 hl h hk
-- GargoyleTower.line(I)I
def gp_X1_line_20 (x : gh_C) (t0 : Nat) (u20_1 : Int32) (st : (Option Nat) × Int32) (g : gh_G) : Prop := ∀ ls : Array Slot, gh_lv ls 4 [(0, va_rf (some t0)), (1, .int u20_1), (2, va_rf st.1), (3, .int st.2)] → gh_Wd x g (F0 (gh_cm x) 20 ls [])
noncomputable def f_X1_line_20_l (t0 : Nat) (u20_1 : Int32) (p2 : Option Nat) (p3 : Int32) : gh_M (((Option Nat) × Int32) ⊕ Int32) :=
  if p3 < 0 then
  (gh_nn p2 fun a1 =>
  gh_bd (gh_is a1 13) fun _ =>
  gh_bd (f_J5_length a1) fun v2 =>
  gh_up (gh_ret v2))
  else
  (gh_bd (gh_getr t0 0 4) fun v3 =>
  gh_bd (gh_getr t0 0 0) fun v4 =>
  gh_nn v4 fun a5 =>
  gh_bd (gh_is a5 1) fun _ =>
  gh_bd (f_X2_blockIn a5 (((5 : Int32) * u20_1) + p3)) fun v6 =>
  gh_bd (f_X1_shown v6) fun v7 =>
  gh_nn v3 fun a8 =>
  gh_bd (gh_is a8 13) fun _ =>
  gh_bd (f_J5_append_5 a8 v7) fun v9 =>
  gh_ret (.inl (v9, p3 + (-1 : Int32))))
theorem w_X1_line_20_l {x : gh_C} {g : gh_G} {o : ((((Option Nat) × Int32) ⊕ Int32) ⊕ gh_X) × gh_G} {ls : Array Slot} (C : gh_K x cX1_line "GargoyleTower" 4 (some .int) "line" 10 237 []) (t0 : Nat) (u20_1 : Int32) (p2 : Option Nat) (p3 : Int32) (hl : gh_lv ls 4 [(0, va_rf (some t0)), (1, .int u20_1), (2, va_rf p2), (3, .int p3)]) (h : gh_run (f_X1_line_20_l t0 u20_1 p2 p3) g = some o) (hk : (gh_K1 x (gh_K0 x gh_rI) (gp_X1_line_20 x t0 u20_1)) o) : gh_Wd x g (F0 (gh_cm x) 20 ls []) := by
  unfold f_X1_line_20_l at h
  refine gr_iload_n (pc := 20) (i := 3) C rfl (gl_at hl 3 rfl) dX1_line_20 ?_
  refine gr_if_lt (pc := 21) (tgt := 53) C rfl dX1_line_21 (fun c9 => ?_) (fun c9 => ?_)
  · replace h := gh_ift h c9
    refine gr_aload_n (pc := 53) (i := 2) C rfl (gl_at hl 2 rfl) dX1_line_53 ?_
    rcases p2 with _ | a1
    · exact gh_stk_inv h
    replace h := gh_nn_ss h
    obtain ⟨⟨fs9, hg9⟩, h⟩ := gh_is_inv h
    refine gh_callI (pc := 54) (rest := []) C (k_J5_length C.tr a1) (Nat.le_of_ble_eq_true rfl) (Nat.le_of_ble_eq_true rfl) (gh_r4 (Nat.le_of_ble_eq_true rfl)) (fun H9 L9 hp9 => gi_V C hp9 hg9 gh_cJ5 q1955 q632 q2737 q633 mh_J5 np0 rfl hl.1.1 dX1_line_54 rfl) h ((gh_K1_b gh_K0_b) _ hk) (fun v2 g h => ?_) (fun e g h => ?_)
    rotate_left
    ·
      obtain ⟨o, h, hk⟩ := gh_K1_thr h hk
      exact gh_out C (fun _ h => nomatch h) h hk
    obtain ⟨o, h, hk⟩ := gh_K1_up h hk
    exact gr_iret (pc := 57) C dX1_line_57 h hk
  · replace h := gh_iff h c9
    refine gr_aload_n (pc := 24) (i := 0) C rfl (gl_at hl 0 rfl) dX1_line_24 ?_
    refine gr_getr (pc := 25) C gh_bX1 (k := 4) (Nat.le_of_ble_eq_true rfl) q275 (fun _ h => h) dX1_line_25 h fun v3 h => ?_
    refine gr_aload_n (pc := 28) (i := 0) C rfl (gl_at hl 0 rfl) dX1_line_28 ?_
    refine gr_getr (pc := 29) C gh_bX1 (k := 0) (Nat.le_of_ble_eq_true rfl) q271 (fun _ h => h) dX1_line_29 h fun v4 h => ?_
    refine gr_iconst (pc := 32) (v := (5 : Int32)) C rfl dX1_line_32 ?_
    refine gr_iload_n (pc := 33) (i := 1) C rfl (gl_at hl 1 rfl) dX1_line_33 ?_
    refine gr_imul (pc := 34) C dX1_line_34 ?_
    refine gr_iload_n (pc := 35) (i := 3) C rfl (gl_at hl 3 rfl) dX1_line_35 ?_
    refine gr_iadd (pc := 36) C dX1_line_36 ?_
    rcases v4 with _ | a5
    · exact gh_stk_inv h
    replace h := gh_nn_ss h
    obtain ⟨⟨fs9, hg9⟩, h⟩ := gh_is_inv h
    refine gh_callQ (pc := 37) (rest := [va_rf v3]) C (k_X2_blockIn C.tr a5 (((5 : Int32) * u20_1) + p3)) (Nat.le_of_ble_eq_true rfl) (Nat.le_of_ble_eq_true rfl) (gh_r4 (Nat.le_of_ble_eq_true rfl)) (fun H9 L9 hp9 => gi_V C hp9 hg9 gh_cX2 q947 q948 q949 q950 mh_X2 np52 rfl hl.1.1 dX1_line_37 rfl) h ((gh_K1_b gh_K0_b) _ hk) (fun v6 g h => ?_) (fun e g h => ?_)
    rotate_left
    ·
      obtain ⟨o, h, hk⟩ := gh_K1_thr h hk
      exact gh_out C (fun _ h => nomatch h) h hk
    refine gh_callQ (pc := 40) (rest := [va_rf v3]) C (k_X1_shown C.tr v6) (Nat.le_of_ble_eq_true rfl) (Nat.le_of_ble_eq_true rfl) (gh_r4 (Nat.le_of_ble_eq_true rfl)) (fun H9 L9 hp9 => gi_S C q1814 q1815 q75 q1816 mh_X1 np82 rfl hl.1.1 dX1_line_40 rfl) h ((gh_K1_b gh_K0_b) _ hk) (fun v7 g h => ?_) (fun e g h => ?_)
    rotate_left
    ·
      obtain ⟨o, h, hk⟩ := gh_K1_thr h hk
      exact gh_out C (fun _ h => nomatch h) h hk
    rcases v3 with _ | a8
    · exact gh_stk_inv h
    replace h := gh_nn_ss h
    obtain ⟨⟨fs9, hg9⟩, h⟩ := gh_is_inv h
    refine gh_callQ (pc := 43) (rest := []) C (k_J5_append_5 C.tr a8 v7) (Nat.le_of_ble_eq_true rfl) (Nat.le_of_ble_eq_true rfl) (gh_r4 (Nat.le_of_ble_eq_true rfl)) (fun H9 L9 hp9 => gi_V C hp9 hg9 gh_cJ5 q1850 q1851 q1852 q1853 mh_J5 np83 rfl hl.1.1 dX1_line_43 rfl) h ((gh_K1_b gh_K0_b) _ hk) (fun v9 g h => ?_) (fun e g h => ?_)
    rotate_left
    ·
      obtain ⟨o, h, hk⟩ := gh_K1_thr h hk
      exact gh_out C (fun _ h => nomatch h) h hk
    refine gr_astore_n (pc := 46) (i := 2) (l' := [(2, va_rf v9), (0, va_rf (some t0)), (1, .int u20_1), (3, .int p3)]) C rfl hl (Nat.le_of_ble_eq_true rfl) rfl dX1_line_46 fun ls hl => ?_
    refine gr_iinc (pc := 47) (i := 3) (z := 3) (v := p3 + (-1 : Int32)) (l' := [(3, .int (p3 + (-1 : Int32))), (2, va_rf v9), (0, va_rf (some t0)), (1, .int u20_1)]) C hl rfl (congrArg (fun z9 => p3 + z9) (rfl : Int32.ofInt (-1) = (-1 : Int32))) (Nat.le_of_ble_eq_true rfl) rfl dX1_line_47 fun ls hl => ?_
    refine gr_goto (pc := 50) (tgt := 20) C rfl dX1_line_50 ?_
    exact gh_K1_in h hk ls (gl_sub hl [2, 3, 1, 0] rfl)

noncomputable def f_X1_line_20 (t0 : Nat) (p1 : Int32) (p2 : Option Nat) (p3 : Int32) : gh_M Int32 := gh_it (fun st : (Option Nat) × Int32 => f_X1_line_20_l t0 p1 st.1 st.2) (p2, p3)
theorem w_X1_line_20 {x : gh_C} {g : gh_G} {o : (Int32 ⊕ gh_X) × gh_G} {ls : Array Slot} (C : gh_K x cX1_line "GargoyleTower" 4 (some .int) "line" 10 237 []) (t0 : Nat) (p1 : Int32) (p2 : Option Nat) (p3 : Int32) (hl : gh_lv ls 4 [(0, va_rf (some t0)), (1, .int p1), (2, va_rf p2), (3, .int p3)]) (h : gh_run (f_X1_line_20 t0 p1 p2 p3) g = some o) (hk : (gh_K0 x gh_rI) o) : gh_Wd x g (F0 (gh_cm x) 20 ls []) := by
  unfold f_X1_line_20 at h
  exact gh_loop gh_K0_b (fun st : (Option Nat) × Int32 => f_X1_line_20_l t0 p1 st.1 st.2) (gp_X1_line_20 x t0 p1) (fun st g o h hk ls hl => w_X1_line_20_l C t0 p1 st.1 st.2 hl h hk) _ g o h hk ls hl
noncomputable def f_X1_line (t0 : Nat) (p1 : Int32) : gh_M Int32 :=
  gh_bd (f_X1_checkIndex p1 (4 : Int32)) fun _ =>
  gh_bd (gh_getr t0 0 4) fun v2 =>
  gh_nn v2 fun a3 =>
  gh_bd (gh_is a3 13) fun _ =>
  gh_bd (f_J5_setLength a3 (0 : Int32)) fun _ =>
  gh_bd (gh_getr t0 0 4) fun v5 =>
  f_X1_line_20 t0 p1 v5 (4 : Int32)
theorem w_X1_line {x : gh_C} {g : gh_G} {o : (Int32 ⊕ gh_X) × gh_G} {ls : Array Slot} (C : gh_K x cX1_line "GargoyleTower" 4 (some .int) "line" 10 237 []) (t0 : Nat) (p1 : Int32) (hl : gh_lv ls 4 [(0, va_rf (some t0)), (1, .int p1)]) (h : gh_run (f_X1_line t0 p1) g = some o) (hk : (gh_K0 x gh_rI) o) : gh_Wd x g (F0 (gh_cm x) 0 ls []) := by
  unfold f_X1_line at h
  refine gr_iload_n (pc := 0) (i := 1) C rfl (gl_at hl 1 rfl) dX1_line_0 ?_
  refine gr_iconst (pc := 1) (v := (4 : Int32)) C rfl dX1_line_1 ?_
  refine gh_callV (pc := 2) (rest := []) C (k_X1_checkIndex C.tr p1 (4 : Int32)) (Nat.le_of_ble_eq_true rfl) (Nat.le_of_ble_eq_true rfl) (gh_r4 (Nat.le_of_ble_eq_true rfl)) (fun H9 L9 hp9 => gi_S C q1646 q1228 q75 q1229 mh_X1 np30 rfl hl.1.1 dX1_line_2 rfl) h (gh_K0_b _ hk) (fun g h => ?_) (fun e g h => ?_)
  rotate_left
  ·
    exact gh_out C (fun _ h => nomatch h) h hk
  refine gr_aload_n (pc := 5) (i := 0) C rfl (gl_at hl 0 rfl) dX1_line_5 ?_
  refine gr_getr (pc := 6) C gh_bX1 (k := 4) (Nat.le_of_ble_eq_true rfl) q275 (fun _ h => h) dX1_line_6 h fun v2 h => ?_
  refine gr_iconst (pc := 9) (v := (0 : Int32)) C rfl dX1_line_9 ?_
  rcases v2 with _ | a3
  · exact gh_stk_inv h
  replace h := gh_nn_ss h
  obtain ⟨⟨fs9, hg9⟩, h⟩ := gh_is_inv h
  refine gh_callV (pc := 10) (rest := []) C (k_J5_setLength C.tr a3 (0 : Int32)) (Nat.le_of_ble_eq_true rfl) (Nat.le_of_ble_eq_true rfl) (gh_r4 (Nat.le_of_ble_eq_true rfl)) (fun H9 L9 hp9 => gi_V C hp9 hg9 gh_cJ5 q1762 q1763 q1764 q1765 mh_J5 np4 rfl hl.1.1 dX1_line_10 rfl) h (gh_K0_b _ hk) (fun g h => ?_) (fun e g h => ?_)
  rotate_left
  ·
    exact gh_out C (fun _ h => nomatch h) h hk
  refine gr_aload_n (pc := 13) (i := 0) C rfl (gl_at hl 0 rfl) dX1_line_13 ?_
  refine gr_getr (pc := 14) C gh_bX1 (k := 4) (Nat.le_of_ble_eq_true rfl) q275 (fun _ h => h) dX1_line_14 h fun v5 h => ?_
  refine gr_astore_n (pc := 17) (i := 2) (l' := [(2, va_rf v5), (0, va_rf (some t0)), (1, .int p1)]) C rfl hl (Nat.le_of_ble_eq_true rfl) rfl dX1_line_17 fun ls hl => ?_
  refine gr_iconst (pc := 18) (v := (4 : Int32)) C rfl dX1_line_18 ?_
  refine gr_istore_n (pc := 19) (i := 3) (l' := [(3, .int (4 : Int32)), (2, va_rf v5), (0, va_rf (some t0)), (1, .int p1)]) C rfl hl (Nat.le_of_ble_eq_true rfl) rfl dX1_line_19 fun ls hl => ?_
  exact w_X1_line_20 C t0 p1 v5 (4 : Int32) (gl_sub hl [2, 3, 1, 0] rfl) h hk

theorem k_X1_line {l : Launch} (hst : l.stackTraces = false) (t0 : Nat) (p1 : Int32) : gh_Ct l yX1_line 10 252 (f_X1_line t0 p1) gh_rI [va_rf (some t0), .int p1] := gh_intro2 (L1 := 237) hst (by decide +kernel) q1761 q75 rfl ⟨gh_cat _, rfl, trivial⟩ (Nat.le_of_ble_eq_true rfl) fun x o ls hl C h hk => w_X1_line C t0 p1 hl h hk
-- GargoyleTower.account(I)I
noncomputable def f_X1_account (t0 : Nat) (p1 : Int32) : gh_M Int32 :=
  gh_bd (f_X1_inRange p1 (0 : Int32) (15 : Int32)) fun v1 =>
  gh_bd (f_X1_checkArgument v1) fun _ =>
  if p1 = (0 : Int32) then
  (gh_bd (gh_getr t0 0 0) fun v3 =>
  gh_nn v3 fun a4 =>
  gh_bd (gh_geti a4 1 1) fun v5 =>
  gh_ret v5)
  else if p1 = (1 : Int32) then
  (gh_bd (gh_getr t0 0 0) fun v6 =>
  gh_nn v6 fun a7 =>
  gh_bd (gh_geti a7 1 2) fun v8 =>
  gh_ret v8)
  else if p1 = (2 : Int32) then
  (gh_bd (gh_getr t0 0 0) fun v9 =>
  gh_nn v9 fun a10 =>
  gh_bd (gh_getr a10 1 5) fun v11 =>
  gh_nn v11 fun a12 =>
  gh_bd (gh_geti a12 2 0) fun v13 =>
  gh_ret v13)
  else if p1 = (3 : Int32) then
  (gh_bd (gh_getr t0 0 0) fun v14 =>
  gh_nn v14 fun a15 =>
  gh_bd (gh_getr a15 1 6) fun v16 =>
  gh_nn v16 fun a17 =>
  gh_bd (gh_is a17 11) fun _ =>
  gh_bd (f_J2_size a17) fun v18 =>
  gh_ret v18)
  else if p1 = (4 : Int32) then
  (gh_bd (gh_getr t0 0 0) fun v19 =>
  gh_nn v19 fun a20 =>
  gh_bd (gh_is a20 1) fun _ =>
  gh_bd (f_X2_count a20 (p1 - (4 : Int32))) fun v21 =>
  gh_ret v21)
  else if p1 = (5 : Int32) then
  (gh_bd (gh_getr t0 0 0) fun v22 =>
  gh_nn v22 fun a23 =>
  gh_bd (gh_is a23 1) fun _ =>
  gh_bd (f_X2_count a23 (p1 - (4 : Int32))) fun v24 =>
  gh_ret v24)
  else if p1 = (6 : Int32) then
  (gh_bd (gh_getr t0 0 0) fun v25 =>
  gh_nn v25 fun a26 =>
  gh_bd (gh_is a26 1) fun _ =>
  gh_bd (f_X2_count a26 (p1 - (4 : Int32))) fun v27 =>
  gh_ret v27)
  else if p1 = (7 : Int32) then
  (gh_bd (gh_getr t0 0 0) fun v28 =>
  gh_nn v28 fun a29 =>
  gh_bd (gh_is a29 1) fun _ =>
  gh_bd (f_X2_count a29 (p1 - (4 : Int32))) fun v30 =>
  gh_ret v30)
  else if p1 = (8 : Int32) then
  (gh_bd (gh_getr t0 0 0) fun v31 =>
  gh_nn v31 fun a32 =>
  gh_bd (gh_getr a32 1 7) fun v33 =>
  gh_nn v33 fun a34 =>
  gh_bd (gh_is a34 11) fun _ =>
  gh_bd (f_J2_size a34) fun v35 =>
  gh_ret v35)
  else if p1 = (9 : Int32) then
  (gh_bd (gh_is t0 0) fun _ =>
  gh_bd (f_X1_torn t0) fun v36 =>
  gh_ret v36)
  else if p1 = (10 : Int32) then
  (gh_bd (gh_getr t0 0 0) fun v37 =>
  gh_nn v37 fun a38 =>
  gh_bd (gh_getr a38 1 8) fun v39 =>
  gh_nn v39 fun a40 =>
  gh_bd (gh_is a40 11) fun _ =>
  gh_bd (f_J2_size a40) fun v41 =>
  gh_ret v41)
  else if p1 = (11 : Int32) then
  (gh_bd (gh_is t0 0) fun _ =>
  gh_bd (f_X1_fulfilled t0) fun v42 =>
  gh_ret v42)
  else if p1 = (12 : Int32) then
  (gh_bd (gh_getr t0 0 0) fun v43 =>
  gh_nn v43 fun a44 =>
  gh_bd (gh_geti a44 1 3) fun v45 =>
  gh_ret v45)
  else if p1 = (13 : Int32) then
  (gh_bd (gh_getr t0 0 0) fun v46 =>
  gh_nn v46 fun a47 =>
  gh_bd (gh_geti a47 1 4) fun v48 =>
  gh_ret v48)
  else if p1 = (14 : Int32) then
  (gh_bd (gh_geti t0 0 6) fun v49 =>
  gh_ret v49)
  else (gh_bd (gh_getr t0 0 2) fun v50 =>
  gh_nn v50 fun a51 =>
  gh_bd (gh_is a51 12) fun _ =>
  gh_bd (f_J3_size a51) fun v52 =>
  gh_ret v52)
theorem w_X1_account {x : gh_C} {g : gh_G} {o : (Int32 ⊕ gh_X) × gh_G} {ls : Array Slot} (C : gh_K x cX1_account "GargoyleTower" 2 (some .int) "account" 8 130 []) (t0 : Nat) (p1 : Int32) (hl : gh_lv ls 2 [(0, va_rf (some t0)), (1, .int p1)]) (h : gh_run (f_X1_account t0 p1) g = some o) (hk : (gh_K0 x gh_rI) o) : gh_Wd x g (F0 (gh_cm x) 0 ls []) := by
  unfold f_X1_account at h
  refine gr_iload_n (pc := 0) (i := 1) C rfl (gl_at hl 1 rfl) dX1_account_0 ?_
  refine gr_iconst (pc := 1) (v := (0 : Int32)) C rfl dX1_account_1 ?_
  refine gr_bipush (pc := 2) (v := (15 : Int32)) C rfl dX1_account_2 ?_
  refine gh_callI (pc := 4) (rest := []) C (k_X1_inRange C.tr p1 (0 : Int32) (15 : Int32)) (Nat.le_of_ble_eq_true rfl) (Nat.le_of_ble_eq_true rfl) (gh_r4 (Nat.le_of_ble_eq_true rfl)) (fun H9 L9 hp9 => gi_S C q1230 q1231 q75 q1232 mh_X1 np54 rfl hl.1.1 dX1_account_4 rfl) h (gh_K0_b _ hk) (fun v1 g h => ?_) (fun e g h => ?_)
  rotate_left
  ·
    exact gh_out C (fun _ h => nomatch h) h hk
  refine gh_callV (pc := 7) (rest := []) C (k_X1_checkArgument C.tr v1) (Nat.le_of_ble_eq_true rfl) (Nat.le_of_ble_eq_true rfl) (gh_r4 (Nat.le_of_ble_eq_true rfl)) (fun H9 L9 hp9 => gi_S C q1519 q1241 q75 q1242 mh_X1 np55 rfl hl.1.1 dX1_account_7 rfl) h (gh_K0_b _ hk) (fun g h => ?_) (fun e g h => ?_)
  rotate_left
  ·
    exact gh_out C (fun _ h => nomatch h) h hk
  refine gr_iload_n (pc := 10) (i := 1) C rfl (gl_at hl 1 rfl) dX1_account_10 ?_
  by_cases k0 : p1 = (0 : Int32)
  · replace h := gh_ift h k0
    refine gr_table (pc := 11) (v := (0 : Int32)) (off := 73) (tgt := 84) C k0 (by decide) (by decide) (by decide) rfl dX1_account_11 ?_
    refine gr_aload_n (pc := 84) (i := 0) C rfl (gl_at hl 0 rfl) dX1_account_84 ?_
    refine gr_getr (pc := 85) C gh_bX1 (k := 0) (Nat.le_of_ble_eq_true rfl) q271 (fun _ h => h) dX1_account_85 h fun v3 h => ?_
    rcases v3 with _ | a4
    · exact gh_stk_inv h
    replace h := gh_nn_ss h
    refine gr_getiN (pc := 88) C gh_bX2 (k := 1) (Nat.le_of_ble_eq_true rfl) q186 (fun _ h => h) dX1_account_88 h fun v5 h => ?_
    refine gr_goto (pc := 91) (tgt := 217) C rfl dX1_account_91 ?_
    exact gr_iret (pc := 217) C dX1_account_217 h hk
  replace h := gh_iff h k0
  by_cases k1 : p1 = (1 : Int32)
  · replace h := gh_ift h k1
    refine gr_table (pc := 11) (v := (1 : Int32)) (off := 83) (tgt := 94) C k1 (by decide) (by decide) (by decide) rfl dX1_account_11 ?_
    refine gr_aload_n (pc := 94) (i := 0) C rfl (gl_at hl 0 rfl) dX1_account_94 ?_
    refine gr_getr (pc := 95) C gh_bX1 (k := 0) (Nat.le_of_ble_eq_true rfl) q271 (fun _ h => h) dX1_account_95 h fun v6 h => ?_
    rcases v6 with _ | a7
    · exact gh_stk_inv h
    replace h := gh_nn_ss h
    refine gr_getiN (pc := 98) C gh_bX2 (k := 2) (Nat.le_of_ble_eq_true rfl) q188 (fun _ h => h) dX1_account_98 h fun v8 h => ?_
    refine gr_goto (pc := 101) (tgt := 217) C rfl dX1_account_101 ?_
    exact gr_iret (pc := 217) C dX1_account_217 h hk
  replace h := gh_iff h k1
  by_cases k2 : p1 = (2 : Int32)
  · replace h := gh_ift h k2
    refine gr_table (pc := 11) (v := (2 : Int32)) (off := 93) (tgt := 104) C k2 (by decide) (by decide) (by decide) rfl dX1_account_11 ?_
    refine gr_aload_n (pc := 104) (i := 0) C rfl (gl_at hl 0 rfl) dX1_account_104 ?_
    refine gr_getr (pc := 105) C gh_bX1 (k := 0) (Nat.le_of_ble_eq_true rfl) q271 (fun _ h => h) dX1_account_105 h fun v9 h => ?_
    rcases v9 with _ | a10
    · exact gh_stk_inv h
    replace h := gh_nn_ss h
    refine gr_getrN (pc := 108) C gh_bX2 (k := 5) (Nat.le_of_ble_eq_true rfl) q194 (fun _ h => h) dX1_account_108 h fun v11 h => ?_
    rcases v11 with _ | a12
    · exact gh_stk_inv h
    replace h := gh_nn_ss h
    refine gr_getiN (pc := 111) C gh_bX3 (k := 0) (Nat.le_of_ble_eq_true rfl) q179 (fun _ h => h) dX1_account_111 h fun v13 h => ?_
    refine gr_goto (pc := 114) (tgt := 217) C rfl dX1_account_114 ?_
    exact gr_iret (pc := 217) C dX1_account_217 h hk
  replace h := gh_iff h k2
  by_cases k3 : p1 = (3 : Int32)
  · replace h := gh_ift h k3
    refine gr_table (pc := 11) (v := (3 : Int32)) (off := 106) (tgt := 117) C k3 (by decide) (by decide) (by decide) rfl dX1_account_11 ?_
    refine gr_aload_n (pc := 117) (i := 0) C rfl (gl_at hl 0 rfl) dX1_account_117 ?_
    refine gr_getr (pc := 118) C gh_bX1 (k := 0) (Nat.le_of_ble_eq_true rfl) q271 (fun _ h => h) dX1_account_118 h fun v14 h => ?_
    rcases v14 with _ | a15
    · exact gh_stk_inv h
    replace h := gh_nn_ss h
    refine gr_getrN (pc := 121) C gh_bX2 (k := 6) (Nat.le_of_ble_eq_true rfl) q196 (fun _ h => h) dX1_account_121 h fun v16 h => ?_
    rcases v16 with _ | a17
    · exact gh_stk_inv h
    replace h := gh_nn_ss h
    obtain ⟨⟨fs9, hg9⟩, h⟩ := gh_is_inv h
    refine gh_callI (pc := 124) (rest := []) C (k_J2_size C.tr a17) (Nat.le_of_ble_eq_true rfl) (Nat.le_of_ble_eq_true rfl) (gh_r4 (Nat.le_of_ble_eq_true rfl)) (fun H9 L9 hp9 => gi_V C hp9 hg9 gh_cJ2 q2005 q347 q2726 q348 mh_J2 np0 rfl hl.1.1 dX1_account_124 rfl) h (gh_K0_b _ hk) (fun v18 g h => ?_) (fun e g h => ?_)
    rotate_left
    ·
      exact gh_out C (fun _ h => nomatch h) h hk
    refine gr_goto (pc := 127) (tgt := 217) C rfl dX1_account_127 ?_
    exact gr_iret (pc := 217) C dX1_account_217 h hk
  replace h := gh_iff h k3
  by_cases k4 : p1 = (4 : Int32)
  · replace h := gh_ift h k4
    refine gr_table (pc := 11) (v := (4 : Int32)) (off := 119) (tgt := 130) C k4 (by decide) (by decide) (by decide) rfl dX1_account_11 ?_
    refine gr_aload_n (pc := 130) (i := 0) C rfl (gl_at hl 0 rfl) dX1_account_130 ?_
    refine gr_getr (pc := 131) C gh_bX1 (k := 0) (Nat.le_of_ble_eq_true rfl) q271 (fun _ h => h) dX1_account_131 h fun v19 h => ?_
    refine gr_iload_n (pc := 134) (i := 1) C rfl (gl_at hl 1 rfl) dX1_account_134 ?_
    refine gr_iconst (pc := 135) (v := (4 : Int32)) C rfl dX1_account_135 ?_
    refine gr_isub (pc := 136) C dX1_account_136 ?_
    rcases v19 with _ | a20
    · exact gh_stk_inv h
    replace h := gh_nn_ss h
    obtain ⟨⟨fs9, hg9⟩, h⟩ := gh_is_inv h
    refine gh_callI (pc := 137) (rest := []) C (k_X2_count C.tr a20 (p1 - (4 : Int32))) (Nat.le_of_ble_eq_true rfl) (Nat.le_of_ble_eq_true rfl) (gh_r4 (Nat.le_of_ble_eq_true rfl)) (fun H9 L9 hp9 => gi_V C hp9 hg9 gh_cX2 q1985 q1986 q1987 q1988 mh_X2 np6 rfl hl.1.1 dX1_account_137 rfl) h (gh_K0_b _ hk) (fun v21 g h => ?_) (fun e g h => ?_)
    rotate_left
    ·
      exact gh_out C (fun _ h => nomatch h) h hk
    refine gr_goto (pc := 140) (tgt := 217) C rfl dX1_account_140 ?_
    exact gr_iret (pc := 217) C dX1_account_217 h hk
  replace h := gh_iff h k4
  by_cases k5 : p1 = (5 : Int32)
  · replace h := gh_ift h k5
    refine gr_table (pc := 11) (v := (5 : Int32)) (off := 119) (tgt := 130) C k5 (by decide) (by decide) (by decide) rfl dX1_account_11 ?_
    refine gr_aload_n (pc := 130) (i := 0) C rfl (gl_at hl 0 rfl) dX1_account_130 ?_
    refine gr_getr (pc := 131) C gh_bX1 (k := 0) (Nat.le_of_ble_eq_true rfl) q271 (fun _ h => h) dX1_account_131 h fun v22 h => ?_
    refine gr_iload_n (pc := 134) (i := 1) C rfl (gl_at hl 1 rfl) dX1_account_134 ?_
    refine gr_iconst (pc := 135) (v := (4 : Int32)) C rfl dX1_account_135 ?_
    refine gr_isub (pc := 136) C dX1_account_136 ?_
    rcases v22 with _ | a23
    · exact gh_stk_inv h
    replace h := gh_nn_ss h
    obtain ⟨⟨fs9, hg9⟩, h⟩ := gh_is_inv h
    refine gh_callI (pc := 137) (rest := []) C (k_X2_count C.tr a23 (p1 - (4 : Int32))) (Nat.le_of_ble_eq_true rfl) (Nat.le_of_ble_eq_true rfl) (gh_r4 (Nat.le_of_ble_eq_true rfl)) (fun H9 L9 hp9 => gi_V C hp9 hg9 gh_cX2 q1985 q1986 q1987 q1988 mh_X2 np6 rfl hl.1.1 dX1_account_137 rfl) h (gh_K0_b _ hk) (fun v24 g h => ?_) (fun e g h => ?_)
    rotate_left
    ·
      exact gh_out C (fun _ h => nomatch h) h hk
    refine gr_goto (pc := 140) (tgt := 217) C rfl dX1_account_140 ?_
    exact gr_iret (pc := 217) C dX1_account_217 h hk
  replace h := gh_iff h k5
  by_cases k6 : p1 = (6 : Int32)
  · replace h := gh_ift h k6
    refine gr_table (pc := 11) (v := (6 : Int32)) (off := 119) (tgt := 130) C k6 (by decide) (by decide) (by decide) rfl dX1_account_11 ?_
    refine gr_aload_n (pc := 130) (i := 0) C rfl (gl_at hl 0 rfl) dX1_account_130 ?_
    refine gr_getr (pc := 131) C gh_bX1 (k := 0) (Nat.le_of_ble_eq_true rfl) q271 (fun _ h => h) dX1_account_131 h fun v25 h => ?_
    refine gr_iload_n (pc := 134) (i := 1) C rfl (gl_at hl 1 rfl) dX1_account_134 ?_
    refine gr_iconst (pc := 135) (v := (4 : Int32)) C rfl dX1_account_135 ?_
    refine gr_isub (pc := 136) C dX1_account_136 ?_
    rcases v25 with _ | a26
    · exact gh_stk_inv h
    replace h := gh_nn_ss h
    obtain ⟨⟨fs9, hg9⟩, h⟩ := gh_is_inv h
    refine gh_callI (pc := 137) (rest := []) C (k_X2_count C.tr a26 (p1 - (4 : Int32))) (Nat.le_of_ble_eq_true rfl) (Nat.le_of_ble_eq_true rfl) (gh_r4 (Nat.le_of_ble_eq_true rfl)) (fun H9 L9 hp9 => gi_V C hp9 hg9 gh_cX2 q1985 q1986 q1987 q1988 mh_X2 np6 rfl hl.1.1 dX1_account_137 rfl) h (gh_K0_b _ hk) (fun v27 g h => ?_) (fun e g h => ?_)
    rotate_left
    ·
      exact gh_out C (fun _ h => nomatch h) h hk
    refine gr_goto (pc := 140) (tgt := 217) C rfl dX1_account_140 ?_
    exact gr_iret (pc := 217) C dX1_account_217 h hk
  replace h := gh_iff h k6
  by_cases k7 : p1 = (7 : Int32)
  · replace h := gh_ift h k7
    refine gr_table (pc := 11) (v := (7 : Int32)) (off := 119) (tgt := 130) C k7 (by decide) (by decide) (by decide) rfl dX1_account_11 ?_
    refine gr_aload_n (pc := 130) (i := 0) C rfl (gl_at hl 0 rfl) dX1_account_130 ?_
    refine gr_getr (pc := 131) C gh_bX1 (k := 0) (Nat.le_of_ble_eq_true rfl) q271 (fun _ h => h) dX1_account_131 h fun v28 h => ?_
    refine gr_iload_n (pc := 134) (i := 1) C rfl (gl_at hl 1 rfl) dX1_account_134 ?_
    refine gr_iconst (pc := 135) (v := (4 : Int32)) C rfl dX1_account_135 ?_
    refine gr_isub (pc := 136) C dX1_account_136 ?_
    rcases v28 with _ | a29
    · exact gh_stk_inv h
    replace h := gh_nn_ss h
    obtain ⟨⟨fs9, hg9⟩, h⟩ := gh_is_inv h
    refine gh_callI (pc := 137) (rest := []) C (k_X2_count C.tr a29 (p1 - (4 : Int32))) (Nat.le_of_ble_eq_true rfl) (Nat.le_of_ble_eq_true rfl) (gh_r4 (Nat.le_of_ble_eq_true rfl)) (fun H9 L9 hp9 => gi_V C hp9 hg9 gh_cX2 q1985 q1986 q1987 q1988 mh_X2 np6 rfl hl.1.1 dX1_account_137 rfl) h (gh_K0_b _ hk) (fun v30 g h => ?_) (fun e g h => ?_)
    rotate_left
    ·
      exact gh_out C (fun _ h => nomatch h) h hk
    refine gr_goto (pc := 140) (tgt := 217) C rfl dX1_account_140 ?_
    exact gr_iret (pc := 217) C dX1_account_217 h hk
  replace h := gh_iff h k7
  by_cases k8 : p1 = (8 : Int32)
  · replace h := gh_ift h k8
    refine gr_table (pc := 11) (v := (8 : Int32)) (off := 132) (tgt := 143) C k8 (by decide) (by decide) (by decide) rfl dX1_account_11 ?_
    refine gr_aload_n (pc := 143) (i := 0) C rfl (gl_at hl 0 rfl) dX1_account_143 ?_
    refine gr_getr (pc := 144) C gh_bX1 (k := 0) (Nat.le_of_ble_eq_true rfl) q271 (fun _ h => h) dX1_account_144 h fun v31 h => ?_
    rcases v31 with _ | a32
    · exact gh_stk_inv h
    replace h := gh_nn_ss h
    refine gr_getrN (pc := 147) C gh_bX2 (k := 7) (Nat.le_of_ble_eq_true rfl) q198 (fun _ h => h) dX1_account_147 h fun v33 h => ?_
    rcases v33 with _ | a34
    · exact gh_stk_inv h
    replace h := gh_nn_ss h
    obtain ⟨⟨fs9, hg9⟩, h⟩ := gh_is_inv h
    refine gh_callI (pc := 150) (rest := []) C (k_J2_size C.tr a34) (Nat.le_of_ble_eq_true rfl) (Nat.le_of_ble_eq_true rfl) (gh_r4 (Nat.le_of_ble_eq_true rfl)) (fun H9 L9 hp9 => gi_V C hp9 hg9 gh_cJ2 q2005 q347 q2726 q348 mh_J2 np0 rfl hl.1.1 dX1_account_150 rfl) h (gh_K0_b _ hk) (fun v35 g h => ?_) (fun e g h => ?_)
    rotate_left
    ·
      exact gh_out C (fun _ h => nomatch h) h hk
    refine gr_goto (pc := 153) (tgt := 217) C rfl dX1_account_153 ?_
    exact gr_iret (pc := 217) C dX1_account_217 h hk
  replace h := gh_iff h k8
  by_cases k9 : p1 = (9 : Int32)
  · replace h := gh_ift h k9
    refine gr_table (pc := 11) (v := (9 : Int32)) (off := 145) (tgt := 156) C k9 (by decide) (by decide) (by decide) rfl dX1_account_11 ?_
    refine gr_aload_n (pc := 156) (i := 0) C rfl (gl_at hl 0 rfl) dX1_account_156 ?_
    obtain ⟨⟨fs9, hg9⟩, h⟩ := gh_is_inv h
    refine gh_callI (pc := 157) (rest := []) C (k_X1_torn C.tr t0) (Nat.le_of_ble_eq_true rfl) (Nat.le_of_ble_eq_true rfl) (gh_r4 (Nat.le_of_ble_eq_true rfl)) (fun H9 L9 hp9 => gi_V C hp9 hg9 gh_cX1 q2034 q2036 qs21 q2037 mh_X1 np0 rfl hl.1.1 dX1_account_157 rfl) h (gh_K0_b _ hk) (fun v36 g h => ?_) (fun e g h => ?_)
    rotate_left
    ·
      exact gh_out C (fun _ h => nomatch h) h hk
    refine gr_goto (pc := 160) (tgt := 217) C rfl dX1_account_160 ?_
    exact gr_iret (pc := 217) C dX1_account_217 h hk
  replace h := gh_iff h k9
  by_cases k10 : p1 = (10 : Int32)
  · replace h := gh_ift h k10
    refine gr_table (pc := 11) (v := (10 : Int32)) (off := 152) (tgt := 163) C k10 (by decide) (by decide) (by decide) rfl dX1_account_11 ?_
    refine gr_aload_n (pc := 163) (i := 0) C rfl (gl_at hl 0 rfl) dX1_account_163 ?_
    refine gr_getr (pc := 164) C gh_bX1 (k := 0) (Nat.le_of_ble_eq_true rfl) q271 (fun _ h => h) dX1_account_164 h fun v37 h => ?_
    rcases v37 with _ | a38
    · exact gh_stk_inv h
    replace h := gh_nn_ss h
    refine gr_getrN (pc := 167) C gh_bX2 (k := 8) (Nat.le_of_ble_eq_true rfl) q200 (fun _ h => h) dX1_account_167 h fun v39 h => ?_
    rcases v39 with _ | a40
    · exact gh_stk_inv h
    replace h := gh_nn_ss h
    obtain ⟨⟨fs9, hg9⟩, h⟩ := gh_is_inv h
    refine gh_callI (pc := 170) (rest := []) C (k_J2_size C.tr a40) (Nat.le_of_ble_eq_true rfl) (Nat.le_of_ble_eq_true rfl) (gh_r4 (Nat.le_of_ble_eq_true rfl)) (fun H9 L9 hp9 => gi_V C hp9 hg9 gh_cJ2 q2005 q347 q2726 q348 mh_J2 np0 rfl hl.1.1 dX1_account_170 rfl) h (gh_K0_b _ hk) (fun v41 g h => ?_) (fun e g h => ?_)
    rotate_left
    ·
      exact gh_out C (fun _ h => nomatch h) h hk
    refine gr_goto (pc := 173) (tgt := 217) C rfl dX1_account_173 ?_
    exact gr_iret (pc := 217) C dX1_account_217 h hk
  replace h := gh_iff h k10
  by_cases k11 : p1 = (11 : Int32)
  · replace h := gh_ift h k11
    refine gr_table (pc := 11) (v := (11 : Int32)) (off := 165) (tgt := 176) C k11 (by decide) (by decide) (by decide) rfl dX1_account_11 ?_
    refine gr_aload_n (pc := 176) (i := 0) C rfl (gl_at hl 0 rfl) dX1_account_176 ?_
    obtain ⟨⟨fs9, hg9⟩, h⟩ := gh_is_inv h
    refine gh_callI (pc := 177) (rest := []) C (k_X1_fulfilled C.tr t0) (Nat.le_of_ble_eq_true rfl) (Nat.le_of_ble_eq_true rfl) (gh_r4 (Nat.le_of_ble_eq_true rfl)) (fun H9 L9 hp9 => gi_V C hp9 hg9 gh_cX1 q2038 q2040 qs22 q2041 mh_X1 np0 rfl hl.1.1 dX1_account_177 rfl) h (gh_K0_b _ hk) (fun v42 g h => ?_) (fun e g h => ?_)
    rotate_left
    ·
      exact gh_out C (fun _ h => nomatch h) h hk
    refine gr_goto (pc := 180) (tgt := 217) C rfl dX1_account_180 ?_
    exact gr_iret (pc := 217) C dX1_account_217 h hk
  replace h := gh_iff h k11
  by_cases k12 : p1 = (12 : Int32)
  · replace h := gh_ift h k12
    refine gr_table (pc := 11) (v := (12 : Int32)) (off := 172) (tgt := 183) C k12 (by decide) (by decide) (by decide) rfl dX1_account_11 ?_
    refine gr_aload_n (pc := 183) (i := 0) C rfl (gl_at hl 0 rfl) dX1_account_183 ?_
    refine gr_getr (pc := 184) C gh_bX1 (k := 0) (Nat.le_of_ble_eq_true rfl) q271 (fun _ h => h) dX1_account_184 h fun v43 h => ?_
    rcases v43 with _ | a44
    · exact gh_stk_inv h
    replace h := gh_nn_ss h
    refine gr_getiN (pc := 187) C gh_bX2 (k := 3) (Nat.le_of_ble_eq_true rfl) q190 (fun _ h => h) dX1_account_187 h fun v45 h => ?_
    refine gr_goto (pc := 190) (tgt := 217) C rfl dX1_account_190 ?_
    exact gr_iret (pc := 217) C dX1_account_217 h hk
  replace h := gh_iff h k12
  by_cases k13 : p1 = (13 : Int32)
  · replace h := gh_ift h k13
    refine gr_table (pc := 11) (v := (13 : Int32)) (off := 182) (tgt := 193) C k13 (by decide) (by decide) (by decide) rfl dX1_account_11 ?_
    refine gr_aload_n (pc := 193) (i := 0) C rfl (gl_at hl 0 rfl) dX1_account_193 ?_
    refine gr_getr (pc := 194) C gh_bX1 (k := 0) (Nat.le_of_ble_eq_true rfl) q271 (fun _ h => h) dX1_account_194 h fun v46 h => ?_
    rcases v46 with _ | a47
    · exact gh_stk_inv h
    replace h := gh_nn_ss h
    refine gr_getiN (pc := 197) C gh_bX2 (k := 4) (Nat.le_of_ble_eq_true rfl) q192 (fun _ h => h) dX1_account_197 h fun v48 h => ?_
    refine gr_goto (pc := 200) (tgt := 217) C rfl dX1_account_200 ?_
    exact gr_iret (pc := 217) C dX1_account_217 h hk
  replace h := gh_iff h k13
  by_cases k14 : p1 = (14 : Int32)
  · replace h := gh_ift h k14
    refine gr_table (pc := 11) (v := (14 : Int32)) (off := 192) (tgt := 203) C k14 (by decide) (by decide) (by decide) rfl dX1_account_11 ?_
    refine gr_aload_n (pc := 203) (i := 0) C rfl (gl_at hl 0 rfl) dX1_account_203 ?_
    refine gr_geti (pc := 204) C gh_bX1 (k := 6) (Nat.le_of_ble_eq_true rfl) q279 (fun _ h => h) dX1_account_204 h fun v49 h => ?_
    refine gr_goto (pc := 207) (tgt := 217) C rfl dX1_account_207 ?_
    exact gr_iret (pc := 217) C dX1_account_217 h hk
  replace h := gh_iff h k14
  refine gr_tableD (pc := 11) (tgt := 210) C (gh_tout14 k0 k1 k2 k3 k4 k5 k6 k7 k8 k9 k10 k11 k12 k13 k14) rfl dX1_account_11 ?_
  refine gr_aload_n (pc := 210) (i := 0) C rfl (gl_at hl 0 rfl) dX1_account_210 ?_
  refine gr_getr (pc := 211) C gh_bX1 (k := 2) (Nat.le_of_ble_eq_true rfl) q273 (fun _ h => h) dX1_account_211 h fun v50 h => ?_
  rcases v50 with _ | a51
  · exact gh_stk_inv h
  replace h := gh_nn_ss h
  obtain ⟨⟨fs9, hg9⟩, h⟩ := gh_is_inv h
  refine gh_callI (pc := 214) (rest := []) C (k_J3_size C.tr a51) (Nat.le_of_ble_eq_true rfl) (Nat.le_of_ble_eq_true rfl) (gh_r4 (Nat.le_of_ble_eq_true rfl)) (fun H9 L9 hp9 => gi_V C hp9 hg9 gh_cJ3 q1405 q1406 q1407 q1408 mh_J3 np0 rfl hl.1.1 dX1_account_214 rfl) h (gh_K0_b _ hk) (fun v52 g h => ?_) (fun e g h => ?_)
  rotate_left
  ·
    exact gh_out C (fun _ h => nomatch h) h hk
  exact gr_iret (pc := 217) C dX1_account_217 h hk

theorem k_X1_account {l : Launch} (hst : l.stackTraces = false) (t0 : Nat) (p1 : Int32) : gh_Ct l yX1_account 8 143 (f_X1_account t0 p1) gh_rI [va_rf (some t0), .int p1] := gh_intro2 (L1 := 130) hst (by decide +kernel) q2033 q75 rfl ⟨gh_cat _, rfl, trivial⟩ (Nat.le_of_ble_eq_true rfl) fun x o ls hl C h hk => w_X1_account C t0 p1 hl h hk
-- GargoyleTower.perform()I
abbrev hh_X1_perform : List ExceptionTableEntry := tableOf [(0, 16, 23, 396), (0, 16, 39, 22), (0, 16, 53, 0), (23, 32, 53, 0), (39, 46, 53, 0)]
noncomputable def f_X1_perform_53 (t0 : Nat) (s0 : Option Nat) : gh_M Int32 :=
  gh_bd (gh_putv t0 0 6 .int (.int (0 : Int32))) fun _ =>
  gh_nn s0 fun a1 =>
  gh_ath a1 gh_thr
theorem w_X1_perform_53 {x : gh_C} {g : gh_G} {o : (Int32 ⊕ gh_X) × gh_G} {ls : Array Slot} (C : gh_K x cX1_perform "GargoyleTower" 4 (some .int) "perform" 55 1188 hh_X1_perform) (t0 : Nat) (s0 : Option Nat) (hl : gh_lv ls 4 [(0, va_rf (some t0))]) (h : gh_run (f_X1_perform_53 t0 s0) g = some o) (hk : (gh_K0 x gh_rI) o) : gh_Wd x g (F0 (gh_cm x) 53 ls [va_rf s0]) := by
  unfold f_X1_perform_53 at h
  refine gr_astore_n (pc := 53) (i := 3) (l' := [(3, va_rf s0), (0, va_rf (some t0))]) C rfl hl (Nat.le_of_ble_eq_true rfl) rfl dX1_perform_53 fun ls hl => ?_
  refine gr_aload_n (pc := 54) (i := 0) C rfl (gl_at hl 1 rfl) dX1_perform_54 ?_
  refine gr_iconst (pc := 55) (v := (0 : Int32)) C rfl dX1_perform_55 ?_
  refine gr_putp (pc := 56) C gh_bX1 (k := 6) (Nat.le_of_ble_eq_true rfl) q279 (fun _ h => h) rfl dX1_perform_56 h fun g h => ?_
  refine gr_aload_n (pc := 59) (i := 3) C rfl (gl_at hl 0 rfl) dX1_perform_59 ?_
  rcases s0 with _ | a1
  · exact gh_stk_inv h
  replace h := gh_nn_ss h
  refine gr_ath (pc := 60) C dX1_perform_60 h fun c8 h => ?_
  obtain ⟨e, he⟩ : ∃ e : gh_X, e = (c8, a1) := ⟨_, rfl⟩
  rw [← he] at h ⊢
  clear he
  exact gh_out C (by decide) h hk

noncomputable def f_X1_perform_39 (t0 : Nat) (s0 : Option Nat) : gh_M Int32 :=
  gh_bd (gh_is t0 0) fun _ =>
  gh_tc (f_X1_refused t0 s0) (fun v1 =>
  gh_bd (gh_putv t0 0 6 .int (.int (0 : Int32))) fun _ =>
  gh_ret v1)
  (fun e => if e.1 = 20 then (f_X1_perform_53 t0 (some e.2)) else gh_stk)
theorem w_X1_perform_39 {x : gh_C} {g : gh_G} {o : (Int32 ⊕ gh_X) × gh_G} {ls : Array Slot} (C : gh_K x cX1_perform "GargoyleTower" 4 (some .int) "perform" 55 1188 hh_X1_perform) (t0 : Nat) (s0 : Option Nat) (hl : gh_lv ls 4 [(0, va_rf (some t0))]) (h : gh_run (f_X1_perform_39 t0 s0) g = some o) (hk : (gh_K0 x gh_rI) o) : gh_Wd x g (F0 (gh_cm x) 39 ls [va_rf s0]) := by
  unfold f_X1_perform_39 at h
  refine gr_astore_n (pc := 39) (i := 1) (l' := [(1, va_rf s0), (0, va_rf (some t0))]) C rfl hl (Nat.le_of_ble_eq_true rfl) rfl dX1_perform_39 fun ls hl => ?_
  refine gr_aload_n (pc := 40) (i := 0) C rfl (gl_at hl 1 rfl) dX1_perform_40 ?_
  refine gr_aload_n (pc := 41) (i := 1) C rfl (gl_at hl 0 rfl) dX1_perform_41 ?_
  obtain ⟨⟨fs9, hg9⟩, h⟩ := gh_is_inv h
  refine gh_callI (pc := 42) (rest := []) C (k_X1_refused C.tr t0 s0) (Nat.le_of_ble_eq_true rfl) (Nat.le_of_ble_eq_true rfl) (gh_r4 (Nat.le_of_ble_eq_true rfl)) (fun H9 L9 hp9 => gi_V C hp9 hg9 gh_cX1 q1460 q1462 qs18 q1463 mh_X1 np75 rfl hl.1.1 dX1_perform_42 rfl) h (gh_K0_b _ hk) (fun v1 g h => ?_) (fun e g h => ?_)
  rotate_left
  ·
    by_cases c7 : e.1 = 20
    · replace h := gh_ift h c7
      refine gh_catchAny C (q := (RJ23, TJ23, 6)) (by rw [c7]; exact gh_cJ23) [⟨0, 16, 23, 396⟩, ⟨0, 16, 39, 22⟩, ⟨0, 16, 53, 0⟩, ⟨23, 32, 53, 0⟩] ⟨39, 46, 53, 0⟩ [] rfl (List.forall_mem_cons.mpr ⟨Or.inl rfl, (List.forall_mem_cons.mpr ⟨Or.inl rfl, (List.forall_mem_cons.mpr ⟨Or.inl rfl, (List.forall_mem_cons.mpr ⟨Or.inl rfl, (fun _ h => nomatch h)⟩)⟩)⟩)⟩) rfl rfl ?_
      exact w_X1_perform_53 C t0 (some e.2) (gl_sub hl [1] rfl) h hk
    replace h := gh_iff h c7
    exact gh_stk_inv h
  refine gr_istore_n (pc := 45) (i := 2) (l' := [(2, .int v1), (1, va_rf s0), (0, va_rf (some t0))]) C rfl hl (Nat.le_of_ble_eq_true rfl) rfl dX1_perform_45 fun ls hl => ?_
  refine gr_aload_n (pc := 46) (i := 0) C rfl (gl_at hl 2 rfl) dX1_perform_46 ?_
  refine gr_iconst (pc := 47) (v := (0 : Int32)) C rfl dX1_perform_47 ?_
  refine gr_putp (pc := 48) C gh_bX1 (k := 6) (Nat.le_of_ble_eq_true rfl) q279 (fun _ h => h) rfl dX1_perform_48 h fun g h => ?_
  refine gr_iload_n (pc := 51) (i := 2) C rfl (gl_at hl 0 rfl) dX1_perform_51 ?_
  exact gr_iret (pc := 52) C dX1_perform_52 h hk

noncomputable def f_X1_perform_23 (t0 : Nat) (s0 : Option Nat) : gh_M Int32 :=
  gh_nn s0 fun a1 =>
  gh_bd (gh_geti a1 10 6) fun v2 =>
  gh_bd (gh_putv t0 0 6 .int (.int (0 : Int32))) fun _ =>
  gh_ret ((-100 : Int32) - v2)
theorem w_X1_perform_23 {x : gh_C} {g : gh_G} {o : (Int32 ⊕ gh_X) × gh_G} {ls : Array Slot} (C : gh_K x cX1_perform "GargoyleTower" 4 (some .int) "perform" 55 1188 hh_X1_perform) (t0 : Nat) (s0 : Option Nat) (hl : gh_lv ls 4 [(0, va_rf (some t0))]) (h : gh_run (f_X1_perform_23 t0 s0) g = some o) (hk : (gh_K0 x gh_rI) o) : gh_Wd x g (F0 (gh_cm x) 23 ls [va_rf s0]) := by
  unfold f_X1_perform_23 at h
  refine gr_astore_n (pc := 23) (i := 1) (l' := [(1, va_rf s0), (0, va_rf (some t0))]) C rfl hl (Nat.le_of_ble_eq_true rfl) rfl dX1_perform_23 fun ls hl => ?_
  refine gr_bipush (pc := 24) (v := (-100 : Int32)) C rfl dX1_perform_24 ?_
  refine gr_aload_n (pc := 26) (i := 1) C rfl (gl_at hl 0 rfl) dX1_perform_26 ?_
  rcases s0 with _ | a1
  · exact gh_stk_inv h
  replace h := gh_nn_ss h
  refine gr_getiN (pc := 27) C gh_bX13 (k := 6) (Nat.le_of_ble_eq_true rfl) q2119 (fun _ h => h) dX1_perform_27 h fun v2 h => ?_
  refine gr_isub (pc := 30) C dX1_perform_30 ?_
  refine gr_istore_n (pc := 31) (i := 2) (l' := [(2, .int ((-100 : Int32) - v2)), (1, va_rf (some a1)), (0, va_rf (some t0))]) C rfl hl (Nat.le_of_ble_eq_true rfl) rfl dX1_perform_31 fun ls hl => ?_
  refine gr_aload_n (pc := 32) (i := 0) C rfl (gl_at hl 2 rfl) dX1_perform_32 ?_
  refine gr_iconst (pc := 33) (v := (0 : Int32)) C rfl dX1_perform_33 ?_
  refine gr_putp (pc := 34) C gh_bX1 (k := 6) (Nat.le_of_ble_eq_true rfl) q279 (fun _ h => h) rfl dX1_perform_34 h fun g h => ?_
  refine gr_iload_n (pc := 37) (i := 2) C rfl (gl_at hl 0 rfl) dX1_perform_37 ?_
  exact gr_iret (pc := 38) C dX1_perform_38 h hk

noncomputable def f_X1_perform (t0 : Nat) : gh_M Int32 :=
  gh_bd (gh_new 9 2 gh_nX12) fun a1 =>
  gh_tc (f_X12_init a1 (some t0)) (fun _ =>
  gh_bd (gh_is a1 9) fun _ =>
  gh_tc (f_X12_all a1) (fun v3 =>
  gh_bd (gh_is t0 0) fun _ =>
  gh_tc (f_X1_carryOutAll t0 v3) (fun v4 =>
  gh_bd (gh_putv t0 0 6 .int (.int (0 : Int32))) fun _ =>
  gh_ret v4)
  (fun e => if e.1 = 10 then (f_X1_perform_23 t0 (some e.2)) else if e.1 = 8 then (f_X1_perform_39 t0 (some e.2)) else if e.1 = 20 then (f_X1_perform_53 t0 (some e.2)) else gh_stk))
  (fun e => if e.1 = 10 then (f_X1_perform_23 t0 (some e.2)) else if e.1 = 8 then (f_X1_perform_39 t0 (some e.2)) else if e.1 = 20 then (f_X1_perform_53 t0 (some e.2)) else gh_stk))
  (fun e => if e.1 = 10 then (f_X1_perform_23 t0 (some e.2)) else if e.1 = 8 then (f_X1_perform_39 t0 (some e.2)) else if e.1 = 20 then (f_X1_perform_53 t0 (some e.2)) else gh_stk)
theorem w_X1_perform {x : gh_C} {g : gh_G} {o : (Int32 ⊕ gh_X) × gh_G} {ls : Array Slot} (C : gh_K x cX1_perform "GargoyleTower" 4 (some .int) "perform" 55 1188 hh_X1_perform) (t0 : Nat) (hl : gh_lv ls 4 [(0, va_rf (some t0))]) (h : gh_run (f_X1_perform t0) g = some o) (hk : (gh_K0 x gh_rI) o) : gh_Wd x g (F0 (gh_cm x) 0 ls []) := by
  unfold f_X1_perform at h
  refine gr_aload_n (pc := 0) (i := 0) C rfl (gl_at hl 0 rfl) dX1_perform_0 ?_
  refine gr_newo (pc := 1) C gh_bX12 q2066 q2067 q118 gh_dX12 dX1_perform_1 h (gh_K0_b _ hk) fun a1 g h => ?_
  refine gr_dup (pc := 4) C (gh_cat _) dX1_perform_4 ?_
  refine gr_aload_n (pc := 5) (i := 0) C rfl (gl_at hl 0 rfl) dX1_perform_5 ?_
  refine gh_callV (pc := 6) (rest := [va_rf (some a1), va_rf (some t0)]) C (k_X12_init C.tr a1 (some t0)) (Nat.le_of_ble_eq_true rfl) (Nat.le_of_ble_eq_true rfl) (gh_r4 (Nat.le_of_ble_eq_true rfl)) (fun H9 L9 hp9 => gi_IN C q2068 rfl q2069 q2070 mh_X12 np76 rfl hl.1.1 dX1_perform_6 rfl) h (gh_K0_b _ hk) (fun g h => ?_) (fun e g h => ?_)
  rotate_left
  ·
    by_cases c7 : e.1 = 10
    · replace h := gh_ift h c7
      refine gh_catch C (q := (RX13, TX13, 7)) (by rw [c7]; exact gh_cX13) [] ⟨0, 16, 23, 396⟩ [⟨0, 16, 39, 22⟩, ⟨0, 16, 53, 0⟩, ⟨23, 32, 53, 0⟩, ⟨39, 46, 53, 0⟩] rfl (fun _ h => nomatch h) rfl (by decide) q2065 q2107 ?_
      exact w_X1_perform_23 C t0 (some e.2) (gl_sub hl [0] rfl) h hk
    replace h := gh_iff h c7
    by_cases c7 : e.1 = 8
    · replace h := gh_ift h c7
      refine gh_catch C (q := (RX9, TX9, 8)) (by rw [c7]; exact gh_cX9) [⟨0, 16, 23, 396⟩] ⟨0, 16, 39, 22⟩ [⟨0, 16, 53, 0⟩, ⟨23, 32, 53, 0⟩, ⟨39, 46, 53, 0⟩] rfl (List.forall_mem_cons.mpr ⟨Or.inr ⟨by decide, _, q2065, by decide +kernel⟩, (fun _ h => nomatch h)⟩) rfl (by decide) q1133 q1252 ?_
      exact w_X1_perform_39 C t0 (some e.2) (gl_sub hl [0] rfl) h hk
    replace h := gh_iff h c7
    by_cases c7 : e.1 = 20
    · replace h := gh_ift h c7
      refine gh_catchAny C (q := (RJ23, TJ23, 6)) (by rw [c7]; exact gh_cJ23) [⟨0, 16, 23, 396⟩, ⟨0, 16, 39, 22⟩] ⟨0, 16, 53, 0⟩ [⟨23, 32, 53, 0⟩, ⟨39, 46, 53, 0⟩] rfl (List.forall_mem_cons.mpr ⟨Or.inr ⟨by decide, _, q2065, by decide +kernel⟩, (List.forall_mem_cons.mpr ⟨Or.inr ⟨by decide, _, q1133, by decide +kernel⟩, (fun _ h => nomatch h)⟩)⟩) rfl rfl ?_
      exact w_X1_perform_53 C t0 (some e.2) (gl_sub hl [0] rfl) h hk
    replace h := gh_iff h c7
    exact gh_stk_inv h
  obtain ⟨⟨fs9, hg9⟩, h⟩ := gh_is_inv h
  refine gh_callQ (pc := 9) (rest := [va_rf (some t0)]) C (k_X12_all C.tr a1) (Nat.le_of_ble_eq_true rfl) (Nat.le_of_ble_eq_true rfl) (gh_r4 (Nat.le_of_ble_eq_true rfl)) (fun H9 L9 hp9 => gi_V C hp9 hg9 gh_cX12 q2079 q2080 q2081 q2082 mh_X12 np77 rfl hl.1.1 dX1_perform_9 rfl) h (gh_K0_b _ hk) (fun v3 g h => ?_) (fun e g h => ?_)
  rotate_left
  ·
    by_cases c7 : e.1 = 10
    · replace h := gh_ift h c7
      refine gh_catch C (q := (RX13, TX13, 7)) (by rw [c7]; exact gh_cX13) [] ⟨0, 16, 23, 396⟩ [⟨0, 16, 39, 22⟩, ⟨0, 16, 53, 0⟩, ⟨23, 32, 53, 0⟩, ⟨39, 46, 53, 0⟩] rfl (fun _ h => nomatch h) rfl (by decide) q2065 q2107 ?_
      exact w_X1_perform_23 C t0 (some e.2) (gl_sub hl [0] rfl) h hk
    replace h := gh_iff h c7
    by_cases c7 : e.1 = 8
    · replace h := gh_ift h c7
      refine gh_catch C (q := (RX9, TX9, 8)) (by rw [c7]; exact gh_cX9) [⟨0, 16, 23, 396⟩] ⟨0, 16, 39, 22⟩ [⟨0, 16, 53, 0⟩, ⟨23, 32, 53, 0⟩, ⟨39, 46, 53, 0⟩] rfl (List.forall_mem_cons.mpr ⟨Or.inr ⟨by decide, _, q2065, by decide +kernel⟩, (fun _ h => nomatch h)⟩) rfl (by decide) q1133 q1252 ?_
      exact w_X1_perform_39 C t0 (some e.2) (gl_sub hl [0] rfl) h hk
    replace h := gh_iff h c7
    by_cases c7 : e.1 = 20
    · replace h := gh_ift h c7
      refine gh_catchAny C (q := (RJ23, TJ23, 6)) (by rw [c7]; exact gh_cJ23) [⟨0, 16, 23, 396⟩, ⟨0, 16, 39, 22⟩] ⟨0, 16, 53, 0⟩ [⟨23, 32, 53, 0⟩, ⟨39, 46, 53, 0⟩] rfl (List.forall_mem_cons.mpr ⟨Or.inr ⟨by decide, _, q2065, by decide +kernel⟩, (List.forall_mem_cons.mpr ⟨Or.inr ⟨by decide, _, q1133, by decide +kernel⟩, (fun _ h => nomatch h)⟩)⟩) rfl rfl ?_
      exact w_X1_perform_53 C t0 (some e.2) (gl_sub hl [0] rfl) h hk
    replace h := gh_iff h c7
    exact gh_stk_inv h
  obtain ⟨⟨fs9, hg9⟩, h⟩ := gh_is_inv h
  refine gh_callI (pc := 12) (rest := []) C (k_X1_carryOutAll C.tr t0 v3) (Nat.le_of_ble_eq_true rfl) (Nat.le_of_ble_eq_true rfl) (gh_r4 (Nat.le_of_ble_eq_true rfl)) (fun H9 L9 hp9 => gi_V C hp9 hg9 gh_cX1 q2171 q2173 qs33 q2174 mh_X1 np84 rfl hl.1.1 dX1_perform_12 rfl) h (gh_K0_b _ hk) (fun v4 g h => ?_) (fun e g h => ?_)
  rotate_left
  ·
    by_cases c7 : e.1 = 10
    · replace h := gh_ift h c7
      refine gh_catch C (q := (RX13, TX13, 7)) (by rw [c7]; exact gh_cX13) [] ⟨0, 16, 23, 396⟩ [⟨0, 16, 39, 22⟩, ⟨0, 16, 53, 0⟩, ⟨23, 32, 53, 0⟩, ⟨39, 46, 53, 0⟩] rfl (fun _ h => nomatch h) rfl (by decide) q2065 q2107 ?_
      exact w_X1_perform_23 C t0 (some e.2) (gl_sub hl [0] rfl) h hk
    replace h := gh_iff h c7
    by_cases c7 : e.1 = 8
    · replace h := gh_ift h c7
      refine gh_catch C (q := (RX9, TX9, 8)) (by rw [c7]; exact gh_cX9) [⟨0, 16, 23, 396⟩] ⟨0, 16, 39, 22⟩ [⟨0, 16, 53, 0⟩, ⟨23, 32, 53, 0⟩, ⟨39, 46, 53, 0⟩] rfl (List.forall_mem_cons.mpr ⟨Or.inr ⟨by decide, _, q2065, by decide +kernel⟩, (fun _ h => nomatch h)⟩) rfl (by decide) q1133 q1252 ?_
      exact w_X1_perform_39 C t0 (some e.2) (gl_sub hl [0] rfl) h hk
    replace h := gh_iff h c7
    by_cases c7 : e.1 = 20
    · replace h := gh_ift h c7
      refine gh_catchAny C (q := (RJ23, TJ23, 6)) (by rw [c7]; exact gh_cJ23) [⟨0, 16, 23, 396⟩, ⟨0, 16, 39, 22⟩] ⟨0, 16, 53, 0⟩ [⟨23, 32, 53, 0⟩, ⟨39, 46, 53, 0⟩] rfl (List.forall_mem_cons.mpr ⟨Or.inr ⟨by decide, _, q2065, by decide +kernel⟩, (List.forall_mem_cons.mpr ⟨Or.inr ⟨by decide, _, q1133, by decide +kernel⟩, (fun _ h => nomatch h)⟩)⟩) rfl rfl ?_
      exact w_X1_perform_53 C t0 (some e.2) (gl_sub hl [0] rfl) h hk
    replace h := gh_iff h c7
    exact gh_stk_inv h
  refine gr_istore_n (pc := 15) (i := 1) (l' := [(1, .int v4), (0, va_rf (some t0))]) C rfl hl (Nat.le_of_ble_eq_true rfl) rfl dX1_perform_15 fun ls hl => ?_
  refine gr_aload_n (pc := 16) (i := 0) C rfl (gl_at hl 1 rfl) dX1_perform_16 ?_
  refine gr_iconst (pc := 17) (v := (0 : Int32)) C rfl dX1_perform_17 ?_
  refine gr_putp (pc := 18) C gh_bX1 (k := 6) (Nat.le_of_ble_eq_true rfl) q279 (fun _ h => h) rfl dX1_perform_18 h fun g h => ?_
  refine gr_iload_n (pc := 21) (i := 1) C rfl (gl_at hl 0 rfl) dX1_perform_21 ?_
  exact gr_iret (pc := 22) C dX1_perform_22 h hk

theorem k_X1_perform {l : Launch} (hst : l.stackTraces = false) (t0 : Nat) : gh_Ct l yX1_perform 55 1203 (f_X1_perform t0) gh_rI [va_rf (some t0)] := gh_introW2 (L1 := 1188) hst (by decide +kernel) q2064 q75 rfl ⟨gh_cat _, trivial⟩ (Nat.le_of_ble_eq_true rfl) fun x o ls hl C h hk => w_X1_perform C t0 hl h hk
-- GargoyleTower.block(IZ)I
noncomputable def f_X1_block_17 (s0 : Option Nat) (s1 : Option Nat) (s2 : Option Nat) (s3 : Option Nat) (s4 : Int32) (s5 : Int32) : gh_M Int32 :=
  gh_nn s2 fun a1 =>
  gh_bd (f_X5_init a1 s3 s4 s5) fun _ =>
  gh_nn s0 fun a3 =>
  gh_bd (gh_is a3 0) fun _ =>
  gh_bd (f_X1_carryOut a3 s1) fun v4 =>
  gh_ret v4
theorem w_X1_block_17 {x : gh_C} {g : gh_G} {o : (Int32 ⊕ gh_X) × gh_G} {ls : Array Slot} (C : gh_K x cX1_block "GargoyleTower" 3 (some .int) "block" 54 1163 []) (s0 : Option Nat) (s1 : Option Nat) (s2 : Option Nat) (s3 : Option Nat) (s4 : Int32) (s5 : Int32) (hl : gh_lv ls 3 []) (h : gh_run (f_X1_block_17 s0 s1 s2 s3 s4 s5) g = some o) (hk : (gh_K0 x gh_rI) o) : gh_Wd x g (F0 (gh_cm x) 17 ls [.int s5, .int s4, va_rf s3, va_rf s2, va_rf s1, va_rf s0]) := by
  unfold f_X1_block_17 at h
  rcases s2 with _ | a1
  · exact gh_stk_inv h
  replace h := gh_nn_ss h
  refine gh_callV (pc := 17) (rest := [va_rf s1, va_rf s0]) C (k_X5_init C.tr a1 s3 s4 s5) (Nat.le_of_ble_eq_true rfl) (Nat.le_of_ble_eq_true rfl) (gh_r4 (Nat.le_of_ble_eq_true rfl)) (fun H9 L9 hp9 => gi_I C q1109 rfl q1110 q1111 mh_X5 np65 rfl hl.1.1 dX1_block_17 rfl) h (gh_K0_b _ hk) (fun g h => ?_) (fun e g h => ?_)
  rotate_left
  ·
    exact gh_out C (fun _ h => nomatch h) h hk
  rcases s0 with _ | a3
  · exact gh_stk_inv h
  replace h := gh_nn_ss h
  obtain ⟨⟨fs9, hg9⟩, h⟩ := gh_is_inv h
  refine gh_callI (pc := 20) (rest := []) C (k_X1_carryOut C.tr a3 s1) (Nat.le_of_ble_eq_true rfl) (Nat.le_of_ble_eq_true rfl) (gh_r4 (Nat.le_of_ble_eq_true rfl)) (fun H9 L9 hp9 => gi_VX C hp9 hg9 gh_cX1 q1129 q1131 qs9 q1132 mh_X1 np80 rfl hl.1.1 dX1_block_20 rfl) h (gh_K0_b _ hk) (fun v4 g h => ?_) (fun e g h => ?_)
  rotate_left
  ·
    exact gh_out C (fun _ h => nomatch h) h hk
  exact gr_iret (pc := 23) C dX1_block_23 h hk

noncomputable def f_X1_block (t0 : Nat) (p1 : Int32) (p2 : Int32) : gh_M Int32 :=
  gh_bd (gh_new 4 4 gh_nX5) fun a1 =>
  gh_bd (gh_cst 0) fun v2 =>
  if p2 = 0 then
  (f_X1_block_17 (some t0) (some a1) (some a1) v2 p1 (0 : Int32))
  else
  (f_X1_block_17 (some t0) (some a1) (some a1) v2 p1 (1 : Int32))
theorem w_X1_block {x : gh_C} {g : gh_G} {o : (Int32 ⊕ gh_X) × gh_G} {ls : Array Slot} (C : gh_K x cX1_block "GargoyleTower" 3 (some .int) "block" 54 1163 []) (t0 : Nat) (p1 : Int32) (p2 : Int32) (hl : gh_lv ls 3 [(0, va_rf (some t0)), (1, .int p1), (2, .int p2)]) (h : gh_run (f_X1_block t0 p1 p2) g = some o) (hk : (gh_K0 x gh_rI) o) : gh_Wd x g (F0 (gh_cm x) 0 ls []) := by
  unfold f_X1_block at h
  refine gr_aload_n (pc := 0) (i := 0) C rfl (gl_at hl 0 rfl) dX1_block_0 ?_
  refine gr_newo (pc := 1) C gh_bX5 q1106 q1107 q87 gh_dX5 dX1_block_1 h (gh_K0_b _ hk) fun a1 g h => ?_
  refine gr_dup (pc := 4) C (gh_cat _) dX1_block_4 ?_
  refine gr_ldcS (pc := 5) C (index := 90) (j := 0) (tx := "block") (by decide +kernel) dX1_block_5 h fun v2 h => ?_
  refine gr_iload_n (pc := 7) (i := 1) C rfl (gl_at hl 1 rfl) dX1_block_7 ?_
  refine gr_iload_n (pc := 8) (i := 2) C rfl (gl_at hl 2 rfl) dX1_block_8 ?_
  refine gr_if_eq (pc := 9) (tgt := 16) C rfl dX1_block_9 (fun c9 => ?_) (fun c9 => ?_)
  · replace h := gh_ift h c9
    refine gr_iconst (pc := 16) (v := (0 : Int32)) C rfl dX1_block_16 ?_
    exact w_X1_block_17 C (some t0) (some a1) (some a1) v2 p1 (0 : Int32) (gl_sub hl [] rfl) h hk
  · replace h := gh_iff h c9
    refine gr_iconst (pc := 12) (v := (1 : Int32)) C rfl dX1_block_12 ?_
    refine gr_goto (pc := 13) (tgt := 17) C rfl dX1_block_13 ?_
    exact w_X1_block_17 C (some t0) (some a1) (some a1) v2 p1 (1 : Int32) (gl_sub hl [] rfl) h hk

theorem k_X1_block {l : Launch} (hst : l.stackTraces = false) (t0 : Nat) (p1 : Int32) (p2 : Int32) : gh_Ct l yX1_block 54 1177 (f_X1_block t0 p1 p2) gh_rI [va_rf (some t0), .int p1, .int p2] := gh_intro2 (L1 := 1163) hst (by decide +kernel) q1105 q75 rfl ⟨gh_cat _, rfl, rfl, trivial⟩ (Nat.le_of_ble_eq_true rfl) fun x o ls hl C h hk => w_X1_block C t0 p1 p2 hl h hk
