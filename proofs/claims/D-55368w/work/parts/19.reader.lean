/-! the reader: rows of the code, functions, walks, contracts (printed) -/
set_option maxRecDepth 100000
abbrev cX1_wordOf : ByteArray := prog_1_method_50_code
def yX1_wordOf : MethodName := ⟨RX1, "wordOf", "(II)Ljava/lang/String;"⟩
def dkwX1_wordOf_3 : List UInt8 := [167, 0, 23, 27, 16, 97, 160, 0, 9, 19, 1, 18, 167, 0, 11, 18, 100, 167, 0, 6, 19, 1, 120, 176]
abbrev dktX1_wordOf_3 : List UInt8 := dkwX1_wordOf_3 ++ []
def dkwX1_wordOf_2 : List UInt8 := [18, 98, 167, 0, 43, 18, 196, 167, 0, 38, 18, 198, 167, 0, 33, 18, 200, 167, 0, 28, 18, 226]
abbrev dktX1_wordOf_2 : List UInt8 := dkwX1_wordOf_2 ++ dktX1_wordOf_3
def dkwX1_wordOf_1 : List UInt8 := [171, 0, 0, 0, 0, 0, 101, 0, 0, 0, 6, 0, 0, 0, 99, 0, 0, 0, 59, 0, 0, 0, 100, 0, 0, 0, 79, 0, 0, 0, 104, 0, 0, 0, 64, 0, 0, 0, 108, 0, 0, 0, 69, 0, 0, 0, 115, 0, 0, 0, 74, 0, 0, 0, 119, 0, 0, 0, 84]
abbrev dktX1_wordOf_1 : List UInt8 := dkwX1_wordOf_1 ++ dktX1_wordOf_2
def dkwX1_wordOf_0 : List UInt8 := [26]
abbrev dktX1_wordOf_0 : List UInt8 := dkwX1_wordOf_0 ++ dktX1_wordOf_1
theorem dksX1_wordOf_0 : cX1_wordOf.data.toList.drop 0 = dktX1_wordOf_0 := by decide +kernel
theorem dksX1_wordOf_1 : cX1_wordOf.data.toList.drop 1 = dktX1_wordOf_1 := dk_seg dksX1_wordOf_0 1 rfl rfl
theorem dksX1_wordOf_2 : cX1_wordOf.data.toList.drop 60 = dktX1_wordOf_2 := dk_seg dksX1_wordOf_1 59 rfl rfl
theorem dksX1_wordOf_3 : cX1_wordOf.data.toList.drop 82 = dktX1_wordOf_3 := dk_seg dksX1_wordOf_2 22 rfl rfl
theorem dX1_wordOf_0 : decode cX1_wordOf 0 = .ok (.iload_n 0, 1) := dk_26 (dk_at dksX1_wordOf_0 0 rfl rfl)
theorem dX1_wordOf_1 : decode cX1_wordOf 1 = .ok (.lookupswitch 101 #[(99, 59), (100, 79), (104, 64), (108, 69), (115, 74), (119, 84)], 59) := by decide +kernel
theorem dX1_wordOf_60 : decode cX1_wordOf 60 = .ok (.ldc 98, 2) := dk_18 98 (dk_at dksX1_wordOf_2 0 rfl rfl)
theorem dX1_wordOf_62 : decode cX1_wordOf 62 = .ok (.goto 43, 3) := dk_167 0 43 (dk_at dksX1_wordOf_2 2 rfl rfl)
theorem dX1_wordOf_65 : decode cX1_wordOf 65 = .ok (.ldc 196, 2) := dk_18 196 (dk_at dksX1_wordOf_2 5 rfl rfl)
theorem dX1_wordOf_67 : decode cX1_wordOf 67 = .ok (.goto 38, 3) := dk_167 0 38 (dk_at dksX1_wordOf_2 7 rfl rfl)
theorem dX1_wordOf_70 : decode cX1_wordOf 70 = .ok (.ldc 198, 2) := dk_18 198 (dk_at dksX1_wordOf_2 10 rfl rfl)
theorem dX1_wordOf_72 : decode cX1_wordOf 72 = .ok (.goto 33, 3) := dk_167 0 33 (dk_at dksX1_wordOf_2 12 rfl rfl)
theorem dX1_wordOf_75 : decode cX1_wordOf 75 = .ok (.ldc 200, 2) := dk_18 200 (dk_at dksX1_wordOf_2 15 rfl rfl)
theorem dX1_wordOf_77 : decode cX1_wordOf 77 = .ok (.goto 28, 3) := dk_167 0 28 (dk_at dksX1_wordOf_2 17 rfl rfl)
theorem dX1_wordOf_80 : decode cX1_wordOf 80 = .ok (.ldc 226, 2) := dk_18 226 (dk_at dksX1_wordOf_2 20 rfl rfl)
theorem dX1_wordOf_82 : decode cX1_wordOf 82 = .ok (.goto 23, 3) := dk_167 0 23 (dk_at dksX1_wordOf_3 0 rfl rfl)
theorem dX1_wordOf_85 : decode cX1_wordOf 85 = .ok (.iload_n 1, 1) := dk_27 (dk_at dksX1_wordOf_3 3 rfl rfl)
theorem dX1_wordOf_86 : decode cX1_wordOf 86 = .ok (.bipush 97, 2) := dk_16 97 (dk_at dksX1_wordOf_3 4 rfl rfl)
theorem dX1_wordOf_88 : decode cX1_wordOf 88 = .ok (.if_icmp .ne 9, 3) := dk_160 0 9 (dk_at dksX1_wordOf_3 6 rfl rfl)
theorem dX1_wordOf_91 : decode cX1_wordOf 91 = .ok (.ldc_w 274, 3) := dk_19 1 18 (dk_at dksX1_wordOf_3 9 rfl rfl)
theorem dX1_wordOf_94 : decode cX1_wordOf 94 = .ok (.goto 11, 3) := dk_167 0 11 (dk_at dksX1_wordOf_3 12 rfl rfl)
theorem dX1_wordOf_97 : decode cX1_wordOf 97 = .ok (.ldc 100, 2) := dk_18 100 (dk_at dksX1_wordOf_3 15 rfl rfl)
theorem dX1_wordOf_99 : decode cX1_wordOf 99 = .ok (.goto 6, 3) := dk_167 0 6 (dk_at dksX1_wordOf_3 17 rfl rfl)
theorem dX1_wordOf_102 : decode cX1_wordOf 102 = .ok (.ldc_w 376, 3) := dk_19 1 120 (dk_at dksX1_wordOf_3 20 rfl rfl)
theorem dX1_wordOf_105 : decode cX1_wordOf 105 = .ok (.areturn, 1) := dk_176 (dk_at dksX1_wordOf_3 23 rfl rfl)
abbrev cX12_init : ByteArray := prog_7_method_1_code
def yX12_init : MethodName := ⟨RX12, "<init>", "(LGargoyleTower;)V"⟩
def dkwX12_init_0 : List UInt8 := [42, 43, 181, 0, 3, 42, 183, 0, 9, 177]
abbrev dktX12_init_0 : List UInt8 := dkwX12_init_0 ++ []
theorem dksX12_init_0 : cX12_init.data.toList.drop 0 = dktX12_init_0 := by decide +kernel
theorem dX12_init_0 : decode cX12_init 0 = .ok (.aload_n 0, 1) := dk_42 (dk_at dksX12_init_0 0 rfl rfl)
theorem dX12_init_1 : decode cX12_init 1 = .ok (.aload_n 1, 1) := dk_43 (dk_at dksX12_init_0 1 rfl rfl)
theorem dX12_init_2 : decode cX12_init 2 = .ok (.putfield 3, 3) := dk_181 0 3 (dk_at dksX12_init_0 2 rfl rfl)
theorem dX12_init_5 : decode cX12_init 5 = .ok (.aload_n 0, 1) := dk_42 (dk_at dksX12_init_0 5 rfl rfl)
theorem dX12_init_6 : decode cX12_init 6 = .ok (.invokespecial 9, 3) := dk_183 0 9 (dk_at dksX12_init_0 6 rfl rfl)
theorem dX12_init_9 : decode cX12_init 9 = .ok (.return_, 1) := dk_177 (dk_at dksX12_init_0 9 rfl rfl)
abbrev cX12_there : ByteArray := prog_7_method_3_code
def yX12_there : MethodName := ⟨RX12, "there", "(I)I"⟩
def dkwX12_there_1 : List UInt8 := [172]
abbrev dktX12_there_1 : List UInt8 := dkwX12_there_1 ++ []
def dkwX12_there_0 : List UInt8 := [27, 42, 180, 0, 3, 180, 0, 24, 162, 0, 15, 42, 180, 0, 3, 180, 0, 27, 27, 52, 167, 0, 4, 2]
abbrev dktX12_there_0 : List UInt8 := dkwX12_there_0 ++ dktX12_there_1
theorem dksX12_there_0 : cX12_there.data.toList.drop 0 = dktX12_there_0 := by decide +kernel
theorem dksX12_there_1 : cX12_there.data.toList.drop 24 = dktX12_there_1 := dk_seg dksX12_there_0 24 rfl rfl
theorem dX12_there_0 : decode cX12_there 0 = .ok (.iload_n 1, 1) := dk_27 (dk_at dksX12_there_0 0 rfl rfl)
theorem dX12_there_1 : decode cX12_there 1 = .ok (.aload_n 0, 1) := dk_42 (dk_at dksX12_there_0 1 rfl rfl)
theorem dX12_there_2 : decode cX12_there 2 = .ok (.getfield 3, 3) := dk_180 0 3 (dk_at dksX12_there_0 2 rfl rfl)
theorem dX12_there_5 : decode cX12_there 5 = .ok (.getfield 24, 3) := dk_180 0 24 (dk_at dksX12_there_0 5 rfl rfl)
theorem dX12_there_8 : decode cX12_there 8 = .ok (.if_icmp .ge 15, 3) := dk_162 0 15 (dk_at dksX12_there_0 8 rfl rfl)
theorem dX12_there_11 : decode cX12_there 11 = .ok (.aload_n 0, 1) := dk_42 (dk_at dksX12_there_0 11 rfl rfl)
theorem dX12_there_12 : decode cX12_there 12 = .ok (.getfield 3, 3) := dk_180 0 3 (dk_at dksX12_there_0 12 rfl rfl)
theorem dX12_there_15 : decode cX12_there 15 = .ok (.getfield 27, 3) := dk_180 0 27 (dk_at dksX12_there_0 15 rfl rfl)
theorem dX12_there_18 : decode cX12_there 18 = .ok (.iload_n 1, 1) := dk_27 (dk_at dksX12_there_0 18 rfl rfl)
theorem dX12_there_19 : decode cX12_there 19 = .ok (.caload, 1) := dk_52 (dk_at dksX12_there_0 19 rfl rfl)
theorem dX12_there_20 : decode cX12_there 20 = .ok (.goto 4, 3) := dk_167 0 4 (dk_at dksX12_there_0 20 rfl rfl)
theorem dX12_there_23 : decode cX12_there 23 = .ok (.iconst (-1), 1) := dk_2 (dk_at dksX12_there_0 23 rfl rfl)
theorem dX12_there_24 : decode cX12_there 24 = .ok (.ireturn, 1) := dk_172 (dk_at dksX12_there_1 0 rfl rfl)
abbrev cX12_need : ByteArray := prog_7_method_2_code
def yX12_need : MethodName := ⟨RX12, "need", "(Z)V"⟩
def dkwX12_need_0 : List UInt8 := [27, 154, 0, 15, 187, 0, 15, 89, 42, 180, 0, 17, 183, 0, 21, 191, 177]
abbrev dktX12_need_0 : List UInt8 := dkwX12_need_0 ++ []
theorem dksX12_need_0 : cX12_need.data.toList.drop 0 = dktX12_need_0 := by decide +kernel
theorem dX12_need_0 : decode cX12_need 0 = .ok (.iload_n 1, 1) := dk_27 (dk_at dksX12_need_0 0 rfl rfl)
theorem dX12_need_1 : decode cX12_need 1 = .ok (.ifCond .ne 15, 3) := dk_154 0 15 (dk_at dksX12_need_0 1 rfl rfl)
theorem dX12_need_4 : decode cX12_need 4 = .ok (.new 15, 3) := dk_187 0 15 (dk_at dksX12_need_0 4 rfl rfl)
theorem dX12_need_7 : decode cX12_need 7 = .ok (.dup, 1) := dk_89 (dk_at dksX12_need_0 7 rfl rfl)
theorem dX12_need_8 : decode cX12_need 8 = .ok (.aload_n 0, 1) := dk_42 (dk_at dksX12_need_0 8 rfl rfl)
theorem dX12_need_9 : decode cX12_need 9 = .ok (.getfield 17, 3) := dk_180 0 17 (dk_at dksX12_need_0 9 rfl rfl)
theorem dX12_need_12 : decode cX12_need 12 = .ok (.invokespecial 21, 3) := dk_183 0 21 (dk_at dksX12_need_0 12 rfl rfl)
theorem dX12_need_15 : decode cX12_need 15 = .ok (.athrow, 1) := dk_191 (dk_at dksX12_need_0 15 rfl rfl)
theorem dX12_need_16 : decode cX12_need 16 = .ok (.return_, 1) := dk_177 (dk_at dksX12_need_0 16 rfl rfl)
abbrev cX12_takes : ByteArray := prog_7_method_4_code
def yX12_takes : MethodName := ⟨RX12, "takes", "(C)Z"⟩
def dkwX12_takes_1 : List UInt8 := [153, 0, 7, 4, 167, 0, 4, 3, 96, 181, 0, 17, 28, 172]
abbrev dktX12_takes_1 : List UInt8 := dkwX12_takes_1 ++ []
def dkwX12_takes_0 : List UInt8 := [42, 42, 180, 0, 17, 182, 0, 31, 27, 160, 0, 7, 4, 167, 0, 4, 3, 61, 42, 89, 180, 0, 17, 28]
abbrev dktX12_takes_0 : List UInt8 := dkwX12_takes_0 ++ dktX12_takes_1
theorem dksX12_takes_0 : cX12_takes.data.toList.drop 0 = dktX12_takes_0 := by decide +kernel
theorem dksX12_takes_1 : cX12_takes.data.toList.drop 24 = dktX12_takes_1 := dk_seg dksX12_takes_0 24 rfl rfl
theorem dX12_takes_0 : decode cX12_takes 0 = .ok (.aload_n 0, 1) := dk_42 (dk_at dksX12_takes_0 0 rfl rfl)
theorem dX12_takes_1 : decode cX12_takes 1 = .ok (.aload_n 0, 1) := dk_42 (dk_at dksX12_takes_0 1 rfl rfl)
theorem dX12_takes_2 : decode cX12_takes 2 = .ok (.getfield 17, 3) := dk_180 0 17 (dk_at dksX12_takes_0 2 rfl rfl)
theorem dX12_takes_5 : decode cX12_takes 5 = .ok (.invokevirtual 31, 3) := dk_182 0 31 (dk_at dksX12_takes_0 5 rfl rfl)
theorem dX12_takes_8 : decode cX12_takes 8 = .ok (.iload_n 1, 1) := dk_27 (dk_at dksX12_takes_0 8 rfl rfl)
theorem dX12_takes_9 : decode cX12_takes 9 = .ok (.if_icmp .ne 7, 3) := dk_160 0 7 (dk_at dksX12_takes_0 9 rfl rfl)
theorem dX12_takes_12 : decode cX12_takes 12 = .ok (.iconst 1, 1) := dk_4 (dk_at dksX12_takes_0 12 rfl rfl)
theorem dX12_takes_13 : decode cX12_takes 13 = .ok (.goto 4, 3) := dk_167 0 4 (dk_at dksX12_takes_0 13 rfl rfl)
theorem dX12_takes_16 : decode cX12_takes 16 = .ok (.iconst 0, 1) := dk_3 (dk_at dksX12_takes_0 16 rfl rfl)
theorem dX12_takes_17 : decode cX12_takes 17 = .ok (.istore_n 2, 1) := dk_61 (dk_at dksX12_takes_0 17 rfl rfl)
theorem dX12_takes_18 : decode cX12_takes 18 = .ok (.aload_n 0, 1) := dk_42 (dk_at dksX12_takes_0 18 rfl rfl)
theorem dX12_takes_19 : decode cX12_takes 19 = .ok (.dup, 1) := dk_89 (dk_at dksX12_takes_0 19 rfl rfl)
theorem dX12_takes_20 : decode cX12_takes 20 = .ok (.getfield 17, 3) := dk_180 0 17 (dk_at dksX12_takes_0 20 rfl rfl)
theorem dX12_takes_23 : decode cX12_takes 23 = .ok (.iload_n 2, 1) := dk_28 (dk_at dksX12_takes_0 23 rfl rfl)
theorem dX12_takes_24 : decode cX12_takes 24 = .ok (.ifCond .eq 7, 3) := dk_153 0 7 (dk_at dksX12_takes_1 0 rfl rfl)
theorem dX12_takes_27 : decode cX12_takes 27 = .ok (.iconst 1, 1) := dk_4 (dk_at dksX12_takes_1 3 rfl rfl)
theorem dX12_takes_28 : decode cX12_takes 28 = .ok (.goto 4, 3) := dk_167 0 4 (dk_at dksX12_takes_1 4 rfl rfl)
theorem dX12_takes_31 : decode cX12_takes 31 = .ok (.iconst 0, 1) := dk_3 (dk_at dksX12_takes_1 7 rfl rfl)
theorem dX12_takes_32 : decode cX12_takes 32 = .ok (.iadd, 1) := dk_96 (dk_at dksX12_takes_1 8 rfl rfl)
theorem dX12_takes_33 : decode cX12_takes 33 = .ok (.putfield 17, 3) := dk_181 0 17 (dk_at dksX12_takes_1 9 rfl rfl)
theorem dX12_takes_36 : decode cX12_takes 36 = .ok (.iload_n 2, 1) := dk_28 (dk_at dksX12_takes_1 12 rfl rfl)
theorem dX12_takes_37 : decode cX12_takes 37 = .ok (.ireturn, 1) := dk_172 (dk_at dksX12_takes_1 13 rfl rfl)
abbrev cX12_isDigit : ByteArray := prog_7_method_6_code
def yX12_isDigit : MethodName := ⟨RX12, "isDigit", "()Z"⟩
def dkwX12_isDigit_0 : List UInt8 := [42, 42, 180, 0, 17, 182, 0, 31, 16, 48, 16, 57, 184, 0, 53, 172]
abbrev dktX12_isDigit_0 : List UInt8 := dkwX12_isDigit_0 ++ []
theorem dksX12_isDigit_0 : cX12_isDigit.data.toList.drop 0 = dktX12_isDigit_0 := by decide +kernel
theorem dX12_isDigit_0 : decode cX12_isDigit 0 = .ok (.aload_n 0, 1) := dk_42 (dk_at dksX12_isDigit_0 0 rfl rfl)
theorem dX12_isDigit_1 : decode cX12_isDigit 1 = .ok (.aload_n 0, 1) := dk_42 (dk_at dksX12_isDigit_0 1 rfl rfl)
theorem dX12_isDigit_2 : decode cX12_isDigit 2 = .ok (.getfield 17, 3) := dk_180 0 17 (dk_at dksX12_isDigit_0 2 rfl rfl)
theorem dX12_isDigit_5 : decode cX12_isDigit 5 = .ok (.invokevirtual 31, 3) := dk_182 0 31 (dk_at dksX12_isDigit_0 5 rfl rfl)
theorem dX12_isDigit_8 : decode cX12_isDigit 8 = .ok (.bipush 48, 2) := dk_16 48 (dk_at dksX12_isDigit_0 8 rfl rfl)
theorem dX12_isDigit_10 : decode cX12_isDigit 10 = .ok (.bipush 57, 2) := dk_16 57 (dk_at dksX12_isDigit_0 10 rfl rfl)
theorem dX12_isDigit_12 : decode cX12_isDigit 12 = .ok (.invokestatic 53, 3) := dk_184 0 53 (dk_at dksX12_isDigit_0 12 rfl rfl)
theorem dX12_isDigit_15 : decode cX12_isDigit 15 = .ok (.ireturn, 1) := dk_172 (dk_at dksX12_isDigit_0 15 rfl rfl)
abbrev cX12_takeAll : ByteArray := prog_7_method_5_code
def yX12_takeAll : MethodName := ⟨RX12, "takeAll", "(Ljava/lang/CharSequence;)V"⟩
def dkwX12_takeAll_1 : List UInt8 := [182, 0, 49, 132, 2, 1, 167, 255, 228, 177]
abbrev dktX12_takeAll_1 : List UInt8 := dkwX12_takeAll_1 ++ []
def dkwX12_takeAll_0 : List UInt8 := [3, 61, 28, 43, 185, 0, 35, 1, 0, 162, 0, 24, 42, 42, 43, 28, 185, 0, 41, 2, 0, 182, 0, 45]
abbrev dktX12_takeAll_0 : List UInt8 := dkwX12_takeAll_0 ++ dktX12_takeAll_1
theorem dksX12_takeAll_0 : cX12_takeAll.data.toList.drop 0 = dktX12_takeAll_0 := by decide +kernel
theorem dksX12_takeAll_1 : cX12_takeAll.data.toList.drop 24 = dktX12_takeAll_1 := dk_seg dksX12_takeAll_0 24 rfl rfl
theorem dX12_takeAll_0 : decode cX12_takeAll 0 = .ok (.iconst 0, 1) := dk_3 (dk_at dksX12_takeAll_0 0 rfl rfl)
theorem dX12_takeAll_1 : decode cX12_takeAll 1 = .ok (.istore_n 2, 1) := dk_61 (dk_at dksX12_takeAll_0 1 rfl rfl)
theorem dX12_takeAll_2 : decode cX12_takeAll 2 = .ok (.iload_n 2, 1) := dk_28 (dk_at dksX12_takeAll_0 2 rfl rfl)
theorem dX12_takeAll_3 : decode cX12_takeAll 3 = .ok (.aload_n 1, 1) := dk_43 (dk_at dksX12_takeAll_0 3 rfl rfl)
theorem dX12_takeAll_4 : decode cX12_takeAll 4 = .ok (.invokeinterface 35 1, 5) := by decide +kernel
theorem dX12_takeAll_9 : decode cX12_takeAll 9 = .ok (.if_icmp .ge 24, 3) := dk_162 0 24 (dk_at dksX12_takeAll_0 9 rfl rfl)
theorem dX12_takeAll_12 : decode cX12_takeAll 12 = .ok (.aload_n 0, 1) := dk_42 (dk_at dksX12_takeAll_0 12 rfl rfl)
theorem dX12_takeAll_13 : decode cX12_takeAll 13 = .ok (.aload_n 0, 1) := dk_42 (dk_at dksX12_takeAll_0 13 rfl rfl)
theorem dX12_takeAll_14 : decode cX12_takeAll 14 = .ok (.aload_n 1, 1) := dk_43 (dk_at dksX12_takeAll_0 14 rfl rfl)
theorem dX12_takeAll_15 : decode cX12_takeAll 15 = .ok (.iload_n 2, 1) := dk_28 (dk_at dksX12_takeAll_0 15 rfl rfl)
theorem dX12_takeAll_16 : decode cX12_takeAll 16 = .ok (.invokeinterface 41 2, 5) := by decide +kernel
theorem dX12_takeAll_21 : decode cX12_takeAll 21 = .ok (.invokevirtual 45, 3) := dk_182 0 45 (dk_at dksX12_takeAll_0 21 rfl rfl)
theorem dX12_takeAll_24 : decode cX12_takeAll 24 = .ok (.invokevirtual 49, 3) := dk_182 0 49 (dk_at dksX12_takeAll_1 0 rfl rfl)
theorem dX12_takeAll_27 : decode cX12_takeAll 27 = .ok (.iinc 2 1, 3) := dk_132 2 1 (dk_at dksX12_takeAll_1 3 rfl rfl)
theorem dX12_takeAll_30 : decode cX12_takeAll 30 = .ok (.goto (-28), 3) := dk_167 255 228 (dk_at dksX12_takeAll_1 6 rfl rfl)
theorem dX12_takeAll_33 : decode cX12_takeAll 33 = .ok (.return_, 1) := dk_177 (dk_at dksX12_takeAll_1 9 rfl rfl)
abbrev cX12_digit : ByteArray := prog_7_method_7_code
def yX12_digit : MethodName := ⟨RX12, "digit", "()I"⟩
def dkwX12_digit_1 : List UInt8 := [180, 0, 27, 42, 180, 0, 17, 4, 100, 52, 16, 48, 100, 172]
abbrev dktX12_digit_1 : List UInt8 := dkwX12_digit_1 ++ []
def dkwX12_digit_0 : List UInt8 := [42, 42, 182, 0, 57, 182, 0, 49, 42, 89, 180, 0, 17, 4, 96, 181, 0, 17, 42, 180, 0, 3]
abbrev dktX12_digit_0 : List UInt8 := dkwX12_digit_0 ++ dktX12_digit_1
theorem dksX12_digit_0 : cX12_digit.data.toList.drop 0 = dktX12_digit_0 := by decide +kernel
theorem dksX12_digit_1 : cX12_digit.data.toList.drop 22 = dktX12_digit_1 := dk_seg dksX12_digit_0 22 rfl rfl
theorem dX12_digit_0 : decode cX12_digit 0 = .ok (.aload_n 0, 1) := dk_42 (dk_at dksX12_digit_0 0 rfl rfl)
theorem dX12_digit_1 : decode cX12_digit 1 = .ok (.aload_n 0, 1) := dk_42 (dk_at dksX12_digit_0 1 rfl rfl)
theorem dX12_digit_2 : decode cX12_digit 2 = .ok (.invokevirtual 57, 3) := dk_182 0 57 (dk_at dksX12_digit_0 2 rfl rfl)
theorem dX12_digit_5 : decode cX12_digit 5 = .ok (.invokevirtual 49, 3) := dk_182 0 49 (dk_at dksX12_digit_0 5 rfl rfl)
theorem dX12_digit_8 : decode cX12_digit 8 = .ok (.aload_n 0, 1) := dk_42 (dk_at dksX12_digit_0 8 rfl rfl)
theorem dX12_digit_9 : decode cX12_digit 9 = .ok (.dup, 1) := dk_89 (dk_at dksX12_digit_0 9 rfl rfl)
theorem dX12_digit_10 : decode cX12_digit 10 = .ok (.getfield 17, 3) := dk_180 0 17 (dk_at dksX12_digit_0 10 rfl rfl)
theorem dX12_digit_13 : decode cX12_digit 13 = .ok (.iconst 1, 1) := dk_4 (dk_at dksX12_digit_0 13 rfl rfl)
theorem dX12_digit_14 : decode cX12_digit 14 = .ok (.iadd, 1) := dk_96 (dk_at dksX12_digit_0 14 rfl rfl)
theorem dX12_digit_15 : decode cX12_digit 15 = .ok (.putfield 17, 3) := dk_181 0 17 (dk_at dksX12_digit_0 15 rfl rfl)
theorem dX12_digit_18 : decode cX12_digit 18 = .ok (.aload_n 0, 1) := dk_42 (dk_at dksX12_digit_0 18 rfl rfl)
theorem dX12_digit_19 : decode cX12_digit 19 = .ok (.getfield 3, 3) := dk_180 0 3 (dk_at dksX12_digit_0 19 rfl rfl)
theorem dX12_digit_22 : decode cX12_digit 22 = .ok (.getfield 27, 3) := dk_180 0 27 (dk_at dksX12_digit_1 0 rfl rfl)
theorem dX12_digit_25 : decode cX12_digit 25 = .ok (.aload_n 0, 1) := dk_42 (dk_at dksX12_digit_1 3 rfl rfl)
theorem dX12_digit_26 : decode cX12_digit 26 = .ok (.getfield 17, 3) := dk_180 0 17 (dk_at dksX12_digit_1 4 rfl rfl)
theorem dX12_digit_29 : decode cX12_digit 29 = .ok (.iconst 1, 1) := dk_4 (dk_at dksX12_digit_1 7 rfl rfl)
theorem dX12_digit_30 : decode cX12_digit 30 = .ok (.isub, 1) := dk_100 (dk_at dksX12_digit_1 8 rfl rfl)
theorem dX12_digit_31 : decode cX12_digit 31 = .ok (.caload, 1) := dk_52 (dk_at dksX12_digit_1 9 rfl rfl)
theorem dX12_digit_32 : decode cX12_digit 32 = .ok (.bipush 48, 2) := dk_16 48 (dk_at dksX12_digit_1 10 rfl rfl)
theorem dX12_digit_34 : decode cX12_digit 34 = .ok (.isub, 1) := dk_100 (dk_at dksX12_digit_1 12 rfl rfl)
theorem dX12_digit_35 : decode cX12_digit 35 = .ok (.ireturn, 1) := dk_172 (dk_at dksX12_digit_1 13 rfl rfl)
abbrev cX12_number : ByteArray := prog_7_method_8_code
def yX12_number : MethodName := ⟨RX12, "number", "()I"⟩
def dkwX12_number_1 : List UInt8 := [27, 172]
abbrev dktX12_number_1 : List UInt8 := dkwX12_number_1 ++ []
def dkwX12_number_0 : List UInt8 := [42, 182, 0, 61, 60, 42, 182, 0, 57, 153, 0, 15, 16, 10, 27, 104, 42, 182, 0, 61, 96, 167, 0, 4]
abbrev dktX12_number_0 : List UInt8 := dkwX12_number_0 ++ dktX12_number_1
theorem dksX12_number_0 : cX12_number.data.toList.drop 0 = dktX12_number_0 := by decide +kernel
theorem dksX12_number_1 : cX12_number.data.toList.drop 24 = dktX12_number_1 := dk_seg dksX12_number_0 24 rfl rfl
theorem dX12_number_0 : decode cX12_number 0 = .ok (.aload_n 0, 1) := dk_42 (dk_at dksX12_number_0 0 rfl rfl)
theorem dX12_number_1 : decode cX12_number 1 = .ok (.invokevirtual 61, 3) := dk_182 0 61 (dk_at dksX12_number_0 1 rfl rfl)
theorem dX12_number_4 : decode cX12_number 4 = .ok (.istore_n 1, 1) := dk_60 (dk_at dksX12_number_0 4 rfl rfl)
theorem dX12_number_5 : decode cX12_number 5 = .ok (.aload_n 0, 1) := dk_42 (dk_at dksX12_number_0 5 rfl rfl)
theorem dX12_number_6 : decode cX12_number 6 = .ok (.invokevirtual 57, 3) := dk_182 0 57 (dk_at dksX12_number_0 6 rfl rfl)
theorem dX12_number_9 : decode cX12_number 9 = .ok (.ifCond .eq 15, 3) := dk_153 0 15 (dk_at dksX12_number_0 9 rfl rfl)
theorem dX12_number_12 : decode cX12_number 12 = .ok (.bipush 10, 2) := dk_16 10 (dk_at dksX12_number_0 12 rfl rfl)
theorem dX12_number_14 : decode cX12_number 14 = .ok (.iload_n 1, 1) := dk_27 (dk_at dksX12_number_0 14 rfl rfl)
theorem dX12_number_15 : decode cX12_number 15 = .ok (.imul, 1) := dk_104 (dk_at dksX12_number_0 15 rfl rfl)
theorem dX12_number_16 : decode cX12_number 16 = .ok (.aload_n 0, 1) := dk_42 (dk_at dksX12_number_0 16 rfl rfl)
theorem dX12_number_17 : decode cX12_number 17 = .ok (.invokevirtual 61, 3) := dk_182 0 61 (dk_at dksX12_number_0 17 rfl rfl)
theorem dX12_number_20 : decode cX12_number 20 = .ok (.iadd, 1) := dk_96 (dk_at dksX12_number_0 20 rfl rfl)
theorem dX12_number_21 : decode cX12_number 21 = .ok (.goto 4, 3) := dk_167 0 4 (dk_at dksX12_number_0 21 rfl rfl)
theorem dX12_number_24 : decode cX12_number 24 = .ok (.iload_n 1, 1) := dk_27 (dk_at dksX12_number_1 0 rfl rfl)
theorem dX12_number_25 : decode cX12_number 25 = .ok (.ireturn, 1) := dk_172 (dk_at dksX12_number_1 1 rfl rfl)
abbrev cX12_placed : ByteArray := prog_7_method_10_code
def yX12_placed : MethodName := ⟨RX12, "placed", "(Ljava/lang/String;)LGargoyleTower$Deed;"⟩
def dkwX12_placed_1 : List UInt8 := [182, 0, 64, 183, 0, 69, 176]
abbrev dktX12_placed_1 : List UInt8 := dkwX12_placed_1 ++ []
def dkwX12_placed_0 : List UInt8 := [42, 182, 0, 61, 61, 42, 42, 16, 32, 182, 0, 45, 182, 0, 49, 187, 0, 67, 89, 43, 28, 42]
abbrev dktX12_placed_0 : List UInt8 := dkwX12_placed_0 ++ dktX12_placed_1
theorem dksX12_placed_0 : cX12_placed.data.toList.drop 0 = dktX12_placed_0 := by decide +kernel
theorem dksX12_placed_1 : cX12_placed.data.toList.drop 22 = dktX12_placed_1 := dk_seg dksX12_placed_0 22 rfl rfl
theorem dX12_placed_0 : decode cX12_placed 0 = .ok (.aload_n 0, 1) := dk_42 (dk_at dksX12_placed_0 0 rfl rfl)
theorem dX12_placed_1 : decode cX12_placed 1 = .ok (.invokevirtual 61, 3) := dk_182 0 61 (dk_at dksX12_placed_0 1 rfl rfl)
theorem dX12_placed_4 : decode cX12_placed 4 = .ok (.istore_n 2, 1) := dk_61 (dk_at dksX12_placed_0 4 rfl rfl)
theorem dX12_placed_5 : decode cX12_placed 5 = .ok (.aload_n 0, 1) := dk_42 (dk_at dksX12_placed_0 5 rfl rfl)
theorem dX12_placed_6 : decode cX12_placed 6 = .ok (.aload_n 0, 1) := dk_42 (dk_at dksX12_placed_0 6 rfl rfl)
theorem dX12_placed_7 : decode cX12_placed 7 = .ok (.bipush 32, 2) := dk_16 32 (dk_at dksX12_placed_0 7 rfl rfl)
theorem dX12_placed_9 : decode cX12_placed 9 = .ok (.invokevirtual 45, 3) := dk_182 0 45 (dk_at dksX12_placed_0 9 rfl rfl)
theorem dX12_placed_12 : decode cX12_placed 12 = .ok (.invokevirtual 49, 3) := dk_182 0 49 (dk_at dksX12_placed_0 12 rfl rfl)
theorem dX12_placed_15 : decode cX12_placed 15 = .ok (.new 67, 3) := dk_187 0 67 (dk_at dksX12_placed_0 15 rfl rfl)
theorem dX12_placed_18 : decode cX12_placed 18 = .ok (.dup, 1) := dk_89 (dk_at dksX12_placed_0 18 rfl rfl)
theorem dX12_placed_19 : decode cX12_placed 19 = .ok (.aload_n 1, 1) := dk_43 (dk_at dksX12_placed_0 19 rfl rfl)
theorem dX12_placed_20 : decode cX12_placed 20 = .ok (.iload_n 2, 1) := dk_28 (dk_at dksX12_placed_0 20 rfl rfl)
theorem dX12_placed_21 : decode cX12_placed 21 = .ok (.aload_n 0, 1) := dk_42 (dk_at dksX12_placed_0 21 rfl rfl)
theorem dX12_placed_22 : decode cX12_placed 22 = .ok (.invokevirtual 64, 3) := dk_182 0 64 (dk_at dksX12_placed_1 0 rfl rfl)
theorem dX12_placed_25 : decode cX12_placed 25 = .ok (.invokespecial 69, 3) := dk_183 0 69 (dk_at dksX12_placed_1 3 rfl rfl)
theorem dX12_placed_28 : decode cX12_placed 28 = .ok (.areturn, 1) := dk_176 (dk_at dksX12_placed_1 6 rfl rfl)
abbrev cX12_numbered : ByteArray := prog_7_method_9_code
def yX12_numbered : MethodName := ⟨RX12, "numbered", "(Ljava/lang/String;)LGargoyleTower$Deed;"⟩
def dkwX12_numbered_1 : List UInt8 := [182, 0, 61, 183, 0, 69, 176]
abbrev dktX12_numbered_1 : List UInt8 := dkwX12_numbered_1 ++ []
def dkwX12_numbered_0 : List UInt8 := [42, 182, 0, 64, 61, 42, 42, 16, 32, 182, 0, 45, 182, 0, 49, 187, 0, 67, 89, 43, 28, 42]
abbrev dktX12_numbered_0 : List UInt8 := dkwX12_numbered_0 ++ dktX12_numbered_1
theorem dksX12_numbered_0 : cX12_numbered.data.toList.drop 0 = dktX12_numbered_0 := by decide +kernel
theorem dksX12_numbered_1 : cX12_numbered.data.toList.drop 22 = dktX12_numbered_1 := dk_seg dksX12_numbered_0 22 rfl rfl
theorem dX12_numbered_0 : decode cX12_numbered 0 = .ok (.aload_n 0, 1) := dk_42 (dk_at dksX12_numbered_0 0 rfl rfl)
theorem dX12_numbered_1 : decode cX12_numbered 1 = .ok (.invokevirtual 64, 3) := dk_182 0 64 (dk_at dksX12_numbered_0 1 rfl rfl)
theorem dX12_numbered_4 : decode cX12_numbered 4 = .ok (.istore_n 2, 1) := dk_61 (dk_at dksX12_numbered_0 4 rfl rfl)
theorem dX12_numbered_5 : decode cX12_numbered 5 = .ok (.aload_n 0, 1) := dk_42 (dk_at dksX12_numbered_0 5 rfl rfl)
theorem dX12_numbered_6 : decode cX12_numbered 6 = .ok (.aload_n 0, 1) := dk_42 (dk_at dksX12_numbered_0 6 rfl rfl)
theorem dX12_numbered_7 : decode cX12_numbered 7 = .ok (.bipush 32, 2) := dk_16 32 (dk_at dksX12_numbered_0 7 rfl rfl)
theorem dX12_numbered_9 : decode cX12_numbered 9 = .ok (.invokevirtual 45, 3) := dk_182 0 45 (dk_at dksX12_numbered_0 9 rfl rfl)
theorem dX12_numbered_12 : decode cX12_numbered 12 = .ok (.invokevirtual 49, 3) := dk_182 0 49 (dk_at dksX12_numbered_0 12 rfl rfl)
theorem dX12_numbered_15 : decode cX12_numbered 15 = .ok (.new 67, 3) := dk_187 0 67 (dk_at dksX12_numbered_0 15 rfl rfl)
theorem dX12_numbered_18 : decode cX12_numbered 18 = .ok (.dup, 1) := dk_89 (dk_at dksX12_numbered_0 18 rfl rfl)
theorem dX12_numbered_19 : decode cX12_numbered 19 = .ok (.aload_n 1, 1) := dk_43 (dk_at dksX12_numbered_0 19 rfl rfl)
theorem dX12_numbered_20 : decode cX12_numbered 20 = .ok (.iload_n 2, 1) := dk_28 (dk_at dksX12_numbered_0 20 rfl rfl)
theorem dX12_numbered_21 : decode cX12_numbered 21 = .ok (.aload_n 0, 1) := dk_42 (dk_at dksX12_numbered_0 21 rfl rfl)
theorem dX12_numbered_22 : decode cX12_numbered 22 = .ok (.invokevirtual 61, 3) := dk_182 0 61 (dk_at dksX12_numbered_1 0 rfl rfl)
theorem dX12_numbered_25 : decode cX12_numbered 25 = .ok (.invokespecial 69, 3) := dk_183 0 69 (dk_at dksX12_numbered_1 3 rfl rfl)
theorem dX12_numbered_28 : decode cX12_numbered 28 = .ok (.areturn, 1) := dk_176 (dk_at dksX12_numbered_1 6 rfl rfl)
abbrev cX12_command : ByteArray := prog_7_method_11_code
def yX12_command : MethodName := ⟨RX12, "command", "()LGargoyleTower$Deed;"⟩
def dkwX12_command_11 : List UInt8 := [167, 0, 13, 187, 0, 67, 89, 43, 3, 3, 183, 0, 69, 176]
abbrev dktX12_command_11 : List UInt8 := dkwX12_command_11 ++ []
def dkwX12_command_10 : List UInt8 := [182, 0, 61, 3, 183, 0, 69, 167, 0, 29, 187, 0, 67, 89, 43, 42, 182, 0, 64, 3, 183, 0, 69]
abbrev dktX12_command_10 : List UInt8 := dkwX12_command_10 ++ dktX12_command_11
def dkwX12_command_9 : List UInt8 := [42, 43, 182, 0, 104, 167, 0, 53, 42, 43, 182, 0, 108, 167, 0, 45, 187, 0, 67, 89, 43, 42]
abbrev dktX12_command_9 : List UInt8 := dkwX12_command_9 ++ dktX12_command_10
def dkwX12_command_8 : List UInt8 := [170, 0, 0, 0, 0, 86, 0, 0, 0, 0, 0, 0, 0, 5, 0, 0, 0, 38, 0, 0, 0, 38, 0, 0, 0, 46, 0, 0, 0, 46, 0, 0, 0, 54, 0, 0, 0, 70]
abbrev dktX12_command_8 : List UInt8 := dkwX12_command_8 ++ dktX12_command_9
def dkwX12_command_7 : List UInt8 := [18, 102, 182, 0, 90, 153, 0, 5, 8, 62, 29]
abbrev dktX12_command_7 : List UInt8 := dkwX12_command_7 ++ dktX12_command_8
def dkwX12_command_6 : List UInt8 := [153, 0, 33, 6, 62, 167, 0, 28, 44, 18, 100, 182, 0, 90, 153, 0, 19, 7, 62, 167, 0, 14, 44]
abbrev dktX12_command_6 : List UInt8 := dkwX12_command_6 ++ dktX12_command_7
def dkwX12_command_5 : List UInt8 := [62, 167, 0, 56, 44, 18, 96, 182, 0, 90, 153, 0, 47, 5, 62, 167, 0, 42, 44, 18, 98, 182, 0, 90]
abbrev dktX12_command_5 : List UInt8 := dkwX12_command_5 ++ dktX12_command_6
def dkwX12_command_4 : List UInt8 := [44, 18, 88, 182, 0, 90, 153, 0, 75, 3, 62, 167, 0, 70, 44, 18, 94, 182, 0, 90, 153, 0, 61, 4]
abbrev dktX12_command_4 : List UInt8 := dkwX12_command_4 ++ dktX12_command_5
def dkwX12_command_3 : List UInt8 := [171, 0, 0, 0, 138, 0, 0, 0, 6, 174, 124, 70, 253, 0, 0, 0, 57, 183, 197, 170, 93, 0, 0, 0, 71, 190, 159, 53, 63, 0, 0, 0, 113, 0, 53, 207, 254, 0, 0, 0, 85, 6, 186, 157, 75, 0, 0, 0, 127, 49, 21, 27, 155, 0, 0, 0, 99]
abbrev dktX12_command_3 : List UInt8 := dkwX12_command_3 ++ dktX12_command_4
def dkwX12_command_2 : List UInt8 := [182, 0, 85]
abbrev dktX12_command_2 : List UInt8 := dkwX12_command_2 ++ dktX12_command_3
def dkwX12_command_1 : List UInt8 := [182, 0, 76, 154, 0, 7, 4, 167, 0, 4, 3, 182, 0, 49, 42, 43, 182, 0, 81, 43, 77, 2, 62, 44]
abbrev dktX12_command_1 : List UInt8 := dkwX12_command_1 ++ dktX12_command_2
def dkwX12_command_0 : List UInt8 := [42, 42, 180, 0, 17, 182, 0, 31, 42, 42, 180, 0, 17, 4, 96, 182, 0, 31, 184, 0, 72, 76, 42, 43]
abbrev dktX12_command_0 : List UInt8 := dkwX12_command_0 ++ dktX12_command_1
theorem dksX12_command_0 : cX12_command.data.toList.drop 0 = dktX12_command_0 := by decide +kernel
theorem dksX12_command_1 : cX12_command.data.toList.drop 24 = dktX12_command_1 := dk_seg dksX12_command_0 24 rfl rfl
theorem dksX12_command_2 : cX12_command.data.toList.drop 48 = dktX12_command_2 := dk_seg dksX12_command_1 24 rfl rfl
theorem dksX12_command_3 : cX12_command.data.toList.drop 51 = dktX12_command_3 := dk_seg dksX12_command_2 3 rfl rfl
theorem dksX12_command_4 : cX12_command.data.toList.drop 108 = dktX12_command_4 := dk_seg dksX12_command_3 57 rfl rfl
theorem dksX12_command_5 : cX12_command.data.toList.drop 132 = dktX12_command_5 := dk_seg dksX12_command_4 24 rfl rfl
theorem dksX12_command_6 : cX12_command.data.toList.drop 156 = dktX12_command_6 := dk_seg dksX12_command_5 24 rfl rfl
theorem dksX12_command_7 : cX12_command.data.toList.drop 179 = dktX12_command_7 := dk_seg dksX12_command_6 23 rfl rfl
theorem dksX12_command_8 : cX12_command.data.toList.drop 190 = dktX12_command_8 := dk_seg dksX12_command_7 11 rfl rfl
theorem dksX12_command_9 : cX12_command.data.toList.drop 228 = dktX12_command_9 := dk_seg dksX12_command_8 38 rfl rfl
theorem dksX12_command_10 : cX12_command.data.toList.drop 250 = dktX12_command_10 := dk_seg dksX12_command_9 22 rfl rfl
theorem dksX12_command_11 : cX12_command.data.toList.drop 273 = dktX12_command_11 := dk_seg dksX12_command_10 23 rfl rfl
theorem dX12_command_0 : decode cX12_command 0 = .ok (.aload_n 0, 1) := dk_42 (dk_at dksX12_command_0 0 rfl rfl)
theorem dX12_command_1 : decode cX12_command 1 = .ok (.aload_n 0, 1) := dk_42 (dk_at dksX12_command_0 1 rfl rfl)
theorem dX12_command_2 : decode cX12_command 2 = .ok (.getfield 17, 3) := dk_180 0 17 (dk_at dksX12_command_0 2 rfl rfl)
theorem dX12_command_5 : decode cX12_command 5 = .ok (.invokevirtual 31, 3) := dk_182 0 31 (dk_at dksX12_command_0 5 rfl rfl)
theorem dX12_command_8 : decode cX12_command 8 = .ok (.aload_n 0, 1) := dk_42 (dk_at dksX12_command_0 8 rfl rfl)
theorem dX12_command_9 : decode cX12_command 9 = .ok (.aload_n 0, 1) := dk_42 (dk_at dksX12_command_0 9 rfl rfl)
theorem dX12_command_10 : decode cX12_command 10 = .ok (.getfield 17, 3) := dk_180 0 17 (dk_at dksX12_command_0 10 rfl rfl)
theorem dX12_command_13 : decode cX12_command 13 = .ok (.iconst 1, 1) := dk_4 (dk_at dksX12_command_0 13 rfl rfl)
theorem dX12_command_14 : decode cX12_command 14 = .ok (.iadd, 1) := dk_96 (dk_at dksX12_command_0 14 rfl rfl)
theorem dX12_command_15 : decode cX12_command 15 = .ok (.invokevirtual 31, 3) := dk_182 0 31 (dk_at dksX12_command_0 15 rfl rfl)
theorem dX12_command_18 : decode cX12_command 18 = .ok (.invokestatic 72, 3) := dk_184 0 72 (dk_at dksX12_command_0 18 rfl rfl)
theorem dX12_command_21 : decode cX12_command 21 = .ok (.astore_n 1, 1) := dk_76 (dk_at dksX12_command_0 21 rfl rfl)
theorem dX12_command_22 : decode cX12_command 22 = .ok (.aload_n 0, 1) := dk_42 (dk_at dksX12_command_0 22 rfl rfl)
theorem dX12_command_23 : decode cX12_command 23 = .ok (.aload_n 1, 1) := dk_43 (dk_at dksX12_command_0 23 rfl rfl)
theorem dX12_command_24 : decode cX12_command 24 = .ok (.invokevirtual 76, 3) := dk_182 0 76 (dk_at dksX12_command_1 0 rfl rfl)
theorem dX12_command_27 : decode cX12_command 27 = .ok (.ifCond .ne 7, 3) := dk_154 0 7 (dk_at dksX12_command_1 3 rfl rfl)
theorem dX12_command_30 : decode cX12_command 30 = .ok (.iconst 1, 1) := dk_4 (dk_at dksX12_command_1 6 rfl rfl)
theorem dX12_command_31 : decode cX12_command 31 = .ok (.goto 4, 3) := dk_167 0 4 (dk_at dksX12_command_1 7 rfl rfl)
theorem dX12_command_34 : decode cX12_command 34 = .ok (.iconst 0, 1) := dk_3 (dk_at dksX12_command_1 10 rfl rfl)
theorem dX12_command_35 : decode cX12_command 35 = .ok (.invokevirtual 49, 3) := dk_182 0 49 (dk_at dksX12_command_1 11 rfl rfl)
theorem dX12_command_38 : decode cX12_command 38 = .ok (.aload_n 0, 1) := dk_42 (dk_at dksX12_command_1 14 rfl rfl)
theorem dX12_command_39 : decode cX12_command 39 = .ok (.aload_n 1, 1) := dk_43 (dk_at dksX12_command_1 15 rfl rfl)
theorem dX12_command_40 : decode cX12_command 40 = .ok (.invokevirtual 81, 3) := dk_182 0 81 (dk_at dksX12_command_1 16 rfl rfl)
theorem dX12_command_43 : decode cX12_command 43 = .ok (.aload_n 1, 1) := dk_43 (dk_at dksX12_command_1 19 rfl rfl)
theorem dX12_command_44 : decode cX12_command 44 = .ok (.astore_n 2, 1) := dk_77 (dk_at dksX12_command_1 20 rfl rfl)
theorem dX12_command_45 : decode cX12_command 45 = .ok (.iconst (-1), 1) := dk_2 (dk_at dksX12_command_1 21 rfl rfl)
theorem dX12_command_46 : decode cX12_command 46 = .ok (.istore_n 3, 1) := dk_62 (dk_at dksX12_command_1 22 rfl rfl)
theorem dX12_command_47 : decode cX12_command 47 = .ok (.aload_n 2, 1) := dk_44 (dk_at dksX12_command_1 23 rfl rfl)
theorem dX12_command_48 : decode cX12_command 48 = .ok (.invokevirtual 85, 3) := dk_182 0 85 (dk_at dksX12_command_2 0 rfl rfl)
theorem dX12_command_51 : decode cX12_command 51 = .ok (.lookupswitch 138 #[(-1367587075, 57), (-1211782563, 71), (-1096862401, 113), (3526654, 85), (112893259, 127), (823466907, 99)], 57) := by decide +kernel
theorem dX12_command_108 : decode cX12_command 108 = .ok (.aload_n 2, 1) := dk_44 (dk_at dksX12_command_4 0 rfl rfl)
theorem dX12_command_109 : decode cX12_command 109 = .ok (.ldc 88, 2) := dk_18 88 (dk_at dksX12_command_4 1 rfl rfl)
theorem dX12_command_111 : decode cX12_command 111 = .ok (.invokevirtual 90, 3) := dk_182 0 90 (dk_at dksX12_command_4 3 rfl rfl)
theorem dX12_command_114 : decode cX12_command 114 = .ok (.ifCond .eq 75, 3) := dk_153 0 75 (dk_at dksX12_command_4 6 rfl rfl)
theorem dX12_command_117 : decode cX12_command 117 = .ok (.iconst 0, 1) := dk_3 (dk_at dksX12_command_4 9 rfl rfl)
theorem dX12_command_118 : decode cX12_command 118 = .ok (.istore_n 3, 1) := dk_62 (dk_at dksX12_command_4 10 rfl rfl)
theorem dX12_command_119 : decode cX12_command 119 = .ok (.goto 70, 3) := dk_167 0 70 (dk_at dksX12_command_4 11 rfl rfl)
theorem dX12_command_122 : decode cX12_command 122 = .ok (.aload_n 2, 1) := dk_44 (dk_at dksX12_command_4 14 rfl rfl)
theorem dX12_command_123 : decode cX12_command 123 = .ok (.ldc 94, 2) := dk_18 94 (dk_at dksX12_command_4 15 rfl rfl)
theorem dX12_command_125 : decode cX12_command 125 = .ok (.invokevirtual 90, 3) := dk_182 0 90 (dk_at dksX12_command_4 17 rfl rfl)
theorem dX12_command_128 : decode cX12_command 128 = .ok (.ifCond .eq 61, 3) := dk_153 0 61 (dk_at dksX12_command_4 20 rfl rfl)
theorem dX12_command_131 : decode cX12_command 131 = .ok (.iconst 1, 1) := dk_4 (dk_at dksX12_command_4 23 rfl rfl)
theorem dX12_command_132 : decode cX12_command 132 = .ok (.istore_n 3, 1) := dk_62 (dk_at dksX12_command_5 0 rfl rfl)
theorem dX12_command_133 : decode cX12_command 133 = .ok (.goto 56, 3) := dk_167 0 56 (dk_at dksX12_command_5 1 rfl rfl)
theorem dX12_command_136 : decode cX12_command 136 = .ok (.aload_n 2, 1) := dk_44 (dk_at dksX12_command_5 4 rfl rfl)
theorem dX12_command_137 : decode cX12_command 137 = .ok (.ldc 96, 2) := dk_18 96 (dk_at dksX12_command_5 5 rfl rfl)
theorem dX12_command_139 : decode cX12_command 139 = .ok (.invokevirtual 90, 3) := dk_182 0 90 (dk_at dksX12_command_5 7 rfl rfl)
theorem dX12_command_142 : decode cX12_command 142 = .ok (.ifCond .eq 47, 3) := dk_153 0 47 (dk_at dksX12_command_5 10 rfl rfl)
theorem dX12_command_145 : decode cX12_command 145 = .ok (.iconst 2, 1) := dk_5 (dk_at dksX12_command_5 13 rfl rfl)
theorem dX12_command_146 : decode cX12_command 146 = .ok (.istore_n 3, 1) := dk_62 (dk_at dksX12_command_5 14 rfl rfl)
theorem dX12_command_147 : decode cX12_command 147 = .ok (.goto 42, 3) := dk_167 0 42 (dk_at dksX12_command_5 15 rfl rfl)
theorem dX12_command_150 : decode cX12_command 150 = .ok (.aload_n 2, 1) := dk_44 (dk_at dksX12_command_5 18 rfl rfl)
theorem dX12_command_151 : decode cX12_command 151 = .ok (.ldc 98, 2) := dk_18 98 (dk_at dksX12_command_5 19 rfl rfl)
theorem dX12_command_153 : decode cX12_command 153 = .ok (.invokevirtual 90, 3) := dk_182 0 90 (dk_at dksX12_command_5 21 rfl rfl)
theorem dX12_command_156 : decode cX12_command 156 = .ok (.ifCond .eq 33, 3) := dk_153 0 33 (dk_at dksX12_command_6 0 rfl rfl)
theorem dX12_command_159 : decode cX12_command 159 = .ok (.iconst 3, 1) := dk_6 (dk_at dksX12_command_6 3 rfl rfl)
theorem dX12_command_160 : decode cX12_command 160 = .ok (.istore_n 3, 1) := dk_62 (dk_at dksX12_command_6 4 rfl rfl)
theorem dX12_command_161 : decode cX12_command 161 = .ok (.goto 28, 3) := dk_167 0 28 (dk_at dksX12_command_6 5 rfl rfl)
theorem dX12_command_164 : decode cX12_command 164 = .ok (.aload_n 2, 1) := dk_44 (dk_at dksX12_command_6 8 rfl rfl)
theorem dX12_command_165 : decode cX12_command 165 = .ok (.ldc 100, 2) := dk_18 100 (dk_at dksX12_command_6 9 rfl rfl)
theorem dX12_command_167 : decode cX12_command 167 = .ok (.invokevirtual 90, 3) := dk_182 0 90 (dk_at dksX12_command_6 11 rfl rfl)
theorem dX12_command_170 : decode cX12_command 170 = .ok (.ifCond .eq 19, 3) := dk_153 0 19 (dk_at dksX12_command_6 14 rfl rfl)
theorem dX12_command_173 : decode cX12_command 173 = .ok (.iconst 4, 1) := dk_7 (dk_at dksX12_command_6 17 rfl rfl)
theorem dX12_command_174 : decode cX12_command 174 = .ok (.istore_n 3, 1) := dk_62 (dk_at dksX12_command_6 18 rfl rfl)
theorem dX12_command_175 : decode cX12_command 175 = .ok (.goto 14, 3) := dk_167 0 14 (dk_at dksX12_command_6 19 rfl rfl)
theorem dX12_command_178 : decode cX12_command 178 = .ok (.aload_n 2, 1) := dk_44 (dk_at dksX12_command_6 22 rfl rfl)
theorem dX12_command_179 : decode cX12_command 179 = .ok (.ldc 102, 2) := dk_18 102 (dk_at dksX12_command_7 0 rfl rfl)
theorem dX12_command_181 : decode cX12_command 181 = .ok (.invokevirtual 90, 3) := dk_182 0 90 (dk_at dksX12_command_7 2 rfl rfl)
theorem dX12_command_184 : decode cX12_command 184 = .ok (.ifCond .eq 5, 3) := dk_153 0 5 (dk_at dksX12_command_7 5 rfl rfl)
theorem dX12_command_187 : decode cX12_command 187 = .ok (.iconst 5, 1) := dk_8 (dk_at dksX12_command_7 8 rfl rfl)
theorem dX12_command_188 : decode cX12_command 188 = .ok (.istore_n 3, 1) := dk_62 (dk_at dksX12_command_7 9 rfl rfl)
theorem dX12_command_189 : decode cX12_command 189 = .ok (.iload_n 3, 1) := dk_29 (dk_at dksX12_command_7 10 rfl rfl)
theorem dX12_command_190 : decode cX12_command 190 = .ok (.tableswitch 86 0 5 #[38, 38, 46, 46, 54, 70], 38) := by decide +kernel
theorem dX12_command_228 : decode cX12_command 228 = .ok (.aload_n 0, 1) := dk_42 (dk_at dksX12_command_9 0 rfl rfl)
theorem dX12_command_229 : decode cX12_command 229 = .ok (.aload_n 1, 1) := dk_43 (dk_at dksX12_command_9 1 rfl rfl)
theorem dX12_command_230 : decode cX12_command 230 = .ok (.invokevirtual 104, 3) := dk_182 0 104 (dk_at dksX12_command_9 2 rfl rfl)
theorem dX12_command_233 : decode cX12_command 233 = .ok (.goto 53, 3) := dk_167 0 53 (dk_at dksX12_command_9 5 rfl rfl)
theorem dX12_command_236 : decode cX12_command 236 = .ok (.aload_n 0, 1) := dk_42 (dk_at dksX12_command_9 8 rfl rfl)
theorem dX12_command_237 : decode cX12_command 237 = .ok (.aload_n 1, 1) := dk_43 (dk_at dksX12_command_9 9 rfl rfl)
theorem dX12_command_238 : decode cX12_command 238 = .ok (.invokevirtual 108, 3) := dk_182 0 108 (dk_at dksX12_command_9 10 rfl rfl)
theorem dX12_command_241 : decode cX12_command 241 = .ok (.goto 45, 3) := dk_167 0 45 (dk_at dksX12_command_9 13 rfl rfl)
theorem dX12_command_244 : decode cX12_command 244 = .ok (.new 67, 3) := dk_187 0 67 (dk_at dksX12_command_9 16 rfl rfl)
theorem dX12_command_247 : decode cX12_command 247 = .ok (.dup, 1) := dk_89 (dk_at dksX12_command_9 19 rfl rfl)
theorem dX12_command_248 : decode cX12_command 248 = .ok (.aload_n 1, 1) := dk_43 (dk_at dksX12_command_9 20 rfl rfl)
theorem dX12_command_249 : decode cX12_command 249 = .ok (.aload_n 0, 1) := dk_42 (dk_at dksX12_command_9 21 rfl rfl)
theorem dX12_command_250 : decode cX12_command 250 = .ok (.invokevirtual 61, 3) := dk_182 0 61 (dk_at dksX12_command_10 0 rfl rfl)
theorem dX12_command_253 : decode cX12_command 253 = .ok (.iconst 0, 1) := dk_3 (dk_at dksX12_command_10 3 rfl rfl)
theorem dX12_command_254 : decode cX12_command 254 = .ok (.invokespecial 69, 3) := dk_183 0 69 (dk_at dksX12_command_10 4 rfl rfl)
theorem dX12_command_257 : decode cX12_command 257 = .ok (.goto 29, 3) := dk_167 0 29 (dk_at dksX12_command_10 7 rfl rfl)
theorem dX12_command_260 : decode cX12_command 260 = .ok (.new 67, 3) := dk_187 0 67 (dk_at dksX12_command_10 10 rfl rfl)
theorem dX12_command_263 : decode cX12_command 263 = .ok (.dup, 1) := dk_89 (dk_at dksX12_command_10 13 rfl rfl)
theorem dX12_command_264 : decode cX12_command 264 = .ok (.aload_n 1, 1) := dk_43 (dk_at dksX12_command_10 14 rfl rfl)
theorem dX12_command_265 : decode cX12_command 265 = .ok (.aload_n 0, 1) := dk_42 (dk_at dksX12_command_10 15 rfl rfl)
theorem dX12_command_266 : decode cX12_command 266 = .ok (.invokevirtual 64, 3) := dk_182 0 64 (dk_at dksX12_command_10 16 rfl rfl)
theorem dX12_command_269 : decode cX12_command 269 = .ok (.iconst 0, 1) := dk_3 (dk_at dksX12_command_10 19 rfl rfl)
theorem dX12_command_270 : decode cX12_command 270 = .ok (.invokespecial 69, 3) := dk_183 0 69 (dk_at dksX12_command_10 20 rfl rfl)
theorem dX12_command_273 : decode cX12_command 273 = .ok (.goto 13, 3) := dk_167 0 13 (dk_at dksX12_command_11 0 rfl rfl)
theorem dX12_command_276 : decode cX12_command 276 = .ok (.new 67, 3) := dk_187 0 67 (dk_at dksX12_command_11 3 rfl rfl)
theorem dX12_command_279 : decode cX12_command 279 = .ok (.dup, 1) := dk_89 (dk_at dksX12_command_11 6 rfl rfl)
theorem dX12_command_280 : decode cX12_command 280 = .ok (.aload_n 1, 1) := dk_43 (dk_at dksX12_command_11 7 rfl rfl)
theorem dX12_command_281 : decode cX12_command 281 = .ok (.iconst 0, 1) := dk_3 (dk_at dksX12_command_11 8 rfl rfl)
theorem dX12_command_282 : decode cX12_command 282 = .ok (.iconst 0, 1) := dk_3 (dk_at dksX12_command_11 9 rfl rfl)
theorem dX12_command_283 : decode cX12_command 283 = .ok (.invokespecial 69, 3) := dk_183 0 69 (dk_at dksX12_command_11 10 rfl rfl)
theorem dX12_command_286 : decode cX12_command 286 = .ok (.areturn, 1) := dk_176 (dk_at dksX12_command_11 13 rfl rfl)
abbrev cX12_all : ByteArray := prog_7_method_12_code
def yX12_all : MethodName := ⟨RX12, "all", "()Ljava/util/LinkedList;"⟩
def dkwX12_all_3 : List UInt8 := [176]
abbrev dktX12_all_3 : List UInt8 := dkwX12_all_3 ++ []
def dkwX12_all_2 : List UInt8 := [42, 42, 180, 0, 17, 42, 180, 0, 3, 180, 0, 24, 160, 0, 7, 4, 167, 0, 4, 3, 182, 0, 49, 43]
abbrev dktX12_all_2 : List UInt8 := dkwX12_all_2 ++ dktX12_all_3
def dkwX12_all_1 : List UInt8 := [153, 0, 24, 42, 42, 16, 32, 182, 0, 45, 182, 0, 49, 43, 42, 182, 0, 114, 182, 0, 118, 167, 255, 229]
abbrev dktX12_all_1 : List UInt8 := dkwX12_all_1 ++ dktX12_all_2
def dkwX12_all_0 : List UInt8 := [187, 0, 111, 89, 183, 0, 113, 76, 43, 42, 182, 0, 114, 182, 0, 118, 42, 16, 44, 182, 0, 45]
abbrev dktX12_all_0 : List UInt8 := dkwX12_all_0 ++ dktX12_all_1
theorem dksX12_all_0 : cX12_all.data.toList.drop 0 = dktX12_all_0 := by decide +kernel
theorem dksX12_all_1 : cX12_all.data.toList.drop 22 = dktX12_all_1 := dk_seg dksX12_all_0 22 rfl rfl
theorem dksX12_all_2 : cX12_all.data.toList.drop 46 = dktX12_all_2 := dk_seg dksX12_all_1 24 rfl rfl
theorem dksX12_all_3 : cX12_all.data.toList.drop 70 = dktX12_all_3 := dk_seg dksX12_all_2 24 rfl rfl
theorem dX12_all_0 : decode cX12_all 0 = .ok (.new 111, 3) := dk_187 0 111 (dk_at dksX12_all_0 0 rfl rfl)
theorem dX12_all_3 : decode cX12_all 3 = .ok (.dup, 1) := dk_89 (dk_at dksX12_all_0 3 rfl rfl)
theorem dX12_all_4 : decode cX12_all 4 = .ok (.invokespecial 113, 3) := dk_183 0 113 (dk_at dksX12_all_0 4 rfl rfl)
theorem dX12_all_7 : decode cX12_all 7 = .ok (.astore_n 1, 1) := dk_76 (dk_at dksX12_all_0 7 rfl rfl)
theorem dX12_all_8 : decode cX12_all 8 = .ok (.aload_n 1, 1) := dk_43 (dk_at dksX12_all_0 8 rfl rfl)
theorem dX12_all_9 : decode cX12_all 9 = .ok (.aload_n 0, 1) := dk_42 (dk_at dksX12_all_0 9 rfl rfl)
theorem dX12_all_10 : decode cX12_all 10 = .ok (.invokevirtual 114, 3) := dk_182 0 114 (dk_at dksX12_all_0 10 rfl rfl)
theorem dX12_all_13 : decode cX12_all 13 = .ok (.invokevirtual 118, 3) := dk_182 0 118 (dk_at dksX12_all_0 13 rfl rfl)
theorem dX12_all_16 : decode cX12_all 16 = .ok (.aload_n 0, 1) := dk_42 (dk_at dksX12_all_0 16 rfl rfl)
theorem dX12_all_17 : decode cX12_all 17 = .ok (.bipush 44, 2) := dk_16 44 (dk_at dksX12_all_0 17 rfl rfl)
theorem dX12_all_19 : decode cX12_all 19 = .ok (.invokevirtual 45, 3) := dk_182 0 45 (dk_at dksX12_all_0 19 rfl rfl)
theorem dX12_all_22 : decode cX12_all 22 = .ok (.ifCond .eq 24, 3) := dk_153 0 24 (dk_at dksX12_all_1 0 rfl rfl)
theorem dX12_all_25 : decode cX12_all 25 = .ok (.aload_n 0, 1) := dk_42 (dk_at dksX12_all_1 3 rfl rfl)
theorem dX12_all_26 : decode cX12_all 26 = .ok (.aload_n 0, 1) := dk_42 (dk_at dksX12_all_1 4 rfl rfl)
theorem dX12_all_27 : decode cX12_all 27 = .ok (.bipush 32, 2) := dk_16 32 (dk_at dksX12_all_1 5 rfl rfl)
theorem dX12_all_29 : decode cX12_all 29 = .ok (.invokevirtual 45, 3) := dk_182 0 45 (dk_at dksX12_all_1 7 rfl rfl)
theorem dX12_all_32 : decode cX12_all 32 = .ok (.invokevirtual 49, 3) := dk_182 0 49 (dk_at dksX12_all_1 10 rfl rfl)
theorem dX12_all_35 : decode cX12_all 35 = .ok (.aload_n 1, 1) := dk_43 (dk_at dksX12_all_1 13 rfl rfl)
theorem dX12_all_36 : decode cX12_all 36 = .ok (.aload_n 0, 1) := dk_42 (dk_at dksX12_all_1 14 rfl rfl)
theorem dX12_all_37 : decode cX12_all 37 = .ok (.invokevirtual 114, 3) := dk_182 0 114 (dk_at dksX12_all_1 15 rfl rfl)
theorem dX12_all_40 : decode cX12_all 40 = .ok (.invokevirtual 118, 3) := dk_182 0 118 (dk_at dksX12_all_1 18 rfl rfl)
theorem dX12_all_43 : decode cX12_all 43 = .ok (.goto (-27), 3) := dk_167 255 229 (dk_at dksX12_all_1 21 rfl rfl)
theorem dX12_all_46 : decode cX12_all 46 = .ok (.aload_n 0, 1) := dk_42 (dk_at dksX12_all_2 0 rfl rfl)
theorem dX12_all_47 : decode cX12_all 47 = .ok (.aload_n 0, 1) := dk_42 (dk_at dksX12_all_2 1 rfl rfl)
theorem dX12_all_48 : decode cX12_all 48 = .ok (.getfield 17, 3) := dk_180 0 17 (dk_at dksX12_all_2 2 rfl rfl)
theorem dX12_all_51 : decode cX12_all 51 = .ok (.aload_n 0, 1) := dk_42 (dk_at dksX12_all_2 5 rfl rfl)
theorem dX12_all_52 : decode cX12_all 52 = .ok (.getfield 3, 3) := dk_180 0 3 (dk_at dksX12_all_2 6 rfl rfl)
theorem dX12_all_55 : decode cX12_all 55 = .ok (.getfield 24, 3) := dk_180 0 24 (dk_at dksX12_all_2 9 rfl rfl)
theorem dX12_all_58 : decode cX12_all 58 = .ok (.if_icmp .ne 7, 3) := dk_160 0 7 (dk_at dksX12_all_2 12 rfl rfl)
theorem dX12_all_61 : decode cX12_all 61 = .ok (.iconst 1, 1) := dk_4 (dk_at dksX12_all_2 15 rfl rfl)
theorem dX12_all_62 : decode cX12_all 62 = .ok (.goto 4, 3) := dk_167 0 4 (dk_at dksX12_all_2 16 rfl rfl)
theorem dX12_all_65 : decode cX12_all 65 = .ok (.iconst 0, 1) := dk_3 (dk_at dksX12_all_2 19 rfl rfl)
theorem dX12_all_66 : decode cX12_all 66 = .ok (.invokevirtual 49, 3) := dk_182 0 49 (dk_at dksX12_all_2 20 rfl rfl)
theorem dX12_all_69 : decode cX12_all 69 = .ok (.aload_n 1, 1) := dk_43 (dk_at dksX12_all_2 23 rfl rfl)
theorem dX12_all_70 : decode cX12_all 70 = .ok (.areturn, 1) := dk_176 (dk_at dksX12_all_3 0 rfl rfl)
theorem q118 : (Jvm.Cond.initialized "GargoyleTower$Reader") ∈ lw_all := lw_g (lw_at lw_m1 44 rfl) rfl
theorem q276 : (Jvm.Cond.fieldLinkNest "GargoyleTower$Reader" (27 : Nat) "GargoyleTower" "input" "[C" "GargoyleTower") ∈ lw_tbl := lw_at lw_m1 202 rfl
theorem q278 : (Jvm.Cond.fieldLinkNest "GargoyleTower$Reader" (24 : Nat) "GargoyleTower" "inputLength" "I" "GargoyleTower") ∈ lw_tbl := lw_at lw_m1 204 rfl
theorem q403 : (Jvm.Cond.instantiable "java/util/LinkedList" (4 : Nat)) ∈ lw_all := lw_g (lw_at lw_m2 89 rfl) rfl
theorem q1107 : (Jvm.Cond.instantiable "GargoyleTower$Deed" (4 : Nat)) ∈ lw_all := lw_g (lw_at lw_m5 73 rfl) rfl
theorem q1110 : (Jvm.Cond.instanceMethod ({ cls := "GargoyleTower$Deed", name := "<init>", desc := "(Ljava/lang/String;II)V" } : Jvm.MethodName)) ∈ lw_all := lw_g (lw_at lw_m5 76 rfl) rfl
theorem q1530 : (Jvm.Cond.instanceMethod ({ cls := "java/util/LinkedList", name := "<init>", desc := "()V" } : Jvm.MethodName)) ∈ lw_all := lw_g (lw_at lw_m7 16 rfl) rfl
theorem q1883 : (Jvm.Cond.declares ({ cls := "java/lang/CharSequence", name := "length", desc := "()I" } : Jvm.MethodName)) ∈ lw_tbl := lw_at lw_m8 129 rfl
theorem q1884 : (Jvm.Cond.castable "java/lang/String" "java/lang/CharSequence") ∈ lw_tbl := lw_at lw_m8 130 rfl
theorem q1885 : (Jvm.Cond.selects "java/lang/String" ({ cls := "java/lang/CharSequence", name := "length", desc := "()I" } : Jvm.MethodName) ({ cls := "java/lang/String", name := "length", desc := "()I" } : Jvm.MethodName)) ∈ lw_all := lw_g (lw_at lw_m8 131 rfl) rfl
theorem q1886 : (Jvm.Cond.unhidden "java/lang/String" "length" "()I") ∈ lw_tbl := lw_at lw_m8 132 rfl
theorem q1887 : (Jvm.Cond.publicMethod ({ cls := "java/lang/String", name := "length", desc := "()I" } : Jvm.MethodName)) ∈ lw_tbl := lw_at lw_m8 133 rfl
theorem q1918 : (Jvm.Cond.instanceMethod ({ cls := "java/lang/String", name := "charAt", desc := "(I)C" } : Jvm.MethodName)) ∈ lw_all := lw_g (lw_at lw_m8 164 rfl) rfl
theorem q1934 : (Jvm.Cond.declares ({ cls := "java/lang/CharSequence", name := "charAt", desc := "(I)C" } : Jvm.MethodName)) ∈ lw_tbl := lw_at lw_m8 180 rfl
theorem q1935 : (Jvm.Cond.selects "java/lang/String" ({ cls := "java/lang/CharSequence", name := "charAt", desc := "(I)C" } : Jvm.MethodName) ({ cls := "java/lang/String", name := "charAt", desc := "(I)C" } : Jvm.MethodName)) ∈ lw_all := lw_g (lw_at lw_m8 181 rfl) rfl
theorem q1936 : (Jvm.Cond.unhidden "java/lang/String" "charAt" "(I)C") ∈ lw_tbl := lw_at lw_m8 182 rfl
theorem q1937 : (Jvm.Cond.publicMethod ({ cls := "java/lang/String", name := "charAt", desc := "(I)C" } : Jvm.MethodName)) ∈ lw_tbl := lw_at lw_m8 183 rfl
theorem q2070 : (Jvm.Cond.code ({ cls := "GargoyleTower$Reader", name := "<init>", desc := "(LGargoyleTower;)V" } : Jvm.MethodName) prog_7_method_1_code (2 : Nat) (Option.none : Option Jvm.ClassFile.FieldType)) ∈ lw_all := lw_g (lw_at lw_m9 76 rfl) rfl
theorem q2071 : (Jvm.Cond.methodLink "GargoyleTower$Reader" (9 : Nat) ({ cls := "java/lang/Object", name := "<init>", desc := "()V" } : Jvm.MethodName)) ∈ lw_all := lw_g (lw_at lw_m9 77 rfl) rfl
theorem q2072 : (Jvm.Cond.fieldLink "GargoyleTower$Reader" (17 : Nat) "GargoyleTower$Reader" "position" "I") ∈ lw_all := lw_g (lw_at lw_m9 78 rfl) rfl
theorem q2073 : (Jvm.Cond.fieldLink "GargoyleTower$Reader" (3 : Nat) "GargoyleTower$Reader" "this$0" "LGargoyleTower;") ∈ lw_all := lw_g (lw_at lw_m9 79 rfl) rfl
theorem q2082 : (Jvm.Cond.code ({ cls := "GargoyleTower$Reader", name := "all", desc := "()Ljava/util/LinkedList;" } : Jvm.MethodName) prog_7_method_12_code (2 : Nat) (Option.some (Jvm.ClassFile.FieldType.object "java/util/LinkedList"))) ∈ lw_all := lw_g (lw_at lw_m9 88 rfl) rfl
theorem q2083 : (Jvm.Cond.classLink "GargoyleTower$Reader" (111 : Nat) "java/util/LinkedList") ∈ lw_all := lw_g (lw_at lw_m9 89 rfl) rfl
theorem q2084 : (Jvm.Cond.methodLink "GargoyleTower$Reader" (113 : Nat) ({ cls := "java/util/LinkedList", name := "<init>", desc := "()V" } : Jvm.MethodName)) ∈ lw_all := lw_g (lw_at lw_m9 90 rfl) rfl
theorem q2085 : (Jvm.Cond.methodLink "GargoyleTower$Reader" (114 : Nat) ({ cls := "GargoyleTower$Reader", name := "command", desc := "()LGargoyleTower$Deed;" } : Jvm.MethodName)) ∈ lw_all := lw_g (lw_at lw_m9 91 rfl) rfl
theorem q2087 : (Jvm.Cond.instanceMethod ({ cls := "GargoyleTower$Reader", name := "command", desc := "()LGargoyleTower$Deed;" } : Jvm.MethodName)) ∈ lw_all := lw_g (lw_at lw_m9 93 rfl) rfl
theorem q2088 : (Jvm.Cond.code ({ cls := "GargoyleTower$Reader", name := "command", desc := "()LGargoyleTower$Deed;" } : Jvm.MethodName) prog_7_method_11_code (4 : Nat) (Option.some (Jvm.ClassFile.FieldType.object "GargoyleTower$Deed"))) ∈ lw_all := lw_g (lw_at lw_m9 94 rfl) rfl
theorem q2089 : (Jvm.Cond.methodLink "GargoyleTower$Reader" (31 : Nat) ({ cls := "GargoyleTower$Reader", name := "there", desc := "(I)I" } : Jvm.MethodName)) ∈ lw_all := lw_g (lw_at lw_m9 95 rfl) rfl
theorem q2091 : (Jvm.Cond.instanceMethod ({ cls := "GargoyleTower$Reader", name := "there", desc := "(I)I" } : Jvm.MethodName)) ∈ lw_all := lw_g (lw_at lw_m9 97 rfl) rfl
theorem q2092 : (Jvm.Cond.code ({ cls := "GargoyleTower$Reader", name := "there", desc := "(I)I" } : Jvm.MethodName) prog_7_method_3_code (2 : Nat) (Option.some Jvm.ClassFile.FieldType.int)) ∈ lw_all := lw_g (lw_at lw_m9 98 rfl) rfl
theorem q2093 : (Jvm.Cond.methodLinkNest "GargoyleTower$Reader" (72 : Nat) ({ cls := "GargoyleTower", name := "wordOf", desc := "(II)Ljava/lang/String;" } : Jvm.MethodName) "GargoyleTower") ∈ lw_tbl := lw_at lw_m9 99 rfl
theorem q2094 : (Jvm.Cond.static ({ cls := "GargoyleTower", name := "wordOf", desc := "(II)Ljava/lang/String;" } : Jvm.MethodName)) ∈ lw_all := lw_g (lw_at lw_m9 100 rfl) rfl
theorem q2095 : (Jvm.Cond.code ({ cls := "GargoyleTower", name := "wordOf", desc := "(II)Ljava/lang/String;" } : Jvm.MethodName) prog_1_method_50_code (2 : Nat) (Option.some (Jvm.ClassFile.FieldType.object "java/lang/String"))) ∈ lw_all := lw_g (lw_at lw_m9 101 rfl) rfl
theorem q2097 : (Jvm.Cond.methodLink "GargoyleTower$Reader" (76 : Nat) ({ cls := "java/lang/String", name := "isEmpty", desc := "()Z" } : Jvm.MethodName)) ∈ lw_all := lw_g (lw_at lw_m9 103 rfl) rfl
theorem q2098 : (Jvm.Cond.instanceMethod ({ cls := "java/lang/String", name := "isEmpty", desc := "()Z" } : Jvm.MethodName)) ∈ lw_all := lw_g (lw_at lw_m9 104 rfl) rfl
theorem q2099 : (Jvm.Cond.selects "java/lang/String" ({ cls := "java/lang/String", name := "isEmpty", desc := "()Z" } : Jvm.MethodName) ({ cls := "java/lang/String", name := "isEmpty", desc := "()Z" } : Jvm.MethodName)) ∈ lw_all := lw_g (lw_at lw_m9 105 rfl) rfl
theorem q2101 : (Jvm.Cond.methodLink "GargoyleTower$Reader" (49 : Nat) ({ cls := "GargoyleTower$Reader", name := "need", desc := "(Z)V" } : Jvm.MethodName)) ∈ lw_all := lw_g (lw_at lw_m9 107 rfl) rfl
theorem q2103 : (Jvm.Cond.instanceMethod ({ cls := "GargoyleTower$Reader", name := "need", desc := "(Z)V" } : Jvm.MethodName)) ∈ lw_all := lw_g (lw_at lw_m9 109 rfl) rfl
theorem q2104 : (Jvm.Cond.code ({ cls := "GargoyleTower$Reader", name := "need", desc := "(Z)V" } : Jvm.MethodName) prog_7_method_2_code (2 : Nat) (Option.none : Option Jvm.ClassFile.FieldType)) ∈ lw_all := lw_g (lw_at lw_m9 110 rfl) rfl
theorem q2105 : (Jvm.Cond.classLink "GargoyleTower$Reader" (15 : Nat) "GargoyleTower$TextException") ∈ lw_all := lw_g (lw_at lw_m9 111 rfl) rfl
theorem q2106 : (Jvm.Cond.instantiable "GargoyleTower$TextException" (7 : Nat)) ∈ lw_all := lw_g (lw_at lw_m9 112 rfl) rfl
theorem q2114 : (Jvm.Cond.methodLink "GargoyleTower$Reader" (21 : Nat) ({ cls := "GargoyleTower$TextException", name := "<init>", desc := "(I)V" } : Jvm.MethodName)) ∈ lw_all := lw_g (lw_at lw_m9 120 rfl) rfl
theorem q2115 : (Jvm.Cond.instanceMethod ({ cls := "GargoyleTower$TextException", name := "<init>", desc := "(I)V" } : Jvm.MethodName)) ∈ lw_all := lw_g (lw_at lw_m9 121 rfl) rfl
theorem q2124 : (Jvm.Cond.methodLink "GargoyleTower$Reader" (81 : Nat) ({ cls := "GargoyleTower$Reader", name := "takeAll", desc := "(Ljava/lang/CharSequence;)V" } : Jvm.MethodName)) ∈ lw_all := lw_g (lw_at lw_m9 130 rfl) rfl
theorem q2126 : (Jvm.Cond.instanceMethod ({ cls := "GargoyleTower$Reader", name := "takeAll", desc := "(Ljava/lang/CharSequence;)V" } : Jvm.MethodName)) ∈ lw_all := lw_g (lw_at lw_m9 132 rfl) rfl
theorem q2127 : (Jvm.Cond.code ({ cls := "GargoyleTower$Reader", name := "takeAll", desc := "(Ljava/lang/CharSequence;)V" } : Jvm.MethodName) prog_7_method_5_code (3 : Nat) (Option.none : Option Jvm.ClassFile.FieldType)) ∈ lw_all := lw_g (lw_at lw_m9 133 rfl) rfl
theorem q2129 : (Jvm.Cond.methodLink "GargoyleTower$Reader" (35 : Nat) ({ cls := "java/lang/CharSequence", name := "length", desc := "()I" } : Jvm.MethodName)) ∈ lw_all := lw_g (lw_at lw_m9 135 rfl) rfl
theorem q2131 : (Jvm.Cond.methodLink "GargoyleTower$Reader" (41 : Nat) ({ cls := "java/lang/CharSequence", name := "charAt", desc := "(I)C" } : Jvm.MethodName)) ∈ lw_all := lw_g (lw_at lw_m9 137 rfl) rfl
theorem q2132 : (Jvm.Cond.methodLink "GargoyleTower$Reader" (45 : Nat) ({ cls := "GargoyleTower$Reader", name := "takes", desc := "(C)Z" } : Jvm.MethodName)) ∈ lw_all := lw_g (lw_at lw_m9 138 rfl) rfl
theorem q2134 : (Jvm.Cond.instanceMethod ({ cls := "GargoyleTower$Reader", name := "takes", desc := "(C)Z" } : Jvm.MethodName)) ∈ lw_all := lw_g (lw_at lw_m9 140 rfl) rfl
theorem q2135 : (Jvm.Cond.code ({ cls := "GargoyleTower$Reader", name := "takes", desc := "(C)Z" } : Jvm.MethodName) prog_7_method_4_code (3 : Nat) (Option.some Jvm.ClassFile.FieldType.boolean)) ∈ lw_all := lw_g (lw_at lw_m9 141 rfl) rfl
theorem q2136 : (Jvm.Cond.methodLink "GargoyleTower$Reader" (85 : Nat) ({ cls := "java/lang/String", name := "hashCode", desc := "()I" } : Jvm.MethodName)) ∈ lw_all := lw_g (lw_at lw_m9 142 rfl) rfl
theorem q2138 : (Jvm.Cond.methodLink "GargoyleTower$Reader" (90 : Nat) ({ cls := "java/lang/String", name := "equals", desc := "(Ljava/lang/Object;)Z" } : Jvm.MethodName)) ∈ lw_all := lw_g (lw_at lw_m9 144 rfl) rfl
theorem q2144 : (Jvm.Cond.methodLink "GargoyleTower$Reader" (104 : Nat) ({ cls := "GargoyleTower$Reader", name := "numbered", desc := "(Ljava/lang/String;)LGargoyleTower$Deed;" } : Jvm.MethodName)) ∈ lw_all := lw_g (lw_at lw_m9 150 rfl) rfl
theorem q2146 : (Jvm.Cond.instanceMethod ({ cls := "GargoyleTower$Reader", name := "numbered", desc := "(Ljava/lang/String;)LGargoyleTower$Deed;" } : Jvm.MethodName)) ∈ lw_all := lw_g (lw_at lw_m9 152 rfl) rfl
theorem q2147 : (Jvm.Cond.code ({ cls := "GargoyleTower$Reader", name := "numbered", desc := "(Ljava/lang/String;)LGargoyleTower$Deed;" } : Jvm.MethodName) prog_7_method_9_code (3 : Nat) (Option.some (Jvm.ClassFile.FieldType.object "GargoyleTower$Deed"))) ∈ lw_all := lw_g (lw_at lw_m9 153 rfl) rfl
theorem q2148 : (Jvm.Cond.methodLink "GargoyleTower$Reader" (64 : Nat) ({ cls := "GargoyleTower$Reader", name := "number", desc := "()I" } : Jvm.MethodName)) ∈ lw_all := lw_g (lw_at lw_m9 154 rfl) rfl
theorem q2150 : (Jvm.Cond.instanceMethod ({ cls := "GargoyleTower$Reader", name := "number", desc := "()I" } : Jvm.MethodName)) ∈ lw_all := lw_g (lw_at lw_m9 156 rfl) rfl
theorem q2151 : (Jvm.Cond.code ({ cls := "GargoyleTower$Reader", name := "number", desc := "()I" } : Jvm.MethodName) prog_7_method_8_code (2 : Nat) (Option.some Jvm.ClassFile.FieldType.int)) ∈ lw_all := lw_g (lw_at lw_m9 157 rfl) rfl
theorem q2152 : (Jvm.Cond.methodLink "GargoyleTower$Reader" (61 : Nat) ({ cls := "GargoyleTower$Reader", name := "digit", desc := "()I" } : Jvm.MethodName)) ∈ lw_all := lw_g (lw_at lw_m9 158 rfl) rfl
theorem q2154 : (Jvm.Cond.instanceMethod ({ cls := "GargoyleTower$Reader", name := "digit", desc := "()I" } : Jvm.MethodName)) ∈ lw_all := lw_g (lw_at lw_m9 160 rfl) rfl
theorem q2155 : (Jvm.Cond.code ({ cls := "GargoyleTower$Reader", name := "digit", desc := "()I" } : Jvm.MethodName) prog_7_method_7_code (1 : Nat) (Option.some Jvm.ClassFile.FieldType.int)) ∈ lw_all := lw_g (lw_at lw_m9 161 rfl) rfl
theorem q2156 : (Jvm.Cond.methodLink "GargoyleTower$Reader" (57 : Nat) ({ cls := "GargoyleTower$Reader", name := "isDigit", desc := "()Z" } : Jvm.MethodName)) ∈ lw_all := lw_g (lw_at lw_m9 162 rfl) rfl
theorem q2158 : (Jvm.Cond.instanceMethod ({ cls := "GargoyleTower$Reader", name := "isDigit", desc := "()Z" } : Jvm.MethodName)) ∈ lw_all := lw_g (lw_at lw_m9 164 rfl) rfl
theorem q2159 : (Jvm.Cond.code ({ cls := "GargoyleTower$Reader", name := "isDigit", desc := "()Z" } : Jvm.MethodName) prog_7_method_6_code (1 : Nat) (Option.some Jvm.ClassFile.FieldType.boolean)) ∈ lw_all := lw_g (lw_at lw_m9 165 rfl) rfl
theorem q2160 : (Jvm.Cond.methodLinkNest "GargoyleTower$Reader" (53 : Nat) ({ cls := "GargoyleTower", name := "inRange", desc := "(III)Z" } : Jvm.MethodName) "GargoyleTower") ∈ lw_tbl := lw_at lw_m9 166 rfl
theorem q2161 : (Jvm.Cond.classLink "GargoyleTower$Reader" (67 : Nat) "GargoyleTower$Deed") ∈ lw_all := lw_g (lw_at lw_m9 167 rfl) rfl
theorem q2162 : (Jvm.Cond.methodLink "GargoyleTower$Reader" (69 : Nat) ({ cls := "GargoyleTower$Deed", name := "<init>", desc := "(Ljava/lang/String;II)V" } : Jvm.MethodName)) ∈ lw_all := lw_g (lw_at lw_m9 168 rfl) rfl
theorem q2163 : (Jvm.Cond.methodLink "GargoyleTower$Reader" (108 : Nat) ({ cls := "GargoyleTower$Reader", name := "placed", desc := "(Ljava/lang/String;)LGargoyleTower$Deed;" } : Jvm.MethodName)) ∈ lw_all := lw_g (lw_at lw_m9 169 rfl) rfl
theorem q2165 : (Jvm.Cond.instanceMethod ({ cls := "GargoyleTower$Reader", name := "placed", desc := "(Ljava/lang/String;)LGargoyleTower$Deed;" } : Jvm.MethodName)) ∈ lw_all := lw_g (lw_at lw_m9 171 rfl) rfl
theorem q2166 : (Jvm.Cond.code ({ cls := "GargoyleTower$Reader", name := "placed", desc := "(Ljava/lang/String;)LGargoyleTower$Deed;" } : Jvm.MethodName) prog_7_method_10_code (3 : Nat) (Option.some (Jvm.ClassFile.FieldType.object "GargoyleTower$Deed"))) ∈ lw_all := lw_g (lw_at lw_m9 172 rfl) rfl
theorem q2167 : (Jvm.Cond.methodLink "GargoyleTower$Reader" (118 : Nat) ({ cls := "java/util/LinkedList", name := "addLast", desc := "(Ljava/lang/Object;)V" } : Jvm.MethodName)) ∈ lw_all := lw_g (lw_at lw_m9 173 rfl) rfl
theorem q2168 : (Jvm.Cond.instanceMethod ({ cls := "java/util/LinkedList", name := "addLast", desc := "(Ljava/lang/Object;)V" } : Jvm.MethodName)) ∈ lw_all := lw_g (lw_at lw_m9 174 rfl) rfl
theorem q2169 : (Jvm.Cond.selects "java/util/LinkedList" ({ cls := "java/util/LinkedList", name := "addLast", desc := "(Ljava/lang/Object;)V" } : Jvm.MethodName) ({ cls := "java/util/LinkedList", name := "addLast", desc := "(Ljava/lang/Object;)V" } : Jvm.MethodName)) ∈ lw_all := lw_g (lw_at lw_m9 175 rfl) rfl
theorem np65 : gh_np "(Ljava/lang/String;II)V" 3 := by unfold gh_np; decide +kernel
theorem np66 : gh_np "(Ljava/lang/String;)LGargoyleTower$Deed;" 1 := by unfold gh_np; decide +kernel
theorem np67 : gh_np "(Ljava/lang/CharSequence;)V" 1 := by unfold gh_np; decide +kernel
theorem np68 : gh_np "(II)Ljava/lang/String;" 2 := by unfold gh_np; decide +kernel
theorem np69 : gh_np "()LGargoyleTower$Deed;" 0 := by unfold gh_np; decide +kernel
theorem mh_X12 : gh_mh "GargoyleTower$Reader" := ⟨by decide, by decide⟩
theorem mh_X13 : gh_mh "GargoyleTower$TextException" := ⟨by decide, by decide⟩
theorem mh_java_lang_CharSequence : gh_mh "java/lang/CharSequence" := ⟨by decide, by decide⟩
theorem gh_tout5 {a : Int32} (k0 : ¬ a = (0 : Int32)) (k1 : ¬ a = (1 : Int32)) (k2 : ¬ a = (2 : Int32)) (k3 : ¬ a = (3 : Int32)) (k4 : ¬ a = (4 : Int32)) (k5 : ¬ a = (5 : Int32)) : a.toInt < 0 ∨ (5 : Int) < a.toInt := gh_tout (n := 5) (by decide) (gh_allS (gh_allS (gh_allS (gh_allS (gh_allS (gh_all0 (p := fun k => ¬ a = nI k) k0) k1) k2) k3) k4) k5)
-- GargoyleTower.wordOf(II)Ljava/lang/String;
noncomputable def f_X1_wordOf (p0 : Int32) (p1 : Int32) : gh_M (Option Nat) :=
  if p0 = (99 : Int32) then
  (gh_bd (gh_cst 1) fun v1 =>
  gh_ret v1)
  else if p0 = (100 : Int32) then
  (gh_bd (gh_cst 9) fun v2 =>
  gh_ret v2)
  else if p0 = (104 : Int32) then
  (gh_bd (gh_cst 4) fun v3 =>
  gh_ret v3)
  else if p0 = (108 : Int32) then
  (gh_bd (gh_cst 5) fun v4 =>
  gh_ret v4)
  else if p0 = (115 : Int32) then
  (gh_bd (gh_cst 6) fun v5 =>
  gh_ret v5)
  else if p0 = (119 : Int32) then
  (if p1 = (97 : Int32) then
  (gh_bd (gh_cst 11) fun v7 =>
  gh_ret v7)
  else
  (gh_bd (gh_cst 2) fun v6 =>
  gh_ret v6))
  else (gh_bd (gh_cst 13) fun v8 =>
  gh_ret v8)
theorem w_X1_wordOf {x : gh_C} {g : gh_G} {o : ((Option Nat) ⊕ gh_X) × gh_G} {ls : Array Slot} (C : gh_K x cX1_wordOf "GargoyleTower" 2 (some (.object "java/lang/String")) "wordOf" 0 0 []) (p0 : Int32) (p1 : Int32) (hl : gh_lv ls 2 [(0, .int p0), (1, .int p1)]) (h : gh_run (f_X1_wordOf p0 p1) g = some o) (hk : (gh_K0 x gh_rQ) o) : gh_Wd x g (F0 (gh_cm x) 0 ls []) := by
  unfold f_X1_wordOf at h
  refine gr_iload_n (pc := 0) (i := 0) C rfl (gl_at hl 0 rfl) dX1_wordOf_0 ?_
  by_cases k0 : p0 = (99 : Int32)
  · replace h := gh_ift h k0
    refine gr_lookup (pc := 1) (off := 59) (tgt := 60) C (by decide) (by rw [k0]; decide) rfl dX1_wordOf_1 ?_
    refine gr_ldcS (pc := 60) C (index := 98) (j := 1) (tx := "carve ") (by decide +kernel) dX1_wordOf_60 h fun v1 h => ?_
    refine gr_goto (pc := 62) (tgt := 105) C rfl dX1_wordOf_62 ?_
    exact gr_aret (pc := 105) C (Or.inl ⟨_, rfl⟩) dX1_wordOf_105 h hk
  replace h := gh_iff h k0
  by_cases k1 : p0 = (100 : Int32)
  · replace h := gh_ift h k1
    refine gr_lookup (pc := 1) (off := 79) (tgt := 80) C (by decide) (by rw [k1]; decide) rfl dX1_wordOf_1 ?_
    refine gr_ldcS (pc := 80) C (index := 226) (j := 9) (tx := "deliver ") (by decide +kernel) dX1_wordOf_80 h fun v2 h => ?_
    refine gr_goto (pc := 82) (tgt := 105) C rfl dX1_wordOf_82 ?_
    exact gr_aret (pc := 105) C (Or.inl ⟨_, rfl⟩) dX1_wordOf_105 h hk
  replace h := gh_iff h k1
  by_cases k2 : p0 = (104 : Int32)
  · replace h := gh_ift h k2
    refine gr_lookup (pc := 1) (off := 64) (tgt := 65) C (by decide) (by rw [k2]; decide) rfl dX1_wordOf_1 ?_
    refine gr_ldcS (pc := 65) C (index := 196) (j := 4) (tx := "hoist ") (by decide +kernel) dX1_wordOf_65 h fun v3 h => ?_
    refine gr_goto (pc := 67) (tgt := 105) C rfl dX1_wordOf_67 ?_
    exact gr_aret (pc := 105) C (Or.inl ⟨_, rfl⟩) dX1_wordOf_105 h hk
  replace h := gh_iff h k2
  by_cases k3 : p0 = (108 : Int32)
  · replace h := gh_ift h k3
    refine gr_lookup (pc := 1) (off := 69) (tgt := 70) C (by decide) (by rw [k3]; decide) rfl dX1_wordOf_1 ?_
    refine gr_ldcS (pc := 70) C (index := 198) (j := 5) (tx := "lower ") (by decide +kernel) dX1_wordOf_70 h fun v4 h => ?_
    refine gr_goto (pc := 72) (tgt := 105) C rfl dX1_wordOf_72 ?_
    exact gr_aret (pc := 105) C (Or.inl ⟨_, rfl⟩) dX1_wordOf_105 h hk
  replace h := gh_iff h k3
  by_cases k4 : p0 = (115 : Int32)
  · replace h := gh_ift h k4
    refine gr_lookup (pc := 1) (off := 74) (tgt := 75) C (by decide) (by rw [k4]; decide) rfl dX1_wordOf_1 ?_
    refine gr_ldcS (pc := 75) C (index := 200) (j := 6) (tx := "set ") (by decide +kernel) dX1_wordOf_75 h fun v5 h => ?_
    refine gr_goto (pc := 77) (tgt := 105) C rfl dX1_wordOf_77 ?_
    exact gr_aret (pc := 105) C (Or.inl ⟨_, rfl⟩) dX1_wordOf_105 h hk
  replace h := gh_iff h k4
  by_cases k5 : p0 = (119 : Int32)
  · replace h := gh_ift h k5
    refine gr_lookup (pc := 1) (off := 84) (tgt := 85) C (by decide) (by rw [k5]; decide) rfl dX1_wordOf_1 ?_
    refine gr_iload_n (pc := 85) (i := 1) C rfl (gl_at hl 1 rfl) dX1_wordOf_85 ?_
    refine gr_bipush (pc := 86) (v := (97 : Int32)) C rfl dX1_wordOf_86 ?_
    refine gr_icmp_ne (pc := 88) (tgt := 97) C rfl dX1_wordOf_88 (fun c9 => ?_) (fun c9 => ?_)
    · replace h := gh_iff h c9
      refine gr_ldcS (pc := 97) C (index := 100) (j := 2) (tx := "whet") (by decide +kernel) dX1_wordOf_97 h fun v6 h => ?_
      refine gr_goto (pc := 99) (tgt := 105) C rfl dX1_wordOf_99 ?_
      exact gr_aret (pc := 105) C (Or.inl ⟨_, rfl⟩) dX1_wordOf_105 h hk
    · replace h := gh_ift h c9
      refine gr_ldcSw (pc := 91) C (index := 274) (j := 11) (tx := "wait ") (by decide +kernel) dX1_wordOf_91 h fun v7 h => ?_
      refine gr_goto (pc := 94) (tgt := 105) C rfl dX1_wordOf_94 ?_
      exact gr_aret (pc := 105) C (Or.inl ⟨_, rfl⟩) dX1_wordOf_105 h hk
  replace h := gh_iff h k5
  refine gr_lookup (pc := 1) (off := 101) (tgt := 102) C (by decide) ((lv_osw k0 (by decide)).trans ((lv_osw k1 (by decide)).trans ((lv_osw k2 (by decide)).trans ((lv_osw k3 (by decide)).trans ((lv_osw k4 (by decide)).trans ((lv_osw k5 (by decide)).trans rfl)))))) rfl dX1_wordOf_1 ?_
  refine gr_ldcSw (pc := 102) C (index := 376) (j := 13) (tx := "") (by decide +kernel) dX1_wordOf_102 h fun v8 h => ?_
  exact gr_aret (pc := 105) C (Or.inl ⟨_, rfl⟩) dX1_wordOf_105 h hk

theorem k_X1_wordOf {l : Launch} (hst : l.stackTraces = false) (p0 : Int32) (p1 : Int32) : gh_Ct l yX1_wordOf 0 13 (f_X1_wordOf p0 p1) gh_rQ [.int p0, .int p1] := gh_intro2 (L1 := 0) hst (by decide +kernel) q2095 q75 rfl ⟨rfl, rfl, trivial⟩ (Nat.le_of_ble_eq_true rfl) fun x o ls hl C h hk => w_X1_wordOf C p0 p1 hl h hk
-- GargoyleTower$Reader.<init>(LGargoyleTower;)V
noncomputable def f_X12_init (t0 : Nat) (p1 : Option Nat) : gh_M Unit :=
  gh_bd (gh_putv t0 9 1 (.object "GargoyleTower") (va_rf p1)) fun _ =>
  gh_ret ()
theorem w_X12_init {x : gh_C} {g : gh_G} {o : (Unit ⊕ gh_X) × gh_G} {ls : Array Slot} (C : gh_K x cX12_init "GargoyleTower$Reader" 2 none "<init>" 1 20 []) (t0 : Nat) (p1 : Option Nat) (hl : gh_lv ls 2 [(0, va_rf (some t0)), (1, va_rf p1)]) (h : gh_run (f_X12_init t0 p1) g = some o) (hk : (gh_K0 x gh_rV) o) : gh_Wd x g (F0 (gh_cm x) 0 ls []) := by
  unfold f_X12_init at h
  refine gr_aload_n (pc := 0) (i := 0) C rfl (gl_at hl 0 rfl) dX12_init_0 ?_
  refine gr_aload_n (pc := 1) (i := 1) C rfl (gl_at hl 1 rfl) dX12_init_1 ?_
  refine gr_putF (pc := 2) C gh_bX12 (k := 1) (Nat.le_of_ble_eq_true rfl) q2073 (fun _ h => h) rfl rfl dX12_init_2 h fun g h => ?_
  refine gr_aload_n (pc := 5) (i := 0) C rfl (gl_at hl 0 rfl) dX12_init_5 ?_
  refine gr_oinit (pc := 6) C q2071 q130 q131 hl.1.1 (Nat.le_of_ble_eq_true rfl) (Nat.le_of_ble_eq_true rfl) (Nat.le_of_ble_eq_true rfl) dX12_init_6 ?_
  exact gr_vret (pc := 9) C dX12_init_9 h hk

theorem k_X12_init {l : Launch} (hst : l.stackTraces = false) (t0 : Nat) (p1 : Option Nat) : gh_Ct l yX12_init 1 33 (f_X12_init t0 p1) gh_rV [va_rf (some t0), va_rf p1] := gh_intro2 (L1 := 20) hst (by decide +kernel) q2070 q118 rfl ⟨gh_cat _, gh_cat _, trivial⟩ (Nat.le_of_ble_eq_true rfl) fun x o ls hl C h hk => w_X12_init C t0 p1 hl h hk
-- GargoyleTower$Reader.there(I)I
noncomputable def f_X12_there (t0 : Nat) (p1 : Int32) : gh_M Int32 :=
  gh_bd (gh_getr t0 9 1) fun v1 =>
  gh_nn v1 fun a2 =>
  gh_bd (gh_geti a2 0 6) fun v3 =>
  if v3 ≤ p1 then
  (gh_ret (-1 : Int32))
  else
  (gh_bd (gh_getr t0 9 1) fun v4 =>
  gh_nn v4 fun a5 =>
  gh_bd (gh_getr a5 0 5) fun v6 =>
  gh_nn v6 fun a7 =>
  gh_bd (gh_iald 3 a7 p1) fun v8 =>
  gh_ret v8)
theorem w_X12_there {x : gh_C} {g : gh_G} {o : (Int32 ⊕ gh_X) × gh_G} {ls : Array Slot} (C : gh_K x cX12_there "GargoyleTower$Reader" 2 (some .int) "there" 0 0 []) (t0 : Nat) (p1 : Int32) (hl : gh_lv ls 2 [(0, va_rf (some t0)), (1, .int p1)]) (h : gh_run (f_X12_there t0 p1) g = some o) (hk : (gh_K0 x gh_rI) o) : gh_Wd x g (F0 (gh_cm x) 0 ls []) := by
  unfold f_X12_there at h
  refine gr_iload_n (pc := 0) (i := 1) C rfl (gl_at hl 1 rfl) dX12_there_0 ?_
  refine gr_aload_n (pc := 1) (i := 0) C rfl (gl_at hl 0 rfl) dX12_there_1 ?_
  refine gr_getr (pc := 2) C gh_bX12 (k := 1) (Nat.le_of_ble_eq_true rfl) q2073 (fun _ h => h) dX12_there_2 h fun v1 h => ?_
  rcases v1 with _ | a2
  · exact gh_stk_inv h
  replace h := gh_nn_ss h
  refine gr_getiN (pc := 5) C gh_bX1 (k := 6) (Nat.le_of_ble_eq_true rfl) q278 (fun _ h => h) dX12_there_5 h fun v3 h => ?_
  refine gr_icmp_ge (pc := 8) (tgt := 23) C rfl dX12_there_8 (fun c9 => ?_) (fun c9 => ?_)
  · replace h := gh_ift h c9
    refine gr_iconst (pc := 23) (v := (-1 : Int32)) C rfl dX12_there_23 ?_
    exact gr_iret (pc := 24) C dX12_there_24 h hk
  · replace h := gh_iff h c9
    refine gr_aload_n (pc := 11) (i := 0) C rfl (gl_at hl 0 rfl) dX12_there_11 ?_
    refine gr_getr (pc := 12) C gh_bX12 (k := 1) (Nat.le_of_ble_eq_true rfl) q2073 (fun _ h => h) dX12_there_12 h fun v4 h => ?_
    rcases v4 with _ | a5
    · exact gh_stk_inv h
    replace h := gh_nn_ss h
    refine gr_getrN (pc := 15) C gh_bX1 (k := 5) (Nat.le_of_ble_eq_true rfl) q276 (fun _ h => h) dX12_there_15 h fun v6 h => ?_
    refine gr_iload_n (pc := 18) (i := 1) C rfl (gl_at hl 1 rfl) dX12_there_18 ?_
    rcases v6 with _ | a7
    · exact gh_stk_inv h
    replace h := gh_nn_ss h
    refine gr_cald (pc := 19) C dX12_there_19 h fun v8 h => ?_
    refine gr_goto (pc := 20) (tgt := 24) C rfl dX12_there_20 ?_
    exact gr_iret (pc := 24) C dX12_there_24 h hk

theorem k_X12_there {l : Launch} (hst : l.stackTraces = false) (t0 : Nat) (p1 : Int32) : gh_Ct l yX12_there 0 13 (f_X12_there t0 p1) gh_rI [va_rf (some t0), .int p1] := gh_intro2 (L1 := 0) hst (by decide +kernel) q2092 q118 rfl ⟨gh_cat _, rfl, trivial⟩ (Nat.le_of_ble_eq_true rfl) fun x o ls hl C h hk => w_X12_there C t0 p1 hl h hk
-- GargoyleTower$Reader.need(Z)V
noncomputable def f_X12_need (t0 : Nat) (p1 : Int32) : gh_M Unit :=
  if p1 = 0 then
  (gh_bd (gh_new 10 7 gh_nX13) fun a1 =>
  gh_bd (gh_geti t0 9 0) fun v2 =>
  gh_bd (f_X13_init a1 v2) fun _ =>
  gh_ath a1 gh_thr)
  else
  (gh_ret ())
theorem w_X12_need {x : gh_C} {g : gh_G} {o : (Unit ⊕ gh_X) × gh_G} {ls : Array Slot} (C : gh_K x cX12_need "GargoyleTower$Reader" 2 none "need" 4 89 []) (t0 : Nat) (p1 : Int32) (hl : gh_lv ls 2 [(0, va_rf (some t0)), (1, .int p1)]) (h : gh_run (f_X12_need t0 p1) g = some o) (hk : (gh_K0 x gh_rV) o) : gh_Wd x g (F0 (gh_cm x) 0 ls []) := by
  unfold f_X12_need at h
  refine gr_iload_n (pc := 0) (i := 1) C rfl (gl_at hl 1 rfl) dX12_need_0 ?_
  refine gr_if_ne (pc := 1) (tgt := 16) C rfl dX12_need_1 (fun c9 => ?_) (fun c9 => ?_)
  · replace h := gh_iff h c9
    exact gr_vret (pc := 16) C dX12_need_16 h hk
  · replace h := gh_ift h c9
    refine gr_newo (pc := 4) C gh_bX13 q2105 q2106 q119 gh_dX13 dX12_need_4 h (gh_K0_b _ hk) fun a1 g h => ?_
    refine gr_dup (pc := 7) C (gh_cat _) dX12_need_7 ?_
    refine gr_aload_n (pc := 8) (i := 0) C rfl (gl_at hl 0 rfl) dX12_need_8 ?_
    refine gr_geti (pc := 9) C gh_bX12 (k := 0) (Nat.le_of_ble_eq_true rfl) q2072 (fun _ h => h) dX12_need_9 h fun v2 h => ?_
    refine gh_callV (pc := 12) (rest := [va_rf (some a1)]) C (k_X13_init C.tr a1 v2) (Nat.le_of_ble_eq_true rfl) (Nat.le_of_ble_eq_true rfl) (gh_r4 (Nat.le_of_ble_eq_true rfl)) (fun H9 L9 hp9 => gi_I C q2114 rfl q2115 q2116 mh_X13 np4 rfl hl.1.1 dX12_need_12 rfl) h (gh_K0_b _ hk) (fun g h => ?_) (fun e g h => ?_)
    rotate_left
    ·
      exact gh_out C (fun _ h => nomatch h) h hk
    refine gr_ath (pc := 15) C dX12_need_15 h fun c8 h => ?_
    obtain ⟨e, he⟩ : ∃ e : gh_X, e = (c8, a1) := ⟨_, rfl⟩
    rw [← he] at h ⊢
    clear he
    exact gh_out C (fun _ h => nomatch h) h hk

theorem k_X12_need {l : Launch} (hst : l.stackTraces = false) (t0 : Nat) (p1 : Int32) : gh_Ct l yX12_need 4 102 (f_X12_need t0 p1) gh_rV [va_rf (some t0), .int p1] := gh_intro2 (L1 := 89) hst (by decide +kernel) q2104 q118 rfl ⟨gh_cat _, rfl, trivial⟩ (Nat.le_of_ble_eq_true rfl) fun x o ls hl C h hk => w_X12_need C t0 p1 hl h hk
-- GargoyleTower$Reader.takes(C)Z
noncomputable def f_X12_takes_32 (p2 : Int32) (s0 : Option Nat) (s1 : Int32) (s2 : Int32) : gh_M Int32 :=
  gh_nn s0 fun a1 =>
  gh_bd (gh_putv a1 9 0 .int (.int (s1 + s2))) fun _ =>
  gh_rz .boolean p2
theorem w_X12_takes_32 {x : gh_C} {g : gh_G} {o : (Int32 ⊕ gh_X) × gh_G} {ls : Array Slot} (C : gh_K x cX12_takes "GargoyleTower$Reader" 3 (some .boolean) "takes" 1 21 []) (p2 : Int32) (s0 : Option Nat) (s1 : Int32) (s2 : Int32) (hl : gh_lv ls 3 [(2, .int p2)]) (h : gh_run (f_X12_takes_32 p2 s0 s1 s2) g = some o) (hk : (gh_K0 x gh_rI) o) : gh_Wd x g (F0 (gh_cm x) 32 ls [.int s2, .int s1, va_rf s0]) := by
  unfold f_X12_takes_32 at h
  refine gr_iadd (pc := 32) C dX12_takes_32 ?_
  rcases s0 with _ | a1
  · exact gh_stk_inv h
  replace h := gh_nn_ss h
  refine gr_putp (pc := 33) C gh_bX12 (k := 0) (Nat.le_of_ble_eq_true rfl) q2072 (fun _ h => h) rfl dX12_takes_33 h fun g h => ?_
  refine gr_iload_n (pc := 36) (i := 2) C rfl (gl_at hl 0 rfl) dX12_takes_36 ?_
  exact gr_bret (pc := 37) C dX12_takes_37 h hk

noncomputable def f_X12_takes_17 (t0 : Nat) (s0 : Int32) : gh_M Int32 :=
  gh_bd (gh_geti t0 9 0) fun v1 =>
  if s0 = 0 then
  (f_X12_takes_32 s0 (some t0) v1 (0 : Int32))
  else
  (f_X12_takes_32 s0 (some t0) v1 (1 : Int32))
theorem w_X12_takes_17 {x : gh_C} {g : gh_G} {o : (Int32 ⊕ gh_X) × gh_G} {ls : Array Slot} (C : gh_K x cX12_takes "GargoyleTower$Reader" 3 (some .boolean) "takes" 1 21 []) (t0 : Nat) (s0 : Int32) (hl : gh_lv ls 3 [(0, va_rf (some t0))]) (h : gh_run (f_X12_takes_17 t0 s0) g = some o) (hk : (gh_K0 x gh_rI) o) : gh_Wd x g (F0 (gh_cm x) 17 ls [.int s0]) := by
  unfold f_X12_takes_17 at h
  refine gr_istore_n (pc := 17) (i := 2) (l' := [(2, .int s0), (0, va_rf (some t0))]) C rfl hl (Nat.le_of_ble_eq_true rfl) rfl dX12_takes_17 fun ls hl => ?_
  refine gr_aload_n (pc := 18) (i := 0) C rfl (gl_at hl 1 rfl) dX12_takes_18 ?_
  refine gr_dup (pc := 19) C (gh_cat _) dX12_takes_19 ?_
  refine gr_geti (pc := 20) C gh_bX12 (k := 0) (Nat.le_of_ble_eq_true rfl) q2072 (fun _ h => h) dX12_takes_20 h fun v1 h => ?_
  refine gr_iload_n (pc := 23) (i := 2) C rfl (gl_at hl 0 rfl) dX12_takes_23 ?_
  refine gr_if_eq (pc := 24) (tgt := 31) C rfl dX12_takes_24 (fun c9 => ?_) (fun c9 => ?_)
  · replace h := gh_ift h c9
    refine gr_iconst (pc := 31) (v := (0 : Int32)) C rfl dX12_takes_31 ?_
    exact w_X12_takes_32 C s0 (some t0) v1 (0 : Int32) (gl_sub hl [0] rfl) h hk
  · replace h := gh_iff h c9
    refine gr_iconst (pc := 27) (v := (1 : Int32)) C rfl dX12_takes_27 ?_
    refine gr_goto (pc := 28) (tgt := 32) C rfl dX12_takes_28 ?_
    exact w_X12_takes_32 C s0 (some t0) v1 (1 : Int32) (gl_sub hl [0] rfl) h hk

noncomputable def f_X12_takes (t0 : Nat) (p1 : Int32) : gh_M Int32 :=
  gh_bd (gh_geti t0 9 0) fun v1 =>
  gh_bd (gh_is t0 9) fun _ =>
  gh_bd (f_X12_there t0 v1) fun v2 =>
  if v2 = p1 then
  (f_X12_takes_17 t0 (1 : Int32))
  else
  (f_X12_takes_17 t0 (0 : Int32))
theorem w_X12_takes {x : gh_C} {g : gh_G} {o : (Int32 ⊕ gh_X) × gh_G} {ls : Array Slot} (C : gh_K x cX12_takes "GargoyleTower$Reader" 3 (some .boolean) "takes" 1 21 []) (t0 : Nat) (p1 : Int32) (hl : gh_lv ls 3 [(0, va_rf (some t0)), (1, .int p1)]) (h : gh_run (f_X12_takes t0 p1) g = some o) (hk : (gh_K0 x gh_rI) o) : gh_Wd x g (F0 (gh_cm x) 0 ls []) := by
  unfold f_X12_takes at h
  refine gr_aload_n (pc := 0) (i := 0) C rfl (gl_at hl 0 rfl) dX12_takes_0 ?_
  refine gr_aload_n (pc := 1) (i := 0) C rfl (gl_at hl 0 rfl) dX12_takes_1 ?_
  refine gr_geti (pc := 2) C gh_bX12 (k := 0) (Nat.le_of_ble_eq_true rfl) q2072 (fun _ h => h) dX12_takes_2 h fun v1 h => ?_
  obtain ⟨⟨fs9, hg9⟩, h⟩ := gh_is_inv h
  refine gh_callI (pc := 5) (rest := []) C (k_X12_there C.tr t0 v1) (Nat.le_of_ble_eq_true rfl) (Nat.le_of_ble_eq_true rfl) (gh_r4 (Nat.le_of_ble_eq_true rfl)) (fun H9 L9 hp9 => gi_V C hp9 hg9 gh_cX12 q2089 q2091 qs24 q2092 mh_X12 np6 rfl hl.1.1 dX12_takes_5 rfl) h (gh_K0_b _ hk) (fun v2 g h => ?_) (fun e g h => ?_)
  rotate_left
  ·
    exact gh_out C (fun _ h => nomatch h) h hk
  refine gr_iload_n (pc := 8) (i := 1) C rfl (gl_at hl 1 rfl) dX12_takes_8 ?_
  refine gr_icmp_ne (pc := 9) (tgt := 16) C rfl dX12_takes_9 (fun c9 => ?_) (fun c9 => ?_)
  · replace h := gh_iff h c9
    refine gr_iconst (pc := 16) (v := (0 : Int32)) C rfl dX12_takes_16 ?_
    exact w_X12_takes_17 C t0 (0 : Int32) (gl_sub hl [0] rfl) h hk
  · replace h := gh_ift h c9
    refine gr_iconst (pc := 12) (v := (1 : Int32)) C rfl dX12_takes_12 ?_
    refine gr_goto (pc := 13) (tgt := 17) C rfl dX12_takes_13 ?_
    exact w_X12_takes_17 C t0 (1 : Int32) (gl_sub hl [0] rfl) h hk

theorem k_X12_takes {l : Launch} (hst : l.stackTraces = false) (t0 : Nat) (p1 : Int32) : gh_Ct l yX12_takes 1 35 (f_X12_takes t0 p1) gh_rI [va_rf (some t0), .int p1] := gh_intro2 (L1 := 21) hst (by decide +kernel) q2135 q118 rfl ⟨gh_cat _, rfl, trivial⟩ (Nat.le_of_ble_eq_true rfl) fun x o ls hl C h hk => w_X12_takes C t0 p1 hl h hk
-- GargoyleTower$Reader.isDigit()Z
noncomputable def f_X12_isDigit (t0 : Nat) : gh_M Int32 :=
  gh_bd (gh_geti t0 9 0) fun v1 =>
  gh_bd (gh_is t0 9) fun _ =>
  gh_bd (f_X12_there t0 v1) fun v2 =>
  gh_bd (f_X1_inRange v2 (48 : Int32) (57 : Int32)) fun v3 =>
  gh_rz .boolean v3
theorem w_X12_isDigit {x : gh_C} {g : gh_G} {o : (Int32 ⊕ gh_X) × gh_G} {ls : Array Slot} (C : gh_K x cX12_isDigit "GargoyleTower$Reader" 1 (some .boolean) "isDigit" 1 22 []) (t0 : Nat) (hl : gh_lv ls 1 [(0, va_rf (some t0))]) (h : gh_run (f_X12_isDigit t0) g = some o) (hk : (gh_K0 x gh_rI) o) : gh_Wd x g (F0 (gh_cm x) 0 ls []) := by
  unfold f_X12_isDigit at h
  refine gr_aload_n (pc := 0) (i := 0) C rfl (gl_at hl 0 rfl) dX12_isDigit_0 ?_
  refine gr_aload_n (pc := 1) (i := 0) C rfl (gl_at hl 0 rfl) dX12_isDigit_1 ?_
  refine gr_geti (pc := 2) C gh_bX12 (k := 0) (Nat.le_of_ble_eq_true rfl) q2072 (fun _ h => h) dX12_isDigit_2 h fun v1 h => ?_
  obtain ⟨⟨fs9, hg9⟩, h⟩ := gh_is_inv h
  refine gh_callI (pc := 5) (rest := []) C (k_X12_there C.tr t0 v1) (Nat.le_of_ble_eq_true rfl) (Nat.le_of_ble_eq_true rfl) (gh_r4 (Nat.le_of_ble_eq_true rfl)) (fun H9 L9 hp9 => gi_V C hp9 hg9 gh_cX12 q2089 q2091 qs24 q2092 mh_X12 np6 rfl hl.1.1 dX12_isDigit_5 rfl) h (gh_K0_b _ hk) (fun v2 g h => ?_) (fun e g h => ?_)
  rotate_left
  ·
    exact gh_out C (fun _ h => nomatch h) h hk
  refine gr_bipush (pc := 8) (v := (48 : Int32)) C rfl dX12_isDigit_8 ?_
  refine gr_bipush (pc := 10) (v := (57 : Int32)) C rfl dX12_isDigit_10 ?_
  refine gh_callI (pc := 12) (rest := []) C (k_X1_inRange C.tr v2 (48 : Int32) (57 : Int32)) (Nat.le_of_ble_eq_true rfl) (Nat.le_of_ble_eq_true rfl) (gh_r4 (Nat.le_of_ble_eq_true rfl)) (fun H9 L9 hp9 => gi_SN C q2160 q1231 q75 q1232 mh_X1 np54 rfl hl.1.1 dX12_isDigit_12 rfl) h (gh_K0_b _ hk) (fun v3 g h => ?_) (fun e g h => ?_)
  rotate_left
  ·
    exact gh_out C (fun _ h => nomatch h) h hk
  exact gr_bret (pc := 15) C dX12_isDigit_15 h hk

theorem k_X12_isDigit {l : Launch} (hst : l.stackTraces = false) (t0 : Nat) : gh_Ct l yX12_isDigit 1 34 (f_X12_isDigit t0) gh_rI [va_rf (some t0)] := gh_intro2 (L1 := 22) hst (by decide +kernel) q2159 q118 rfl ⟨gh_cat _, trivial⟩ (Nat.le_of_ble_eq_true rfl) fun x o ls hl C h hk => w_X12_isDigit C t0 hl h hk
-- GargoyleTower$Reader.takeAll(Ljava/lang/CharSequence;)V
def gp_X12_takeAll_2 (x : gh_C) (t0 : Nat) (u2_1 : Option Nat) (st : Int32) (g : gh_G) : Prop := ∀ ls : Array Slot, gh_lv ls 3 [(0, va_rf (some t0)), (1, va_rf u2_1), (2, .int st)] → gh_Wd x g (F0 (gh_cm x) 2 ls [])
noncomputable def f_X12_takeAll_2_l (t0 : Nat) (u2_1 : Option Nat) (p2 : Int32) : gh_M ((Int32) ⊕ Unit) :=
  gh_nn u2_1 fun a1 =>
  gh_bd (gh_is a1 14) fun _ =>
  gh_bd (f_J6_length a1) fun v2 =>
  if v2 ≤ p2 then
  (gh_up (gh_ret ()))
  else
  (gh_bd (gh_is a1 14) fun _ =>
  gh_bd (f_J6_charAt a1 p2) fun v3 =>
  gh_bd (gh_is t0 9) fun _ =>
  gh_bd (f_X12_takes t0 v3) fun v4 =>
  gh_bd (gh_is t0 9) fun _ =>
  gh_bd (f_X12_need t0 v4) fun _ =>
  gh_ret (.inl (p2 + (1 : Int32))))
theorem w_X12_takeAll_2_l {x : gh_C} {g : gh_G} {o : (((Int32) ⊕ Unit) ⊕ gh_X) × gh_G} {ls : Array Slot} (C : gh_K x cX12_takeAll "GargoyleTower$Reader" 3 none "takeAll" 5 110 []) (t0 : Nat) (u2_1 : Option Nat) (p2 : Int32) (hl : gh_lv ls 3 [(0, va_rf (some t0)), (1, va_rf u2_1), (2, .int p2)]) (h : gh_run (f_X12_takeAll_2_l t0 u2_1 p2) g = some o) (hk : (gh_K1 x (gh_K0 x gh_rV) (gp_X12_takeAll_2 x t0 u2_1)) o) : gh_Wd x g (F0 (gh_cm x) 2 ls []) := by
  unfold f_X12_takeAll_2_l at h
  refine gr_iload_n (pc := 2) (i := 2) C rfl (gl_at hl 2 rfl) dX12_takeAll_2 ?_
  refine gr_aload_n (pc := 3) (i := 1) C rfl (gl_at hl 1 rfl) dX12_takeAll_3 ?_
  rcases u2_1 with _ | a1
  · exact gh_stk_inv h
  replace h := gh_nn_ss h
  obtain ⟨⟨fs9, hg9⟩, h⟩ := gh_is_inv h
  refine gh_callI (pc := 4) (rest := [.int p2]) C (k_J6_length C.tr a1) (Nat.le_of_ble_eq_true rfl) (Nat.le_of_ble_eq_true rfl) (gh_r4 (Nat.le_of_ble_eq_true rfl)) (fun H9 L9 hp9 => gi_F C hp9 hg9 gh_cJ6 q2129 q1883 (by decide +kernel) q1885 q542 q1887 q1886 q1884 q544 mh_java_lang_CharSequence np0 rfl hl.1.1 dX12_takeAll_4 rfl) h ((gh_K1_b gh_K0_b) _ hk) (fun v2 g h => ?_) (fun e g h => ?_)
  rotate_left
  ·
    obtain ⟨o, h, hk⟩ := gh_K1_thr h hk
    exact gh_out C (fun _ h => nomatch h) h hk
  refine gr_icmp_ge (pc := 9) (tgt := 33) C rfl dX12_takeAll_9 (fun c9 => ?_) (fun c9 => ?_)
  · replace h := gh_ift h c9
    obtain ⟨o, h, hk⟩ := gh_K1_up h hk
    exact gr_vret (pc := 33) C dX12_takeAll_33 h hk
  · replace h := gh_iff h c9
    refine gr_aload_n (pc := 12) (i := 0) C rfl (gl_at hl 0 rfl) dX12_takeAll_12 ?_
    refine gr_aload_n (pc := 13) (i := 0) C rfl (gl_at hl 0 rfl) dX12_takeAll_13 ?_
    refine gr_aload_n (pc := 14) (i := 1) C rfl (gl_at hl 1 rfl) dX12_takeAll_14 ?_
    refine gr_iload_n (pc := 15) (i := 2) C rfl (gl_at hl 2 rfl) dX12_takeAll_15 ?_
    obtain ⟨⟨fs9, hg9⟩, h⟩ := gh_is_inv h
    refine gh_callI (pc := 16) (rest := [va_rf (some t0), va_rf (some t0)]) C (k_J6_charAt C.tr a1 p2) (Nat.le_of_ble_eq_true rfl) (Nat.le_of_ble_eq_true rfl) (gh_r4 (Nat.le_of_ble_eq_true rfl)) (fun H9 L9 hp9 => gi_F C hp9 hg9 gh_cJ6 q2131 q1934 (by decide +kernel) q1935 q1918 q1937 q1936 q1884 q1920 mh_java_lang_CharSequence np38 rfl hl.1.1 dX12_takeAll_16 rfl) h ((gh_K1_b gh_K0_b) _ hk) (fun v3 g h => ?_) (fun e g h => ?_)
    rotate_left
    ·
      obtain ⟨o, h, hk⟩ := gh_K1_thr h hk
      exact gh_out C (fun _ h => nomatch h) h hk
    obtain ⟨⟨fs9, hg9⟩, h⟩ := gh_is_inv h
    refine gh_callI (pc := 21) (rest := [va_rf (some t0)]) C (k_X12_takes C.tr t0 v3) (Nat.le_of_ble_eq_true rfl) (Nat.le_of_ble_eq_true rfl) (gh_r4 (Nat.le_of_ble_eq_true rfl)) (fun H9 L9 hp9 => gi_V C hp9 hg9 gh_cX12 q2132 q2134 qs27 q2135 mh_X12 np32 rfl hl.1.1 dX12_takeAll_21 rfl) h ((gh_K1_b gh_K0_b) _ hk) (fun v4 g h => ?_) (fun e g h => ?_)
    rotate_left
    ·
      obtain ⟨o, h, hk⟩ := gh_K1_thr h hk
      exact gh_out C (fun _ h => nomatch h) h hk
    obtain ⟨⟨fs9, hg9⟩, h⟩ := gh_is_inv h
    refine gh_callV (pc := 24) (rest := []) C (k_X12_need C.tr t0 v4) (Nat.le_of_ble_eq_true rfl) (Nat.le_of_ble_eq_true rfl) (gh_r4 (Nat.le_of_ble_eq_true rfl)) (fun H9 L9 hp9 => gi_V C hp9 hg9 gh_cX12 q2101 q2103 qs25 q2104 mh_X12 np55 rfl hl.1.1 dX12_takeAll_24 rfl) h ((gh_K1_b gh_K0_b) _ hk) (fun g h => ?_) (fun e g h => ?_)
    rotate_left
    ·
      obtain ⟨o, h, hk⟩ := gh_K1_thr h hk
      exact gh_out C (fun _ h => nomatch h) h hk
    refine gr_iinc (pc := 27) (i := 2) (z := 2) (v := p2 + (1 : Int32)) (l' := [(2, .int (p2 + (1 : Int32))), (0, va_rf (some t0)), (1, va_rf (some a1))]) C hl rfl rfl (Nat.le_of_ble_eq_true rfl) rfl dX12_takeAll_27 fun ls hl => ?_
    refine gr_goto (pc := 30) (tgt := 2) C rfl dX12_takeAll_30 ?_
    exact gh_K1_in h hk ls (gl_sub hl [1, 2, 0] rfl)

noncomputable def f_X12_takeAll_2 (t0 : Nat) (p1 : Option Nat) (p2 : Int32) : gh_M Unit := gh_it (fun st : Int32 => f_X12_takeAll_2_l t0 p1 st) (p2)
theorem w_X12_takeAll_2 {x : gh_C} {g : gh_G} {o : (Unit ⊕ gh_X) × gh_G} {ls : Array Slot} (C : gh_K x cX12_takeAll "GargoyleTower$Reader" 3 none "takeAll" 5 110 []) (t0 : Nat) (p1 : Option Nat) (p2 : Int32) (hl : gh_lv ls 3 [(0, va_rf (some t0)), (1, va_rf p1), (2, .int p2)]) (h : gh_run (f_X12_takeAll_2 t0 p1 p2) g = some o) (hk : (gh_K0 x gh_rV) o) : gh_Wd x g (F0 (gh_cm x) 2 ls []) := by
  unfold f_X12_takeAll_2 at h
  exact gh_loop gh_K0_b (fun st : Int32 => f_X12_takeAll_2_l t0 p1 st) (gp_X12_takeAll_2 x t0 p1) (fun st g o h hk ls hl => w_X12_takeAll_2_l C t0 p1 st hl h hk) _ g o h hk ls hl
noncomputable def f_X12_takeAll (t0 : Nat) (p1 : Option Nat) : gh_M Unit :=
  f_X12_takeAll_2 t0 p1 (0 : Int32)
theorem w_X12_takeAll {x : gh_C} {g : gh_G} {o : (Unit ⊕ gh_X) × gh_G} {ls : Array Slot} (C : gh_K x cX12_takeAll "GargoyleTower$Reader" 3 none "takeAll" 5 110 []) (t0 : Nat) (p1 : Option Nat) (hl : gh_lv ls 3 [(0, va_rf (some t0)), (1, va_rf p1)]) (h : gh_run (f_X12_takeAll t0 p1) g = some o) (hk : (gh_K0 x gh_rV) o) : gh_Wd x g (F0 (gh_cm x) 0 ls []) := by
  unfold f_X12_takeAll at h
  refine gr_iconst (pc := 0) (v := (0 : Int32)) C rfl dX12_takeAll_0 ?_
  refine gr_istore_n (pc := 1) (i := 2) (l' := [(2, .int (0 : Int32)), (0, va_rf (some t0)), (1, va_rf p1)]) C rfl hl (Nat.le_of_ble_eq_true rfl) rfl dX12_takeAll_1 fun ls hl => ?_
  exact w_X12_takeAll_2 C t0 p1 (0 : Int32) (gl_sub hl [1, 2, 0] rfl) h hk

theorem k_X12_takeAll {l : Launch} (hst : l.stackTraces = false) (t0 : Nat) (p1 : Option Nat) : gh_Ct l yX12_takeAll 5 124 (f_X12_takeAll t0 p1) gh_rV [va_rf (some t0), va_rf p1] := gh_intro2 (L1 := 110) hst (by decide +kernel) q2127 q118 rfl ⟨gh_cat _, gh_cat _, trivial⟩ (Nat.le_of_ble_eq_true rfl) fun x o ls hl C h hk => w_X12_takeAll C t0 p1 hl h hk
-- GargoyleTower$Reader.digit()I
noncomputable def f_X12_digit (t0 : Nat) : gh_M Int32 :=
  gh_bd (gh_is t0 9) fun _ =>
  gh_bd (f_X12_isDigit t0) fun v1 =>
  gh_bd (gh_is t0 9) fun _ =>
  gh_bd (f_X12_need t0 v1) fun _ =>
  gh_bd (gh_geti t0 9 0) fun v3 =>
  gh_bd (gh_putv t0 9 0 .int (.int (v3 + (1 : Int32)))) fun _ =>
  gh_bd (gh_getr t0 9 1) fun v4 =>
  gh_nn v4 fun a5 =>
  gh_bd (gh_getr a5 0 5) fun v6 =>
  gh_bd (gh_geti t0 9 0) fun v7 =>
  gh_nn v6 fun a8 =>
  gh_bd (gh_iald 3 a8 (v7 - (1 : Int32))) fun v9 =>
  gh_ret (v9 - (48 : Int32))
theorem w_X12_digit {x : gh_C} {g : gh_G} {o : (Int32 ⊕ gh_X) × gh_G} {ls : Array Slot} (C : gh_K x cX12_digit "GargoyleTower$Reader" 1 (some .int) "digit" 5 110 []) (t0 : Nat) (hl : gh_lv ls 1 [(0, va_rf (some t0))]) (h : gh_run (f_X12_digit t0) g = some o) (hk : (gh_K0 x gh_rI) o) : gh_Wd x g (F0 (gh_cm x) 0 ls []) := by
  unfold f_X12_digit at h
  refine gr_aload_n (pc := 0) (i := 0) C rfl (gl_at hl 0 rfl) dX12_digit_0 ?_
  refine gr_aload_n (pc := 1) (i := 0) C rfl (gl_at hl 0 rfl) dX12_digit_1 ?_
  obtain ⟨⟨fs9, hg9⟩, h⟩ := gh_is_inv h
  refine gh_callI (pc := 2) (rest := [va_rf (some t0)]) C (k_X12_isDigit C.tr t0) (Nat.le_of_ble_eq_true rfl) (Nat.le_of_ble_eq_true rfl) (gh_r4 (Nat.le_of_ble_eq_true rfl)) (fun H9 L9 hp9 => gi_V C hp9 hg9 gh_cX12 q2156 q2158 qs31 q2159 mh_X12 np7 rfl hl.1.1 dX12_digit_2 rfl) h (gh_K0_b _ hk) (fun v1 g h => ?_) (fun e g h => ?_)
  rotate_left
  ·
    exact gh_out C (fun _ h => nomatch h) h hk
  obtain ⟨⟨fs9, hg9⟩, h⟩ := gh_is_inv h
  refine gh_callV (pc := 5) (rest := []) C (k_X12_need C.tr t0 v1) (Nat.le_of_ble_eq_true rfl) (Nat.le_of_ble_eq_true rfl) (gh_r4 (Nat.le_of_ble_eq_true rfl)) (fun H9 L9 hp9 => gi_V C hp9 hg9 gh_cX12 q2101 q2103 qs25 q2104 mh_X12 np55 rfl hl.1.1 dX12_digit_5 rfl) h (gh_K0_b _ hk) (fun g h => ?_) (fun e g h => ?_)
  rotate_left
  ·
    exact gh_out C (fun _ h => nomatch h) h hk
  refine gr_aload_n (pc := 8) (i := 0) C rfl (gl_at hl 0 rfl) dX12_digit_8 ?_
  refine gr_dup (pc := 9) C (gh_cat _) dX12_digit_9 ?_
  refine gr_geti (pc := 10) C gh_bX12 (k := 0) (Nat.le_of_ble_eq_true rfl) q2072 (fun _ h => h) dX12_digit_10 h fun v3 h => ?_
  refine gr_iconst (pc := 13) (v := (1 : Int32)) C rfl dX12_digit_13 ?_
  refine gr_iadd (pc := 14) C dX12_digit_14 ?_
  refine gr_putp (pc := 15) C gh_bX12 (k := 0) (Nat.le_of_ble_eq_true rfl) q2072 (fun _ h => h) rfl dX12_digit_15 h fun g h => ?_
  refine gr_aload_n (pc := 18) (i := 0) C rfl (gl_at hl 0 rfl) dX12_digit_18 ?_
  refine gr_getr (pc := 19) C gh_bX12 (k := 1) (Nat.le_of_ble_eq_true rfl) q2073 (fun _ h => h) dX12_digit_19 h fun v4 h => ?_
  rcases v4 with _ | a5
  · exact gh_stk_inv h
  replace h := gh_nn_ss h
  refine gr_getrN (pc := 22) C gh_bX1 (k := 5) (Nat.le_of_ble_eq_true rfl) q276 (fun _ h => h) dX12_digit_22 h fun v6 h => ?_
  refine gr_aload_n (pc := 25) (i := 0) C rfl (gl_at hl 0 rfl) dX12_digit_25 ?_
  refine gr_geti (pc := 26) C gh_bX12 (k := 0) (Nat.le_of_ble_eq_true rfl) q2072 (fun _ h => h) dX12_digit_26 h fun v7 h => ?_
  refine gr_iconst (pc := 29) (v := (1 : Int32)) C rfl dX12_digit_29 ?_
  refine gr_isub (pc := 30) C dX12_digit_30 ?_
  rcases v6 with _ | a8
  · exact gh_stk_inv h
  replace h := gh_nn_ss h
  refine gr_cald (pc := 31) C dX12_digit_31 h fun v9 h => ?_
  refine gr_bipush (pc := 32) (v := (48 : Int32)) C rfl dX12_digit_32 ?_
  refine gr_isub (pc := 34) C dX12_digit_34 ?_
  exact gr_iret (pc := 35) C dX12_digit_35 h hk

theorem k_X12_digit {l : Launch} (hst : l.stackTraces = false) (t0 : Nat) : gh_Ct l yX12_digit 5 122 (f_X12_digit t0) gh_rI [va_rf (some t0)] := gh_intro2 (L1 := 110) hst (by decide +kernel) q2155 q118 rfl ⟨gh_cat _, trivial⟩ (Nat.le_of_ble_eq_true rfl) fun x o ls hl C h hk => w_X12_digit C t0 hl h hk
-- GargoyleTower$Reader.number()I
noncomputable def f_X12_number (t0 : Nat) : gh_M Int32 :=
  gh_bd (gh_is t0 9) fun _ =>
  gh_bd (f_X12_digit t0) fun v1 =>
  gh_bd (gh_is t0 9) fun _ =>
  gh_bd (f_X12_isDigit t0) fun v2 =>
  if v2 = 0 then
  (gh_ret v1)
  else
  (gh_bd (gh_is t0 9) fun _ =>
  gh_bd (f_X12_digit t0) fun v3 =>
  gh_ret (((10 : Int32) * v1) + v3))
theorem w_X12_number {x : gh_C} {g : gh_G} {o : (Int32 ⊕ gh_X) × gh_G} {ls : Array Slot} (C : gh_K x cX12_number "GargoyleTower$Reader" 2 (some .int) "number" 6 130 []) (t0 : Nat) (hl : gh_lv ls 2 [(0, va_rf (some t0))]) (h : gh_run (f_X12_number t0) g = some o) (hk : (gh_K0 x gh_rI) o) : gh_Wd x g (F0 (gh_cm x) 0 ls []) := by
  unfold f_X12_number at h
  refine gr_aload_n (pc := 0) (i := 0) C rfl (gl_at hl 0 rfl) dX12_number_0 ?_
  obtain ⟨⟨fs9, hg9⟩, h⟩ := gh_is_inv h
  refine gh_callI (pc := 1) (rest := []) C (k_X12_digit C.tr t0) (Nat.le_of_ble_eq_true rfl) (Nat.le_of_ble_eq_true rfl) (gh_r4 (Nat.le_of_ble_eq_true rfl)) (fun H9 L9 hp9 => gi_V C hp9 hg9 gh_cX12 q2152 q2154 qs30 q2155 mh_X12 np0 rfl hl.1.1 dX12_number_1 rfl) h (gh_K0_b _ hk) (fun v1 g h => ?_) (fun e g h => ?_)
  rotate_left
  ·
    exact gh_out C (fun _ h => nomatch h) h hk
  refine gr_istore_n (pc := 4) (i := 1) (l' := [(1, .int v1), (0, va_rf (some t0))]) C rfl hl (Nat.le_of_ble_eq_true rfl) rfl dX12_number_4 fun ls hl => ?_
  refine gr_aload_n (pc := 5) (i := 0) C rfl (gl_at hl 1 rfl) dX12_number_5 ?_
  obtain ⟨⟨fs9, hg9⟩, h⟩ := gh_is_inv h
  refine gh_callI (pc := 6) (rest := []) C (k_X12_isDigit C.tr t0) (Nat.le_of_ble_eq_true rfl) (Nat.le_of_ble_eq_true rfl) (gh_r4 (Nat.le_of_ble_eq_true rfl)) (fun H9 L9 hp9 => gi_V C hp9 hg9 gh_cX12 q2156 q2158 qs31 q2159 mh_X12 np7 rfl hl.1.1 dX12_number_6 rfl) h (gh_K0_b _ hk) (fun v2 g h => ?_) (fun e g h => ?_)
  rotate_left
  ·
    exact gh_out C (fun _ h => nomatch h) h hk
  refine gr_if_eq (pc := 9) (tgt := 24) C rfl dX12_number_9 (fun c9 => ?_) (fun c9 => ?_)
  · replace h := gh_ift h c9
    refine gr_iload_n (pc := 24) (i := 1) C rfl (gl_at hl 0 rfl) dX12_number_24 ?_
    exact gr_iret (pc := 25) C dX12_number_25 h hk
  · replace h := gh_iff h c9
    refine gr_bipush (pc := 12) (v := (10 : Int32)) C rfl dX12_number_12 ?_
    refine gr_iload_n (pc := 14) (i := 1) C rfl (gl_at hl 0 rfl) dX12_number_14 ?_
    refine gr_imul (pc := 15) C dX12_number_15 ?_
    refine gr_aload_n (pc := 16) (i := 0) C rfl (gl_at hl 1 rfl) dX12_number_16 ?_
    obtain ⟨⟨fs9, hg9⟩, h⟩ := gh_is_inv h
    refine gh_callI (pc := 17) (rest := [.int ((10 : Int32) * v1)]) C (k_X12_digit C.tr t0) (Nat.le_of_ble_eq_true rfl) (Nat.le_of_ble_eq_true rfl) (gh_r4 (Nat.le_of_ble_eq_true rfl)) (fun H9 L9 hp9 => gi_V C hp9 hg9 gh_cX12 q2152 q2154 qs30 q2155 mh_X12 np0 rfl hl.1.1 dX12_number_17 rfl) h (gh_K0_b _ hk) (fun v3 g h => ?_) (fun e g h => ?_)
    rotate_left
    ·
      exact gh_out C (fun _ h => nomatch h) h hk
    refine gr_iadd (pc := 20) C dX12_number_20 ?_
    refine gr_goto (pc := 21) (tgt := 25) C rfl dX12_number_21 ?_
    exact gr_iret (pc := 25) C dX12_number_25 h hk

theorem k_X12_number {l : Launch} (hst : l.stackTraces = false) (t0 : Nat) : gh_Ct l yX12_number 6 143 (f_X12_number t0) gh_rI [va_rf (some t0)] := gh_intro2 (L1 := 130) hst (by decide +kernel) q2151 q118 rfl ⟨gh_cat _, trivial⟩ (Nat.le_of_ble_eq_true rfl) fun x o ls hl C h hk => w_X12_number C t0 hl h hk
-- GargoyleTower$Reader.placed(Ljava/lang/String;)LGargoyleTower$Deed;
noncomputable def f_X12_placed (t0 : Nat) (p1 : Option Nat) : gh_M (Option Nat) :=
  gh_bd (gh_is t0 9) fun _ =>
  gh_bd (f_X12_digit t0) fun v1 =>
  gh_bd (gh_is t0 9) fun _ =>
  gh_bd (f_X12_takes t0 (32 : Int32)) fun v2 =>
  gh_bd (gh_is t0 9) fun _ =>
  gh_bd (f_X12_need t0 v2) fun _ =>
  gh_bd (gh_new 4 4 gh_nX5) fun a4 =>
  gh_bd (gh_is t0 9) fun _ =>
  gh_bd (f_X12_number t0) fun v5 =>
  gh_bd (f_X5_init a4 p1 v1 v5) fun _ =>
  gh_ret (some a4)
theorem w_X12_placed {x : gh_C} {g : gh_G} {o : ((Option Nat) ⊕ gh_X) × gh_G} {ls : Array Slot} (C : gh_K x cX12_placed "GargoyleTower$Reader" 3 (some (.object "GargoyleTower$Deed")) "placed" 7 151 []) (t0 : Nat) (p1 : Option Nat) (hl : gh_lv ls 3 [(0, va_rf (some t0)), (1, va_rf p1)]) (h : gh_run (f_X12_placed t0 p1) g = some o) (hk : (gh_K0 x gh_rQ) o) : gh_Wd x g (F0 (gh_cm x) 0 ls []) := by
  unfold f_X12_placed at h
  refine gr_aload_n (pc := 0) (i := 0) C rfl (gl_at hl 0 rfl) dX12_placed_0 ?_
  obtain ⟨⟨fs9, hg9⟩, h⟩ := gh_is_inv h
  refine gh_callI (pc := 1) (rest := []) C (k_X12_digit C.tr t0) (Nat.le_of_ble_eq_true rfl) (Nat.le_of_ble_eq_true rfl) (gh_r4 (Nat.le_of_ble_eq_true rfl)) (fun H9 L9 hp9 => gi_V C hp9 hg9 gh_cX12 q2152 q2154 qs30 q2155 mh_X12 np0 rfl hl.1.1 dX12_placed_1 rfl) h (gh_K0_b _ hk) (fun v1 g h => ?_) (fun e g h => ?_)
  rotate_left
  ·
    exact gh_out C (fun _ h => nomatch h) h hk
  refine gr_istore_n (pc := 4) (i := 2) (l' := [(2, .int v1), (0, va_rf (some t0)), (1, va_rf p1)]) C rfl hl (Nat.le_of_ble_eq_true rfl) rfl dX12_placed_4 fun ls hl => ?_
  refine gr_aload_n (pc := 5) (i := 0) C rfl (gl_at hl 1 rfl) dX12_placed_5 ?_
  refine gr_aload_n (pc := 6) (i := 0) C rfl (gl_at hl 1 rfl) dX12_placed_6 ?_
  refine gr_bipush (pc := 7) (v := (32 : Int32)) C rfl dX12_placed_7 ?_
  obtain ⟨⟨fs9, hg9⟩, h⟩ := gh_is_inv h
  refine gh_callI (pc := 9) (rest := [va_rf (some t0)]) C (k_X12_takes C.tr t0 (32 : Int32)) (Nat.le_of_ble_eq_true rfl) (Nat.le_of_ble_eq_true rfl) (gh_r4 (Nat.le_of_ble_eq_true rfl)) (fun H9 L9 hp9 => gi_V C hp9 hg9 gh_cX12 q2132 q2134 qs27 q2135 mh_X12 np32 rfl hl.1.1 dX12_placed_9 rfl) h (gh_K0_b _ hk) (fun v2 g h => ?_) (fun e g h => ?_)
  rotate_left
  ·
    exact gh_out C (fun _ h => nomatch h) h hk
  obtain ⟨⟨fs9, hg9⟩, h⟩ := gh_is_inv h
  refine gh_callV (pc := 12) (rest := []) C (k_X12_need C.tr t0 v2) (Nat.le_of_ble_eq_true rfl) (Nat.le_of_ble_eq_true rfl) (gh_r4 (Nat.le_of_ble_eq_true rfl)) (fun H9 L9 hp9 => gi_V C hp9 hg9 gh_cX12 q2101 q2103 qs25 q2104 mh_X12 np55 rfl hl.1.1 dX12_placed_12 rfl) h (gh_K0_b _ hk) (fun g h => ?_) (fun e g h => ?_)
  rotate_left
  ·
    exact gh_out C (fun _ h => nomatch h) h hk
  refine gr_newo (pc := 15) C gh_bX5 q2161 q1107 q87 gh_dX5 dX12_placed_15 h (gh_K0_b _ hk) fun a4 g h => ?_
  refine gr_dup (pc := 18) C (gh_cat _) dX12_placed_18 ?_
  refine gr_aload_n (pc := 19) (i := 1) C rfl (gl_at hl 2 rfl) dX12_placed_19 ?_
  refine gr_iload_n (pc := 20) (i := 2) C rfl (gl_at hl 0 rfl) dX12_placed_20 ?_
  refine gr_aload_n (pc := 21) (i := 0) C rfl (gl_at hl 1 rfl) dX12_placed_21 ?_
  obtain ⟨⟨fs9, hg9⟩, h⟩ := gh_is_inv h
  refine gh_callI (pc := 22) (rest := [.int v1, va_rf p1, va_rf (some a4), va_rf (some a4)]) C (k_X12_number C.tr t0) (Nat.le_of_ble_eq_true rfl) (Nat.le_of_ble_eq_true rfl) (gh_r4 (Nat.le_of_ble_eq_true rfl)) (fun H9 L9 hp9 => gi_V C hp9 hg9 gh_cX12 q2148 q2150 qs29 q2151 mh_X12 np0 rfl hl.1.1 dX12_placed_22 rfl) h (gh_K0_b _ hk) (fun v5 g h => ?_) (fun e g h => ?_)
  rotate_left
  ·
    exact gh_out C (fun _ h => nomatch h) h hk
  refine gh_callV (pc := 25) (rest := [va_rf (some a4)]) C (k_X5_init C.tr a4 p1 v1 v5) (Nat.le_of_ble_eq_true rfl) (Nat.le_of_ble_eq_true rfl) (gh_r4 (Nat.le_of_ble_eq_true rfl)) (fun H9 L9 hp9 => gi_I C q2162 rfl q1110 q1111 mh_X5 np65 rfl hl.1.1 dX12_placed_25 rfl) h (gh_K0_b _ hk) (fun g h => ?_) (fun e g h => ?_)
  rotate_left
  ·
    exact gh_out C (fun _ h => nomatch h) h hk
  exact gr_aret (pc := 28) C (Or.inl ⟨_, rfl⟩) dX12_placed_28 h hk

theorem k_X12_placed {l : Launch} (hst : l.stackTraces = false) (t0 : Nat) (p1 : Option Nat) : gh_Ct l yX12_placed 7 165 (f_X12_placed t0 p1) gh_rQ [va_rf (some t0), va_rf p1] := gh_intro2 (L1 := 151) hst (by decide +kernel) q2166 q118 rfl ⟨gh_cat _, gh_cat _, trivial⟩ (Nat.le_of_ble_eq_true rfl) fun x o ls hl C h hk => w_X12_placed C t0 p1 hl h hk
-- GargoyleTower$Reader.numbered(Ljava/lang/String;)LGargoyleTower$Deed;
noncomputable def f_X12_numbered (t0 : Nat) (p1 : Option Nat) : gh_M (Option Nat) :=
  gh_bd (gh_is t0 9) fun _ =>
  gh_bd (f_X12_number t0) fun v1 =>
  gh_bd (gh_is t0 9) fun _ =>
  gh_bd (f_X12_takes t0 (32 : Int32)) fun v2 =>
  gh_bd (gh_is t0 9) fun _ =>
  gh_bd (f_X12_need t0 v2) fun _ =>
  gh_bd (gh_new 4 4 gh_nX5) fun a4 =>
  gh_bd (gh_is t0 9) fun _ =>
  gh_bd (f_X12_digit t0) fun v5 =>
  gh_bd (f_X5_init a4 p1 v1 v5) fun _ =>
  gh_ret (some a4)
theorem w_X12_numbered {x : gh_C} {g : gh_G} {o : ((Option Nat) ⊕ gh_X) × gh_G} {ls : Array Slot} (C : gh_K x cX12_numbered "GargoyleTower$Reader" 3 (some (.object "GargoyleTower$Deed")) "numbered" 7 151 []) (t0 : Nat) (p1 : Option Nat) (hl : gh_lv ls 3 [(0, va_rf (some t0)), (1, va_rf p1)]) (h : gh_run (f_X12_numbered t0 p1) g = some o) (hk : (gh_K0 x gh_rQ) o) : gh_Wd x g (F0 (gh_cm x) 0 ls []) := by
  unfold f_X12_numbered at h
  refine gr_aload_n (pc := 0) (i := 0) C rfl (gl_at hl 0 rfl) dX12_numbered_0 ?_
  obtain ⟨⟨fs9, hg9⟩, h⟩ := gh_is_inv h
  refine gh_callI (pc := 1) (rest := []) C (k_X12_number C.tr t0) (Nat.le_of_ble_eq_true rfl) (Nat.le_of_ble_eq_true rfl) (gh_r4 (Nat.le_of_ble_eq_true rfl)) (fun H9 L9 hp9 => gi_V C hp9 hg9 gh_cX12 q2148 q2150 qs29 q2151 mh_X12 np0 rfl hl.1.1 dX12_numbered_1 rfl) h (gh_K0_b _ hk) (fun v1 g h => ?_) (fun e g h => ?_)
  rotate_left
  ·
    exact gh_out C (fun _ h => nomatch h) h hk
  refine gr_istore_n (pc := 4) (i := 2) (l' := [(2, .int v1), (0, va_rf (some t0)), (1, va_rf p1)]) C rfl hl (Nat.le_of_ble_eq_true rfl) rfl dX12_numbered_4 fun ls hl => ?_
  refine gr_aload_n (pc := 5) (i := 0) C rfl (gl_at hl 1 rfl) dX12_numbered_5 ?_
  refine gr_aload_n (pc := 6) (i := 0) C rfl (gl_at hl 1 rfl) dX12_numbered_6 ?_
  refine gr_bipush (pc := 7) (v := (32 : Int32)) C rfl dX12_numbered_7 ?_
  obtain ⟨⟨fs9, hg9⟩, h⟩ := gh_is_inv h
  refine gh_callI (pc := 9) (rest := [va_rf (some t0)]) C (k_X12_takes C.tr t0 (32 : Int32)) (Nat.le_of_ble_eq_true rfl) (Nat.le_of_ble_eq_true rfl) (gh_r4 (Nat.le_of_ble_eq_true rfl)) (fun H9 L9 hp9 => gi_V C hp9 hg9 gh_cX12 q2132 q2134 qs27 q2135 mh_X12 np32 rfl hl.1.1 dX12_numbered_9 rfl) h (gh_K0_b _ hk) (fun v2 g h => ?_) (fun e g h => ?_)
  rotate_left
  ·
    exact gh_out C (fun _ h => nomatch h) h hk
  obtain ⟨⟨fs9, hg9⟩, h⟩ := gh_is_inv h
  refine gh_callV (pc := 12) (rest := []) C (k_X12_need C.tr t0 v2) (Nat.le_of_ble_eq_true rfl) (Nat.le_of_ble_eq_true rfl) (gh_r4 (Nat.le_of_ble_eq_true rfl)) (fun H9 L9 hp9 => gi_V C hp9 hg9 gh_cX12 q2101 q2103 qs25 q2104 mh_X12 np55 rfl hl.1.1 dX12_numbered_12 rfl) h (gh_K0_b _ hk) (fun g h => ?_) (fun e g h => ?_)
  rotate_left
  ·
    exact gh_out C (fun _ h => nomatch h) h hk
  refine gr_newo (pc := 15) C gh_bX5 q2161 q1107 q87 gh_dX5 dX12_numbered_15 h (gh_K0_b _ hk) fun a4 g h => ?_
  refine gr_dup (pc := 18) C (gh_cat _) dX12_numbered_18 ?_
  refine gr_aload_n (pc := 19) (i := 1) C rfl (gl_at hl 2 rfl) dX12_numbered_19 ?_
  refine gr_iload_n (pc := 20) (i := 2) C rfl (gl_at hl 0 rfl) dX12_numbered_20 ?_
  refine gr_aload_n (pc := 21) (i := 0) C rfl (gl_at hl 1 rfl) dX12_numbered_21 ?_
  obtain ⟨⟨fs9, hg9⟩, h⟩ := gh_is_inv h
  refine gh_callI (pc := 22) (rest := [.int v1, va_rf p1, va_rf (some a4), va_rf (some a4)]) C (k_X12_digit C.tr t0) (Nat.le_of_ble_eq_true rfl) (Nat.le_of_ble_eq_true rfl) (gh_r4 (Nat.le_of_ble_eq_true rfl)) (fun H9 L9 hp9 => gi_V C hp9 hg9 gh_cX12 q2152 q2154 qs30 q2155 mh_X12 np0 rfl hl.1.1 dX12_numbered_22 rfl) h (gh_K0_b _ hk) (fun v5 g h => ?_) (fun e g h => ?_)
  rotate_left
  ·
    exact gh_out C (fun _ h => nomatch h) h hk
  refine gh_callV (pc := 25) (rest := [va_rf (some a4)]) C (k_X5_init C.tr a4 p1 v1 v5) (Nat.le_of_ble_eq_true rfl) (Nat.le_of_ble_eq_true rfl) (gh_r4 (Nat.le_of_ble_eq_true rfl)) (fun H9 L9 hp9 => gi_I C q2162 rfl q1110 q1111 mh_X5 np65 rfl hl.1.1 dX12_numbered_25 rfl) h (gh_K0_b _ hk) (fun g h => ?_) (fun e g h => ?_)
  rotate_left
  ·
    exact gh_out C (fun _ h => nomatch h) h hk
  exact gr_aret (pc := 28) C (Or.inl ⟨_, rfl⟩) dX12_numbered_28 h hk

theorem k_X12_numbered {l : Launch} (hst : l.stackTraces = false) (t0 : Nat) (p1 : Option Nat) : gh_Ct l yX12_numbered 7 165 (f_X12_numbered t0 p1) gh_rQ [va_rf (some t0), va_rf p1] := gh_intro2 (L1 := 151) hst (by decide +kernel) q2147 q118 rfl ⟨gh_cat _, gh_cat _, trivial⟩ (Nat.le_of_ble_eq_true rfl) fun x o ls hl C h hk => w_X12_numbered C t0 p1 hl h hk
-- GargoyleTower$Reader.command()LGargoyleTower$Deed;
noncomputable def f_X12_command_189 (t0 : Nat) (p1 : Option Nat) (p3 : Int32) : gh_M (Option Nat) :=
  if p3 = (0 : Int32) then
  (gh_bd (gh_is t0 9) fun _ =>
  gh_bd (f_X12_numbered t0 p1) fun v1 =>
  gh_ret v1)
  else if p3 = (1 : Int32) then
  (gh_bd (gh_is t0 9) fun _ =>
  gh_bd (f_X12_numbered t0 p1) fun v2 =>
  gh_ret v2)
  else if p3 = (2 : Int32) then
  (gh_bd (gh_is t0 9) fun _ =>
  gh_bd (f_X12_placed t0 p1) fun v3 =>
  gh_ret v3)
  else if p3 = (3 : Int32) then
  (gh_bd (gh_is t0 9) fun _ =>
  gh_bd (f_X12_placed t0 p1) fun v4 =>
  gh_ret v4)
  else if p3 = (4 : Int32) then
  (gh_bd (gh_new 4 4 gh_nX5) fun a5 =>
  gh_bd (gh_is t0 9) fun _ =>
  gh_bd (f_X12_digit t0) fun v6 =>
  gh_bd (f_X5_init a5 p1 v6 (0 : Int32)) fun _ =>
  gh_ret (some a5))
  else if p3 = (5 : Int32) then
  (gh_bd (gh_new 4 4 gh_nX5) fun a8 =>
  gh_bd (gh_is t0 9) fun _ =>
  gh_bd (f_X12_number t0) fun v9 =>
  gh_bd (f_X5_init a8 p1 v9 (0 : Int32)) fun _ =>
  gh_ret (some a8))
  else (gh_bd (gh_new 4 4 gh_nX5) fun a11 =>
  gh_bd (f_X5_init a11 p1 (0 : Int32) (0 : Int32)) fun _ =>
  gh_ret (some a11))
theorem w_X12_command_189 {x : gh_C} {g : gh_G} {o : ((Option Nat) ⊕ gh_X) × gh_G} {ls : Array Slot} (C : gh_K x cX12_command "GargoyleTower$Reader" 4 (some (.object "GargoyleTower$Deed")) "command" 8 173 []) (t0 : Nat) (p1 : Option Nat) (p3 : Int32) (hl : gh_lv ls 4 [(0, va_rf (some t0)), (1, va_rf p1), (3, .int p3)]) (h : gh_run (f_X12_command_189 t0 p1 p3) g = some o) (hk : (gh_K0 x gh_rQ) o) : gh_Wd x g (F0 (gh_cm x) 189 ls []) := by
  unfold f_X12_command_189 at h
  refine gr_iload_n (pc := 189) (i := 3) C rfl (gl_at hl 2 rfl) dX12_command_189 ?_
  by_cases k0 : p3 = (0 : Int32)
  · replace h := gh_ift h k0
    refine gr_table (pc := 190) (v := (0 : Int32)) (off := 38) (tgt := 228) C k0 (by decide) (by decide) (by decide) rfl dX12_command_190 ?_
    refine gr_aload_n (pc := 228) (i := 0) C rfl (gl_at hl 0 rfl) dX12_command_228 ?_
    refine gr_aload_n (pc := 229) (i := 1) C rfl (gl_at hl 1 rfl) dX12_command_229 ?_
    obtain ⟨⟨fs9, hg9⟩, h⟩ := gh_is_inv h
    refine gh_callQ (pc := 230) (rest := []) C (k_X12_numbered C.tr t0 p1) (Nat.le_of_ble_eq_true rfl) (Nat.le_of_ble_eq_true rfl) (gh_r4 (Nat.le_of_ble_eq_true rfl)) (fun H9 L9 hp9 => gi_V C hp9 hg9 gh_cX12 q2144 q2146 qs28 q2147 mh_X12 np66 rfl hl.1.1 dX12_command_230 rfl) h (gh_K0_b _ hk) (fun v1 g h => ?_) (fun e g h => ?_)
    rotate_left
    ·
      exact gh_out C (fun _ h => nomatch h) h hk
    refine gr_goto (pc := 233) (tgt := 286) C rfl dX12_command_233 ?_
    exact gr_aret (pc := 286) C (Or.inl ⟨_, rfl⟩) dX12_command_286 h hk
  replace h := gh_iff h k0
  by_cases k1 : p3 = (1 : Int32)
  · replace h := gh_ift h k1
    refine gr_table (pc := 190) (v := (1 : Int32)) (off := 38) (tgt := 228) C k1 (by decide) (by decide) (by decide) rfl dX12_command_190 ?_
    refine gr_aload_n (pc := 228) (i := 0) C rfl (gl_at hl 0 rfl) dX12_command_228 ?_
    refine gr_aload_n (pc := 229) (i := 1) C rfl (gl_at hl 1 rfl) dX12_command_229 ?_
    obtain ⟨⟨fs9, hg9⟩, h⟩ := gh_is_inv h
    refine gh_callQ (pc := 230) (rest := []) C (k_X12_numbered C.tr t0 p1) (Nat.le_of_ble_eq_true rfl) (Nat.le_of_ble_eq_true rfl) (gh_r4 (Nat.le_of_ble_eq_true rfl)) (fun H9 L9 hp9 => gi_V C hp9 hg9 gh_cX12 q2144 q2146 qs28 q2147 mh_X12 np66 rfl hl.1.1 dX12_command_230 rfl) h (gh_K0_b _ hk) (fun v2 g h => ?_) (fun e g h => ?_)
    rotate_left
    ·
      exact gh_out C (fun _ h => nomatch h) h hk
    refine gr_goto (pc := 233) (tgt := 286) C rfl dX12_command_233 ?_
    exact gr_aret (pc := 286) C (Or.inl ⟨_, rfl⟩) dX12_command_286 h hk
  replace h := gh_iff h k1
  by_cases k2 : p3 = (2 : Int32)
  · replace h := gh_ift h k2
    refine gr_table (pc := 190) (v := (2 : Int32)) (off := 46) (tgt := 236) C k2 (by decide) (by decide) (by decide) rfl dX12_command_190 ?_
    refine gr_aload_n (pc := 236) (i := 0) C rfl (gl_at hl 0 rfl) dX12_command_236 ?_
    refine gr_aload_n (pc := 237) (i := 1) C rfl (gl_at hl 1 rfl) dX12_command_237 ?_
    obtain ⟨⟨fs9, hg9⟩, h⟩ := gh_is_inv h
    refine gh_callQ (pc := 238) (rest := []) C (k_X12_placed C.tr t0 p1) (Nat.le_of_ble_eq_true rfl) (Nat.le_of_ble_eq_true rfl) (gh_r4 (Nat.le_of_ble_eq_true rfl)) (fun H9 L9 hp9 => gi_V C hp9 hg9 gh_cX12 q2163 q2165 qs32 q2166 mh_X12 np66 rfl hl.1.1 dX12_command_238 rfl) h (gh_K0_b _ hk) (fun v3 g h => ?_) (fun e g h => ?_)
    rotate_left
    ·
      exact gh_out C (fun _ h => nomatch h) h hk
    refine gr_goto (pc := 241) (tgt := 286) C rfl dX12_command_241 ?_
    exact gr_aret (pc := 286) C (Or.inl ⟨_, rfl⟩) dX12_command_286 h hk
  replace h := gh_iff h k2
  by_cases k3 : p3 = (3 : Int32)
  · replace h := gh_ift h k3
    refine gr_table (pc := 190) (v := (3 : Int32)) (off := 46) (tgt := 236) C k3 (by decide) (by decide) (by decide) rfl dX12_command_190 ?_
    refine gr_aload_n (pc := 236) (i := 0) C rfl (gl_at hl 0 rfl) dX12_command_236 ?_
    refine gr_aload_n (pc := 237) (i := 1) C rfl (gl_at hl 1 rfl) dX12_command_237 ?_
    obtain ⟨⟨fs9, hg9⟩, h⟩ := gh_is_inv h
    refine gh_callQ (pc := 238) (rest := []) C (k_X12_placed C.tr t0 p1) (Nat.le_of_ble_eq_true rfl) (Nat.le_of_ble_eq_true rfl) (gh_r4 (Nat.le_of_ble_eq_true rfl)) (fun H9 L9 hp9 => gi_V C hp9 hg9 gh_cX12 q2163 q2165 qs32 q2166 mh_X12 np66 rfl hl.1.1 dX12_command_238 rfl) h (gh_K0_b _ hk) (fun v4 g h => ?_) (fun e g h => ?_)
    rotate_left
    ·
      exact gh_out C (fun _ h => nomatch h) h hk
    refine gr_goto (pc := 241) (tgt := 286) C rfl dX12_command_241 ?_
    exact gr_aret (pc := 286) C (Or.inl ⟨_, rfl⟩) dX12_command_286 h hk
  replace h := gh_iff h k3
  by_cases k4 : p3 = (4 : Int32)
  · replace h := gh_ift h k4
    refine gr_table (pc := 190) (v := (4 : Int32)) (off := 54) (tgt := 244) C k4 (by decide) (by decide) (by decide) rfl dX12_command_190 ?_
    refine gr_newo (pc := 244) C gh_bX5 q2161 q1107 q87 gh_dX5 dX12_command_244 h (gh_K0_b _ hk) fun a5 g h => ?_
    refine gr_dup (pc := 247) C (gh_cat _) dX12_command_247 ?_
    refine gr_aload_n (pc := 248) (i := 1) C rfl (gl_at hl 1 rfl) dX12_command_248 ?_
    refine gr_aload_n (pc := 249) (i := 0) C rfl (gl_at hl 0 rfl) dX12_command_249 ?_
    obtain ⟨⟨fs9, hg9⟩, h⟩ := gh_is_inv h
    refine gh_callI (pc := 250) (rest := [va_rf p1, va_rf (some a5), va_rf (some a5)]) C (k_X12_digit C.tr t0) (Nat.le_of_ble_eq_true rfl) (Nat.le_of_ble_eq_true rfl) (gh_r4 (Nat.le_of_ble_eq_true rfl)) (fun H9 L9 hp9 => gi_V C hp9 hg9 gh_cX12 q2152 q2154 qs30 q2155 mh_X12 np0 rfl hl.1.1 dX12_command_250 rfl) h (gh_K0_b _ hk) (fun v6 g h => ?_) (fun e g h => ?_)
    rotate_left
    ·
      exact gh_out C (fun _ h => nomatch h) h hk
    refine gr_iconst (pc := 253) (v := (0 : Int32)) C rfl dX12_command_253 ?_
    refine gh_callV (pc := 254) (rest := [va_rf (some a5)]) C (k_X5_init C.tr a5 p1 v6 (0 : Int32)) (Nat.le_of_ble_eq_true rfl) (Nat.le_of_ble_eq_true rfl) (gh_r4 (Nat.le_of_ble_eq_true rfl)) (fun H9 L9 hp9 => gi_I C q2162 rfl q1110 q1111 mh_X5 np65 rfl hl.1.1 dX12_command_254 rfl) h (gh_K0_b _ hk) (fun g h => ?_) (fun e g h => ?_)
    rotate_left
    ·
      exact gh_out C (fun _ h => nomatch h) h hk
    refine gr_goto (pc := 257) (tgt := 286) C rfl dX12_command_257 ?_
    exact gr_aret (pc := 286) C (Or.inl ⟨_, rfl⟩) dX12_command_286 h hk
  replace h := gh_iff h k4
  by_cases k5 : p3 = (5 : Int32)
  · replace h := gh_ift h k5
    refine gr_table (pc := 190) (v := (5 : Int32)) (off := 70) (tgt := 260) C k5 (by decide) (by decide) (by decide) rfl dX12_command_190 ?_
    refine gr_newo (pc := 260) C gh_bX5 q2161 q1107 q87 gh_dX5 dX12_command_260 h (gh_K0_b _ hk) fun a8 g h => ?_
    refine gr_dup (pc := 263) C (gh_cat _) dX12_command_263 ?_
    refine gr_aload_n (pc := 264) (i := 1) C rfl (gl_at hl 1 rfl) dX12_command_264 ?_
    refine gr_aload_n (pc := 265) (i := 0) C rfl (gl_at hl 0 rfl) dX12_command_265 ?_
    obtain ⟨⟨fs9, hg9⟩, h⟩ := gh_is_inv h
    refine gh_callI (pc := 266) (rest := [va_rf p1, va_rf (some a8), va_rf (some a8)]) C (k_X12_number C.tr t0) (Nat.le_of_ble_eq_true rfl) (Nat.le_of_ble_eq_true rfl) (gh_r4 (Nat.le_of_ble_eq_true rfl)) (fun H9 L9 hp9 => gi_V C hp9 hg9 gh_cX12 q2148 q2150 qs29 q2151 mh_X12 np0 rfl hl.1.1 dX12_command_266 rfl) h (gh_K0_b _ hk) (fun v9 g h => ?_) (fun e g h => ?_)
    rotate_left
    ·
      exact gh_out C (fun _ h => nomatch h) h hk
    refine gr_iconst (pc := 269) (v := (0 : Int32)) C rfl dX12_command_269 ?_
    refine gh_callV (pc := 270) (rest := [va_rf (some a8)]) C (k_X5_init C.tr a8 p1 v9 (0 : Int32)) (Nat.le_of_ble_eq_true rfl) (Nat.le_of_ble_eq_true rfl) (gh_r4 (Nat.le_of_ble_eq_true rfl)) (fun H9 L9 hp9 => gi_I C q2162 rfl q1110 q1111 mh_X5 np65 rfl hl.1.1 dX12_command_270 rfl) h (gh_K0_b _ hk) (fun g h => ?_) (fun e g h => ?_)
    rotate_left
    ·
      exact gh_out C (fun _ h => nomatch h) h hk
    refine gr_goto (pc := 273) (tgt := 286) C rfl dX12_command_273 ?_
    exact gr_aret (pc := 286) C (Or.inl ⟨_, rfl⟩) dX12_command_286 h hk
  replace h := gh_iff h k5
  refine gr_tableD (pc := 190) (tgt := 276) C (gh_tout5 k0 k1 k2 k3 k4 k5) rfl dX12_command_190 ?_
  refine gr_newo (pc := 276) C gh_bX5 q2161 q1107 q87 gh_dX5 dX12_command_276 h (gh_K0_b _ hk) fun a11 g h => ?_
  refine gr_dup (pc := 279) C (gh_cat _) dX12_command_279 ?_
  refine gr_aload_n (pc := 280) (i := 1) C rfl (gl_at hl 1 rfl) dX12_command_280 ?_
  refine gr_iconst (pc := 281) (v := (0 : Int32)) C rfl dX12_command_281 ?_
  refine gr_iconst (pc := 282) (v := (0 : Int32)) C rfl dX12_command_282 ?_
  refine gh_callV (pc := 283) (rest := [va_rf (some a11)]) C (k_X5_init C.tr a11 p1 (0 : Int32) (0 : Int32)) (Nat.le_of_ble_eq_true rfl) (Nat.le_of_ble_eq_true rfl) (gh_r4 (Nat.le_of_ble_eq_true rfl)) (fun H9 L9 hp9 => gi_I C q2162 rfl q1110 q1111 mh_X5 np65 rfl hl.1.1 dX12_command_283 rfl) h (gh_K0_b _ hk) (fun g h => ?_) (fun e g h => ?_)
  rotate_left
  ·
    exact gh_out C (fun _ h => nomatch h) h hk
  exact gr_aret (pc := 286) C (Or.inl ⟨_, rfl⟩) dX12_command_286 h hk

noncomputable def f_X12_command_35 (t0 : Nat) (p1 : Option Nat) (s0 : Option Nat) (s1 : Int32) : gh_M (Option Nat) :=
  gh_nn s0 fun a1 =>
  gh_bd (gh_is a1 9) fun _ =>
  gh_bd (f_X12_need a1 s1) fun _ =>
  gh_bd (gh_is t0 9) fun _ =>
  gh_bd (f_X12_takeAll t0 p1) fun _ =>
  gh_nn p1 fun a4 =>
  gh_bd (gh_is a4 14) fun _ =>
  gh_bd (f_J6_hashCode a4) fun v5 =>
  if v5 = (-1367587075 : Int32) then
  (gh_bd (gh_cst 1) fun v6 =>
  gh_bd (gh_is a4 14) fun _ =>
  gh_bd (f_J6_equals a4 v6) fun v7 =>
  if v7 = 0 then
  (f_X12_command_189 t0 (some a4) (-1 : Int32))
  else
  (f_X12_command_189 t0 (some a4) (0 : Int32)))
  else if v5 = (-1211782563 : Int32) then
  (gh_bd (gh_cst 4) fun v8 =>
  gh_bd (gh_is a4 14) fun _ =>
  gh_bd (f_J6_equals a4 v8) fun v9 =>
  if v9 = 0 then
  (f_X12_command_189 t0 (some a4) (-1 : Int32))
  else
  (f_X12_command_189 t0 (some a4) (1 : Int32)))
  else if v5 = (-1096862401 : Int32) then
  (gh_bd (gh_cst 5) fun v10 =>
  gh_bd (gh_is a4 14) fun _ =>
  gh_bd (f_J6_equals a4 v10) fun v11 =>
  if v11 = 0 then
  (f_X12_command_189 t0 (some a4) (-1 : Int32))
  else
  (f_X12_command_189 t0 (some a4) (4 : Int32)))
  else if v5 = (3526654 : Int32) then
  (gh_bd (gh_cst 6) fun v12 =>
  gh_bd (gh_is a4 14) fun _ =>
  gh_bd (f_J6_equals a4 v12) fun v13 =>
  if v13 = 0 then
  (f_X12_command_189 t0 (some a4) (-1 : Int32))
  else
  (f_X12_command_189 t0 (some a4) (2 : Int32)))
  else if v5 = (112893259 : Int32) then
  (gh_bd (gh_cst 11) fun v14 =>
  gh_bd (gh_is a4 14) fun _ =>
  gh_bd (f_J6_equals a4 v14) fun v15 =>
  if v15 = 0 then
  (f_X12_command_189 t0 (some a4) (-1 : Int32))
  else
  (f_X12_command_189 t0 (some a4) (5 : Int32)))
  else if v5 = (823466907 : Int32) then
  (gh_bd (gh_cst 9) fun v16 =>
  gh_bd (gh_is a4 14) fun _ =>
  gh_bd (f_J6_equals a4 v16) fun v17 =>
  if v17 = 0 then
  (f_X12_command_189 t0 (some a4) (-1 : Int32))
  else
  (f_X12_command_189 t0 (some a4) (3 : Int32)))
  else (f_X12_command_189 t0 (some a4) (-1 : Int32))
theorem w_X12_command_35 {x : gh_C} {g : gh_G} {o : ((Option Nat) ⊕ gh_X) × gh_G} {ls : Array Slot} (C : gh_K x cX12_command "GargoyleTower$Reader" 4 (some (.object "GargoyleTower$Deed")) "command" 8 173 []) (t0 : Nat) (p1 : Option Nat) (s0 : Option Nat) (s1 : Int32) (hl : gh_lv ls 4 [(0, va_rf (some t0)), (1, va_rf p1)]) (h : gh_run (f_X12_command_35 t0 p1 s0 s1) g = some o) (hk : (gh_K0 x gh_rQ) o) : gh_Wd x g (F0 (gh_cm x) 35 ls [.int s1, va_rf s0]) := by
  unfold f_X12_command_35 at h
  rcases s0 with _ | a1
  · exact gh_stk_inv h
  replace h := gh_nn_ss h
  obtain ⟨⟨fs9, hg9⟩, h⟩ := gh_is_inv h
  refine gh_callV (pc := 35) (rest := []) C (k_X12_need C.tr a1 s1) (Nat.le_of_ble_eq_true rfl) (Nat.le_of_ble_eq_true rfl) (gh_r4 (Nat.le_of_ble_eq_true rfl)) (fun H9 L9 hp9 => gi_V C hp9 hg9 gh_cX12 q2101 q2103 qs25 q2104 mh_X12 np55 rfl hl.1.1 dX12_command_35 rfl) h (gh_K0_b _ hk) (fun g h => ?_) (fun e g h => ?_)
  rotate_left
  ·
    exact gh_out C (fun _ h => nomatch h) h hk
  refine gr_aload_n (pc := 38) (i := 0) C rfl (gl_at hl 0 rfl) dX12_command_38 ?_
  refine gr_aload_n (pc := 39) (i := 1) C rfl (gl_at hl 1 rfl) dX12_command_39 ?_
  obtain ⟨⟨fs9, hg9⟩, h⟩ := gh_is_inv h
  refine gh_callV (pc := 40) (rest := []) C (k_X12_takeAll C.tr t0 p1) (Nat.le_of_ble_eq_true rfl) (Nat.le_of_ble_eq_true rfl) (gh_r4 (Nat.le_of_ble_eq_true rfl)) (fun H9 L9 hp9 => gi_V C hp9 hg9 gh_cX12 q2124 q2126 qs26 q2127 mh_X12 np67 rfl hl.1.1 dX12_command_40 rfl) h (gh_K0_b _ hk) (fun g h => ?_) (fun e g h => ?_)
  rotate_left
  ·
    exact gh_out C (fun _ h => nomatch h) h hk
  refine gr_aload_n (pc := 43) (i := 1) C rfl (gl_at hl 1 rfl) dX12_command_43 ?_
  refine gr_astore_n (pc := 44) (i := 2) (l' := [(2, va_rf p1), (0, va_rf (some t0)), (1, va_rf p1)]) C rfl hl (Nat.le_of_ble_eq_true rfl) rfl dX12_command_44 fun ls hl => ?_
  refine gr_iconst (pc := 45) (v := (-1 : Int32)) C rfl dX12_command_45 ?_
  refine gr_istore_n (pc := 46) (i := 3) (l' := [(3, .int (-1 : Int32)), (2, va_rf p1), (0, va_rf (some t0)), (1, va_rf p1)]) C rfl hl (Nat.le_of_ble_eq_true rfl) rfl dX12_command_46 fun ls hl => ?_
  refine gr_aload_n (pc := 47) (i := 2) C rfl (gl_at hl 1 rfl) dX12_command_47 ?_
  rcases p1 with _ | a4
  · exact gh_stk_inv h
  replace h := gh_nn_ss h
  obtain ⟨⟨fs9, hg9⟩, h⟩ := gh_is_inv h
  refine gh_callI (pc := 48) (rest := []) C (k_J6_hashCode C.tr a4) (Nat.le_of_ble_eq_true rfl) (Nat.le_of_ble_eq_true rfl) (gh_r4 (Nat.le_of_ble_eq_true rfl)) (fun H9 L9 hp9 => gi_V C hp9 hg9 gh_cJ6 q2136 q1139 q1140 q1141 mh_J6 np0 rfl hl.1.1 dX12_command_48 rfl) h (gh_K0_b _ hk) (fun v5 g h => ?_) (fun e g h => ?_)
  rotate_left
  ·
    exact gh_out C (fun _ h => nomatch h) h hk
  by_cases k0 : v5 = (-1367587075 : Int32)
  · replace h := gh_ift h k0
    refine gr_lookup (pc := 51) (off := 57) (tgt := 108) C (by decide) (by rw [k0]; decide) rfl dX12_command_51 ?_
    refine gr_aload_n (pc := 108) (i := 2) C rfl (gl_at hl 1 rfl) dX12_command_108 ?_
    refine gr_ldcS (pc := 109) C (index := 88) (j := 1) (tx := "carve ") (by decide +kernel) dX12_command_109 h fun v6 h => ?_
    obtain ⟨⟨fs9, hg9⟩, h⟩ := gh_is_inv h
    refine gh_callI (pc := 111) (rest := []) C (k_J6_equals C.tr a4 v6) (Nat.le_of_ble_eq_true rfl) (Nat.le_of_ble_eq_true rfl) (gh_r4 (Nat.le_of_ble_eq_true rfl)) (fun H9 L9 hp9 => gi_V C hp9 hg9 gh_cJ6 q2138 q1201 q1202 q1203 mh_J6 np48 rfl hl.1.1 dX12_command_111 rfl) h (gh_K0_b _ hk) (fun v7 g h => ?_) (fun e g h => ?_)
    rotate_left
    ·
      exact gh_out C (fun _ h => nomatch h) h hk
    refine gr_if_eq (pc := 114) (tgt := 189) C rfl dX12_command_114 (fun c9 => ?_) (fun c9 => ?_)
    · replace h := gh_ift h c9
      exact w_X12_command_189 C t0 (some a4) (-1 : Int32) (gl_sub hl [2, 3, 0] rfl) h hk
    · replace h := gh_iff h c9
      refine gr_iconst (pc := 117) (v := (0 : Int32)) C rfl dX12_command_117 ?_
      refine gr_istore_n (pc := 118) (i := 3) (l' := [(3, .int (0 : Int32)), (2, va_rf (some a4)), (0, va_rf (some t0)), (1, va_rf (some a4))]) C rfl hl (Nat.le_of_ble_eq_true rfl) rfl dX12_command_118 fun ls hl => ?_
      refine gr_goto (pc := 119) (tgt := 189) C rfl dX12_command_119 ?_
      exact w_X12_command_189 C t0 (some a4) (0 : Int32) (gl_sub hl [2, 3, 0] rfl) h hk
  replace h := gh_iff h k0
  by_cases k1 : v5 = (-1211782563 : Int32)
  · replace h := gh_ift h k1
    refine gr_lookup (pc := 51) (off := 71) (tgt := 122) C (by decide) (by rw [k1]; decide) rfl dX12_command_51 ?_
    refine gr_aload_n (pc := 122) (i := 2) C rfl (gl_at hl 1 rfl) dX12_command_122 ?_
    refine gr_ldcS (pc := 123) C (index := 94) (j := 4) (tx := "hoist ") (by decide +kernel) dX12_command_123 h fun v8 h => ?_
    obtain ⟨⟨fs9, hg9⟩, h⟩ := gh_is_inv h
    refine gh_callI (pc := 125) (rest := []) C (k_J6_equals C.tr a4 v8) (Nat.le_of_ble_eq_true rfl) (Nat.le_of_ble_eq_true rfl) (gh_r4 (Nat.le_of_ble_eq_true rfl)) (fun H9 L9 hp9 => gi_V C hp9 hg9 gh_cJ6 q2138 q1201 q1202 q1203 mh_J6 np48 rfl hl.1.1 dX12_command_125 rfl) h (gh_K0_b _ hk) (fun v9 g h => ?_) (fun e g h => ?_)
    rotate_left
    ·
      exact gh_out C (fun _ h => nomatch h) h hk
    refine gr_if_eq (pc := 128) (tgt := 189) C rfl dX12_command_128 (fun c9 => ?_) (fun c9 => ?_)
    · replace h := gh_ift h c9
      exact w_X12_command_189 C t0 (some a4) (-1 : Int32) (gl_sub hl [2, 3, 0] rfl) h hk
    · replace h := gh_iff h c9
      refine gr_iconst (pc := 131) (v := (1 : Int32)) C rfl dX12_command_131 ?_
      refine gr_istore_n (pc := 132) (i := 3) (l' := [(3, .int (1 : Int32)), (2, va_rf (some a4)), (0, va_rf (some t0)), (1, va_rf (some a4))]) C rfl hl (Nat.le_of_ble_eq_true rfl) rfl dX12_command_132 fun ls hl => ?_
      refine gr_goto (pc := 133) (tgt := 189) C rfl dX12_command_133 ?_
      exact w_X12_command_189 C t0 (some a4) (1 : Int32) (gl_sub hl [2, 3, 0] rfl) h hk
  replace h := gh_iff h k1
  by_cases k2 : v5 = (-1096862401 : Int32)
  · replace h := gh_ift h k2
    refine gr_lookup (pc := 51) (off := 113) (tgt := 164) C (by decide) (by rw [k2]; decide) rfl dX12_command_51 ?_
    refine gr_aload_n (pc := 164) (i := 2) C rfl (gl_at hl 1 rfl) dX12_command_164 ?_
    refine gr_ldcS (pc := 165) C (index := 100) (j := 5) (tx := "lower ") (by decide +kernel) dX12_command_165 h fun v10 h => ?_
    obtain ⟨⟨fs9, hg9⟩, h⟩ := gh_is_inv h
    refine gh_callI (pc := 167) (rest := []) C (k_J6_equals C.tr a4 v10) (Nat.le_of_ble_eq_true rfl) (Nat.le_of_ble_eq_true rfl) (gh_r4 (Nat.le_of_ble_eq_true rfl)) (fun H9 L9 hp9 => gi_V C hp9 hg9 gh_cJ6 q2138 q1201 q1202 q1203 mh_J6 np48 rfl hl.1.1 dX12_command_167 rfl) h (gh_K0_b _ hk) (fun v11 g h => ?_) (fun e g h => ?_)
    rotate_left
    ·
      exact gh_out C (fun _ h => nomatch h) h hk
    refine gr_if_eq (pc := 170) (tgt := 189) C rfl dX12_command_170 (fun c9 => ?_) (fun c9 => ?_)
    · replace h := gh_ift h c9
      exact w_X12_command_189 C t0 (some a4) (-1 : Int32) (gl_sub hl [2, 3, 0] rfl) h hk
    · replace h := gh_iff h c9
      refine gr_iconst (pc := 173) (v := (4 : Int32)) C rfl dX12_command_173 ?_
      refine gr_istore_n (pc := 174) (i := 3) (l' := [(3, .int (4 : Int32)), (2, va_rf (some a4)), (0, va_rf (some t0)), (1, va_rf (some a4))]) C rfl hl (Nat.le_of_ble_eq_true rfl) rfl dX12_command_174 fun ls hl => ?_
      refine gr_goto (pc := 175) (tgt := 189) C rfl dX12_command_175 ?_
      exact w_X12_command_189 C t0 (some a4) (4 : Int32) (gl_sub hl [2, 3, 0] rfl) h hk
  replace h := gh_iff h k2
  by_cases k3 : v5 = (3526654 : Int32)
  · replace h := gh_ift h k3
    refine gr_lookup (pc := 51) (off := 85) (tgt := 136) C (by decide) (by rw [k3]; decide) rfl dX12_command_51 ?_
    refine gr_aload_n (pc := 136) (i := 2) C rfl (gl_at hl 1 rfl) dX12_command_136 ?_
    refine gr_ldcS (pc := 137) C (index := 96) (j := 6) (tx := "set ") (by decide +kernel) dX12_command_137 h fun v12 h => ?_
    obtain ⟨⟨fs9, hg9⟩, h⟩ := gh_is_inv h
    refine gh_callI (pc := 139) (rest := []) C (k_J6_equals C.tr a4 v12) (Nat.le_of_ble_eq_true rfl) (Nat.le_of_ble_eq_true rfl) (gh_r4 (Nat.le_of_ble_eq_true rfl)) (fun H9 L9 hp9 => gi_V C hp9 hg9 gh_cJ6 q2138 q1201 q1202 q1203 mh_J6 np48 rfl hl.1.1 dX12_command_139 rfl) h (gh_K0_b _ hk) (fun v13 g h => ?_) (fun e g h => ?_)
    rotate_left
    ·
      exact gh_out C (fun _ h => nomatch h) h hk
    refine gr_if_eq (pc := 142) (tgt := 189) C rfl dX12_command_142 (fun c9 => ?_) (fun c9 => ?_)
    · replace h := gh_ift h c9
      exact w_X12_command_189 C t0 (some a4) (-1 : Int32) (gl_sub hl [2, 3, 0] rfl) h hk
    · replace h := gh_iff h c9
      refine gr_iconst (pc := 145) (v := (2 : Int32)) C rfl dX12_command_145 ?_
      refine gr_istore_n (pc := 146) (i := 3) (l' := [(3, .int (2 : Int32)), (2, va_rf (some a4)), (0, va_rf (some t0)), (1, va_rf (some a4))]) C rfl hl (Nat.le_of_ble_eq_true rfl) rfl dX12_command_146 fun ls hl => ?_
      refine gr_goto (pc := 147) (tgt := 189) C rfl dX12_command_147 ?_
      exact w_X12_command_189 C t0 (some a4) (2 : Int32) (gl_sub hl [2, 3, 0] rfl) h hk
  replace h := gh_iff h k3
  by_cases k4 : v5 = (112893259 : Int32)
  · replace h := gh_ift h k4
    refine gr_lookup (pc := 51) (off := 127) (tgt := 178) C (by decide) (by rw [k4]; decide) rfl dX12_command_51 ?_
    refine gr_aload_n (pc := 178) (i := 2) C rfl (gl_at hl 1 rfl) dX12_command_178 ?_
    refine gr_ldcS (pc := 179) C (index := 102) (j := 11) (tx := "wait ") (by decide +kernel) dX12_command_179 h fun v14 h => ?_
    obtain ⟨⟨fs9, hg9⟩, h⟩ := gh_is_inv h
    refine gh_callI (pc := 181) (rest := []) C (k_J6_equals C.tr a4 v14) (Nat.le_of_ble_eq_true rfl) (Nat.le_of_ble_eq_true rfl) (gh_r4 (Nat.le_of_ble_eq_true rfl)) (fun H9 L9 hp9 => gi_V C hp9 hg9 gh_cJ6 q2138 q1201 q1202 q1203 mh_J6 np48 rfl hl.1.1 dX12_command_181 rfl) h (gh_K0_b _ hk) (fun v15 g h => ?_) (fun e g h => ?_)
    rotate_left
    ·
      exact gh_out C (fun _ h => nomatch h) h hk
    refine gr_if_eq (pc := 184) (tgt := 189) C rfl dX12_command_184 (fun c9 => ?_) (fun c9 => ?_)
    · replace h := gh_ift h c9
      exact w_X12_command_189 C t0 (some a4) (-1 : Int32) (gl_sub hl [2, 3, 0] rfl) h hk
    · replace h := gh_iff h c9
      refine gr_iconst (pc := 187) (v := (5 : Int32)) C rfl dX12_command_187 ?_
      refine gr_istore_n (pc := 188) (i := 3) (l' := [(3, .int (5 : Int32)), (2, va_rf (some a4)), (0, va_rf (some t0)), (1, va_rf (some a4))]) C rfl hl (Nat.le_of_ble_eq_true rfl) rfl dX12_command_188 fun ls hl => ?_
      exact w_X12_command_189 C t0 (some a4) (5 : Int32) (gl_sub hl [2, 3, 0] rfl) h hk
  replace h := gh_iff h k4
  by_cases k5 : v5 = (823466907 : Int32)
  · replace h := gh_ift h k5
    refine gr_lookup (pc := 51) (off := 99) (tgt := 150) C (by decide) (by rw [k5]; decide) rfl dX12_command_51 ?_
    refine gr_aload_n (pc := 150) (i := 2) C rfl (gl_at hl 1 rfl) dX12_command_150 ?_
    refine gr_ldcS (pc := 151) C (index := 98) (j := 9) (tx := "deliver ") (by decide +kernel) dX12_command_151 h fun v16 h => ?_
    obtain ⟨⟨fs9, hg9⟩, h⟩ := gh_is_inv h
    refine gh_callI (pc := 153) (rest := []) C (k_J6_equals C.tr a4 v16) (Nat.le_of_ble_eq_true rfl) (Nat.le_of_ble_eq_true rfl) (gh_r4 (Nat.le_of_ble_eq_true rfl)) (fun H9 L9 hp9 => gi_V C hp9 hg9 gh_cJ6 q2138 q1201 q1202 q1203 mh_J6 np48 rfl hl.1.1 dX12_command_153 rfl) h (gh_K0_b _ hk) (fun v17 g h => ?_) (fun e g h => ?_)
    rotate_left
    ·
      exact gh_out C (fun _ h => nomatch h) h hk
    refine gr_if_eq (pc := 156) (tgt := 189) C rfl dX12_command_156 (fun c9 => ?_) (fun c9 => ?_)
    · replace h := gh_ift h c9
      exact w_X12_command_189 C t0 (some a4) (-1 : Int32) (gl_sub hl [2, 3, 0] rfl) h hk
    · replace h := gh_iff h c9
      refine gr_iconst (pc := 159) (v := (3 : Int32)) C rfl dX12_command_159 ?_
      refine gr_istore_n (pc := 160) (i := 3) (l' := [(3, .int (3 : Int32)), (2, va_rf (some a4)), (0, va_rf (some t0)), (1, va_rf (some a4))]) C rfl hl (Nat.le_of_ble_eq_true rfl) rfl dX12_command_160 fun ls hl => ?_
      refine gr_goto (pc := 161) (tgt := 189) C rfl dX12_command_161 ?_
      exact w_X12_command_189 C t0 (some a4) (3 : Int32) (gl_sub hl [2, 3, 0] rfl) h hk
  replace h := gh_iff h k5
  refine gr_lookup (pc := 51) (off := 138) (tgt := 189) C (by decide) ((lv_osw k0 (by decide)).trans ((lv_osw k1 (by decide)).trans ((lv_osw k2 (by decide)).trans ((lv_osw k3 (by decide)).trans ((lv_osw k4 (by decide)).trans ((lv_osw k5 (by decide)).trans rfl)))))) rfl dX12_command_51 ?_
  exact w_X12_command_189 C t0 (some a4) (-1 : Int32) (gl_sub hl [2, 3, 0] rfl) h hk

noncomputable def f_X12_command (t0 : Nat) : gh_M (Option Nat) :=
  gh_bd (gh_geti t0 9 0) fun v1 =>
  gh_bd (gh_is t0 9) fun _ =>
  gh_bd (f_X12_there t0 v1) fun v2 =>
  gh_bd (gh_geti t0 9 0) fun v3 =>
  gh_bd (gh_is t0 9) fun _ =>
  gh_bd (f_X12_there t0 (v3 + (1 : Int32))) fun v4 =>
  gh_bd (f_X1_wordOf v2 v4) fun v5 =>
  gh_nn v5 fun a6 =>
  gh_bd (gh_is a6 14) fun _ =>
  gh_bd (f_J6_isEmpty a6) fun v7 =>
  if v7 = 0 then
  (f_X12_command_35 t0 (some a6) (some t0) (1 : Int32))
  else
  (f_X12_command_35 t0 (some a6) (some t0) (0 : Int32))
theorem w_X12_command {x : gh_C} {g : gh_G} {o : ((Option Nat) ⊕ gh_X) × gh_G} {ls : Array Slot} (C : gh_K x cX12_command "GargoyleTower$Reader" 4 (some (.object "GargoyleTower$Deed")) "command" 8 173 []) (t0 : Nat) (hl : gh_lv ls 4 [(0, va_rf (some t0))]) (h : gh_run (f_X12_command t0) g = some o) (hk : (gh_K0 x gh_rQ) o) : gh_Wd x g (F0 (gh_cm x) 0 ls []) := by
  unfold f_X12_command at h
  refine gr_aload_n (pc := 0) (i := 0) C rfl (gl_at hl 0 rfl) dX12_command_0 ?_
  refine gr_aload_n (pc := 1) (i := 0) C rfl (gl_at hl 0 rfl) dX12_command_1 ?_
  refine gr_geti (pc := 2) C gh_bX12 (k := 0) (Nat.le_of_ble_eq_true rfl) q2072 (fun _ h => h) dX12_command_2 h fun v1 h => ?_
  obtain ⟨⟨fs9, hg9⟩, h⟩ := gh_is_inv h
  refine gh_callI (pc := 5) (rest := []) C (k_X12_there C.tr t0 v1) (Nat.le_of_ble_eq_true rfl) (Nat.le_of_ble_eq_true rfl) (gh_r4 (Nat.le_of_ble_eq_true rfl)) (fun H9 L9 hp9 => gi_V C hp9 hg9 gh_cX12 q2089 q2091 qs24 q2092 mh_X12 np6 rfl hl.1.1 dX12_command_5 rfl) h (gh_K0_b _ hk) (fun v2 g h => ?_) (fun e g h => ?_)
  rotate_left
  ·
    exact gh_out C (fun _ h => nomatch h) h hk
  refine gr_aload_n (pc := 8) (i := 0) C rfl (gl_at hl 0 rfl) dX12_command_8 ?_
  refine gr_aload_n (pc := 9) (i := 0) C rfl (gl_at hl 0 rfl) dX12_command_9 ?_
  refine gr_geti (pc := 10) C gh_bX12 (k := 0) (Nat.le_of_ble_eq_true rfl) q2072 (fun _ h => h) dX12_command_10 h fun v3 h => ?_
  refine gr_iconst (pc := 13) (v := (1 : Int32)) C rfl dX12_command_13 ?_
  refine gr_iadd (pc := 14) C dX12_command_14 ?_
  obtain ⟨⟨fs9, hg9⟩, h⟩ := gh_is_inv h
  refine gh_callI (pc := 15) (rest := [.int v2]) C (k_X12_there C.tr t0 (v3 + (1 : Int32))) (Nat.le_of_ble_eq_true rfl) (Nat.le_of_ble_eq_true rfl) (gh_r4 (Nat.le_of_ble_eq_true rfl)) (fun H9 L9 hp9 => gi_V C hp9 hg9 gh_cX12 q2089 q2091 qs24 q2092 mh_X12 np6 rfl hl.1.1 dX12_command_15 rfl) h (gh_K0_b _ hk) (fun v4 g h => ?_) (fun e g h => ?_)
  rotate_left
  ·
    exact gh_out C (fun _ h => nomatch h) h hk
  refine gh_callQ (pc := 18) (rest := []) C (k_X1_wordOf C.tr v2 v4) (Nat.le_of_ble_eq_true rfl) (Nat.le_of_ble_eq_true rfl) (gh_r4 (Nat.le_of_ble_eq_true rfl)) (fun H9 L9 hp9 => gi_SN C q2093 q2094 q75 q2095 mh_X1 np68 rfl hl.1.1 dX12_command_18 rfl) h (gh_K0_b _ hk) (fun v5 g h => ?_) (fun e g h => ?_)
  rotate_left
  ·
    exact gh_out C (fun _ h => nomatch h) h hk
  refine gr_astore_n (pc := 21) (i := 1) (l' := [(1, va_rf v5), (0, va_rf (some t0))]) C rfl hl (Nat.le_of_ble_eq_true rfl) rfl dX12_command_21 fun ls hl => ?_
  refine gr_aload_n (pc := 22) (i := 0) C rfl (gl_at hl 1 rfl) dX12_command_22 ?_
  refine gr_aload_n (pc := 23) (i := 1) C rfl (gl_at hl 0 rfl) dX12_command_23 ?_
  rcases v5 with _ | a6
  · exact gh_stk_inv h
  replace h := gh_nn_ss h
  obtain ⟨⟨fs9, hg9⟩, h⟩ := gh_is_inv h
  refine gh_callI (pc := 24) (rest := [va_rf (some t0)]) C (k_J6_isEmpty C.tr a6) (Nat.le_of_ble_eq_true rfl) (Nat.le_of_ble_eq_true rfl) (gh_r4 (Nat.le_of_ble_eq_true rfl)) (fun H9 L9 hp9 => gi_V C hp9 hg9 gh_cJ6 q2097 q2098 q2099 q2100 mh_J6 np7 rfl hl.1.1 dX12_command_24 rfl) h (gh_K0_b _ hk) (fun v7 g h => ?_) (fun e g h => ?_)
  rotate_left
  ·
    exact gh_out C (fun _ h => nomatch h) h hk
  refine gr_if_ne (pc := 27) (tgt := 34) C rfl dX12_command_27 (fun c9 => ?_) (fun c9 => ?_)
  · replace h := gh_iff h c9
    refine gr_iconst (pc := 34) (v := (0 : Int32)) C rfl dX12_command_34 ?_
    exact w_X12_command_35 C t0 (some a6) (some t0) (0 : Int32) (gl_sub hl [1, 0] rfl) h hk
  · replace h := gh_ift h c9
    refine gr_iconst (pc := 30) (v := (1 : Int32)) C rfl dX12_command_30 ?_
    refine gr_goto (pc := 31) (tgt := 35) C rfl dX12_command_31 ?_
    exact w_X12_command_35 C t0 (some a6) (some t0) (1 : Int32) (gl_sub hl [1, 0] rfl) h hk

theorem k_X12_command {l : Launch} (hst : l.stackTraces = false) (t0 : Nat) : gh_Ct l yX12_command 8 188 (f_X12_command t0) gh_rQ [va_rf (some t0)] := gh_intro2 (L1 := 173) hst (by decide +kernel) q2088 q118 rfl ⟨gh_cat _, trivial⟩ (Nat.le_of_ble_eq_true rfl) fun x o ls hl C h hk => w_X12_command C t0 hl h hk
-- GargoyleTower$Reader.all()Ljava/util/LinkedList;
def gp_X12_all_16 (x : gh_C) (t0 : Nat) (u16_1 : Option Nat) (st : Unit) (g : gh_G) : Prop := ∀ ls : Array Slot, gh_lv ls 2 [(0, va_rf (some t0)), (1, va_rf u16_1)] → gh_Wd x g (F0 (gh_cm x) 16 ls [])
noncomputable def f_X12_all_66 (p1 : Option Nat) (s0 : Option Nat) (s1 : Int32) : gh_M (Option Nat) :=
  gh_nn s0 fun a1 =>
  gh_bd (gh_is a1 9) fun _ =>
  gh_bd (f_X12_need a1 s1) fun _ =>
  gh_ret p1
theorem w_X12_all_66 {x : gh_C} {g : gh_G} {o : ((Option Nat) ⊕ gh_X) × gh_G} {ls : Array Slot} (C : gh_K x cX12_all "GargoyleTower$Reader" 2 (some (.object "java/util/LinkedList")) "all" 9 196 []) (p1 : Option Nat) (s0 : Option Nat) (s1 : Int32) (hl : gh_lv ls 2 [(1, va_rf p1)]) (h : gh_run (f_X12_all_66 p1 s0 s1) g = some o) (hk : (gh_K0 x gh_rQ) o) : gh_Wd x g (F0 (gh_cm x) 66 ls [.int s1, va_rf s0]) := by
  unfold f_X12_all_66 at h
  rcases s0 with _ | a1
  · exact gh_stk_inv h
  replace h := gh_nn_ss h
  obtain ⟨⟨fs9, hg9⟩, h⟩ := gh_is_inv h
  refine gh_callV (pc := 66) (rest := []) C (k_X12_need C.tr a1 s1) (Nat.le_of_ble_eq_true rfl) (Nat.le_of_ble_eq_true rfl) (gh_r4 (Nat.le_of_ble_eq_true rfl)) (fun H9 L9 hp9 => gi_V C hp9 hg9 gh_cX12 q2101 q2103 qs25 q2104 mh_X12 np55 rfl hl.1.1 dX12_all_66 rfl) h (gh_K0_b _ hk) (fun g h => ?_) (fun e g h => ?_)
  rotate_left
  ·
    exact gh_out C (fun _ h => nomatch h) h hk
  refine gr_aload_n (pc := 69) (i := 1) C rfl (gl_at hl 0 rfl) dX12_all_69 ?_
  exact gr_aret (pc := 70) C (Or.inl ⟨_, rfl⟩) dX12_all_70 h hk

noncomputable def f_X12_all_16_l (t0 : Nat) (u16_1 : Option Nat) : gh_M ((Unit) ⊕ (Option Nat)) :=
  gh_bd (gh_is t0 9) fun _ =>
  gh_bd (f_X12_takes t0 (44 : Int32)) fun v1 =>
  if v1 = 0 then
  (gh_bd (gh_geti t0 9 0) fun v2 =>
  gh_bd (gh_getr t0 9 1) fun v3 =>
  gh_nn v3 fun a4 =>
  gh_bd (gh_geti a4 0 6) fun v5 =>
  if v2 = v5 then
  (gh_up (f_X12_all_66 u16_1 (some t0) (1 : Int32)))
  else
  (gh_up (f_X12_all_66 u16_1 (some t0) (0 : Int32))))
  else
  (gh_bd (gh_is t0 9) fun _ =>
  gh_bd (f_X12_takes t0 (32 : Int32)) fun v6 =>
  gh_bd (gh_is t0 9) fun _ =>
  gh_bd (f_X12_need t0 v6) fun _ =>
  gh_bd (gh_is t0 9) fun _ =>
  gh_bd (f_X12_command t0) fun v8 =>
  gh_nn u16_1 fun a9 =>
  gh_bd (gh_is a9 21) fun _ =>
  gh_bd (f_J26_addLast a9 v8) fun _ =>
  gh_ret (.inl ()))
theorem w_X12_all_16_l {x : gh_C} {g : gh_G} {o : (((Unit) ⊕ (Option Nat)) ⊕ gh_X) × gh_G} {ls : Array Slot} (C : gh_K x cX12_all "GargoyleTower$Reader" 2 (some (.object "java/util/LinkedList")) "all" 9 196 []) (t0 : Nat) (u16_1 : Option Nat) (hl : gh_lv ls 2 [(0, va_rf (some t0)), (1, va_rf u16_1)]) (h : gh_run (f_X12_all_16_l t0 u16_1) g = some o) (hk : (gh_K1 x (gh_K0 x gh_rQ) (gp_X12_all_16 x t0 u16_1)) o) : gh_Wd x g (F0 (gh_cm x) 16 ls []) := by
  unfold f_X12_all_16_l at h
  refine gr_aload_n (pc := 16) (i := 0) C rfl (gl_at hl 0 rfl) dX12_all_16 ?_
  refine gr_bipush (pc := 17) (v := (44 : Int32)) C rfl dX12_all_17 ?_
  obtain ⟨⟨fs9, hg9⟩, h⟩ := gh_is_inv h
  refine gh_callI (pc := 19) (rest := []) C (k_X12_takes C.tr t0 (44 : Int32)) (Nat.le_of_ble_eq_true rfl) (Nat.le_of_ble_eq_true rfl) (gh_r4 (Nat.le_of_ble_eq_true rfl)) (fun H9 L9 hp9 => gi_V C hp9 hg9 gh_cX12 q2132 q2134 qs27 q2135 mh_X12 np32 rfl hl.1.1 dX12_all_19 rfl) h ((gh_K1_b gh_K0_b) _ hk) (fun v1 g h => ?_) (fun e g h => ?_)
  rotate_left
  ·
    obtain ⟨o, h, hk⟩ := gh_K1_thr h hk
    exact gh_out C (fun _ h => nomatch h) h hk
  refine gr_if_eq (pc := 22) (tgt := 46) C rfl dX12_all_22 (fun c9 => ?_) (fun c9 => ?_)
  · replace h := gh_ift h c9
    refine gr_aload_n (pc := 46) (i := 0) C rfl (gl_at hl 0 rfl) dX12_all_46 ?_
    refine gr_aload_n (pc := 47) (i := 0) C rfl (gl_at hl 0 rfl) dX12_all_47 ?_
    refine gr_geti (pc := 48) C gh_bX12 (k := 0) (Nat.le_of_ble_eq_true rfl) q2072 (fun _ h => h) dX12_all_48 h fun v2 h => ?_
    refine gr_aload_n (pc := 51) (i := 0) C rfl (gl_at hl 0 rfl) dX12_all_51 ?_
    refine gr_getr (pc := 52) C gh_bX12 (k := 1) (Nat.le_of_ble_eq_true rfl) q2073 (fun _ h => h) dX12_all_52 h fun v3 h => ?_
    rcases v3 with _ | a4
    · exact gh_stk_inv h
    replace h := gh_nn_ss h
    refine gr_getiN (pc := 55) C gh_bX1 (k := 6) (Nat.le_of_ble_eq_true rfl) q278 (fun _ h => h) dX12_all_55 h fun v5 h => ?_
    refine gr_icmp_ne (pc := 58) (tgt := 65) C rfl dX12_all_58 (fun c9 => ?_) (fun c9 => ?_)
    · replace h := gh_iff h c9
      refine gr_iconst (pc := 65) (v := (0 : Int32)) C rfl dX12_all_65 ?_
      obtain ⟨o, h, hk⟩ := gh_K1_up h hk
      exact w_X12_all_66 C u16_1 (some t0) (0 : Int32) (gl_sub hl [1] rfl) h hk
    · replace h := gh_ift h c9
      refine gr_iconst (pc := 61) (v := (1 : Int32)) C rfl dX12_all_61 ?_
      refine gr_goto (pc := 62) (tgt := 66) C rfl dX12_all_62 ?_
      obtain ⟨o, h, hk⟩ := gh_K1_up h hk
      exact w_X12_all_66 C u16_1 (some t0) (1 : Int32) (gl_sub hl [1] rfl) h hk
  · replace h := gh_iff h c9
    refine gr_aload_n (pc := 25) (i := 0) C rfl (gl_at hl 0 rfl) dX12_all_25 ?_
    refine gr_aload_n (pc := 26) (i := 0) C rfl (gl_at hl 0 rfl) dX12_all_26 ?_
    refine gr_bipush (pc := 27) (v := (32 : Int32)) C rfl dX12_all_27 ?_
    obtain ⟨⟨fs9, hg9⟩, h⟩ := gh_is_inv h
    refine gh_callI (pc := 29) (rest := [va_rf (some t0)]) C (k_X12_takes C.tr t0 (32 : Int32)) (Nat.le_of_ble_eq_true rfl) (Nat.le_of_ble_eq_true rfl) (gh_r4 (Nat.le_of_ble_eq_true rfl)) (fun H9 L9 hp9 => gi_V C hp9 hg9 gh_cX12 q2132 q2134 qs27 q2135 mh_X12 np32 rfl hl.1.1 dX12_all_29 rfl) h ((gh_K1_b gh_K0_b) _ hk) (fun v6 g h => ?_) (fun e g h => ?_)
    rotate_left
    ·
      obtain ⟨o, h, hk⟩ := gh_K1_thr h hk
      exact gh_out C (fun _ h => nomatch h) h hk
    obtain ⟨⟨fs9, hg9⟩, h⟩ := gh_is_inv h
    refine gh_callV (pc := 32) (rest := []) C (k_X12_need C.tr t0 v6) (Nat.le_of_ble_eq_true rfl) (Nat.le_of_ble_eq_true rfl) (gh_r4 (Nat.le_of_ble_eq_true rfl)) (fun H9 L9 hp9 => gi_V C hp9 hg9 gh_cX12 q2101 q2103 qs25 q2104 mh_X12 np55 rfl hl.1.1 dX12_all_32 rfl) h ((gh_K1_b gh_K0_b) _ hk) (fun g h => ?_) (fun e g h => ?_)
    rotate_left
    ·
      obtain ⟨o, h, hk⟩ := gh_K1_thr h hk
      exact gh_out C (fun _ h => nomatch h) h hk
    refine gr_aload_n (pc := 35) (i := 1) C rfl (gl_at hl 1 rfl) dX12_all_35 ?_
    refine gr_aload_n (pc := 36) (i := 0) C rfl (gl_at hl 0 rfl) dX12_all_36 ?_
    obtain ⟨⟨fs9, hg9⟩, h⟩ := gh_is_inv h
    refine gh_callQ (pc := 37) (rest := [va_rf u16_1]) C (k_X12_command C.tr t0) (Nat.le_of_ble_eq_true rfl) (Nat.le_of_ble_eq_true rfl) (gh_r4 (Nat.le_of_ble_eq_true rfl)) (fun H9 L9 hp9 => gi_V C hp9 hg9 gh_cX12 q2085 q2087 qs23 q2088 mh_X12 np69 rfl hl.1.1 dX12_all_37 rfl) h ((gh_K1_b gh_K0_b) _ hk) (fun v8 g h => ?_) (fun e g h => ?_)
    rotate_left
    ·
      obtain ⟨o, h, hk⟩ := gh_K1_thr h hk
      exact gh_out C (fun _ h => nomatch h) h hk
    rcases u16_1 with _ | a9
    · exact gh_stk_inv h
    replace h := gh_nn_ss h
    obtain ⟨⟨fs9, hg9⟩, h⟩ := gh_is_inv h
    refine gh_callV (pc := 40) (rest := []) C (k_J26_addLast C.tr a9 v8) (Nat.le_of_ble_eq_true rfl) (Nat.le_of_ble_eq_true rfl) (gh_r4 (Nat.le_of_ble_eq_true rfl)) (fun H9 L9 hp9 => gi_V C hp9 hg9 gh_cJ26 q2167 q2168 q2169 q2170 mh_J26 np17 rfl hl.1.1 dX12_all_40 rfl) h ((gh_K1_b gh_K0_b) _ hk) (fun g h => ?_) (fun e g h => ?_)
    rotate_left
    ·
      obtain ⟨o, h, hk⟩ := gh_K1_thr h hk
      exact gh_out C (fun _ h => nomatch h) h hk
    refine gr_goto (pc := 43) (tgt := 16) C rfl dX12_all_43 ?_
    exact gh_K1_in h hk ls (gl_sub hl [0, 1] rfl)

noncomputable def f_X12_all_16 (t0 : Nat) (p1 : Option Nat) : gh_M (Option Nat) := gh_it (fun st : Unit => f_X12_all_16_l t0 p1) ()
theorem w_X12_all_16 {x : gh_C} {g : gh_G} {o : ((Option Nat) ⊕ gh_X) × gh_G} {ls : Array Slot} (C : gh_K x cX12_all "GargoyleTower$Reader" 2 (some (.object "java/util/LinkedList")) "all" 9 196 []) (t0 : Nat) (p1 : Option Nat) (hl : gh_lv ls 2 [(0, va_rf (some t0)), (1, va_rf p1)]) (h : gh_run (f_X12_all_16 t0 p1) g = some o) (hk : (gh_K0 x gh_rQ) o) : gh_Wd x g (F0 (gh_cm x) 16 ls []) := by
  unfold f_X12_all_16 at h
  exact gh_loop gh_K0_b (fun st : Unit => f_X12_all_16_l t0 p1) (gp_X12_all_16 x t0 p1) (fun st g o h hk ls hl => w_X12_all_16_l C t0 p1 hl h hk) _ g o h hk ls hl
noncomputable def f_X12_all (t0 : Nat) : gh_M (Option Nat) :=
  gh_bd (gh_new 21 4 gh_nJ26) fun a1 =>
  gh_bd (f_J26_init a1) fun _ =>
  gh_bd (gh_is t0 9) fun _ =>
  gh_bd (f_X12_command t0) fun v3 =>
  gh_bd (gh_is a1 21) fun _ =>
  gh_bd (f_J26_addLast a1 v3) fun _ =>
  f_X12_all_16 t0 (some a1)
theorem w_X12_all {x : gh_C} {g : gh_G} {o : ((Option Nat) ⊕ gh_X) × gh_G} {ls : Array Slot} (C : gh_K x cX12_all "GargoyleTower$Reader" 2 (some (.object "java/util/LinkedList")) "all" 9 196 []) (t0 : Nat) (hl : gh_lv ls 2 [(0, va_rf (some t0))]) (h : gh_run (f_X12_all t0) g = some o) (hk : (gh_K0 x gh_rQ) o) : gh_Wd x g (F0 (gh_cm x) 0 ls []) := by
  unfold f_X12_all at h
  refine gr_newo (pc := 0) C gh_bJ26 q2083 q403 q114 gh_dJ26 dX12_all_0 h (gh_K0_b _ hk) fun a1 g h => ?_
  refine gr_dup (pc := 3) C (gh_cat _) dX12_all_3 ?_
  refine gh_callV (pc := 4) (rest := [va_rf (some a1)]) C (k_J26_init C.tr a1) (Nat.le_of_ble_eq_true rfl) (Nat.le_of_ble_eq_true rfl) (gh_r4 (Nat.le_of_ble_eq_true rfl)) (fun H9 L9 hp9 => gi_I C q2084 rfl q1530 q1531 mh_J26 np8 rfl hl.1.1 dX12_all_4 rfl) h (gh_K0_b _ hk) (fun g h => ?_) (fun e g h => ?_)
  rotate_left
  ·
    exact gh_out C (fun _ h => nomatch h) h hk
  refine gr_astore_n (pc := 7) (i := 1) (l' := [(1, va_rf (some a1)), (0, va_rf (some t0))]) C rfl hl (Nat.le_of_ble_eq_true rfl) rfl dX12_all_7 fun ls hl => ?_
  refine gr_aload_n (pc := 8) (i := 1) C rfl (gl_at hl 0 rfl) dX12_all_8 ?_
  refine gr_aload_n (pc := 9) (i := 0) C rfl (gl_at hl 1 rfl) dX12_all_9 ?_
  obtain ⟨⟨fs9, hg9⟩, h⟩ := gh_is_inv h
  refine gh_callQ (pc := 10) (rest := [va_rf (some a1)]) C (k_X12_command C.tr t0) (Nat.le_of_ble_eq_true rfl) (Nat.le_of_ble_eq_true rfl) (gh_r4 (Nat.le_of_ble_eq_true rfl)) (fun H9 L9 hp9 => gi_V C hp9 hg9 gh_cX12 q2085 q2087 qs23 q2088 mh_X12 np69 rfl hl.1.1 dX12_all_10 rfl) h (gh_K0_b _ hk) (fun v3 g h => ?_) (fun e g h => ?_)
  rotate_left
  ·
    exact gh_out C (fun _ h => nomatch h) h hk
  obtain ⟨⟨fs9, hg9⟩, h⟩ := gh_is_inv h
  refine gh_callV (pc := 13) (rest := []) C (k_J26_addLast C.tr a1 v3) (Nat.le_of_ble_eq_true rfl) (Nat.le_of_ble_eq_true rfl) (gh_r4 (Nat.le_of_ble_eq_true rfl)) (fun H9 L9 hp9 => gi_V C hp9 hg9 gh_cJ26 q2167 q2168 q2169 q2170 mh_J26 np17 rfl hl.1.1 dX12_all_13 rfl) h (gh_K0_b _ hk) (fun g h => ?_) (fun e g h => ?_)
  rotate_left
  ·
    exact gh_out C (fun _ h => nomatch h) h hk
  exact w_X12_all_16 C t0 (some a1) (gl_sub hl [1, 0] rfl) h hk

theorem k_X12_all {l : Launch} (hst : l.stackTraces = false) (t0 : Nat) : gh_Ct l yX12_all 9 209 (f_X12_all t0) gh_rQ [va_rf (some t0)] := gh_intro2 (L1 := 196) hst (by decide +kernel) q2082 q118 rfl ⟨gh_cat _, trivial⟩ (Nat.le_of_ble_eq_true rfl) fun x o ls hl C h hk => w_X12_all C t0 hl h hk
