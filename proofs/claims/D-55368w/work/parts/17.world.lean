/-! the world: rows of the code, functions, walks, contracts (printed) -/
set_option maxRecDepth 100000
abbrev cJ11_init_4 : ByteArray := prog_39_method_5_code
def yJ11_init_4 : MethodName := ⟨RJ11, "<init>", "(Ljava/lang/String;Ljava/lang/Throwable;ZZ)V"⟩
def dkwJ11_init_4_2 : List UInt8 := [44, 181, 0, 7, 29, 154, 0, 8, 42, 1, 181, 0, 24, 177]
abbrev dktJ11_init_4_2 : List UInt8 := dkwJ11_init_4_2 ++ []
def dkwJ11_init_4_1 : List UInt8 := [21, 4, 153, 0, 11, 42, 182, 0, 27, 87, 167, 0, 8, 42, 1, 181, 0, 17, 42, 43, 181, 0, 31, 42]
abbrev dktJ11_init_4_1 : List UInt8 := dkwJ11_init_4_1 ++ dktJ11_init_4_2
def dkwJ11_init_4_0 : List UInt8 := [42, 183, 0, 1, 42, 42, 181, 0, 7, 42, 178, 0, 13, 181, 0, 17, 42, 178, 0, 20, 181, 0, 24]
abbrev dktJ11_init_4_0 : List UInt8 := dkwJ11_init_4_0 ++ dktJ11_init_4_1
theorem dksJ11_init_4_0 : cJ11_init_4.data.toList.drop 0 = dktJ11_init_4_0 := by decide +kernel
theorem dksJ11_init_4_1 : cJ11_init_4.data.toList.drop 23 = dktJ11_init_4_1 := dk_seg dksJ11_init_4_0 23 rfl rfl
theorem dksJ11_init_4_2 : cJ11_init_4.data.toList.drop 47 = dktJ11_init_4_2 := dk_seg dksJ11_init_4_1 24 rfl rfl
theorem dJ11_init_4_0 : decode cJ11_init_4 0 = .ok (.aload_n 0, 1) := dk_42 (dk_at dksJ11_init_4_0 0 rfl rfl)
theorem dJ11_init_4_1 : decode cJ11_init_4 1 = .ok (.invokespecial 1, 3) := dk_183 0 1 (dk_at dksJ11_init_4_0 1 rfl rfl)
theorem dJ11_init_4_4 : decode cJ11_init_4 4 = .ok (.aload_n 0, 1) := dk_42 (dk_at dksJ11_init_4_0 4 rfl rfl)
theorem dJ11_init_4_5 : decode cJ11_init_4 5 = .ok (.aload_n 0, 1) := dk_42 (dk_at dksJ11_init_4_0 5 rfl rfl)
theorem dJ11_init_4_6 : decode cJ11_init_4 6 = .ok (.putfield 7, 3) := dk_181 0 7 (dk_at dksJ11_init_4_0 6 rfl rfl)
theorem dJ11_init_4_9 : decode cJ11_init_4 9 = .ok (.aload_n 0, 1) := dk_42 (dk_at dksJ11_init_4_0 9 rfl rfl)
theorem dJ11_init_4_10 : decode cJ11_init_4 10 = .ok (.getstatic 13, 3) := dk_178 0 13 (dk_at dksJ11_init_4_0 10 rfl rfl)
theorem dJ11_init_4_13 : decode cJ11_init_4 13 = .ok (.putfield 17, 3) := dk_181 0 17 (dk_at dksJ11_init_4_0 13 rfl rfl)
theorem dJ11_init_4_16 : decode cJ11_init_4 16 = .ok (.aload_n 0, 1) := dk_42 (dk_at dksJ11_init_4_0 16 rfl rfl)
theorem dJ11_init_4_17 : decode cJ11_init_4 17 = .ok (.getstatic 20, 3) := dk_178 0 20 (dk_at dksJ11_init_4_0 17 rfl rfl)
theorem dJ11_init_4_20 : decode cJ11_init_4 20 = .ok (.putfield 24, 3) := dk_181 0 24 (dk_at dksJ11_init_4_0 20 rfl rfl)
theorem dJ11_init_4_23 : decode cJ11_init_4 23 = .ok (.iload 4, 2) := dk_21 4 (dk_at dksJ11_init_4_1 0 rfl rfl)
theorem dJ11_init_4_25 : decode cJ11_init_4 25 = .ok (.ifCond .eq 11, 3) := dk_153 0 11 (dk_at dksJ11_init_4_1 2 rfl rfl)
theorem dJ11_init_4_28 : decode cJ11_init_4 28 = .ok (.aload_n 0, 1) := dk_42 (dk_at dksJ11_init_4_1 5 rfl rfl)
theorem dJ11_init_4_29 : decode cJ11_init_4 29 = .ok (.invokevirtual 27, 3) := dk_182 0 27 (dk_at dksJ11_init_4_1 6 rfl rfl)
theorem dJ11_init_4_32 : decode cJ11_init_4 32 = .ok (.pop, 1) := dk_87 (dk_at dksJ11_init_4_1 9 rfl rfl)
theorem dJ11_init_4_33 : decode cJ11_init_4 33 = .ok (.goto 8, 3) := dk_167 0 8 (dk_at dksJ11_init_4_1 10 rfl rfl)
theorem dJ11_init_4_36 : decode cJ11_init_4 36 = .ok (.aload_n 0, 1) := dk_42 (dk_at dksJ11_init_4_1 13 rfl rfl)
theorem dJ11_init_4_37 : decode cJ11_init_4 37 = .ok (.aconst_null, 1) := dk_1 (dk_at dksJ11_init_4_1 14 rfl rfl)
theorem dJ11_init_4_38 : decode cJ11_init_4 38 = .ok (.putfield 17, 3) := dk_181 0 17 (dk_at dksJ11_init_4_1 15 rfl rfl)
theorem dJ11_init_4_41 : decode cJ11_init_4 41 = .ok (.aload_n 0, 1) := dk_42 (dk_at dksJ11_init_4_1 18 rfl rfl)
theorem dJ11_init_4_42 : decode cJ11_init_4 42 = .ok (.aload_n 1, 1) := dk_43 (dk_at dksJ11_init_4_1 19 rfl rfl)
theorem dJ11_init_4_43 : decode cJ11_init_4 43 = .ok (.putfield 31, 3) := dk_181 0 31 (dk_at dksJ11_init_4_1 20 rfl rfl)
theorem dJ11_init_4_46 : decode cJ11_init_4 46 = .ok (.aload_n 0, 1) := dk_42 (dk_at dksJ11_init_4_1 23 rfl rfl)
theorem dJ11_init_4_47 : decode cJ11_init_4 47 = .ok (.aload_n 2, 1) := dk_44 (dk_at dksJ11_init_4_2 0 rfl rfl)
theorem dJ11_init_4_48 : decode cJ11_init_4 48 = .ok (.putfield 7, 3) := dk_181 0 7 (dk_at dksJ11_init_4_2 1 rfl rfl)
theorem dJ11_init_4_51 : decode cJ11_init_4 51 = .ok (.iload_n 3, 1) := dk_29 (dk_at dksJ11_init_4_2 4 rfl rfl)
theorem dJ11_init_4_52 : decode cJ11_init_4 52 = .ok (.ifCond .ne 8, 3) := dk_154 0 8 (dk_at dksJ11_init_4_2 5 rfl rfl)
theorem dJ11_init_4_55 : decode cJ11_init_4 55 = .ok (.aload_n 0, 1) := dk_42 (dk_at dksJ11_init_4_2 8 rfl rfl)
theorem dJ11_init_4_56 : decode cJ11_init_4 56 = .ok (.aconst_null, 1) := dk_1 (dk_at dksJ11_init_4_2 9 rfl rfl)
theorem dJ11_init_4_57 : decode cJ11_init_4 57 = .ok (.putfield 24, 3) := dk_181 0 24 (dk_at dksJ11_init_4_2 10 rfl rfl)
theorem dJ11_init_4_60 : decode cJ11_init_4 60 = .ok (.return_, 1) := dk_177 (dk_at dksJ11_init_4_2 13 rfl rfl)
abbrev cJ12_init_4 : ByteArray := prog_23_method_5_code
def yJ12_init_4 : MethodName := ⟨RJ12, "<init>", "(Ljava/lang/String;Ljava/lang/Throwable;ZZ)V"⟩
def dkwJ12_init_4_0 : List UInt8 := [42, 43, 44, 29, 21, 4, 183, 0, 16, 177]
abbrev dktJ12_init_4_0 : List UInt8 := dkwJ12_init_4_0 ++ []
theorem dksJ12_init_4_0 : cJ12_init_4.data.toList.drop 0 = dktJ12_init_4_0 := by decide +kernel
theorem dJ12_init_4_0 : decode cJ12_init_4 0 = .ok (.aload_n 0, 1) := dk_42 (dk_at dksJ12_init_4_0 0 rfl rfl)
theorem dJ12_init_4_1 : decode cJ12_init_4 1 = .ok (.aload_n 1, 1) := dk_43 (dk_at dksJ12_init_4_0 1 rfl rfl)
theorem dJ12_init_4_2 : decode cJ12_init_4 2 = .ok (.aload_n 2, 1) := dk_44 (dk_at dksJ12_init_4_0 2 rfl rfl)
theorem dJ12_init_4_3 : decode cJ12_init_4 3 = .ok (.iload_n 3, 1) := dk_29 (dk_at dksJ12_init_4_0 3 rfl rfl)
theorem dJ12_init_4_4 : decode cJ12_init_4 4 = .ok (.iload 4, 2) := dk_21 4 (dk_at dksJ12_init_4_0 4 rfl rfl)
theorem dJ12_init_4_6 : decode cJ12_init_4 6 = .ok (.invokespecial 16, 3) := dk_183 0 16 (dk_at dksJ12_init_4_0 6 rfl rfl)
theorem dJ12_init_4_9 : decode cJ12_init_4 9 = .ok (.return_, 1) := dk_177 (dk_at dksJ12_init_4_0 9 rfl rfl)
abbrev cX13_init : ByteArray := prog_10_method_1_code
def yX13_init : MethodName := ⟨RX13, "<init>", "(I)V"⟩
def dkwX13_init_0 : List UInt8 := [42, 1, 1, 3, 3, 183, 0, 1, 42, 27, 181, 0, 7, 177]
abbrev dktX13_init_0 : List UInt8 := dkwX13_init_0 ++ []
theorem dksX13_init_0 : cX13_init.data.toList.drop 0 = dktX13_init_0 := by decide +kernel
theorem dX13_init_0 : decode cX13_init 0 = .ok (.aload_n 0, 1) := dk_42 (dk_at dksX13_init_0 0 rfl rfl)
theorem dX13_init_1 : decode cX13_init 1 = .ok (.aconst_null, 1) := dk_1 (dk_at dksX13_init_0 1 rfl rfl)
theorem dX13_init_2 : decode cX13_init 2 = .ok (.aconst_null, 1) := dk_1 (dk_at dksX13_init_0 2 rfl rfl)
theorem dX13_init_3 : decode cX13_init 3 = .ok (.iconst 0, 1) := dk_3 (dk_at dksX13_init_0 3 rfl rfl)
theorem dX13_init_4 : decode cX13_init 4 = .ok (.iconst 0, 1) := dk_3 (dk_at dksX13_init_0 4 rfl rfl)
theorem dX13_init_5 : decode cX13_init 5 = .ok (.invokespecial 1, 3) := dk_183 0 1 (dk_at dksX13_init_0 5 rfl rfl)
theorem dX13_init_8 : decode cX13_init 8 = .ok (.aload_n 0, 1) := dk_42 (dk_at dksX13_init_0 8 rfl rfl)
theorem dX13_init_9 : decode cX13_init 9 = .ok (.iload_n 1, 1) := dk_27 (dk_at dksX13_init_0 9 rfl rfl)
theorem dX13_init_10 : decode cX13_init 10 = .ok (.putfield 7, 3) := dk_181 0 7 (dk_at dksX13_init_0 10 rfl rfl)
theorem dX13_init_13 : decode cX13_init 13 = .ok (.return_, 1) := dk_177 (dk_at dksX13_init_0 13 rfl rfl)
abbrev cX9_init_2 : ByteArray := prog_8_method_2_code
def yX9_init_2 : MethodName := ⟨RX9, "<init>", "(IILGargoyleTower$RefusedException;)V"⟩
def dkwX9_init_2_0 : List UInt8 := [42, 1, 45, 3, 3, 183, 0, 7, 42, 27, 181, 0, 12, 42, 28, 181, 0, 16, 177]
abbrev dktX9_init_2_0 : List UInt8 := dkwX9_init_2_0 ++ []
theorem dksX9_init_2_0 : cX9_init_2.data.toList.drop 0 = dktX9_init_2_0 := by decide +kernel
theorem dX9_init_2_0 : decode cX9_init_2 0 = .ok (.aload_n 0, 1) := dk_42 (dk_at dksX9_init_2_0 0 rfl rfl)
theorem dX9_init_2_1 : decode cX9_init_2 1 = .ok (.aconst_null, 1) := dk_1 (dk_at dksX9_init_2_0 1 rfl rfl)
theorem dX9_init_2_2 : decode cX9_init_2 2 = .ok (.aload_n 3, 1) := dk_45 (dk_at dksX9_init_2_0 2 rfl rfl)
theorem dX9_init_2_3 : decode cX9_init_2 3 = .ok (.iconst 0, 1) := dk_3 (dk_at dksX9_init_2_0 3 rfl rfl)
theorem dX9_init_2_4 : decode cX9_init_2 4 = .ok (.iconst 0, 1) := dk_3 (dk_at dksX9_init_2_0 4 rfl rfl)
theorem dX9_init_2_5 : decode cX9_init_2 5 = .ok (.invokespecial 7, 3) := dk_183 0 7 (dk_at dksX9_init_2_0 5 rfl rfl)
theorem dX9_init_2_8 : decode cX9_init_2 8 = .ok (.aload_n 0, 1) := dk_42 (dk_at dksX9_init_2_0 8 rfl rfl)
theorem dX9_init_2_9 : decode cX9_init_2 9 = .ok (.iload_n 1, 1) := dk_27 (dk_at dksX9_init_2_0 9 rfl rfl)
theorem dX9_init_2_10 : decode cX9_init_2 10 = .ok (.putfield 12, 3) := dk_181 0 12 (dk_at dksX9_init_2_0 10 rfl rfl)
theorem dX9_init_2_13 : decode cX9_init_2 13 = .ok (.aload_n 0, 1) := dk_42 (dk_at dksX9_init_2_0 13 rfl rfl)
theorem dX9_init_2_14 : decode cX9_init_2 14 = .ok (.iload_n 2, 1) := dk_28 (dk_at dksX9_init_2_0 14 rfl rfl)
theorem dX9_init_2_15 : decode cX9_init_2 15 = .ok (.putfield 16, 3) := dk_181 0 16 (dk_at dksX9_init_2_0 15 rfl rfl)
theorem dX9_init_2_18 : decode cX9_init_2 18 = .ok (.return_, 1) := dk_177 (dk_at dksX9_init_2_0 18 rfl rfl)
abbrev cX1_inRange : ByteArray := prog_1_method_1_code
def yX1_inRange : MethodName := ⟨RX1, "inRange", "(III)Z"⟩
def dkwX1_inRange_0 : List UInt8 := [26, 27, 161, 0, 12, 26, 28, 163, 0, 7, 4, 167, 0, 4, 3, 172]
abbrev dktX1_inRange_0 : List UInt8 := dkwX1_inRange_0 ++ []
theorem dksX1_inRange_0 : cX1_inRange.data.toList.drop 0 = dktX1_inRange_0 := by decide +kernel
theorem dX1_inRange_0 : decode cX1_inRange 0 = .ok (.iload_n 0, 1) := dk_26 (dk_at dksX1_inRange_0 0 rfl rfl)
theorem dX1_inRange_1 : decode cX1_inRange 1 = .ok (.iload_n 1, 1) := dk_27 (dk_at dksX1_inRange_0 1 rfl rfl)
theorem dX1_inRange_2 : decode cX1_inRange 2 = .ok (.if_icmp .lt 12, 3) := dk_161 0 12 (dk_at dksX1_inRange_0 2 rfl rfl)
theorem dX1_inRange_5 : decode cX1_inRange 5 = .ok (.iload_n 0, 1) := dk_26 (dk_at dksX1_inRange_0 5 rfl rfl)
theorem dX1_inRange_6 : decode cX1_inRange 6 = .ok (.iload_n 2, 1) := dk_28 (dk_at dksX1_inRange_0 6 rfl rfl)
theorem dX1_inRange_7 : decode cX1_inRange 7 = .ok (.if_icmp .gt 7, 3) := dk_163 0 7 (dk_at dksX1_inRange_0 7 rfl rfl)
theorem dX1_inRange_10 : decode cX1_inRange 10 = .ok (.iconst 1, 1) := dk_4 (dk_at dksX1_inRange_0 10 rfl rfl)
theorem dX1_inRange_11 : decode cX1_inRange 11 = .ok (.goto 4, 3) := dk_167 0 4 (dk_at dksX1_inRange_0 11 rfl rfl)
theorem dX1_inRange_14 : decode cX1_inRange 14 = .ok (.iconst 0, 1) := dk_3 (dk_at dksX1_inRange_0 14 rfl rfl)
theorem dX1_inRange_15 : decode cX1_inRange 15 = .ok (.ireturn, 1) := dk_172 (dk_at dksX1_inRange_0 15 rfl rfl)
abbrev cX1_checkArgument : ByteArray := prog_1_method_2_code
def yX1_checkArgument : MethodName := ⟨RX1, "checkArgument", "(Z)V"⟩
def dkwX1_checkArgument_0 : List UInt8 := [26, 154, 0, 11, 187, 0, 1, 89, 183, 0, 3, 191, 177]
abbrev dktX1_checkArgument_0 : List UInt8 := dkwX1_checkArgument_0 ++ []
theorem dksX1_checkArgument_0 : cX1_checkArgument.data.toList.drop 0 = dktX1_checkArgument_0 := by decide +kernel
theorem dX1_checkArgument_0 : decode cX1_checkArgument 0 = .ok (.iload_n 0, 1) := dk_26 (dk_at dksX1_checkArgument_0 0 rfl rfl)
theorem dX1_checkArgument_1 : decode cX1_checkArgument 1 = .ok (.ifCond .ne 11, 3) := dk_154 0 11 (dk_at dksX1_checkArgument_0 1 rfl rfl)
theorem dX1_checkArgument_4 : decode cX1_checkArgument 4 = .ok (.new 1, 3) := dk_187 0 1 (dk_at dksX1_checkArgument_0 4 rfl rfl)
theorem dX1_checkArgument_7 : decode cX1_checkArgument 7 = .ok (.dup, 1) := dk_89 (dk_at dksX1_checkArgument_0 7 rfl rfl)
theorem dX1_checkArgument_8 : decode cX1_checkArgument 8 = .ok (.invokespecial 3, 3) := dk_183 0 3 (dk_at dksX1_checkArgument_0 8 rfl rfl)
theorem dX1_checkArgument_11 : decode cX1_checkArgument 11 = .ok (.athrow, 1) := dk_191 (dk_at dksX1_checkArgument_0 11 rfl rfl)
theorem dX1_checkArgument_12 : decode cX1_checkArgument 12 = .ok (.return_, 1) := dk_177 (dk_at dksX1_checkArgument_0 12 rfl rfl)
abbrev cX1_checkFound : ByteArray := prog_1_method_5_code
def yX1_checkFound : MethodName := ⟨RX1, "checkFound", "(Z)V"⟩
def dkwX1_checkFound_0 : List UInt8 := [26, 154, 0, 11, 187, 0, 19, 89, 183, 0, 21, 191, 177]
abbrev dktX1_checkFound_0 : List UInt8 := dkwX1_checkFound_0 ++ []
theorem dksX1_checkFound_0 : cX1_checkFound.data.toList.drop 0 = dktX1_checkFound_0 := by decide +kernel
theorem dX1_checkFound_0 : decode cX1_checkFound 0 = .ok (.iload_n 0, 1) := dk_26 (dk_at dksX1_checkFound_0 0 rfl rfl)
theorem dX1_checkFound_1 : decode cX1_checkFound 1 = .ok (.ifCond .ne 11, 3) := dk_154 0 11 (dk_at dksX1_checkFound_0 1 rfl rfl)
theorem dX1_checkFound_4 : decode cX1_checkFound 4 = .ok (.new 19, 3) := dk_187 0 19 (dk_at dksX1_checkFound_0 4 rfl rfl)
theorem dX1_checkFound_7 : decode cX1_checkFound 7 = .ok (.dup, 1) := dk_89 (dk_at dksX1_checkFound_0 7 rfl rfl)
theorem dX1_checkFound_8 : decode cX1_checkFound 8 = .ok (.invokespecial 21, 3) := dk_183 0 21 (dk_at dksX1_checkFound_0 8 rfl rfl)
theorem dX1_checkFound_11 : decode cX1_checkFound 11 = .ok (.athrow, 1) := dk_191 (dk_at dksX1_checkFound_0 11 rfl rfl)
theorem dX1_checkFound_12 : decode cX1_checkFound 12 = .ok (.return_, 1) := dk_177 (dk_at dksX1_checkFound_0 12 rfl rfl)
abbrev cX1_checkState : ByteArray := prog_1_method_3_code
def yX1_checkState : MethodName := ⟨RX1, "checkState", "(Z)V"⟩
def dkwX1_checkState_0 : List UInt8 := [26, 154, 0, 11, 187, 0, 7, 89, 183, 0, 9, 191, 177]
abbrev dktX1_checkState_0 : List UInt8 := dkwX1_checkState_0 ++ []
theorem dksX1_checkState_0 : cX1_checkState.data.toList.drop 0 = dktX1_checkState_0 := by decide +kernel
theorem dX1_checkState_0 : decode cX1_checkState 0 = .ok (.iload_n 0, 1) := dk_26 (dk_at dksX1_checkState_0 0 rfl rfl)
theorem dX1_checkState_1 : decode cX1_checkState 1 = .ok (.ifCond .ne 11, 3) := dk_154 0 11 (dk_at dksX1_checkState_0 1 rfl rfl)
theorem dX1_checkState_4 : decode cX1_checkState 4 = .ok (.new 7, 3) := dk_187 0 7 (dk_at dksX1_checkState_0 4 rfl rfl)
theorem dX1_checkState_7 : decode cX1_checkState 7 = .ok (.dup, 1) := dk_89 (dk_at dksX1_checkState_0 7 rfl rfl)
theorem dX1_checkState_8 : decode cX1_checkState 8 = .ok (.invokespecial 9, 3) := dk_183 0 9 (dk_at dksX1_checkState_0 8 rfl rfl)
theorem dX1_checkState_11 : decode cX1_checkState 11 = .ok (.athrow, 1) := dk_191 (dk_at dksX1_checkState_0 11 rfl rfl)
theorem dX1_checkState_12 : decode cX1_checkState 12 = .ok (.return_, 1) := dk_177 (dk_at dksX1_checkState_0 12 rfl rfl)
abbrev cX2_init : ByteArray := prog_12_method_1_code
def yX2_init : MethodName := ⟨RX2, "<init>", "()V"⟩
def dkwX2_init_2 : List UInt8 := [181, 0, 28, 42, 187, 0, 31, 89, 183, 0, 33, 181, 0, 34, 177]
abbrev dktX2_init_2 : List UInt8 := dkwX2_init_2 ++ []
def dkwX2_init_1 : List UInt8 := [181, 0, 21, 42, 187, 0, 18, 89, 183, 0, 20, 181, 0, 25, 42, 187, 0, 18, 89, 183, 0, 20]
abbrev dktX2_init_1 : List UInt8 := dkwX2_init_1 ++ dktX2_init_2
def dkwX2_init_0 : List UInt8 := [42, 183, 0, 3, 42, 16, 60, 181, 0, 9, 42, 16, 9, 181, 0, 15, 42, 187, 0, 18, 89, 183, 0, 20]
abbrev dktX2_init_0 : List UInt8 := dkwX2_init_0 ++ dktX2_init_1
theorem dksX2_init_0 : cX2_init.data.toList.drop 0 = dktX2_init_0 := by decide +kernel
theorem dksX2_init_1 : cX2_init.data.toList.drop 24 = dktX2_init_1 := dk_seg dksX2_init_0 24 rfl rfl
theorem dksX2_init_2 : cX2_init.data.toList.drop 46 = dktX2_init_2 := dk_seg dksX2_init_1 22 rfl rfl
theorem dX2_init_0 : decode cX2_init 0 = .ok (.aload_n 0, 1) := dk_42 (dk_at dksX2_init_0 0 rfl rfl)
theorem dX2_init_1 : decode cX2_init 1 = .ok (.invokespecial 3, 3) := dk_183 0 3 (dk_at dksX2_init_0 1 rfl rfl)
theorem dX2_init_4 : decode cX2_init 4 = .ok (.aload_n 0, 1) := dk_42 (dk_at dksX2_init_0 4 rfl rfl)
theorem dX2_init_5 : decode cX2_init 5 = .ok (.bipush 60, 2) := dk_16 60 (dk_at dksX2_init_0 5 rfl rfl)
theorem dX2_init_7 : decode cX2_init 7 = .ok (.putfield 9, 3) := dk_181 0 9 (dk_at dksX2_init_0 7 rfl rfl)
theorem dX2_init_10 : decode cX2_init 10 = .ok (.aload_n 0, 1) := dk_42 (dk_at dksX2_init_0 10 rfl rfl)
theorem dX2_init_11 : decode cX2_init 11 = .ok (.bipush 9, 2) := dk_16 9 (dk_at dksX2_init_0 11 rfl rfl)
theorem dX2_init_13 : decode cX2_init 13 = .ok (.putfield 15, 3) := dk_181 0 15 (dk_at dksX2_init_0 13 rfl rfl)
theorem dX2_init_16 : decode cX2_init 16 = .ok (.aload_n 0, 1) := dk_42 (dk_at dksX2_init_0 16 rfl rfl)
theorem dX2_init_17 : decode cX2_init 17 = .ok (.new 18, 3) := dk_187 0 18 (dk_at dksX2_init_0 17 rfl rfl)
theorem dX2_init_20 : decode cX2_init 20 = .ok (.dup, 1) := dk_89 (dk_at dksX2_init_0 20 rfl rfl)
theorem dX2_init_21 : decode cX2_init 21 = .ok (.invokespecial 20, 3) := dk_183 0 20 (dk_at dksX2_init_0 21 rfl rfl)
theorem dX2_init_24 : decode cX2_init 24 = .ok (.putfield 21, 3) := dk_181 0 21 (dk_at dksX2_init_1 0 rfl rfl)
theorem dX2_init_27 : decode cX2_init 27 = .ok (.aload_n 0, 1) := dk_42 (dk_at dksX2_init_1 3 rfl rfl)
theorem dX2_init_28 : decode cX2_init 28 = .ok (.new 18, 3) := dk_187 0 18 (dk_at dksX2_init_1 4 rfl rfl)
theorem dX2_init_31 : decode cX2_init 31 = .ok (.dup, 1) := dk_89 (dk_at dksX2_init_1 7 rfl rfl)
theorem dX2_init_32 : decode cX2_init 32 = .ok (.invokespecial 20, 3) := dk_183 0 20 (dk_at dksX2_init_1 8 rfl rfl)
theorem dX2_init_35 : decode cX2_init 35 = .ok (.putfield 25, 3) := dk_181 0 25 (dk_at dksX2_init_1 11 rfl rfl)
theorem dX2_init_38 : decode cX2_init 38 = .ok (.aload_n 0, 1) := dk_42 (dk_at dksX2_init_1 14 rfl rfl)
theorem dX2_init_39 : decode cX2_init 39 = .ok (.new 18, 3) := dk_187 0 18 (dk_at dksX2_init_1 15 rfl rfl)
theorem dX2_init_42 : decode cX2_init 42 = .ok (.dup, 1) := dk_89 (dk_at dksX2_init_1 18 rfl rfl)
theorem dX2_init_43 : decode cX2_init 43 = .ok (.invokespecial 20, 3) := dk_183 0 20 (dk_at dksX2_init_1 19 rfl rfl)
theorem dX2_init_46 : decode cX2_init 46 = .ok (.putfield 28, 3) := dk_181 0 28 (dk_at dksX2_init_2 0 rfl rfl)
theorem dX2_init_49 : decode cX2_init 49 = .ok (.aload_n 0, 1) := dk_42 (dk_at dksX2_init_2 3 rfl rfl)
theorem dX2_init_50 : decode cX2_init 50 = .ok (.new 31, 3) := dk_187 0 31 (dk_at dksX2_init_2 4 rfl rfl)
theorem dX2_init_53 : decode cX2_init 53 = .ok (.dup, 1) := dk_89 (dk_at dksX2_init_2 7 rfl rfl)
theorem dX2_init_54 : decode cX2_init 54 = .ok (.invokespecial 33, 3) := dk_183 0 33 (dk_at dksX2_init_2 8 rfl rfl)
theorem dX2_init_57 : decode cX2_init 57 = .ok (.putfield 34, 3) := dk_181 0 34 (dk_at dksX2_init_2 11 rfl rfl)
theorem dX2_init_60 : decode cX2_init 60 = .ok (.return_, 1) := dk_177 (dk_at dksX2_init_2 14 rfl rfl)
abbrev cX2_blockIn : ByteArray := prog_12_method_6_code
def yX2_blockIn : MethodName := ⟨RX2, "blockIn", "(I)LGargoyleTower$Block;"⟩
def dkwX2_blockIn_2 : List UInt8 := [167, 255, 219, 1, 176]
abbrev dktX2_blockIn_2 : List UInt8 := dkwX2_blockIn_2 ++ []
def dkwX2_blockIn_1 : List UInt8 := [192, 0, 64, 78, 45, 180, 0, 95, 5, 160, 0, 13, 45, 180, 0, 98, 27, 160, 0, 5, 45, 176]
abbrev dktX2_blockIn_1 : List UInt8 := dkwX2_blockIn_1 ++ dktX2_blockIn_2
def dkwX2_blockIn_0 : List UInt8 := [42, 180, 0, 21, 182, 0, 50, 77, 44, 185, 0, 54, 1, 0, 153, 0, 34, 44, 185, 0, 60, 1, 0]
abbrev dktX2_blockIn_0 : List UInt8 := dkwX2_blockIn_0 ++ dktX2_blockIn_1
theorem dksX2_blockIn_0 : cX2_blockIn.data.toList.drop 0 = dktX2_blockIn_0 := by decide +kernel
theorem dksX2_blockIn_1 : cX2_blockIn.data.toList.drop 23 = dktX2_blockIn_1 := dk_seg dksX2_blockIn_0 23 rfl rfl
theorem dksX2_blockIn_2 : cX2_blockIn.data.toList.drop 45 = dktX2_blockIn_2 := dk_seg dksX2_blockIn_1 22 rfl rfl
theorem dX2_blockIn_0 : decode cX2_blockIn 0 = .ok (.aload_n 0, 1) := dk_42 (dk_at dksX2_blockIn_0 0 rfl rfl)
theorem dX2_blockIn_1 : decode cX2_blockIn 1 = .ok (.getfield 21, 3) := dk_180 0 21 (dk_at dksX2_blockIn_0 1 rfl rfl)
theorem dX2_blockIn_4 : decode cX2_blockIn 4 = .ok (.invokevirtual 50, 3) := dk_182 0 50 (dk_at dksX2_blockIn_0 4 rfl rfl)
theorem dX2_blockIn_7 : decode cX2_blockIn 7 = .ok (.astore_n 2, 1) := dk_77 (dk_at dksX2_blockIn_0 7 rfl rfl)
theorem dX2_blockIn_8 : decode cX2_blockIn 8 = .ok (.aload_n 2, 1) := dk_44 (dk_at dksX2_blockIn_0 8 rfl rfl)
theorem dX2_blockIn_9 : decode cX2_blockIn 9 = .ok (.invokeinterface 54 1, 5) := by decide +kernel
theorem dX2_blockIn_14 : decode cX2_blockIn 14 = .ok (.ifCond .eq 34, 3) := dk_153 0 34 (dk_at dksX2_blockIn_0 14 rfl rfl)
theorem dX2_blockIn_17 : decode cX2_blockIn 17 = .ok (.aload_n 2, 1) := dk_44 (dk_at dksX2_blockIn_0 17 rfl rfl)
theorem dX2_blockIn_18 : decode cX2_blockIn 18 = .ok (.invokeinterface 60 1, 5) := by decide +kernel
theorem dX2_blockIn_23 : decode cX2_blockIn 23 = .ok (.checkcast 64, 3) := dk_192 0 64 (dk_at dksX2_blockIn_1 0 rfl rfl)
theorem dX2_blockIn_26 : decode cX2_blockIn 26 = .ok (.astore_n 3, 1) := dk_78 (dk_at dksX2_blockIn_1 3 rfl rfl)
theorem dX2_blockIn_27 : decode cX2_blockIn 27 = .ok (.aload_n 3, 1) := dk_45 (dk_at dksX2_blockIn_1 4 rfl rfl)
theorem dX2_blockIn_28 : decode cX2_blockIn 28 = .ok (.getfield 95, 3) := dk_180 0 95 (dk_at dksX2_blockIn_1 5 rfl rfl)
theorem dX2_blockIn_31 : decode cX2_blockIn 31 = .ok (.iconst 2, 1) := dk_5 (dk_at dksX2_blockIn_1 8 rfl rfl)
theorem dX2_blockIn_32 : decode cX2_blockIn 32 = .ok (.if_icmp .ne 13, 3) := dk_160 0 13 (dk_at dksX2_blockIn_1 9 rfl rfl)
theorem dX2_blockIn_35 : decode cX2_blockIn 35 = .ok (.aload_n 3, 1) := dk_45 (dk_at dksX2_blockIn_1 12 rfl rfl)
theorem dX2_blockIn_36 : decode cX2_blockIn 36 = .ok (.getfield 98, 3) := dk_180 0 98 (dk_at dksX2_blockIn_1 13 rfl rfl)
theorem dX2_blockIn_39 : decode cX2_blockIn 39 = .ok (.iload_n 1, 1) := dk_27 (dk_at dksX2_blockIn_1 16 rfl rfl)
theorem dX2_blockIn_40 : decode cX2_blockIn 40 = .ok (.if_icmp .ne 5, 3) := dk_160 0 5 (dk_at dksX2_blockIn_1 17 rfl rfl)
theorem dX2_blockIn_43 : decode cX2_blockIn 43 = .ok (.aload_n 3, 1) := dk_45 (dk_at dksX2_blockIn_1 20 rfl rfl)
theorem dX2_blockIn_44 : decode cX2_blockIn 44 = .ok (.areturn, 1) := dk_176 (dk_at dksX2_blockIn_1 21 rfl rfl)
theorem dX2_blockIn_45 : decode cX2_blockIn 45 = .ok (.goto (-37), 3) := dk_167 255 219 (dk_at dksX2_blockIn_2 0 rfl rfl)
theorem dX2_blockIn_48 : decode cX2_blockIn 48 = .ok (.aconst_null, 1) := dk_1 (dk_at dksX2_blockIn_2 3 rfl rfl)
theorem dX2_blockIn_49 : decode cX2_blockIn 49 = .ok (.areturn, 1) := dk_176 (dk_at dksX2_blockIn_2 4 rfl rfl)
abbrev cX2_init_2 : ByteArray := prog_12_method_2_code
def yX2_init_2 : MethodName := ⟨RX2, "<init>", "(LGargoyleTower$World;)V"⟩
def dkwX2_init_2_10 : List UInt8 := [183, 0, 80, 182, 0, 69, 61, 167, 255, 219, 177]
abbrev dktX2_init_2_10 : List UInt8 := dkwX2_init_2_10 ++ []
def dkwX2_init_2_9 : List UInt8 := [153, 0, 34, 45, 185, 0, 60, 1, 0, 192, 0, 78, 58, 4, 42, 180, 0, 28, 187, 0, 78, 89, 25, 4]
abbrev dktX2_init_2_9 : List UInt8 := dkwX2_init_2_9 ++ dktX2_init_2_10
def dkwX2_init_2_8 : List UInt8 := [183, 0, 75, 182, 0, 69, 61, 167, 255, 219, 43, 180, 0, 28, 182, 0, 50, 78, 45, 185, 0, 54, 1, 0]
abbrev dktX2_init_2_8 : List UInt8 := dkwX2_init_2_8 ++ dktX2_init_2_9
def dkwX2_init_2_7 : List UInt8 := [153, 0, 34, 45, 185, 0, 60, 1, 0, 192, 0, 73, 58, 4, 42, 180, 0, 25, 187, 0, 73, 89, 25, 4]
abbrev dktX2_init_2_7 : List UInt8 := dkwX2_init_2_7 ++ dktX2_init_2_8
def dkwX2_init_2_6 : List UInt8 := [183, 0, 66, 182, 0, 69, 61, 167, 255, 219, 43, 180, 0, 25, 182, 0, 50, 78, 45, 185, 0, 54, 1, 0]
abbrev dktX2_init_2_6 : List UInt8 := dkwX2_init_2_6 ++ dktX2_init_2_7
def dkwX2_init_2_5 : List UInt8 := [153, 0, 34, 45, 185, 0, 60, 1, 0, 192, 0, 64, 58, 4, 42, 180, 0, 21, 187, 0, 64, 89, 25, 4]
abbrev dktX2_init_2_5 : List UInt8 := dkwX2_init_2_5 ++ dktX2_init_2_6
def dkwX2_init_2_4 : List UInt8 := [43, 180, 0, 34, 183, 0, 47, 181, 0, 34, 43, 180, 0, 21, 182, 0, 50, 78, 45, 185, 0, 54, 1, 0]
abbrev dktX2_init_2_4 : List UInt8 := dkwX2_init_2_4 ++ dktX2_init_2_5
def dkwX2_init_2_3 : List UInt8 := [181, 0, 15, 42, 43, 180, 0, 41, 181, 0, 41, 42, 43, 180, 0, 44, 181, 0, 44, 42, 187, 0, 31, 89]
abbrev dktX2_init_2_3 : List UInt8 := dkwX2_init_2_3 ++ dktX2_init_2_4
def dkwX2_init_2_2 : List UInt8 := [181, 0, 28, 42, 43, 180, 0, 9, 181, 0, 9, 42, 43, 180, 0, 38, 181, 0, 38, 42, 43, 180, 0, 15]
abbrev dktX2_init_2_2 : List UInt8 := dkwX2_init_2_2 ++ dktX2_init_2_3
def dkwX2_init_2_1 : List UInt8 := [181, 0, 21, 42, 187, 0, 18, 89, 183, 0, 20, 181, 0, 25, 42, 187, 0, 18, 89, 183, 0, 20]
abbrev dktX2_init_2_1 : List UInt8 := dkwX2_init_2_1 ++ dktX2_init_2_2
def dkwX2_init_2_0 : List UInt8 := [42, 183, 0, 3, 42, 16, 60, 181, 0, 9, 42, 16, 9, 181, 0, 15, 42, 187, 0, 18, 89, 183, 0, 20]
abbrev dktX2_init_2_0 : List UInt8 := dkwX2_init_2_0 ++ dktX2_init_2_1
theorem dksX2_init_2_0 : cX2_init_2.data.toList.drop 0 = dktX2_init_2_0 := by decide +kernel
theorem dksX2_init_2_1 : cX2_init_2.data.toList.drop 24 = dktX2_init_2_1 := dk_seg dksX2_init_2_0 24 rfl rfl
theorem dksX2_init_2_2 : cX2_init_2.data.toList.drop 46 = dktX2_init_2_2 := dk_seg dksX2_init_2_1 22 rfl rfl
theorem dksX2_init_2_3 : cX2_init_2.data.toList.drop 70 = dktX2_init_2_3 := dk_seg dksX2_init_2_2 24 rfl rfl
theorem dksX2_init_2_4 : cX2_init_2.data.toList.drop 94 = dktX2_init_2_4 := dk_seg dksX2_init_2_3 24 rfl rfl
theorem dksX2_init_2_5 : cX2_init_2.data.toList.drop 118 = dktX2_init_2_5 := dk_seg dksX2_init_2_4 24 rfl rfl
theorem dksX2_init_2_6 : cX2_init_2.data.toList.drop 142 = dktX2_init_2_6 := dk_seg dksX2_init_2_5 24 rfl rfl
theorem dksX2_init_2_7 : cX2_init_2.data.toList.drop 166 = dktX2_init_2_7 := dk_seg dksX2_init_2_6 24 rfl rfl
theorem dksX2_init_2_8 : cX2_init_2.data.toList.drop 190 = dktX2_init_2_8 := dk_seg dksX2_init_2_7 24 rfl rfl
theorem dksX2_init_2_9 : cX2_init_2.data.toList.drop 214 = dktX2_init_2_9 := dk_seg dksX2_init_2_8 24 rfl rfl
theorem dksX2_init_2_10 : cX2_init_2.data.toList.drop 238 = dktX2_init_2_10 := dk_seg dksX2_init_2_9 24 rfl rfl
theorem dX2_init_2_0 : decode cX2_init_2 0 = .ok (.aload_n 0, 1) := dk_42 (dk_at dksX2_init_2_0 0 rfl rfl)
theorem dX2_init_2_1 : decode cX2_init_2 1 = .ok (.invokespecial 3, 3) := dk_183 0 3 (dk_at dksX2_init_2_0 1 rfl rfl)
theorem dX2_init_2_4 : decode cX2_init_2 4 = .ok (.aload_n 0, 1) := dk_42 (dk_at dksX2_init_2_0 4 rfl rfl)
theorem dX2_init_2_5 : decode cX2_init_2 5 = .ok (.bipush 60, 2) := dk_16 60 (dk_at dksX2_init_2_0 5 rfl rfl)
theorem dX2_init_2_7 : decode cX2_init_2 7 = .ok (.putfield 9, 3) := dk_181 0 9 (dk_at dksX2_init_2_0 7 rfl rfl)
theorem dX2_init_2_10 : decode cX2_init_2 10 = .ok (.aload_n 0, 1) := dk_42 (dk_at dksX2_init_2_0 10 rfl rfl)
theorem dX2_init_2_11 : decode cX2_init_2 11 = .ok (.bipush 9, 2) := dk_16 9 (dk_at dksX2_init_2_0 11 rfl rfl)
theorem dX2_init_2_13 : decode cX2_init_2 13 = .ok (.putfield 15, 3) := dk_181 0 15 (dk_at dksX2_init_2_0 13 rfl rfl)
theorem dX2_init_2_16 : decode cX2_init_2 16 = .ok (.aload_n 0, 1) := dk_42 (dk_at dksX2_init_2_0 16 rfl rfl)
theorem dX2_init_2_17 : decode cX2_init_2 17 = .ok (.new 18, 3) := dk_187 0 18 (dk_at dksX2_init_2_0 17 rfl rfl)
theorem dX2_init_2_20 : decode cX2_init_2 20 = .ok (.dup, 1) := dk_89 (dk_at dksX2_init_2_0 20 rfl rfl)
theorem dX2_init_2_21 : decode cX2_init_2 21 = .ok (.invokespecial 20, 3) := dk_183 0 20 (dk_at dksX2_init_2_0 21 rfl rfl)
theorem dX2_init_2_24 : decode cX2_init_2 24 = .ok (.putfield 21, 3) := dk_181 0 21 (dk_at dksX2_init_2_1 0 rfl rfl)
theorem dX2_init_2_27 : decode cX2_init_2 27 = .ok (.aload_n 0, 1) := dk_42 (dk_at dksX2_init_2_1 3 rfl rfl)
theorem dX2_init_2_28 : decode cX2_init_2 28 = .ok (.new 18, 3) := dk_187 0 18 (dk_at dksX2_init_2_1 4 rfl rfl)
theorem dX2_init_2_31 : decode cX2_init_2 31 = .ok (.dup, 1) := dk_89 (dk_at dksX2_init_2_1 7 rfl rfl)
theorem dX2_init_2_32 : decode cX2_init_2 32 = .ok (.invokespecial 20, 3) := dk_183 0 20 (dk_at dksX2_init_2_1 8 rfl rfl)
theorem dX2_init_2_35 : decode cX2_init_2 35 = .ok (.putfield 25, 3) := dk_181 0 25 (dk_at dksX2_init_2_1 11 rfl rfl)
theorem dX2_init_2_38 : decode cX2_init_2 38 = .ok (.aload_n 0, 1) := dk_42 (dk_at dksX2_init_2_1 14 rfl rfl)
theorem dX2_init_2_39 : decode cX2_init_2 39 = .ok (.new 18, 3) := dk_187 0 18 (dk_at dksX2_init_2_1 15 rfl rfl)
theorem dX2_init_2_42 : decode cX2_init_2 42 = .ok (.dup, 1) := dk_89 (dk_at dksX2_init_2_1 18 rfl rfl)
theorem dX2_init_2_43 : decode cX2_init_2 43 = .ok (.invokespecial 20, 3) := dk_183 0 20 (dk_at dksX2_init_2_1 19 rfl rfl)
theorem dX2_init_2_46 : decode cX2_init_2 46 = .ok (.putfield 28, 3) := dk_181 0 28 (dk_at dksX2_init_2_2 0 rfl rfl)
theorem dX2_init_2_49 : decode cX2_init_2 49 = .ok (.aload_n 0, 1) := dk_42 (dk_at dksX2_init_2_2 3 rfl rfl)
theorem dX2_init_2_50 : decode cX2_init_2 50 = .ok (.aload_n 1, 1) := dk_43 (dk_at dksX2_init_2_2 4 rfl rfl)
theorem dX2_init_2_51 : decode cX2_init_2 51 = .ok (.getfield 9, 3) := dk_180 0 9 (dk_at dksX2_init_2_2 5 rfl rfl)
theorem dX2_init_2_54 : decode cX2_init_2 54 = .ok (.putfield 9, 3) := dk_181 0 9 (dk_at dksX2_init_2_2 8 rfl rfl)
theorem dX2_init_2_57 : decode cX2_init_2 57 = .ok (.aload_n 0, 1) := dk_42 (dk_at dksX2_init_2_2 11 rfl rfl)
theorem dX2_init_2_58 : decode cX2_init_2 58 = .ok (.aload_n 1, 1) := dk_43 (dk_at dksX2_init_2_2 12 rfl rfl)
theorem dX2_init_2_59 : decode cX2_init_2 59 = .ok (.getfield 38, 3) := dk_180 0 38 (dk_at dksX2_init_2_2 13 rfl rfl)
theorem dX2_init_2_62 : decode cX2_init_2 62 = .ok (.putfield 38, 3) := dk_181 0 38 (dk_at dksX2_init_2_2 16 rfl rfl)
theorem dX2_init_2_65 : decode cX2_init_2 65 = .ok (.aload_n 0, 1) := dk_42 (dk_at dksX2_init_2_2 19 rfl rfl)
theorem dX2_init_2_66 : decode cX2_init_2 66 = .ok (.aload_n 1, 1) := dk_43 (dk_at dksX2_init_2_2 20 rfl rfl)
theorem dX2_init_2_67 : decode cX2_init_2 67 = .ok (.getfield 15, 3) := dk_180 0 15 (dk_at dksX2_init_2_2 21 rfl rfl)
theorem dX2_init_2_70 : decode cX2_init_2 70 = .ok (.putfield 15, 3) := dk_181 0 15 (dk_at dksX2_init_2_3 0 rfl rfl)
theorem dX2_init_2_73 : decode cX2_init_2 73 = .ok (.aload_n 0, 1) := dk_42 (dk_at dksX2_init_2_3 3 rfl rfl)
theorem dX2_init_2_74 : decode cX2_init_2 74 = .ok (.aload_n 1, 1) := dk_43 (dk_at dksX2_init_2_3 4 rfl rfl)
theorem dX2_init_2_75 : decode cX2_init_2 75 = .ok (.getfield 41, 3) := dk_180 0 41 (dk_at dksX2_init_2_3 5 rfl rfl)
theorem dX2_init_2_78 : decode cX2_init_2 78 = .ok (.putfield 41, 3) := dk_181 0 41 (dk_at dksX2_init_2_3 8 rfl rfl)
theorem dX2_init_2_81 : decode cX2_init_2 81 = .ok (.aload_n 0, 1) := dk_42 (dk_at dksX2_init_2_3 11 rfl rfl)
theorem dX2_init_2_82 : decode cX2_init_2 82 = .ok (.aload_n 1, 1) := dk_43 (dk_at dksX2_init_2_3 12 rfl rfl)
theorem dX2_init_2_83 : decode cX2_init_2 83 = .ok (.getfield 44, 3) := dk_180 0 44 (dk_at dksX2_init_2_3 13 rfl rfl)
theorem dX2_init_2_86 : decode cX2_init_2 86 = .ok (.putfield 44, 3) := dk_181 0 44 (dk_at dksX2_init_2_3 16 rfl rfl)
theorem dX2_init_2_89 : decode cX2_init_2 89 = .ok (.aload_n 0, 1) := dk_42 (dk_at dksX2_init_2_3 19 rfl rfl)
theorem dX2_init_2_90 : decode cX2_init_2 90 = .ok (.new 31, 3) := dk_187 0 31 (dk_at dksX2_init_2_3 20 rfl rfl)
theorem dX2_init_2_93 : decode cX2_init_2 93 = .ok (.dup, 1) := dk_89 (dk_at dksX2_init_2_3 23 rfl rfl)
theorem dX2_init_2_94 : decode cX2_init_2 94 = .ok (.aload_n 1, 1) := dk_43 (dk_at dksX2_init_2_4 0 rfl rfl)
theorem dX2_init_2_95 : decode cX2_init_2 95 = .ok (.getfield 34, 3) := dk_180 0 34 (dk_at dksX2_init_2_4 1 rfl rfl)
theorem dX2_init_2_98 : decode cX2_init_2 98 = .ok (.invokespecial 47, 3) := dk_183 0 47 (dk_at dksX2_init_2_4 4 rfl rfl)
theorem dX2_init_2_101 : decode cX2_init_2 101 = .ok (.putfield 34, 3) := dk_181 0 34 (dk_at dksX2_init_2_4 7 rfl rfl)
theorem dX2_init_2_104 : decode cX2_init_2 104 = .ok (.aload_n 1, 1) := dk_43 (dk_at dksX2_init_2_4 10 rfl rfl)
theorem dX2_init_2_105 : decode cX2_init_2 105 = .ok (.getfield 21, 3) := dk_180 0 21 (dk_at dksX2_init_2_4 11 rfl rfl)
theorem dX2_init_2_108 : decode cX2_init_2 108 = .ok (.invokevirtual 50, 3) := dk_182 0 50 (dk_at dksX2_init_2_4 14 rfl rfl)
theorem dX2_init_2_111 : decode cX2_init_2 111 = .ok (.astore_n 3, 1) := dk_78 (dk_at dksX2_init_2_4 17 rfl rfl)
theorem dX2_init_2_112 : decode cX2_init_2 112 = .ok (.aload_n 3, 1) := dk_45 (dk_at dksX2_init_2_4 18 rfl rfl)
theorem dX2_init_2_113 : decode cX2_init_2 113 = .ok (.invokeinterface 54 1, 5) := by decide +kernel
theorem dX2_init_2_118 : decode cX2_init_2 118 = .ok (.ifCond .eq 34, 3) := dk_153 0 34 (dk_at dksX2_init_2_5 0 rfl rfl)
theorem dX2_init_2_121 : decode cX2_init_2 121 = .ok (.aload_n 3, 1) := dk_45 (dk_at dksX2_init_2_5 3 rfl rfl)
theorem dX2_init_2_122 : decode cX2_init_2 122 = .ok (.invokeinterface 60 1, 5) := by decide +kernel
theorem dX2_init_2_127 : decode cX2_init_2 127 = .ok (.checkcast 64, 3) := dk_192 0 64 (dk_at dksX2_init_2_5 9 rfl rfl)
theorem dX2_init_2_130 : decode cX2_init_2 130 = .ok (.astore 4, 2) := dk_58 4 (dk_at dksX2_init_2_5 12 rfl rfl)
theorem dX2_init_2_132 : decode cX2_init_2 132 = .ok (.aload_n 0, 1) := dk_42 (dk_at dksX2_init_2_5 14 rfl rfl)
theorem dX2_init_2_133 : decode cX2_init_2 133 = .ok (.getfield 21, 3) := dk_180 0 21 (dk_at dksX2_init_2_5 15 rfl rfl)
theorem dX2_init_2_136 : decode cX2_init_2 136 = .ok (.new 64, 3) := dk_187 0 64 (dk_at dksX2_init_2_5 18 rfl rfl)
theorem dX2_init_2_139 : decode cX2_init_2 139 = .ok (.dup, 1) := dk_89 (dk_at dksX2_init_2_5 21 rfl rfl)
theorem dX2_init_2_140 : decode cX2_init_2 140 = .ok (.aload 4, 2) := dk_25 4 (dk_at dksX2_init_2_5 22 rfl rfl)
theorem dX2_init_2_142 : decode cX2_init_2 142 = .ok (.invokespecial 66, 3) := dk_183 0 66 (dk_at dksX2_init_2_6 0 rfl rfl)
theorem dX2_init_2_145 : decode cX2_init_2 145 = .ok (.invokevirtual 69, 3) := dk_182 0 69 (dk_at dksX2_init_2_6 3 rfl rfl)
theorem dX2_init_2_148 : decode cX2_init_2 148 = .ok (.istore_n 2, 1) := dk_61 (dk_at dksX2_init_2_6 6 rfl rfl)
theorem dX2_init_2_149 : decode cX2_init_2 149 = .ok (.goto (-37), 3) := dk_167 255 219 (dk_at dksX2_init_2_6 7 rfl rfl)
theorem dX2_init_2_152 : decode cX2_init_2 152 = .ok (.aload_n 1, 1) := dk_43 (dk_at dksX2_init_2_6 10 rfl rfl)
theorem dX2_init_2_153 : decode cX2_init_2 153 = .ok (.getfield 25, 3) := dk_180 0 25 (dk_at dksX2_init_2_6 11 rfl rfl)
theorem dX2_init_2_156 : decode cX2_init_2 156 = .ok (.invokevirtual 50, 3) := dk_182 0 50 (dk_at dksX2_init_2_6 14 rfl rfl)
theorem dX2_init_2_159 : decode cX2_init_2 159 = .ok (.astore_n 3, 1) := dk_78 (dk_at dksX2_init_2_6 17 rfl rfl)
theorem dX2_init_2_160 : decode cX2_init_2 160 = .ok (.aload_n 3, 1) := dk_45 (dk_at dksX2_init_2_6 18 rfl rfl)
theorem dX2_init_2_161 : decode cX2_init_2 161 = .ok (.invokeinterface 54 1, 5) := by decide +kernel
theorem dX2_init_2_166 : decode cX2_init_2 166 = .ok (.ifCond .eq 34, 3) := dk_153 0 34 (dk_at dksX2_init_2_7 0 rfl rfl)
theorem dX2_init_2_169 : decode cX2_init_2 169 = .ok (.aload_n 3, 1) := dk_45 (dk_at dksX2_init_2_7 3 rfl rfl)
theorem dX2_init_2_170 : decode cX2_init_2 170 = .ok (.invokeinterface 60 1, 5) := by decide +kernel
theorem dX2_init_2_175 : decode cX2_init_2 175 = .ok (.checkcast 73, 3) := dk_192 0 73 (dk_at dksX2_init_2_7 9 rfl rfl)
theorem dX2_init_2_178 : decode cX2_init_2 178 = .ok (.astore 4, 2) := dk_58 4 (dk_at dksX2_init_2_7 12 rfl rfl)
theorem dX2_init_2_180 : decode cX2_init_2 180 = .ok (.aload_n 0, 1) := dk_42 (dk_at dksX2_init_2_7 14 rfl rfl)
theorem dX2_init_2_181 : decode cX2_init_2 181 = .ok (.getfield 25, 3) := dk_180 0 25 (dk_at dksX2_init_2_7 15 rfl rfl)
theorem dX2_init_2_184 : decode cX2_init_2 184 = .ok (.new 73, 3) := dk_187 0 73 (dk_at dksX2_init_2_7 18 rfl rfl)
theorem dX2_init_2_187 : decode cX2_init_2 187 = .ok (.dup, 1) := dk_89 (dk_at dksX2_init_2_7 21 rfl rfl)
theorem dX2_init_2_188 : decode cX2_init_2 188 = .ok (.aload 4, 2) := dk_25 4 (dk_at dksX2_init_2_7 22 rfl rfl)
theorem dX2_init_2_190 : decode cX2_init_2 190 = .ok (.invokespecial 75, 3) := dk_183 0 75 (dk_at dksX2_init_2_8 0 rfl rfl)
theorem dX2_init_2_193 : decode cX2_init_2 193 = .ok (.invokevirtual 69, 3) := dk_182 0 69 (dk_at dksX2_init_2_8 3 rfl rfl)
theorem dX2_init_2_196 : decode cX2_init_2 196 = .ok (.istore_n 2, 1) := dk_61 (dk_at dksX2_init_2_8 6 rfl rfl)
theorem dX2_init_2_197 : decode cX2_init_2 197 = .ok (.goto (-37), 3) := dk_167 255 219 (dk_at dksX2_init_2_8 7 rfl rfl)
theorem dX2_init_2_200 : decode cX2_init_2 200 = .ok (.aload_n 1, 1) := dk_43 (dk_at dksX2_init_2_8 10 rfl rfl)
theorem dX2_init_2_201 : decode cX2_init_2 201 = .ok (.getfield 28, 3) := dk_180 0 28 (dk_at dksX2_init_2_8 11 rfl rfl)
theorem dX2_init_2_204 : decode cX2_init_2 204 = .ok (.invokevirtual 50, 3) := dk_182 0 50 (dk_at dksX2_init_2_8 14 rfl rfl)
theorem dX2_init_2_207 : decode cX2_init_2 207 = .ok (.astore_n 3, 1) := dk_78 (dk_at dksX2_init_2_8 17 rfl rfl)
theorem dX2_init_2_208 : decode cX2_init_2 208 = .ok (.aload_n 3, 1) := dk_45 (dk_at dksX2_init_2_8 18 rfl rfl)
theorem dX2_init_2_209 : decode cX2_init_2 209 = .ok (.invokeinterface 54 1, 5) := by decide +kernel
theorem dX2_init_2_214 : decode cX2_init_2 214 = .ok (.ifCond .eq 34, 3) := dk_153 0 34 (dk_at dksX2_init_2_9 0 rfl rfl)
theorem dX2_init_2_217 : decode cX2_init_2 217 = .ok (.aload_n 3, 1) := dk_45 (dk_at dksX2_init_2_9 3 rfl rfl)
theorem dX2_init_2_218 : decode cX2_init_2 218 = .ok (.invokeinterface 60 1, 5) := by decide +kernel
theorem dX2_init_2_223 : decode cX2_init_2 223 = .ok (.checkcast 78, 3) := dk_192 0 78 (dk_at dksX2_init_2_9 9 rfl rfl)
theorem dX2_init_2_226 : decode cX2_init_2 226 = .ok (.astore 4, 2) := dk_58 4 (dk_at dksX2_init_2_9 12 rfl rfl)
theorem dX2_init_2_228 : decode cX2_init_2 228 = .ok (.aload_n 0, 1) := dk_42 (dk_at dksX2_init_2_9 14 rfl rfl)
theorem dX2_init_2_229 : decode cX2_init_2 229 = .ok (.getfield 28, 3) := dk_180 0 28 (dk_at dksX2_init_2_9 15 rfl rfl)
theorem dX2_init_2_232 : decode cX2_init_2 232 = .ok (.new 78, 3) := dk_187 0 78 (dk_at dksX2_init_2_9 18 rfl rfl)
theorem dX2_init_2_235 : decode cX2_init_2 235 = .ok (.dup, 1) := dk_89 (dk_at dksX2_init_2_9 21 rfl rfl)
theorem dX2_init_2_236 : decode cX2_init_2 236 = .ok (.aload 4, 2) := dk_25 4 (dk_at dksX2_init_2_9 22 rfl rfl)
theorem dX2_init_2_238 : decode cX2_init_2 238 = .ok (.invokespecial 80, 3) := dk_183 0 80 (dk_at dksX2_init_2_10 0 rfl rfl)
theorem dX2_init_2_241 : decode cX2_init_2 241 = .ok (.invokevirtual 69, 3) := dk_182 0 69 (dk_at dksX2_init_2_10 3 rfl rfl)
theorem dX2_init_2_244 : decode cX2_init_2 244 = .ok (.istore_n 2, 1) := dk_61 (dk_at dksX2_init_2_10 6 rfl rfl)
theorem dX2_init_2_245 : decode cX2_init_2 245 = .ok (.goto (-37), 3) := dk_167 255 219 (dk_at dksX2_init_2_10 7 rfl rfl)
theorem dX2_init_2_248 : decode cX2_init_2 248 = .ok (.return_, 1) := dk_177 (dk_at dksX2_init_2_10 10 rfl rfl)
abbrev cX2_blockBelow : ByteArray := prog_12_method_7_code
def yX2_blockBelow : MethodName := ⟨RX2, "blockBelow", "(I)LGargoyleTower$Block;"⟩
def dkwX2_blockBelow_1 : List UInt8 := [198, 0, 5, 45, 176, 132, 2, 255, 167, 255, 228, 1, 176]
abbrev dktX2_blockBelow_1 : List UInt8 := dkwX2_blockBelow_1 ++ []
def dkwX2_blockBelow_0 : List UInt8 := [27, 4, 100, 61, 28, 8, 108, 27, 8, 108, 160, 0, 25, 28, 155, 0, 21, 42, 28, 182, 0, 101, 78, 45]
abbrev dktX2_blockBelow_0 : List UInt8 := dkwX2_blockBelow_0 ++ dktX2_blockBelow_1
theorem dksX2_blockBelow_0 : cX2_blockBelow.data.toList.drop 0 = dktX2_blockBelow_0 := by decide +kernel
theorem dksX2_blockBelow_1 : cX2_blockBelow.data.toList.drop 24 = dktX2_blockBelow_1 := dk_seg dksX2_blockBelow_0 24 rfl rfl
theorem dX2_blockBelow_0 : decode cX2_blockBelow 0 = .ok (.iload_n 1, 1) := dk_27 (dk_at dksX2_blockBelow_0 0 rfl rfl)
theorem dX2_blockBelow_1 : decode cX2_blockBelow 1 = .ok (.iconst 1, 1) := dk_4 (dk_at dksX2_blockBelow_0 1 rfl rfl)
theorem dX2_blockBelow_2 : decode cX2_blockBelow 2 = .ok (.isub, 1) := dk_100 (dk_at dksX2_blockBelow_0 2 rfl rfl)
theorem dX2_blockBelow_3 : decode cX2_blockBelow 3 = .ok (.istore_n 2, 1) := dk_61 (dk_at dksX2_blockBelow_0 3 rfl rfl)
theorem dX2_blockBelow_4 : decode cX2_blockBelow 4 = .ok (.iload_n 2, 1) := dk_28 (dk_at dksX2_blockBelow_0 4 rfl rfl)
theorem dX2_blockBelow_5 : decode cX2_blockBelow 5 = .ok (.iconst 5, 1) := dk_8 (dk_at dksX2_blockBelow_0 5 rfl rfl)
theorem dX2_blockBelow_6 : decode cX2_blockBelow 6 = .ok (.idiv, 1) := dk_108 (dk_at dksX2_blockBelow_0 6 rfl rfl)
theorem dX2_blockBelow_7 : decode cX2_blockBelow 7 = .ok (.iload_n 1, 1) := dk_27 (dk_at dksX2_blockBelow_0 7 rfl rfl)
theorem dX2_blockBelow_8 : decode cX2_blockBelow 8 = .ok (.iconst 5, 1) := dk_8 (dk_at dksX2_blockBelow_0 8 rfl rfl)
theorem dX2_blockBelow_9 : decode cX2_blockBelow 9 = .ok (.idiv, 1) := dk_108 (dk_at dksX2_blockBelow_0 9 rfl rfl)
theorem dX2_blockBelow_10 : decode cX2_blockBelow 10 = .ok (.if_icmp .ne 25, 3) := dk_160 0 25 (dk_at dksX2_blockBelow_0 10 rfl rfl)
theorem dX2_blockBelow_13 : decode cX2_blockBelow 13 = .ok (.iload_n 2, 1) := dk_28 (dk_at dksX2_blockBelow_0 13 rfl rfl)
theorem dX2_blockBelow_14 : decode cX2_blockBelow 14 = .ok (.ifCond .lt 21, 3) := dk_155 0 21 (dk_at dksX2_blockBelow_0 14 rfl rfl)
theorem dX2_blockBelow_17 : decode cX2_blockBelow 17 = .ok (.aload_n 0, 1) := dk_42 (dk_at dksX2_blockBelow_0 17 rfl rfl)
theorem dX2_blockBelow_18 : decode cX2_blockBelow 18 = .ok (.iload_n 2, 1) := dk_28 (dk_at dksX2_blockBelow_0 18 rfl rfl)
theorem dX2_blockBelow_19 : decode cX2_blockBelow 19 = .ok (.invokevirtual 101, 3) := dk_182 0 101 (dk_at dksX2_blockBelow_0 19 rfl rfl)
theorem dX2_blockBelow_22 : decode cX2_blockBelow 22 = .ok (.astore_n 3, 1) := dk_78 (dk_at dksX2_blockBelow_0 22 rfl rfl)
theorem dX2_blockBelow_23 : decode cX2_blockBelow 23 = .ok (.aload_n 3, 1) := dk_45 (dk_at dksX2_blockBelow_0 23 rfl rfl)
theorem dX2_blockBelow_24 : decode cX2_blockBelow 24 = .ok (.ifnull 5, 3) := dk_198 0 5 (dk_at dksX2_blockBelow_1 0 rfl rfl)
theorem dX2_blockBelow_27 : decode cX2_blockBelow 27 = .ok (.aload_n 3, 1) := dk_45 (dk_at dksX2_blockBelow_1 3 rfl rfl)
theorem dX2_blockBelow_28 : decode cX2_blockBelow 28 = .ok (.areturn, 1) := dk_176 (dk_at dksX2_blockBelow_1 4 rfl rfl)
theorem dX2_blockBelow_29 : decode cX2_blockBelow 29 = .ok (.iinc 2 (-1), 3) := dk_132 2 255 (dk_at dksX2_blockBelow_1 5 rfl rfl)
theorem dX2_blockBelow_32 : decode cX2_blockBelow 32 = .ok (.goto (-28), 3) := dk_167 255 228 (dk_at dksX2_blockBelow_1 8 rfl rfl)
theorem dX2_blockBelow_35 : decode cX2_blockBelow 35 = .ok (.aconst_null, 1) := dk_1 (dk_at dksX2_blockBelow_1 11 rfl rfl)
theorem dX2_blockBelow_36 : decode cX2_blockBelow 36 = .ok (.areturn, 1) := dk_176 (dk_at dksX2_blockBelow_1 12 rfl rfl)
abbrev cX2_wearRopes : ByteArray := prog_12_method_11_code
def yX2_wearRopes : MethodName := ⟨RX2, "wearRopes", "()I"⟩
def dkwX2_wearRopes_3 : List UInt8 := [25, 4, 6, 2, 182, 0, 105, 45, 2, 181, 0, 134, 132, 1, 1, 167, 255, 185, 27, 172]
abbrev dktX2_wearRopes_3 : List UInt8 := dkwX2_wearRopes_3 ++ []
def dkwX2_wearRopes_2 : List UInt8 := [180, 0, 134, 182, 0, 91, 192, 0, 64, 58, 4, 45, 4, 25, 4, 180, 0, 114, 182, 0, 137, 153, 0, 18]
abbrev dktX2_wearRopes_2 : List UInt8 := dkwX2_wearRopes_2 ++ dktX2_wearRopes_3
def dkwX2_wearRopes_1 : List UInt8 := [185, 0, 60, 1, 0, 192, 0, 73, 78, 45, 180, 0, 134, 2, 159, 0, 47, 42, 180, 0, 21, 45]
abbrev dktX2_wearRopes_1 : List UInt8 := dkwX2_wearRopes_1 ++ dktX2_wearRopes_2
def dkwX2_wearRopes_0 : List UInt8 := [3, 60, 42, 180, 0, 25, 182, 0, 50, 77, 44, 185, 0, 54, 1, 0, 153, 0, 68, 44]
abbrev dktX2_wearRopes_0 : List UInt8 := dkwX2_wearRopes_0 ++ dktX2_wearRopes_1
theorem dksX2_wearRopes_0 : cX2_wearRopes.data.toList.drop 0 = dktX2_wearRopes_0 := by decide +kernel
theorem dksX2_wearRopes_1 : cX2_wearRopes.data.toList.drop 20 = dktX2_wearRopes_1 := dk_seg dksX2_wearRopes_0 20 rfl rfl
theorem dksX2_wearRopes_2 : cX2_wearRopes.data.toList.drop 42 = dktX2_wearRopes_2 := dk_seg dksX2_wearRopes_1 22 rfl rfl
theorem dksX2_wearRopes_3 : cX2_wearRopes.data.toList.drop 66 = dktX2_wearRopes_3 := dk_seg dksX2_wearRopes_2 24 rfl rfl
theorem dX2_wearRopes_0 : decode cX2_wearRopes 0 = .ok (.iconst 0, 1) := dk_3 (dk_at dksX2_wearRopes_0 0 rfl rfl)
theorem dX2_wearRopes_1 : decode cX2_wearRopes 1 = .ok (.istore_n 1, 1) := dk_60 (dk_at dksX2_wearRopes_0 1 rfl rfl)
theorem dX2_wearRopes_2 : decode cX2_wearRopes 2 = .ok (.aload_n 0, 1) := dk_42 (dk_at dksX2_wearRopes_0 2 rfl rfl)
theorem dX2_wearRopes_3 : decode cX2_wearRopes 3 = .ok (.getfield 25, 3) := dk_180 0 25 (dk_at dksX2_wearRopes_0 3 rfl rfl)
theorem dX2_wearRopes_6 : decode cX2_wearRopes 6 = .ok (.invokevirtual 50, 3) := dk_182 0 50 (dk_at dksX2_wearRopes_0 6 rfl rfl)
theorem dX2_wearRopes_9 : decode cX2_wearRopes 9 = .ok (.astore_n 2, 1) := dk_77 (dk_at dksX2_wearRopes_0 9 rfl rfl)
theorem dX2_wearRopes_10 : decode cX2_wearRopes 10 = .ok (.aload_n 2, 1) := dk_44 (dk_at dksX2_wearRopes_0 10 rfl rfl)
theorem dX2_wearRopes_11 : decode cX2_wearRopes 11 = .ok (.invokeinterface 54 1, 5) := by decide +kernel
theorem dX2_wearRopes_16 : decode cX2_wearRopes 16 = .ok (.ifCond .eq 68, 3) := dk_153 0 68 (dk_at dksX2_wearRopes_0 16 rfl rfl)
theorem dX2_wearRopes_19 : decode cX2_wearRopes 19 = .ok (.aload_n 2, 1) := dk_44 (dk_at dksX2_wearRopes_0 19 rfl rfl)
theorem dX2_wearRopes_20 : decode cX2_wearRopes 20 = .ok (.invokeinterface 60 1, 5) := by decide +kernel
theorem dX2_wearRopes_25 : decode cX2_wearRopes 25 = .ok (.checkcast 73, 3) := dk_192 0 73 (dk_at dksX2_wearRopes_1 5 rfl rfl)
theorem dX2_wearRopes_28 : decode cX2_wearRopes 28 = .ok (.astore_n 3, 1) := dk_78 (dk_at dksX2_wearRopes_1 8 rfl rfl)
theorem dX2_wearRopes_29 : decode cX2_wearRopes 29 = .ok (.aload_n 3, 1) := dk_45 (dk_at dksX2_wearRopes_1 9 rfl rfl)
theorem dX2_wearRopes_30 : decode cX2_wearRopes 30 = .ok (.getfield 134, 3) := dk_180 0 134 (dk_at dksX2_wearRopes_1 10 rfl rfl)
theorem dX2_wearRopes_33 : decode cX2_wearRopes 33 = .ok (.iconst (-1), 1) := dk_2 (dk_at dksX2_wearRopes_1 13 rfl rfl)
theorem dX2_wearRopes_34 : decode cX2_wearRopes 34 = .ok (.if_icmp .eq 47, 3) := dk_159 0 47 (dk_at dksX2_wearRopes_1 14 rfl rfl)
theorem dX2_wearRopes_37 : decode cX2_wearRopes 37 = .ok (.aload_n 0, 1) := dk_42 (dk_at dksX2_wearRopes_1 17 rfl rfl)
theorem dX2_wearRopes_38 : decode cX2_wearRopes 38 = .ok (.getfield 21, 3) := dk_180 0 21 (dk_at dksX2_wearRopes_1 18 rfl rfl)
theorem dX2_wearRopes_41 : decode cX2_wearRopes 41 = .ok (.aload_n 3, 1) := dk_45 (dk_at dksX2_wearRopes_1 21 rfl rfl)
theorem dX2_wearRopes_42 : decode cX2_wearRopes 42 = .ok (.getfield 134, 3) := dk_180 0 134 (dk_at dksX2_wearRopes_2 0 rfl rfl)
theorem dX2_wearRopes_45 : decode cX2_wearRopes 45 = .ok (.invokevirtual 91, 3) := dk_182 0 91 (dk_at dksX2_wearRopes_2 3 rfl rfl)
theorem dX2_wearRopes_48 : decode cX2_wearRopes 48 = .ok (.checkcast 64, 3) := dk_192 0 64 (dk_at dksX2_wearRopes_2 6 rfl rfl)
theorem dX2_wearRopes_51 : decode cX2_wearRopes 51 = .ok (.astore 4, 2) := dk_58 4 (dk_at dksX2_wearRopes_2 9 rfl rfl)
theorem dX2_wearRopes_53 : decode cX2_wearRopes 53 = .ok (.aload_n 3, 1) := dk_45 (dk_at dksX2_wearRopes_2 11 rfl rfl)
theorem dX2_wearRopes_54 : decode cX2_wearRopes 54 = .ok (.iconst 1, 1) := dk_4 (dk_at dksX2_wearRopes_2 12 rfl rfl)
theorem dX2_wearRopes_55 : decode cX2_wearRopes 55 = .ok (.aload 4, 2) := dk_25 4 (dk_at dksX2_wearRopes_2 13 rfl rfl)
theorem dX2_wearRopes_57 : decode cX2_wearRopes 57 = .ok (.getfield 114, 3) := dk_180 0 114 (dk_at dksX2_wearRopes_2 15 rfl rfl)
theorem dX2_wearRopes_60 : decode cX2_wearRopes 60 = .ok (.invokevirtual 137, 3) := dk_182 0 137 (dk_at dksX2_wearRopes_2 18 rfl rfl)
theorem dX2_wearRopes_63 : decode cX2_wearRopes 63 = .ok (.ifCond .eq 18, 3) := dk_153 0 18 (dk_at dksX2_wearRopes_2 21 rfl rfl)
theorem dX2_wearRopes_66 : decode cX2_wearRopes 66 = .ok (.aload 4, 2) := dk_25 4 (dk_at dksX2_wearRopes_3 0 rfl rfl)
theorem dX2_wearRopes_68 : decode cX2_wearRopes 68 = .ok (.iconst 3, 1) := dk_6 (dk_at dksX2_wearRopes_3 2 rfl rfl)
theorem dX2_wearRopes_69 : decode cX2_wearRopes 69 = .ok (.iconst (-1), 1) := dk_2 (dk_at dksX2_wearRopes_3 3 rfl rfl)
theorem dX2_wearRopes_70 : decode cX2_wearRopes 70 = .ok (.invokevirtual 105, 3) := dk_182 0 105 (dk_at dksX2_wearRopes_3 4 rfl rfl)
theorem dX2_wearRopes_73 : decode cX2_wearRopes 73 = .ok (.aload_n 3, 1) := dk_45 (dk_at dksX2_wearRopes_3 7 rfl rfl)
theorem dX2_wearRopes_74 : decode cX2_wearRopes 74 = .ok (.iconst (-1), 1) := dk_2 (dk_at dksX2_wearRopes_3 8 rfl rfl)
theorem dX2_wearRopes_75 : decode cX2_wearRopes 75 = .ok (.putfield 134, 3) := dk_181 0 134 (dk_at dksX2_wearRopes_3 9 rfl rfl)
theorem dX2_wearRopes_78 : decode cX2_wearRopes 78 = .ok (.iinc 1 1, 3) := dk_132 1 1 (dk_at dksX2_wearRopes_3 12 rfl rfl)
theorem dX2_wearRopes_81 : decode cX2_wearRopes 81 = .ok (.goto (-71), 3) := dk_167 255 185 (dk_at dksX2_wearRopes_3 15 rfl rfl)
theorem dX2_wearRopes_84 : decode cX2_wearRopes 84 = .ok (.iload_n 1, 1) := dk_27 (dk_at dksX2_wearRopes_3 18 rfl rfl)
theorem dX2_wearRopes_85 : decode cX2_wearRopes 85 = .ok (.ireturn, 1) := dk_172 (dk_at dksX2_wearRopes_3 19 rfl rfl)
abbrev cX2_setSeed : ByteArray := prog_12_method_28_code
def yX2_setSeed : MethodName := ⟨RX2, "setSeed", "(I)I"⟩
def dkwX2_setSeed_1 : List UInt8 := [181, 0, 228, 28, 172]
abbrev dktX2_setSeed_1 : List UInt8 := dkwX2_setSeed_1 ++ []
def dkwX2_setSeed_0 : List UInt8 := [27, 3, 17, 39, 15, 184, 0, 150, 184, 0, 154, 42, 180, 0, 34, 180, 0, 228, 61, 42, 180, 0, 34, 27]
abbrev dktX2_setSeed_0 : List UInt8 := dkwX2_setSeed_0 ++ dktX2_setSeed_1
theorem dksX2_setSeed_0 : cX2_setSeed.data.toList.drop 0 = dktX2_setSeed_0 := by decide +kernel
theorem dksX2_setSeed_1 : cX2_setSeed.data.toList.drop 24 = dktX2_setSeed_1 := dk_seg dksX2_setSeed_0 24 rfl rfl
theorem dX2_setSeed_0 : decode cX2_setSeed 0 = .ok (.iload_n 1, 1) := dk_27 (dk_at dksX2_setSeed_0 0 rfl rfl)
theorem dX2_setSeed_1 : decode cX2_setSeed 1 = .ok (.iconst 0, 1) := dk_3 (dk_at dksX2_setSeed_0 1 rfl rfl)
theorem dX2_setSeed_2 : decode cX2_setSeed 2 = .ok (.sipush 9999, 3) := dk_17 39 15 (dk_at dksX2_setSeed_0 2 rfl rfl)
theorem dX2_setSeed_5 : decode cX2_setSeed 5 = .ok (.invokestatic 150, 3) := dk_184 0 150 (dk_at dksX2_setSeed_0 5 rfl rfl)
theorem dX2_setSeed_8 : decode cX2_setSeed 8 = .ok (.invokestatic 154, 3) := dk_184 0 154 (dk_at dksX2_setSeed_0 8 rfl rfl)
theorem dX2_setSeed_11 : decode cX2_setSeed 11 = .ok (.aload_n 0, 1) := dk_42 (dk_at dksX2_setSeed_0 11 rfl rfl)
theorem dX2_setSeed_12 : decode cX2_setSeed 12 = .ok (.getfield 34, 3) := dk_180 0 34 (dk_at dksX2_setSeed_0 12 rfl rfl)
theorem dX2_setSeed_15 : decode cX2_setSeed 15 = .ok (.getfield 228, 3) := dk_180 0 228 (dk_at dksX2_setSeed_0 15 rfl rfl)
theorem dX2_setSeed_18 : decode cX2_setSeed 18 = .ok (.istore_n 2, 1) := dk_61 (dk_at dksX2_setSeed_0 18 rfl rfl)
theorem dX2_setSeed_19 : decode cX2_setSeed 19 = .ok (.aload_n 0, 1) := dk_42 (dk_at dksX2_setSeed_0 19 rfl rfl)
theorem dX2_setSeed_20 : decode cX2_setSeed 20 = .ok (.getfield 34, 3) := dk_180 0 34 (dk_at dksX2_setSeed_0 20 rfl rfl)
theorem dX2_setSeed_23 : decode cX2_setSeed 23 = .ok (.iload_n 1, 1) := dk_27 (dk_at dksX2_setSeed_0 23 rfl rfl)
theorem dX2_setSeed_24 : decode cX2_setSeed 24 = .ok (.putfield 228, 3) := dk_181 0 228 (dk_at dksX2_setSeed_1 0 rfl rfl)
theorem dX2_setSeed_27 : decode cX2_setSeed 27 = .ok (.iload_n 2, 1) := dk_28 (dk_at dksX2_setSeed_1 3 rfl rfl)
theorem dX2_setSeed_28 : decode cX2_setSeed 28 = .ok (.ireturn, 1) := dk_172 (dk_at dksX2_setSeed_1 4 rfl rfl)
abbrev cX2_count : ByteArray := prog_12_method_8_code
def yX2_count : MethodName := ⟨RX2, "count", "(I)I"⟩
def dkwX2_count_2 : List UInt8 := [3, 96, 61, 167, 255, 219, 28, 172]
abbrev dktX2_count_2 : List UInt8 := dkwX2_count_2 ++ []
def dkwX2_count_1 : List UInt8 := [185, 0, 60, 1, 0, 192, 0, 64, 58, 4, 28, 25, 4, 180, 0, 95, 27, 160, 0, 7, 4, 167, 0, 4]
abbrev dktX2_count_1 : List UInt8 := dkwX2_count_1 ++ dktX2_count_2
def dkwX2_count_0 : List UInt8 := [3, 61, 42, 180, 0, 21, 182, 0, 50, 78, 45, 185, 0, 54, 1, 0, 153, 0, 34, 45]
abbrev dktX2_count_0 : List UInt8 := dkwX2_count_0 ++ dktX2_count_1
theorem dksX2_count_0 : cX2_count.data.toList.drop 0 = dktX2_count_0 := by decide +kernel
theorem dksX2_count_1 : cX2_count.data.toList.drop 20 = dktX2_count_1 := dk_seg dksX2_count_0 20 rfl rfl
theorem dksX2_count_2 : cX2_count.data.toList.drop 44 = dktX2_count_2 := dk_seg dksX2_count_1 24 rfl rfl
theorem dX2_count_0 : decode cX2_count 0 = .ok (.iconst 0, 1) := dk_3 (dk_at dksX2_count_0 0 rfl rfl)
theorem dX2_count_1 : decode cX2_count 1 = .ok (.istore_n 2, 1) := dk_61 (dk_at dksX2_count_0 1 rfl rfl)
theorem dX2_count_2 : decode cX2_count 2 = .ok (.aload_n 0, 1) := dk_42 (dk_at dksX2_count_0 2 rfl rfl)
theorem dX2_count_3 : decode cX2_count 3 = .ok (.getfield 21, 3) := dk_180 0 21 (dk_at dksX2_count_0 3 rfl rfl)
theorem dX2_count_6 : decode cX2_count 6 = .ok (.invokevirtual 50, 3) := dk_182 0 50 (dk_at dksX2_count_0 6 rfl rfl)
theorem dX2_count_9 : decode cX2_count 9 = .ok (.astore_n 3, 1) := dk_78 (dk_at dksX2_count_0 9 rfl rfl)
theorem dX2_count_10 : decode cX2_count 10 = .ok (.aload_n 3, 1) := dk_45 (dk_at dksX2_count_0 10 rfl rfl)
theorem dX2_count_11 : decode cX2_count 11 = .ok (.invokeinterface 54 1, 5) := by decide +kernel
theorem dX2_count_16 : decode cX2_count 16 = .ok (.ifCond .eq 34, 3) := dk_153 0 34 (dk_at dksX2_count_0 16 rfl rfl)
theorem dX2_count_19 : decode cX2_count 19 = .ok (.aload_n 3, 1) := dk_45 (dk_at dksX2_count_0 19 rfl rfl)
theorem dX2_count_20 : decode cX2_count 20 = .ok (.invokeinterface 60 1, 5) := by decide +kernel
theorem dX2_count_25 : decode cX2_count 25 = .ok (.checkcast 64, 3) := dk_192 0 64 (dk_at dksX2_count_1 5 rfl rfl)
theorem dX2_count_28 : decode cX2_count 28 = .ok (.astore 4, 2) := dk_58 4 (dk_at dksX2_count_1 8 rfl rfl)
theorem dX2_count_30 : decode cX2_count 30 = .ok (.iload_n 2, 1) := dk_28 (dk_at dksX2_count_1 10 rfl rfl)
theorem dX2_count_31 : decode cX2_count 31 = .ok (.aload 4, 2) := dk_25 4 (dk_at dksX2_count_1 11 rfl rfl)
theorem dX2_count_33 : decode cX2_count 33 = .ok (.getfield 95, 3) := dk_180 0 95 (dk_at dksX2_count_1 13 rfl rfl)
theorem dX2_count_36 : decode cX2_count 36 = .ok (.iload_n 1, 1) := dk_27 (dk_at dksX2_count_1 16 rfl rfl)
theorem dX2_count_37 : decode cX2_count 37 = .ok (.if_icmp .ne 7, 3) := dk_160 0 7 (dk_at dksX2_count_1 17 rfl rfl)
theorem dX2_count_40 : decode cX2_count 40 = .ok (.iconst 1, 1) := dk_4 (dk_at dksX2_count_1 20 rfl rfl)
theorem dX2_count_41 : decode cX2_count 41 = .ok (.goto 4, 3) := dk_167 0 4 (dk_at dksX2_count_1 21 rfl rfl)
theorem dX2_count_44 : decode cX2_count 44 = .ok (.iconst 0, 1) := dk_3 (dk_at dksX2_count_2 0 rfl rfl)
theorem dX2_count_45 : decode cX2_count 45 = .ok (.iadd, 1) := dk_96 (dk_at dksX2_count_2 1 rfl rfl)
theorem dX2_count_46 : decode cX2_count 46 = .ok (.istore_n 2, 1) := dk_61 (dk_at dksX2_count_2 2 rfl rfl)
theorem dX2_count_47 : decode cX2_count 47 = .ok (.goto (-37), 3) := dk_167 255 219 (dk_at dksX2_count_2 3 rfl rfl)
theorem dX2_count_50 : decode cX2_count 50 = .ok (.iload_n 2, 1) := dk_28 (dk_at dksX2_count_2 6 rfl rfl)
theorem dX2_count_51 : decode cX2_count 51 = .ok (.ireturn, 1) := dk_172 (dk_at dksX2_count_2 7 rfl rfl)
abbrev cX9_init : ByteArray := prog_8_method_1_code
def yX9_init : MethodName := ⟨RX9, "<init>", "(II)V"⟩
def dkwX9_init_0 : List UInt8 := [42, 27, 28, 1, 183, 0, 1, 177]
abbrev dktX9_init_0 : List UInt8 := dkwX9_init_0 ++ []
theorem dksX9_init_0 : cX9_init.data.toList.drop 0 = dktX9_init_0 := by decide +kernel
theorem dX9_init_0 : decode cX9_init 0 = .ok (.aload_n 0, 1) := dk_42 (dk_at dksX9_init_0 0 rfl rfl)
theorem dX9_init_1 : decode cX9_init 1 = .ok (.iload_n 1, 1) := dk_27 (dk_at dksX9_init_0 1 rfl rfl)
theorem dX9_init_2 : decode cX9_init 2 = .ok (.iload_n 2, 1) := dk_28 (dk_at dksX9_init_0 2 rfl rfl)
theorem dX9_init_3 : decode cX9_init 3 = .ok (.aconst_null, 1) := dk_1 (dk_at dksX9_init_0 3 rfl rfl)
theorem dX9_init_4 : decode cX9_init 4 = .ok (.invokespecial 1, 3) := dk_183 0 1 (dk_at dksX9_init_0 4 rfl rfl)
theorem dX9_init_7 : decode cX9_init 7 = .ok (.return_, 1) := dk_177 (dk_at dksX9_init_0 7 rfl rfl)
abbrev cX1_checkIndex : ByteArray := prog_1_method_4_code
def yX1_checkIndex : MethodName := ⟨RX1, "checkIndex", "(II)V"⟩
def dkwX1_checkIndex_0 : List UInt8 := [26, 3, 27, 4, 100, 184, 0, 10, 154, 0, 11, 187, 0, 16, 89, 183, 0, 18, 191, 177]
abbrev dktX1_checkIndex_0 : List UInt8 := dkwX1_checkIndex_0 ++ []
theorem dksX1_checkIndex_0 : cX1_checkIndex.data.toList.drop 0 = dktX1_checkIndex_0 := by decide +kernel
theorem dX1_checkIndex_0 : decode cX1_checkIndex 0 = .ok (.iload_n 0, 1) := dk_26 (dk_at dksX1_checkIndex_0 0 rfl rfl)
theorem dX1_checkIndex_1 : decode cX1_checkIndex 1 = .ok (.iconst 0, 1) := dk_3 (dk_at dksX1_checkIndex_0 1 rfl rfl)
theorem dX1_checkIndex_2 : decode cX1_checkIndex 2 = .ok (.iload_n 1, 1) := dk_27 (dk_at dksX1_checkIndex_0 2 rfl rfl)
theorem dX1_checkIndex_3 : decode cX1_checkIndex 3 = .ok (.iconst 1, 1) := dk_4 (dk_at dksX1_checkIndex_0 3 rfl rfl)
theorem dX1_checkIndex_4 : decode cX1_checkIndex 4 = .ok (.isub, 1) := dk_100 (dk_at dksX1_checkIndex_0 4 rfl rfl)
theorem dX1_checkIndex_5 : decode cX1_checkIndex 5 = .ok (.invokestatic 10, 3) := dk_184 0 10 (dk_at dksX1_checkIndex_0 5 rfl rfl)
theorem dX1_checkIndex_8 : decode cX1_checkIndex 8 = .ok (.ifCond .ne 11, 3) := dk_154 0 11 (dk_at dksX1_checkIndex_0 8 rfl rfl)
theorem dX1_checkIndex_11 : decode cX1_checkIndex 11 = .ok (.new 16, 3) := dk_187 0 16 (dk_at dksX1_checkIndex_0 11 rfl rfl)
theorem dX1_checkIndex_14 : decode cX1_checkIndex 14 = .ok (.dup, 1) := dk_89 (dk_at dksX1_checkIndex_0 14 rfl rfl)
theorem dX1_checkIndex_15 : decode cX1_checkIndex 15 = .ok (.invokespecial 18, 3) := dk_183 0 18 (dk_at dksX1_checkIndex_0 15 rfl rfl)
theorem dX1_checkIndex_18 : decode cX1_checkIndex 18 = .ok (.athrow, 1) := dk_191 (dk_at dksX1_checkIndex_0 18 rfl rfl)
theorem dX1_checkIndex_19 : decode cX1_checkIndex 19 = .ok (.return_, 1) := dk_177 (dk_at dksX1_checkIndex_0 19 rfl rfl)
abbrev cX1_refuse : ByteArray := prog_1_method_6_code
def yX1_refuse : MethodName := ⟨RX1, "refuse", "(ZII)V"⟩
def dkwX1_refuse_0 : List UInt8 := [26, 153, 0, 13, 187, 0, 22, 89, 27, 28, 183, 0, 24, 191, 177]
abbrev dktX1_refuse_0 : List UInt8 := dkwX1_refuse_0 ++ []
theorem dksX1_refuse_0 : cX1_refuse.data.toList.drop 0 = dktX1_refuse_0 := by decide +kernel
theorem dX1_refuse_0 : decode cX1_refuse 0 = .ok (.iload_n 0, 1) := dk_26 (dk_at dksX1_refuse_0 0 rfl rfl)
theorem dX1_refuse_1 : decode cX1_refuse 1 = .ok (.ifCond .eq 13, 3) := dk_153 0 13 (dk_at dksX1_refuse_0 1 rfl rfl)
theorem dX1_refuse_4 : decode cX1_refuse 4 = .ok (.new 22, 3) := dk_187 0 22 (dk_at dksX1_refuse_0 4 rfl rfl)
theorem dX1_refuse_7 : decode cX1_refuse 7 = .ok (.dup, 1) := dk_89 (dk_at dksX1_refuse_0 7 rfl rfl)
theorem dX1_refuse_8 : decode cX1_refuse 8 = .ok (.iload_n 1, 1) := dk_27 (dk_at dksX1_refuse_0 8 rfl rfl)
theorem dX1_refuse_9 : decode cX1_refuse 9 = .ok (.iload_n 2, 1) := dk_28 (dk_at dksX1_refuse_0 9 rfl rfl)
theorem dX1_refuse_10 : decode cX1_refuse 10 = .ok (.invokespecial 24, 3) := dk_183 0 24 (dk_at dksX1_refuse_0 10 rfl rfl)
theorem dX1_refuse_13 : decode cX1_refuse 13 = .ok (.athrow, 1) := dk_191 (dk_at dksX1_refuse_0 13 rfl rfl)
theorem dX1_refuse_14 : decode cX1_refuse 14 = .ok (.return_, 1) := dk_177 (dk_at dksX1_refuse_0 14 rfl rfl)
abbrev cX2_block : ByteArray := prog_12_method_3_code
def yX2_block : MethodName := ⟨RX2, "block", "(I)LGargoyleTower$Block;"⟩
def dkwX2_block_0 : List UInt8 := [27, 42, 180, 0, 21, 182, 0, 83, 184, 0, 87, 42, 180, 0, 21, 27, 182, 0, 91, 192, 0, 64, 176]
abbrev dktX2_block_0 : List UInt8 := dkwX2_block_0 ++ []
theorem dksX2_block_0 : cX2_block.data.toList.drop 0 = dktX2_block_0 := by decide +kernel
theorem dX2_block_0 : decode cX2_block 0 = .ok (.iload_n 1, 1) := dk_27 (dk_at dksX2_block_0 0 rfl rfl)
theorem dX2_block_1 : decode cX2_block 1 = .ok (.aload_n 0, 1) := dk_42 (dk_at dksX2_block_0 1 rfl rfl)
theorem dX2_block_2 : decode cX2_block 2 = .ok (.getfield 21, 3) := dk_180 0 21 (dk_at dksX2_block_0 2 rfl rfl)
theorem dX2_block_5 : decode cX2_block 5 = .ok (.invokevirtual 83, 3) := dk_182 0 83 (dk_at dksX2_block_0 5 rfl rfl)
theorem dX2_block_8 : decode cX2_block 8 = .ok (.invokestatic 87, 3) := dk_184 0 87 (dk_at dksX2_block_0 8 rfl rfl)
theorem dX2_block_11 : decode cX2_block 11 = .ok (.aload_n 0, 1) := dk_42 (dk_at dksX2_block_0 11 rfl rfl)
theorem dX2_block_12 : decode cX2_block 12 = .ok (.getfield 21, 3) := dk_180 0 21 (dk_at dksX2_block_0 12 rfl rfl)
theorem dX2_block_15 : decode cX2_block 15 = .ok (.iload_n 1, 1) := dk_27 (dk_at dksX2_block_0 15 rfl rfl)
theorem dX2_block_16 : decode cX2_block 16 = .ok (.invokevirtual 91, 3) := dk_182 0 91 (dk_at dksX2_block_0 16 rfl rfl)
theorem dX2_block_19 : decode cX2_block 19 = .ok (.checkcast 64, 3) := dk_192 0 64 (dk_at dksX2_block_0 19 rfl rfl)
theorem dX2_block_22 : decode cX2_block 22 = .ok (.areturn, 1) := dk_176 (dk_at dksX2_block_0 22 rfl rfl)
abbrev cX2_pay : ByteArray := prog_12_method_15_code
def yX2_pay : MethodName := ⟨RX2, "pay", "(I)V"⟩
def dkwX2_pay_1 : List UInt8 := [89, 180, 0, 9, 27, 100, 181, 0, 9, 177]
abbrev dktX2_pay_1 : List UInt8 := dkwX2_pay_1 ++ []
def dkwX2_pay_0 : List UInt8 := [42, 180, 0, 9, 27, 162, 0, 7, 4, 167, 0, 4, 3, 5, 27, 42, 180, 0, 9, 100, 184, 0, 158, 42]
abbrev dktX2_pay_0 : List UInt8 := dkwX2_pay_0 ++ dktX2_pay_1
theorem dksX2_pay_0 : cX2_pay.data.toList.drop 0 = dktX2_pay_0 := by decide +kernel
theorem dksX2_pay_1 : cX2_pay.data.toList.drop 24 = dktX2_pay_1 := dk_seg dksX2_pay_0 24 rfl rfl
theorem dX2_pay_0 : decode cX2_pay 0 = .ok (.aload_n 0, 1) := dk_42 (dk_at dksX2_pay_0 0 rfl rfl)
theorem dX2_pay_1 : decode cX2_pay 1 = .ok (.getfield 9, 3) := dk_180 0 9 (dk_at dksX2_pay_0 1 rfl rfl)
theorem dX2_pay_4 : decode cX2_pay 4 = .ok (.iload_n 1, 1) := dk_27 (dk_at dksX2_pay_0 4 rfl rfl)
theorem dX2_pay_5 : decode cX2_pay 5 = .ok (.if_icmp .ge 7, 3) := dk_162 0 7 (dk_at dksX2_pay_0 5 rfl rfl)
theorem dX2_pay_8 : decode cX2_pay 8 = .ok (.iconst 1, 1) := dk_4 (dk_at dksX2_pay_0 8 rfl rfl)
theorem dX2_pay_9 : decode cX2_pay 9 = .ok (.goto 4, 3) := dk_167 0 4 (dk_at dksX2_pay_0 9 rfl rfl)
theorem dX2_pay_12 : decode cX2_pay 12 = .ok (.iconst 0, 1) := dk_3 (dk_at dksX2_pay_0 12 rfl rfl)
theorem dX2_pay_13 : decode cX2_pay 13 = .ok (.iconst 2, 1) := dk_5 (dk_at dksX2_pay_0 13 rfl rfl)
theorem dX2_pay_14 : decode cX2_pay 14 = .ok (.iload_n 1, 1) := dk_27 (dk_at dksX2_pay_0 14 rfl rfl)
theorem dX2_pay_15 : decode cX2_pay 15 = .ok (.aload_n 0, 1) := dk_42 (dk_at dksX2_pay_0 15 rfl rfl)
theorem dX2_pay_16 : decode cX2_pay 16 = .ok (.getfield 9, 3) := dk_180 0 9 (dk_at dksX2_pay_0 16 rfl rfl)
theorem dX2_pay_19 : decode cX2_pay 19 = .ok (.isub, 1) := dk_100 (dk_at dksX2_pay_0 19 rfl rfl)
theorem dX2_pay_20 : decode cX2_pay 20 = .ok (.invokestatic 158, 3) := dk_184 0 158 (dk_at dksX2_pay_0 20 rfl rfl)
theorem dX2_pay_23 : decode cX2_pay 23 = .ok (.aload_n 0, 1) := dk_42 (dk_at dksX2_pay_0 23 rfl rfl)
theorem dX2_pay_24 : decode cX2_pay 24 = .ok (.dup, 1) := dk_89 (dk_at dksX2_pay_1 0 rfl rfl)
theorem dX2_pay_25 : decode cX2_pay 25 = .ok (.getfield 9, 3) := dk_180 0 9 (dk_at dksX2_pay_1 1 rfl rfl)
theorem dX2_pay_28 : decode cX2_pay 28 = .ok (.iload_n 1, 1) := dk_27 (dk_at dksX2_pay_1 4 rfl rfl)
theorem dX2_pay_29 : decode cX2_pay 29 = .ok (.isub, 1) := dk_100 (dk_at dksX2_pay_1 5 rfl rfl)
theorem dX2_pay_30 : decode cX2_pay 30 = .ok (.putfield 9, 3) := dk_181 0 9 (dk_at dksX2_pay_1 6 rfl rfl)
theorem dX2_pay_33 : decode cX2_pay 33 = .ok (.return_, 1) := dk_177 (dk_at dksX2_pay_1 9 rfl rfl)
abbrev cX2_rope : ByteArray := prog_12_method_4_code
def yX2_rope : MethodName := ⟨RX2, "rope", "(I)LGargoyleTower$Rope;"⟩
def dkwX2_rope_0 : List UInt8 := [27, 42, 180, 0, 25, 182, 0, 83, 184, 0, 87, 42, 180, 0, 25, 27, 182, 0, 91, 192, 0, 73, 176]
abbrev dktX2_rope_0 : List UInt8 := dkwX2_rope_0 ++ []
theorem dksX2_rope_0 : cX2_rope.data.toList.drop 0 = dktX2_rope_0 := by decide +kernel
theorem dX2_rope_0 : decode cX2_rope 0 = .ok (.iload_n 1, 1) := dk_27 (dk_at dksX2_rope_0 0 rfl rfl)
theorem dX2_rope_1 : decode cX2_rope 1 = .ok (.aload_n 0, 1) := dk_42 (dk_at dksX2_rope_0 1 rfl rfl)
theorem dX2_rope_2 : decode cX2_rope 2 = .ok (.getfield 25, 3) := dk_180 0 25 (dk_at dksX2_rope_0 2 rfl rfl)
theorem dX2_rope_5 : decode cX2_rope 5 = .ok (.invokevirtual 83, 3) := dk_182 0 83 (dk_at dksX2_rope_0 5 rfl rfl)
theorem dX2_rope_8 : decode cX2_rope 8 = .ok (.invokestatic 87, 3) := dk_184 0 87 (dk_at dksX2_rope_0 8 rfl rfl)
theorem dX2_rope_11 : decode cX2_rope 11 = .ok (.aload_n 0, 1) := dk_42 (dk_at dksX2_rope_0 11 rfl rfl)
theorem dX2_rope_12 : decode cX2_rope 12 = .ok (.getfield 25, 3) := dk_180 0 25 (dk_at dksX2_rope_0 12 rfl rfl)
theorem dX2_rope_15 : decode cX2_rope 15 = .ok (.iload_n 1, 1) := dk_27 (dk_at dksX2_rope_0 15 rfl rfl)
theorem dX2_rope_16 : decode cX2_rope 16 = .ok (.invokevirtual 91, 3) := dk_182 0 91 (dk_at dksX2_rope_0 16 rfl rfl)
theorem dX2_rope_19 : decode cX2_rope 19 = .ok (.checkcast 73, 3) := dk_192 0 73 (dk_at dksX2_rope_0 19 rfl rfl)
theorem dX2_rope_22 : decode cX2_rope 22 = .ok (.areturn, 1) := dk_176 (dk_at dksX2_rope_0 22 rfl rfl)
abbrev cX2_hanging : ByteArray := prog_12_method_19_code
def yX2_hanging : MethodName := ⟨RX2, "hanging", "(I)LGargoyleTower$Block;"⟩
def dkwX2_hanging_1 : List UInt8 := [184, 0, 158, 42, 180, 0, 21, 44, 180, 0, 134, 182, 0, 91, 192, 0, 64, 176]
abbrev dktX2_hanging_1 : List UInt8 := dkwX2_hanging_1 ++ []
def dkwX2_hanging_0 : List UInt8 := [42, 27, 182, 0, 179, 77, 44, 180, 0, 134, 2, 160, 0, 7, 4, 167, 0, 4, 3, 16, 9, 27]
abbrev dktX2_hanging_0 : List UInt8 := dkwX2_hanging_0 ++ dktX2_hanging_1
theorem dksX2_hanging_0 : cX2_hanging.data.toList.drop 0 = dktX2_hanging_0 := by decide +kernel
theorem dksX2_hanging_1 : cX2_hanging.data.toList.drop 22 = dktX2_hanging_1 := dk_seg dksX2_hanging_0 22 rfl rfl
theorem dX2_hanging_0 : decode cX2_hanging 0 = .ok (.aload_n 0, 1) := dk_42 (dk_at dksX2_hanging_0 0 rfl rfl)
theorem dX2_hanging_1 : decode cX2_hanging 1 = .ok (.iload_n 1, 1) := dk_27 (dk_at dksX2_hanging_0 1 rfl rfl)
theorem dX2_hanging_2 : decode cX2_hanging 2 = .ok (.invokevirtual 179, 3) := dk_182 0 179 (dk_at dksX2_hanging_0 2 rfl rfl)
theorem dX2_hanging_5 : decode cX2_hanging 5 = .ok (.astore_n 2, 1) := dk_77 (dk_at dksX2_hanging_0 5 rfl rfl)
theorem dX2_hanging_6 : decode cX2_hanging 6 = .ok (.aload_n 2, 1) := dk_44 (dk_at dksX2_hanging_0 6 rfl rfl)
theorem dX2_hanging_7 : decode cX2_hanging 7 = .ok (.getfield 134, 3) := dk_180 0 134 (dk_at dksX2_hanging_0 7 rfl rfl)
theorem dX2_hanging_10 : decode cX2_hanging 10 = .ok (.iconst (-1), 1) := dk_2 (dk_at dksX2_hanging_0 10 rfl rfl)
theorem dX2_hanging_11 : decode cX2_hanging 11 = .ok (.if_icmp .ne 7, 3) := dk_160 0 7 (dk_at dksX2_hanging_0 11 rfl rfl)
theorem dX2_hanging_14 : decode cX2_hanging 14 = .ok (.iconst 1, 1) := dk_4 (dk_at dksX2_hanging_0 14 rfl rfl)
theorem dX2_hanging_15 : decode cX2_hanging 15 = .ok (.goto 4, 3) := dk_167 0 4 (dk_at dksX2_hanging_0 15 rfl rfl)
theorem dX2_hanging_18 : decode cX2_hanging 18 = .ok (.iconst 0, 1) := dk_3 (dk_at dksX2_hanging_0 18 rfl rfl)
theorem dX2_hanging_19 : decode cX2_hanging 19 = .ok (.bipush 9, 2) := dk_16 9 (dk_at dksX2_hanging_0 19 rfl rfl)
theorem dX2_hanging_21 : decode cX2_hanging 21 = .ok (.iload_n 1, 1) := dk_27 (dk_at dksX2_hanging_0 21 rfl rfl)
theorem dX2_hanging_22 : decode cX2_hanging 22 = .ok (.invokestatic 158, 3) := dk_184 0 158 (dk_at dksX2_hanging_1 0 rfl rfl)
theorem dX2_hanging_25 : decode cX2_hanging 25 = .ok (.aload_n 0, 1) := dk_42 (dk_at dksX2_hanging_1 3 rfl rfl)
theorem dX2_hanging_26 : decode cX2_hanging 26 = .ok (.getfield 21, 3) := dk_180 0 21 (dk_at dksX2_hanging_1 4 rfl rfl)
theorem dX2_hanging_29 : decode cX2_hanging 29 = .ok (.aload_n 2, 1) := dk_44 (dk_at dksX2_hanging_1 7 rfl rfl)
theorem dX2_hanging_30 : decode cX2_hanging 30 = .ok (.getfield 134, 3) := dk_180 0 134 (dk_at dksX2_hanging_1 8 rfl rfl)
theorem dX2_hanging_33 : decode cX2_hanging 33 = .ok (.invokevirtual 91, 3) := dk_182 0 91 (dk_at dksX2_hanging_1 11 rfl rfl)
theorem dX2_hanging_36 : decode cX2_hanging 36 = .ok (.checkcast 64, 3) := dk_192 0 64 (dk_at dksX2_hanging_1 14 rfl rfl)
theorem dX2_hanging_39 : decode cX2_hanging 39 = .ok (.areturn, 1) := dk_176 (dk_at dksX2_hanging_1 17 rfl rfl)
abbrev cX2_set : ByteArray := prog_12_method_21_code
def yX2_set : MethodName := ⟨RX2, "set", "(II)I"⟩
def dkwX2_set_3 : List UInt8 := [3, 182, 0, 137, 54, 6, 25, 4, 180, 0, 193, 172]
abbrev dktX2_set_3 : List UInt8 := dkwX2_set_3 ++ []
def dkwX2_set_2 : List UInt8 := [25, 5, 180, 0, 193, 184, 0, 158, 25, 4, 5, 28, 182, 0, 105, 45, 2, 181, 0, 134, 45, 28, 8, 112]
abbrev dktX2_set_2 : List UInt8 := dkwX2_set_2 ++ dktX2_set_3
def dkwX2_set_1 : List UInt8 := [58, 5, 25, 5, 198, 0, 7, 4, 167, 0, 4, 3, 16, 10, 25, 5, 199, 0, 7, 2, 167, 0, 8]
abbrev dktX2_set_1 : List UInt8 := dkwX2_set_1 ++ dktX2_set_2
def dkwX2_set_0 : List UInt8 := [42, 27, 182, 0, 179, 78, 28, 16, 20, 184, 0, 87, 42, 27, 182, 0, 190, 58, 4, 42, 28, 182, 0, 101]
abbrev dktX2_set_0 : List UInt8 := dkwX2_set_0 ++ dktX2_set_1
theorem dksX2_set_0 : cX2_set.data.toList.drop 0 = dktX2_set_0 := by decide +kernel
theorem dksX2_set_1 : cX2_set.data.toList.drop 24 = dktX2_set_1 := dk_seg dksX2_set_0 24 rfl rfl
theorem dksX2_set_2 : cX2_set.data.toList.drop 47 = dktX2_set_2 := dk_seg dksX2_set_1 23 rfl rfl
theorem dksX2_set_3 : cX2_set.data.toList.drop 71 = dktX2_set_3 := dk_seg dksX2_set_2 24 rfl rfl
theorem dX2_set_0 : decode cX2_set 0 = .ok (.aload_n 0, 1) := dk_42 (dk_at dksX2_set_0 0 rfl rfl)
theorem dX2_set_1 : decode cX2_set 1 = .ok (.iload_n 1, 1) := dk_27 (dk_at dksX2_set_0 1 rfl rfl)
theorem dX2_set_2 : decode cX2_set 2 = .ok (.invokevirtual 179, 3) := dk_182 0 179 (dk_at dksX2_set_0 2 rfl rfl)
theorem dX2_set_5 : decode cX2_set 5 = .ok (.astore_n 3, 1) := dk_78 (dk_at dksX2_set_0 5 rfl rfl)
theorem dX2_set_6 : decode cX2_set 6 = .ok (.iload_n 2, 1) := dk_28 (dk_at dksX2_set_0 6 rfl rfl)
theorem dX2_set_7 : decode cX2_set 7 = .ok (.bipush 20, 2) := dk_16 20 (dk_at dksX2_set_0 7 rfl rfl)
theorem dX2_set_9 : decode cX2_set 9 = .ok (.invokestatic 87, 3) := dk_184 0 87 (dk_at dksX2_set_0 9 rfl rfl)
theorem dX2_set_12 : decode cX2_set 12 = .ok (.aload_n 0, 1) := dk_42 (dk_at dksX2_set_0 12 rfl rfl)
theorem dX2_set_13 : decode cX2_set 13 = .ok (.iload_n 1, 1) := dk_27 (dk_at dksX2_set_0 13 rfl rfl)
theorem dX2_set_14 : decode cX2_set 14 = .ok (.invokevirtual 190, 3) := dk_182 0 190 (dk_at dksX2_set_0 14 rfl rfl)
theorem dX2_set_17 : decode cX2_set 17 = .ok (.astore 4, 2) := dk_58 4 (dk_at dksX2_set_0 17 rfl rfl)
theorem dX2_set_19 : decode cX2_set 19 = .ok (.aload_n 0, 1) := dk_42 (dk_at dksX2_set_0 19 rfl rfl)
theorem dX2_set_20 : decode cX2_set 20 = .ok (.iload_n 2, 1) := dk_28 (dk_at dksX2_set_0 20 rfl rfl)
theorem dX2_set_21 : decode cX2_set 21 = .ok (.invokevirtual 101, 3) := dk_182 0 101 (dk_at dksX2_set_0 21 rfl rfl)
theorem dX2_set_24 : decode cX2_set 24 = .ok (.astore 5, 2) := dk_58 5 (dk_at dksX2_set_1 0 rfl rfl)
theorem dX2_set_26 : decode cX2_set 26 = .ok (.aload 5, 2) := dk_25 5 (dk_at dksX2_set_1 2 rfl rfl)
theorem dX2_set_28 : decode cX2_set 28 = .ok (.ifnull 7, 3) := dk_198 0 7 (dk_at dksX2_set_1 4 rfl rfl)
theorem dX2_set_31 : decode cX2_set 31 = .ok (.iconst 1, 1) := dk_4 (dk_at dksX2_set_1 7 rfl rfl)
theorem dX2_set_32 : decode cX2_set 32 = .ok (.goto 4, 3) := dk_167 0 4 (dk_at dksX2_set_1 8 rfl rfl)
theorem dX2_set_35 : decode cX2_set 35 = .ok (.iconst 0, 1) := dk_3 (dk_at dksX2_set_1 11 rfl rfl)
theorem dX2_set_36 : decode cX2_set 36 = .ok (.bipush 10, 2) := dk_16 10 (dk_at dksX2_set_1 12 rfl rfl)
theorem dX2_set_38 : decode cX2_set 38 = .ok (.aload 5, 2) := dk_25 5 (dk_at dksX2_set_1 14 rfl rfl)
theorem dX2_set_40 : decode cX2_set 40 = .ok (.ifnonnull 7, 3) := dk_199 0 7 (dk_at dksX2_set_1 16 rfl rfl)
theorem dX2_set_43 : decode cX2_set 43 = .ok (.iconst (-1), 1) := dk_2 (dk_at dksX2_set_1 19 rfl rfl)
theorem dX2_set_44 : decode cX2_set 44 = .ok (.goto 8, 3) := dk_167 0 8 (dk_at dksX2_set_1 20 rfl rfl)
theorem dX2_set_47 : decode cX2_set 47 = .ok (.aload 5, 2) := dk_25 5 (dk_at dksX2_set_2 0 rfl rfl)
theorem dX2_set_49 : decode cX2_set 49 = .ok (.getfield 193, 3) := dk_180 0 193 (dk_at dksX2_set_2 2 rfl rfl)
theorem dX2_set_52 : decode cX2_set 52 = .ok (.invokestatic 158, 3) := dk_184 0 158 (dk_at dksX2_set_2 5 rfl rfl)
theorem dX2_set_55 : decode cX2_set 55 = .ok (.aload 4, 2) := dk_25 4 (dk_at dksX2_set_2 8 rfl rfl)
theorem dX2_set_57 : decode cX2_set 57 = .ok (.iconst 2, 1) := dk_5 (dk_at dksX2_set_2 10 rfl rfl)
theorem dX2_set_58 : decode cX2_set 58 = .ok (.iload_n 2, 1) := dk_28 (dk_at dksX2_set_2 11 rfl rfl)
theorem dX2_set_59 : decode cX2_set 59 = .ok (.invokevirtual 105, 3) := dk_182 0 105 (dk_at dksX2_set_2 12 rfl rfl)
theorem dX2_set_62 : decode cX2_set 62 = .ok (.aload_n 3, 1) := dk_45 (dk_at dksX2_set_2 15 rfl rfl)
theorem dX2_set_63 : decode cX2_set 63 = .ok (.iconst (-1), 1) := dk_2 (dk_at dksX2_set_2 16 rfl rfl)
theorem dX2_set_64 : decode cX2_set 64 = .ok (.putfield 134, 3) := dk_181 0 134 (dk_at dksX2_set_2 17 rfl rfl)
theorem dX2_set_67 : decode cX2_set 67 = .ok (.aload_n 3, 1) := dk_45 (dk_at dksX2_set_2 20 rfl rfl)
theorem dX2_set_68 : decode cX2_set 68 = .ok (.iload_n 2, 1) := dk_28 (dk_at dksX2_set_2 21 rfl rfl)
theorem dX2_set_69 : decode cX2_set 69 = .ok (.iconst 5, 1) := dk_8 (dk_at dksX2_set_2 22 rfl rfl)
theorem dX2_set_70 : decode cX2_set 70 = .ok (.irem, 1) := dk_112 (dk_at dksX2_set_2 23 rfl rfl)
theorem dX2_set_71 : decode cX2_set 71 = .ok (.iconst 0, 1) := dk_3 (dk_at dksX2_set_3 0 rfl rfl)
theorem dX2_set_72 : decode cX2_set 72 = .ok (.invokevirtual 137, 3) := dk_182 0 137 (dk_at dksX2_set_3 1 rfl rfl)
theorem dX2_set_75 : decode cX2_set 75 = .ok (.istore 6, 2) := dk_54 6 (dk_at dksX2_set_3 4 rfl rfl)
theorem dX2_set_77 : decode cX2_set 77 = .ok (.aload 4, 2) := dk_25 4 (dk_at dksX2_set_3 6 rfl rfl)
theorem dX2_set_79 : decode cX2_set 79 = .ok (.getfield 193, 3) := dk_180 0 193 (dk_at dksX2_set_3 8 rfl rfl)
theorem dX2_set_82 : decode cX2_set 82 = .ok (.ireturn, 1) := dk_172 (dk_at dksX2_set_3 11 rfl rfl)
abbrev cX2_commission : ByteArray := prog_12_method_5_code
def yX2_commission : MethodName := ⟨RX2, "commission", "(I)LGargoyleTower$Commission;"⟩
def dkwX2_commission_0 : List UInt8 := [27, 42, 180, 0, 28, 182, 0, 83, 184, 0, 87, 42, 180, 0, 28, 27, 182, 0, 91, 192, 0, 78, 176]
abbrev dktX2_commission_0 : List UInt8 := dkwX2_commission_0 ++ []
theorem dksX2_commission_0 : cX2_commission.data.toList.drop 0 = dktX2_commission_0 := by decide +kernel
theorem dX2_commission_0 : decode cX2_commission 0 = .ok (.iload_n 1, 1) := dk_27 (dk_at dksX2_commission_0 0 rfl rfl)
theorem dX2_commission_1 : decode cX2_commission 1 = .ok (.aload_n 0, 1) := dk_42 (dk_at dksX2_commission_0 1 rfl rfl)
theorem dX2_commission_2 : decode cX2_commission 2 = .ok (.getfield 28, 3) := dk_180 0 28 (dk_at dksX2_commission_0 2 rfl rfl)
theorem dX2_commission_5 : decode cX2_commission 5 = .ok (.invokevirtual 83, 3) := dk_182 0 83 (dk_at dksX2_commission_0 5 rfl rfl)
theorem dX2_commission_8 : decode cX2_commission 8 = .ok (.invokestatic 87, 3) := dk_184 0 87 (dk_at dksX2_commission_0 8 rfl rfl)
theorem dX2_commission_11 : decode cX2_commission 11 = .ok (.aload_n 0, 1) := dk_42 (dk_at dksX2_commission_0 11 rfl rfl)
theorem dX2_commission_12 : decode cX2_commission 12 = .ok (.getfield 28, 3) := dk_180 0 28 (dk_at dksX2_commission_0 12 rfl rfl)
theorem dX2_commission_15 : decode cX2_commission 15 = .ok (.iload_n 1, 1) := dk_27 (dk_at dksX2_commission_0 15 rfl rfl)
theorem dX2_commission_16 : decode cX2_commission 16 = .ok (.invokevirtual 91, 3) := dk_182 0 91 (dk_at dksX2_commission_0 16 rfl rfl)
theorem dX2_commission_19 : decode cX2_commission 19 = .ok (.checkcast 78, 3) := dk_192 0 78 (dk_at dksX2_commission_0 19 rfl rfl)
theorem dX2_commission_22 : decode cX2_commission 22 = .ok (.areturn, 1) := dk_176 (dk_at dksX2_commission_0 22 rfl rfl)
abbrev cX2_standing : ByteArray := prog_12_method_22_code
def yX2_standing : MethodName := ⟨RX2, "standing", "(I)LGargoyleTower$Block;"⟩
def dkwX2_standing_0 : List UInt8 := [42, 27, 182, 0, 101, 77, 44, 199, 0, 7, 4, 167, 0, 4, 3, 16, 11, 27, 184, 0, 158, 44, 176]
abbrev dktX2_standing_0 : List UInt8 := dkwX2_standing_0 ++ []
theorem dksX2_standing_0 : cX2_standing.data.toList.drop 0 = dktX2_standing_0 := by decide +kernel
theorem dX2_standing_0 : decode cX2_standing 0 = .ok (.aload_n 0, 1) := dk_42 (dk_at dksX2_standing_0 0 rfl rfl)
theorem dX2_standing_1 : decode cX2_standing 1 = .ok (.iload_n 1, 1) := dk_27 (dk_at dksX2_standing_0 1 rfl rfl)
theorem dX2_standing_2 : decode cX2_standing 2 = .ok (.invokevirtual 101, 3) := dk_182 0 101 (dk_at dksX2_standing_0 2 rfl rfl)
theorem dX2_standing_5 : decode cX2_standing 5 = .ok (.astore_n 2, 1) := dk_77 (dk_at dksX2_standing_0 5 rfl rfl)
theorem dX2_standing_6 : decode cX2_standing 6 = .ok (.aload_n 2, 1) := dk_44 (dk_at dksX2_standing_0 6 rfl rfl)
theorem dX2_standing_7 : decode cX2_standing 7 = .ok (.ifnonnull 7, 3) := dk_199 0 7 (dk_at dksX2_standing_0 7 rfl rfl)
theorem dX2_standing_10 : decode cX2_standing 10 = .ok (.iconst 1, 1) := dk_4 (dk_at dksX2_standing_0 10 rfl rfl)
theorem dX2_standing_11 : decode cX2_standing 11 = .ok (.goto 4, 3) := dk_167 0 4 (dk_at dksX2_standing_0 11 rfl rfl)
theorem dX2_standing_14 : decode cX2_standing 14 = .ok (.iconst 0, 1) := dk_3 (dk_at dksX2_standing_0 14 rfl rfl)
theorem dX2_standing_15 : decode cX2_standing 15 = .ok (.bipush 11, 2) := dk_16 11 (dk_at dksX2_standing_0 15 rfl rfl)
theorem dX2_standing_17 : decode cX2_standing 17 = .ok (.iload_n 1, 1) := dk_27 (dk_at dksX2_standing_0 17 rfl rfl)
theorem dX2_standing_18 : decode cX2_standing 18 = .ok (.invokestatic 158, 3) := dk_184 0 158 (dk_at dksX2_standing_0 18 rfl rfl)
theorem dX2_standing_21 : decode cX2_standing 21 = .ok (.aload_n 2, 1) := dk_44 (dk_at dksX2_standing_0 21 rfl rfl)
theorem dX2_standing_22 : decode cX2_standing 22 = .ok (.areturn, 1) := dk_176 (dk_at dksX2_standing_0 22 rfl rfl)
abbrev cX2_fault : ByteArray := prog_12_method_25_code
def yX2_fault : MethodName := ⟨RX2, "fault", "(LGargoyleTower$Commission;LGargoyleTower$Block;)LGargoyleTower$RefusedException;"⟩
def dkwX2_fault_3 : List UInt8 := [187, 0, 204, 89, 16, 16, 43, 180, 0, 209, 183, 0, 206, 176]
abbrev dktX2_fault_3 : List UInt8 := dkwX2_fault_3 ++ []
def dkwX2_fault_2 : List UInt8 := [180, 0, 208, 43, 180, 0, 167, 100, 183, 0, 206, 176, 43, 180, 0, 209, 2, 160, 0, 7, 1, 167, 0, 16]
abbrev dktX2_fault_2 : List UInt8 := dkwX2_fault_2 ++ dktX2_fault_3
def dkwX2_fault_1 : List UInt8 := [108, 183, 0, 206, 176, 43, 180, 0, 167, 42, 180, 0, 208, 162, 0, 22, 187, 0, 204, 89, 16, 15, 42]
abbrev dktX2_fault_1 : List UInt8 := dkwX2_fault_1 ++ dktX2_fault_2
def dkwX2_fault_0 : List UInt8 := [43, 180, 0, 98, 8, 108, 42, 180, 0, 202, 159, 0, 19, 187, 0, 204, 89, 16, 14, 43, 180, 0, 98, 8]
abbrev dktX2_fault_0 : List UInt8 := dkwX2_fault_0 ++ dktX2_fault_1
theorem dksX2_fault_0 : cX2_fault.data.toList.drop 0 = dktX2_fault_0 := by decide +kernel
theorem dksX2_fault_1 : cX2_fault.data.toList.drop 24 = dktX2_fault_1 := dk_seg dksX2_fault_0 24 rfl rfl
theorem dksX2_fault_2 : cX2_fault.data.toList.drop 47 = dktX2_fault_2 := dk_seg dksX2_fault_1 23 rfl rfl
theorem dksX2_fault_3 : cX2_fault.data.toList.drop 71 = dktX2_fault_3 := dk_seg dksX2_fault_2 24 rfl rfl
theorem dX2_fault_0 : decode cX2_fault 0 = .ok (.aload_n 1, 1) := dk_43 (dk_at dksX2_fault_0 0 rfl rfl)
theorem dX2_fault_1 : decode cX2_fault 1 = .ok (.getfield 98, 3) := dk_180 0 98 (dk_at dksX2_fault_0 1 rfl rfl)
theorem dX2_fault_4 : decode cX2_fault 4 = .ok (.iconst 5, 1) := dk_8 (dk_at dksX2_fault_0 4 rfl rfl)
theorem dX2_fault_5 : decode cX2_fault 5 = .ok (.idiv, 1) := dk_108 (dk_at dksX2_fault_0 5 rfl rfl)
theorem dX2_fault_6 : decode cX2_fault 6 = .ok (.aload_n 0, 1) := dk_42 (dk_at dksX2_fault_0 6 rfl rfl)
theorem dX2_fault_7 : decode cX2_fault 7 = .ok (.getfield 202, 3) := dk_180 0 202 (dk_at dksX2_fault_0 7 rfl rfl)
theorem dX2_fault_10 : decode cX2_fault 10 = .ok (.if_icmp .eq 19, 3) := dk_159 0 19 (dk_at dksX2_fault_0 10 rfl rfl)
theorem dX2_fault_13 : decode cX2_fault 13 = .ok (.new 204, 3) := dk_187 0 204 (dk_at dksX2_fault_0 13 rfl rfl)
theorem dX2_fault_16 : decode cX2_fault 16 = .ok (.dup, 1) := dk_89 (dk_at dksX2_fault_0 16 rfl rfl)
theorem dX2_fault_17 : decode cX2_fault 17 = .ok (.bipush 14, 2) := dk_16 14 (dk_at dksX2_fault_0 17 rfl rfl)
theorem dX2_fault_19 : decode cX2_fault 19 = .ok (.aload_n 1, 1) := dk_43 (dk_at dksX2_fault_0 19 rfl rfl)
theorem dX2_fault_20 : decode cX2_fault 20 = .ok (.getfield 98, 3) := dk_180 0 98 (dk_at dksX2_fault_0 20 rfl rfl)
theorem dX2_fault_23 : decode cX2_fault 23 = .ok (.iconst 5, 1) := dk_8 (dk_at dksX2_fault_0 23 rfl rfl)
theorem dX2_fault_24 : decode cX2_fault 24 = .ok (.idiv, 1) := dk_108 (dk_at dksX2_fault_1 0 rfl rfl)
theorem dX2_fault_25 : decode cX2_fault 25 = .ok (.invokespecial 206, 3) := dk_183 0 206 (dk_at dksX2_fault_1 1 rfl rfl)
theorem dX2_fault_28 : decode cX2_fault 28 = .ok (.areturn, 1) := dk_176 (dk_at dksX2_fault_1 4 rfl rfl)
theorem dX2_fault_29 : decode cX2_fault 29 = .ok (.aload_n 1, 1) := dk_43 (dk_at dksX2_fault_1 5 rfl rfl)
theorem dX2_fault_30 : decode cX2_fault 30 = .ok (.getfield 167, 3) := dk_180 0 167 (dk_at dksX2_fault_1 6 rfl rfl)
theorem dX2_fault_33 : decode cX2_fault 33 = .ok (.aload_n 0, 1) := dk_42 (dk_at dksX2_fault_1 9 rfl rfl)
theorem dX2_fault_34 : decode cX2_fault 34 = .ok (.getfield 208, 3) := dk_180 0 208 (dk_at dksX2_fault_1 10 rfl rfl)
theorem dX2_fault_37 : decode cX2_fault 37 = .ok (.if_icmp .ge 22, 3) := dk_162 0 22 (dk_at dksX2_fault_1 13 rfl rfl)
theorem dX2_fault_40 : decode cX2_fault 40 = .ok (.new 204, 3) := dk_187 0 204 (dk_at dksX2_fault_1 16 rfl rfl)
theorem dX2_fault_43 : decode cX2_fault 43 = .ok (.dup, 1) := dk_89 (dk_at dksX2_fault_1 19 rfl rfl)
theorem dX2_fault_44 : decode cX2_fault 44 = .ok (.bipush 15, 2) := dk_16 15 (dk_at dksX2_fault_1 20 rfl rfl)
theorem dX2_fault_46 : decode cX2_fault 46 = .ok (.aload_n 0, 1) := dk_42 (dk_at dksX2_fault_1 22 rfl rfl)
theorem dX2_fault_47 : decode cX2_fault 47 = .ok (.getfield 208, 3) := dk_180 0 208 (dk_at dksX2_fault_2 0 rfl rfl)
theorem dX2_fault_50 : decode cX2_fault 50 = .ok (.aload_n 1, 1) := dk_43 (dk_at dksX2_fault_2 3 rfl rfl)
theorem dX2_fault_51 : decode cX2_fault 51 = .ok (.getfield 167, 3) := dk_180 0 167 (dk_at dksX2_fault_2 4 rfl rfl)
theorem dX2_fault_54 : decode cX2_fault 54 = .ok (.isub, 1) := dk_100 (dk_at dksX2_fault_2 7 rfl rfl)
theorem dX2_fault_55 : decode cX2_fault 55 = .ok (.invokespecial 206, 3) := dk_183 0 206 (dk_at dksX2_fault_2 8 rfl rfl)
theorem dX2_fault_58 : decode cX2_fault 58 = .ok (.areturn, 1) := dk_176 (dk_at dksX2_fault_2 11 rfl rfl)
theorem dX2_fault_59 : decode cX2_fault 59 = .ok (.aload_n 1, 1) := dk_43 (dk_at dksX2_fault_2 12 rfl rfl)
theorem dX2_fault_60 : decode cX2_fault 60 = .ok (.getfield 209, 3) := dk_180 0 209 (dk_at dksX2_fault_2 13 rfl rfl)
theorem dX2_fault_63 : decode cX2_fault 63 = .ok (.iconst (-1), 1) := dk_2 (dk_at dksX2_fault_2 16 rfl rfl)
theorem dX2_fault_64 : decode cX2_fault 64 = .ok (.if_icmp .ne 7, 3) := dk_160 0 7 (dk_at dksX2_fault_2 17 rfl rfl)
theorem dX2_fault_67 : decode cX2_fault 67 = .ok (.aconst_null, 1) := dk_1 (dk_at dksX2_fault_2 20 rfl rfl)
theorem dX2_fault_68 : decode cX2_fault 68 = .ok (.goto 16, 3) := dk_167 0 16 (dk_at dksX2_fault_2 21 rfl rfl)
theorem dX2_fault_71 : decode cX2_fault 71 = .ok (.new 204, 3) := dk_187 0 204 (dk_at dksX2_fault_3 0 rfl rfl)
theorem dX2_fault_74 : decode cX2_fault 74 = .ok (.dup, 1) := dk_89 (dk_at dksX2_fault_3 3 rfl rfl)
theorem dX2_fault_75 : decode cX2_fault 75 = .ok (.bipush 16, 2) := dk_16 16 (dk_at dksX2_fault_3 4 rfl rfl)
theorem dX2_fault_77 : decode cX2_fault 77 = .ok (.aload_n 1, 1) := dk_43 (dk_at dksX2_fault_3 6 rfl rfl)
theorem dX2_fault_78 : decode cX2_fault 78 = .ok (.getfield 209, 3) := dk_180 0 209 (dk_at dksX2_fault_3 7 rfl rfl)
theorem dX2_fault_81 : decode cX2_fault 81 = .ok (.invokespecial 206, 3) := dk_183 0 206 (dk_at dksX2_fault_3 10 rfl rfl)
theorem dX2_fault_84 : decode cX2_fault 84 = .ok (.areturn, 1) := dk_176 (dk_at dksX2_fault_3 13 rfl rfl)
abbrev cX2_fall : ByteArray := prog_12_method_9_code
def yX2_fall : MethodName := ⟨RX2, "fall", "(LGargoyleTower$Block;)I"⟩
def dkwX2_fall_2 : List UInt8 := [182, 0, 120, 96, 167, 0, 4, 4, 172]
abbrev dktX2_fall_2 : List UInt8 := dkwX2_fall_2 ++ []
def dkwX2_fall_1 : List UInt8 := [89, 180, 0, 111, 43, 180, 0, 114, 96, 181, 0, 111, 45, 182, 0, 117, 153, 0, 13, 4, 42, 45]
abbrev dktX2_fall_1 : List UInt8 := dkwX2_fall_1 ++ dktX2_fall_2
def dkwX2_fall_0 : List UInt8 := [43, 180, 0, 98, 61, 43, 6, 2, 182, 0, 105, 42, 28, 182, 0, 108, 78, 45, 199, 0, 5, 4, 172, 45]
abbrev dktX2_fall_0 : List UInt8 := dkwX2_fall_0 ++ dktX2_fall_1
theorem dksX2_fall_0 : cX2_fall.data.toList.drop 0 = dktX2_fall_0 := by decide +kernel
theorem dksX2_fall_1 : cX2_fall.data.toList.drop 24 = dktX2_fall_1 := dk_seg dksX2_fall_0 24 rfl rfl
theorem dksX2_fall_2 : cX2_fall.data.toList.drop 46 = dktX2_fall_2 := dk_seg dksX2_fall_1 22 rfl rfl
theorem dX2_fall_0 : decode cX2_fall 0 = .ok (.aload_n 1, 1) := dk_43 (dk_at dksX2_fall_0 0 rfl rfl)
theorem dX2_fall_1 : decode cX2_fall 1 = .ok (.getfield 98, 3) := dk_180 0 98 (dk_at dksX2_fall_0 1 rfl rfl)
theorem dX2_fall_4 : decode cX2_fall 4 = .ok (.istore_n 2, 1) := dk_61 (dk_at dksX2_fall_0 4 rfl rfl)
theorem dX2_fall_5 : decode cX2_fall 5 = .ok (.aload_n 1, 1) := dk_43 (dk_at dksX2_fall_0 5 rfl rfl)
theorem dX2_fall_6 : decode cX2_fall 6 = .ok (.iconst 3, 1) := dk_6 (dk_at dksX2_fall_0 6 rfl rfl)
theorem dX2_fall_7 : decode cX2_fall 7 = .ok (.iconst (-1), 1) := dk_2 (dk_at dksX2_fall_0 7 rfl rfl)
theorem dX2_fall_8 : decode cX2_fall 8 = .ok (.invokevirtual 105, 3) := dk_182 0 105 (dk_at dksX2_fall_0 8 rfl rfl)
theorem dX2_fall_11 : decode cX2_fall 11 = .ok (.aload_n 0, 1) := dk_42 (dk_at dksX2_fall_0 11 rfl rfl)
theorem dX2_fall_12 : decode cX2_fall 12 = .ok (.iload_n 2, 1) := dk_28 (dk_at dksX2_fall_0 12 rfl rfl)
theorem dX2_fall_13 : decode cX2_fall 13 = .ok (.invokevirtual 108, 3) := dk_182 0 108 (dk_at dksX2_fall_0 13 rfl rfl)
theorem dX2_fall_16 : decode cX2_fall 16 = .ok (.astore_n 3, 1) := dk_78 (dk_at dksX2_fall_0 16 rfl rfl)
theorem dX2_fall_17 : decode cX2_fall 17 = .ok (.aload_n 3, 1) := dk_45 (dk_at dksX2_fall_0 17 rfl rfl)
theorem dX2_fall_18 : decode cX2_fall 18 = .ok (.ifnonnull 5, 3) := dk_199 0 5 (dk_at dksX2_fall_0 18 rfl rfl)
theorem dX2_fall_21 : decode cX2_fall 21 = .ok (.iconst 1, 1) := dk_4 (dk_at dksX2_fall_0 21 rfl rfl)
theorem dX2_fall_22 : decode cX2_fall 22 = .ok (.ireturn, 1) := dk_172 (dk_at dksX2_fall_0 22 rfl rfl)
theorem dX2_fall_23 : decode cX2_fall 23 = .ok (.aload_n 3, 1) := dk_45 (dk_at dksX2_fall_0 23 rfl rfl)
theorem dX2_fall_24 : decode cX2_fall 24 = .ok (.dup, 1) := dk_89 (dk_at dksX2_fall_1 0 rfl rfl)
theorem dX2_fall_25 : decode cX2_fall 25 = .ok (.getfield 111, 3) := dk_180 0 111 (dk_at dksX2_fall_1 1 rfl rfl)
theorem dX2_fall_28 : decode cX2_fall 28 = .ok (.aload_n 1, 1) := dk_43 (dk_at dksX2_fall_1 4 rfl rfl)
theorem dX2_fall_29 : decode cX2_fall 29 = .ok (.getfield 114, 3) := dk_180 0 114 (dk_at dksX2_fall_1 5 rfl rfl)
theorem dX2_fall_32 : decode cX2_fall 32 = .ok (.iadd, 1) := dk_96 (dk_at dksX2_fall_1 8 rfl rfl)
theorem dX2_fall_33 : decode cX2_fall 33 = .ok (.putfield 111, 3) := dk_181 0 111 (dk_at dksX2_fall_1 9 rfl rfl)
theorem dX2_fall_36 : decode cX2_fall 36 = .ok (.aload_n 3, 1) := dk_45 (dk_at dksX2_fall_1 12 rfl rfl)
theorem dX2_fall_37 : decode cX2_fall 37 = .ok (.invokevirtual 117, 3) := dk_182 0 117 (dk_at dksX2_fall_1 13 rfl rfl)
theorem dX2_fall_40 : decode cX2_fall 40 = .ok (.ifCond .eq 13, 3) := dk_153 0 13 (dk_at dksX2_fall_1 16 rfl rfl)
theorem dX2_fall_43 : decode cX2_fall 43 = .ok (.iconst 1, 1) := dk_4 (dk_at dksX2_fall_1 19 rfl rfl)
theorem dX2_fall_44 : decode cX2_fall 44 = .ok (.aload_n 0, 1) := dk_42 (dk_at dksX2_fall_1 20 rfl rfl)
theorem dX2_fall_45 : decode cX2_fall 45 = .ok (.aload_n 3, 1) := dk_45 (dk_at dksX2_fall_1 21 rfl rfl)
theorem dX2_fall_46 : decode cX2_fall 46 = .ok (.invokevirtual 120, 3) := dk_182 0 120 (dk_at dksX2_fall_2 0 rfl rfl)
theorem dX2_fall_49 : decode cX2_fall 49 = .ok (.iadd, 1) := dk_96 (dk_at dksX2_fall_2 3 rfl rfl)
theorem dX2_fall_50 : decode cX2_fall 50 = .ok (.goto 4, 3) := dk_167 0 4 (dk_at dksX2_fall_2 4 rfl rfl)
theorem dX2_fall_53 : decode cX2_fall 53 = .ok (.iconst 1, 1) := dk_4 (dk_at dksX2_fall_2 7 rfl rfl)
theorem dX2_fall_54 : decode cX2_fall 54 = .ok (.ireturn, 1) := dk_172 (dk_at dksX2_fall_2 8 rfl rfl)
abbrev cX2_cutBlock : ByteArray := prog_12_method_13_code
def yX2_cutBlock : MethodName := ⟨RX2, "cutBlock", "(IZ)I"⟩
def dkwX2_cutBlock_2 : List UInt8 := [182, 0, 83, 27, 28, 183, 0, 162, 182, 0, 69, 62, 42, 180, 0, 21, 182, 0, 83, 4, 100, 172]
abbrev dktX2_cutBlock_2 : List UInt8 := dkwX2_cutBlock_2 ++ []
def dkwX2_cutBlock_1 : List UInt8 := [167, 0, 4, 3, 4, 16, 16, 184, 0, 158, 42, 180, 0, 21, 187, 0, 64, 89, 42, 180, 0, 21]
abbrev dktX2_cutBlock_1 : List UInt8 := dkwX2_cutBlock_1 ++ dktX2_cutBlock_2
def dkwX2_cutBlock_0 : List UInt8 := [27, 4, 16, 9, 184, 0, 150, 184, 0, 154, 42, 180, 0, 21, 182, 0, 83, 16, 16, 160, 0, 7, 4]
abbrev dktX2_cutBlock_0 : List UInt8 := dkwX2_cutBlock_0 ++ dktX2_cutBlock_1
theorem dksX2_cutBlock_0 : cX2_cutBlock.data.toList.drop 0 = dktX2_cutBlock_0 := by decide +kernel
theorem dksX2_cutBlock_1 : cX2_cutBlock.data.toList.drop 23 = dktX2_cutBlock_1 := dk_seg dksX2_cutBlock_0 23 rfl rfl
theorem dksX2_cutBlock_2 : cX2_cutBlock.data.toList.drop 45 = dktX2_cutBlock_2 := dk_seg dksX2_cutBlock_1 22 rfl rfl
theorem dX2_cutBlock_0 : decode cX2_cutBlock 0 = .ok (.iload_n 1, 1) := dk_27 (dk_at dksX2_cutBlock_0 0 rfl rfl)
theorem dX2_cutBlock_1 : decode cX2_cutBlock 1 = .ok (.iconst 1, 1) := dk_4 (dk_at dksX2_cutBlock_0 1 rfl rfl)
theorem dX2_cutBlock_2 : decode cX2_cutBlock 2 = .ok (.bipush 9, 2) := dk_16 9 (dk_at dksX2_cutBlock_0 2 rfl rfl)
theorem dX2_cutBlock_4 : decode cX2_cutBlock 4 = .ok (.invokestatic 150, 3) := dk_184 0 150 (dk_at dksX2_cutBlock_0 4 rfl rfl)
theorem dX2_cutBlock_7 : decode cX2_cutBlock 7 = .ok (.invokestatic 154, 3) := dk_184 0 154 (dk_at dksX2_cutBlock_0 7 rfl rfl)
theorem dX2_cutBlock_10 : decode cX2_cutBlock 10 = .ok (.aload_n 0, 1) := dk_42 (dk_at dksX2_cutBlock_0 10 rfl rfl)
theorem dX2_cutBlock_11 : decode cX2_cutBlock 11 = .ok (.getfield 21, 3) := dk_180 0 21 (dk_at dksX2_cutBlock_0 11 rfl rfl)
theorem dX2_cutBlock_14 : decode cX2_cutBlock 14 = .ok (.invokevirtual 83, 3) := dk_182 0 83 (dk_at dksX2_cutBlock_0 14 rfl rfl)
theorem dX2_cutBlock_17 : decode cX2_cutBlock 17 = .ok (.bipush 16, 2) := dk_16 16 (dk_at dksX2_cutBlock_0 17 rfl rfl)
theorem dX2_cutBlock_19 : decode cX2_cutBlock 19 = .ok (.if_icmp .ne 7, 3) := dk_160 0 7 (dk_at dksX2_cutBlock_0 19 rfl rfl)
theorem dX2_cutBlock_22 : decode cX2_cutBlock 22 = .ok (.iconst 1, 1) := dk_4 (dk_at dksX2_cutBlock_0 22 rfl rfl)
theorem dX2_cutBlock_23 : decode cX2_cutBlock 23 = .ok (.goto 4, 3) := dk_167 0 4 (dk_at dksX2_cutBlock_1 0 rfl rfl)
theorem dX2_cutBlock_26 : decode cX2_cutBlock 26 = .ok (.iconst 0, 1) := dk_3 (dk_at dksX2_cutBlock_1 3 rfl rfl)
theorem dX2_cutBlock_27 : decode cX2_cutBlock 27 = .ok (.iconst 1, 1) := dk_4 (dk_at dksX2_cutBlock_1 4 rfl rfl)
theorem dX2_cutBlock_28 : decode cX2_cutBlock 28 = .ok (.bipush 16, 2) := dk_16 16 (dk_at dksX2_cutBlock_1 5 rfl rfl)
theorem dX2_cutBlock_30 : decode cX2_cutBlock 30 = .ok (.invokestatic 158, 3) := dk_184 0 158 (dk_at dksX2_cutBlock_1 7 rfl rfl)
theorem dX2_cutBlock_33 : decode cX2_cutBlock 33 = .ok (.aload_n 0, 1) := dk_42 (dk_at dksX2_cutBlock_1 10 rfl rfl)
theorem dX2_cutBlock_34 : decode cX2_cutBlock 34 = .ok (.getfield 21, 3) := dk_180 0 21 (dk_at dksX2_cutBlock_1 11 rfl rfl)
theorem dX2_cutBlock_37 : decode cX2_cutBlock 37 = .ok (.new 64, 3) := dk_187 0 64 (dk_at dksX2_cutBlock_1 14 rfl rfl)
theorem dX2_cutBlock_40 : decode cX2_cutBlock 40 = .ok (.dup, 1) := dk_89 (dk_at dksX2_cutBlock_1 17 rfl rfl)
theorem dX2_cutBlock_41 : decode cX2_cutBlock 41 = .ok (.aload_n 0, 1) := dk_42 (dk_at dksX2_cutBlock_1 18 rfl rfl)
theorem dX2_cutBlock_42 : decode cX2_cutBlock 42 = .ok (.getfield 21, 3) := dk_180 0 21 (dk_at dksX2_cutBlock_1 19 rfl rfl)
theorem dX2_cutBlock_45 : decode cX2_cutBlock 45 = .ok (.invokevirtual 83, 3) := dk_182 0 83 (dk_at dksX2_cutBlock_2 0 rfl rfl)
theorem dX2_cutBlock_48 : decode cX2_cutBlock 48 = .ok (.iload_n 1, 1) := dk_27 (dk_at dksX2_cutBlock_2 3 rfl rfl)
theorem dX2_cutBlock_49 : decode cX2_cutBlock 49 = .ok (.iload_n 2, 1) := dk_28 (dk_at dksX2_cutBlock_2 4 rfl rfl)
theorem dX2_cutBlock_50 : decode cX2_cutBlock 50 = .ok (.invokespecial 162, 3) := dk_183 0 162 (dk_at dksX2_cutBlock_2 5 rfl rfl)
theorem dX2_cutBlock_53 : decode cX2_cutBlock 53 = .ok (.invokevirtual 69, 3) := dk_182 0 69 (dk_at dksX2_cutBlock_2 8 rfl rfl)
theorem dX2_cutBlock_56 : decode cX2_cutBlock 56 = .ok (.istore_n 3, 1) := dk_62 (dk_at dksX2_cutBlock_2 11 rfl rfl)
theorem dX2_cutBlock_57 : decode cX2_cutBlock 57 = .ok (.aload_n 0, 1) := dk_42 (dk_at dksX2_cutBlock_2 12 rfl rfl)
theorem dX2_cutBlock_58 : decode cX2_cutBlock 58 = .ok (.getfield 21, 3) := dk_180 0 21 (dk_at dksX2_cutBlock_2 13 rfl rfl)
theorem dX2_cutBlock_61 : decode cX2_cutBlock 61 = .ok (.invokevirtual 83, 3) := dk_182 0 83 (dk_at dksX2_cutBlock_2 16 rfl rfl)
theorem dX2_cutBlock_64 : decode cX2_cutBlock 64 = .ok (.iconst 1, 1) := dk_4 (dk_at dksX2_cutBlock_2 19 rfl rfl)
theorem dX2_cutBlock_65 : decode cX2_cutBlock 65 = .ok (.isub, 1) := dk_100 (dk_at dksX2_cutBlock_2 20 rfl rfl)
theorem dX2_cutBlock_66 : decode cX2_cutBlock 66 = .ok (.ireturn, 1) := dk_172 (dk_at dksX2_cutBlock_2 21 rfl rfl)
abbrev cX2_buyRope : ByteArray := prog_12_method_17_code
def yX2_buyRope : MethodName := ⟨RX2, "buyRope", "(I)I"⟩
def dkwX2_buyRope_2 : List UInt8 := [182, 0, 170, 42, 180, 0, 25, 44, 182, 0, 69, 62, 42, 180, 0, 25, 182, 0, 83, 4, 100, 172]
abbrev dktX2_buyRope_2 : List UInt8 := dkwX2_buyRope_2 ++ []
def dkwX2_buyRope_1 : List UInt8 := [167, 0, 4, 3, 4, 7, 184, 0, 158, 187, 0, 73, 89, 27, 183, 0, 174, 77, 42, 44, 182, 0, 176]
abbrev dktX2_buyRope_1 : List UInt8 := dkwX2_buyRope_1 ++ dktX2_buyRope_2
def dkwX2_buyRope_0 : List UInt8 := [27, 4, 16, 30, 184, 0, 150, 184, 0, 154, 42, 180, 0, 25, 182, 0, 83, 7, 160, 0, 7, 4]
abbrev dktX2_buyRope_0 : List UInt8 := dkwX2_buyRope_0 ++ dktX2_buyRope_1
theorem dksX2_buyRope_0 : cX2_buyRope.data.toList.drop 0 = dktX2_buyRope_0 := by decide +kernel
theorem dksX2_buyRope_1 : cX2_buyRope.data.toList.drop 22 = dktX2_buyRope_1 := dk_seg dksX2_buyRope_0 22 rfl rfl
theorem dksX2_buyRope_2 : cX2_buyRope.data.toList.drop 45 = dktX2_buyRope_2 := dk_seg dksX2_buyRope_1 23 rfl rfl
theorem dX2_buyRope_0 : decode cX2_buyRope 0 = .ok (.iload_n 1, 1) := dk_27 (dk_at dksX2_buyRope_0 0 rfl rfl)
theorem dX2_buyRope_1 : decode cX2_buyRope 1 = .ok (.iconst 1, 1) := dk_4 (dk_at dksX2_buyRope_0 1 rfl rfl)
theorem dX2_buyRope_2 : decode cX2_buyRope 2 = .ok (.bipush 30, 2) := dk_16 30 (dk_at dksX2_buyRope_0 2 rfl rfl)
theorem dX2_buyRope_4 : decode cX2_buyRope 4 = .ok (.invokestatic 150, 3) := dk_184 0 150 (dk_at dksX2_buyRope_0 4 rfl rfl)
theorem dX2_buyRope_7 : decode cX2_buyRope 7 = .ok (.invokestatic 154, 3) := dk_184 0 154 (dk_at dksX2_buyRope_0 7 rfl rfl)
theorem dX2_buyRope_10 : decode cX2_buyRope 10 = .ok (.aload_n 0, 1) := dk_42 (dk_at dksX2_buyRope_0 10 rfl rfl)
theorem dX2_buyRope_11 : decode cX2_buyRope 11 = .ok (.getfield 25, 3) := dk_180 0 25 (dk_at dksX2_buyRope_0 11 rfl rfl)
theorem dX2_buyRope_14 : decode cX2_buyRope 14 = .ok (.invokevirtual 83, 3) := dk_182 0 83 (dk_at dksX2_buyRope_0 14 rfl rfl)
theorem dX2_buyRope_17 : decode cX2_buyRope 17 = .ok (.iconst 4, 1) := dk_7 (dk_at dksX2_buyRope_0 17 rfl rfl)
theorem dX2_buyRope_18 : decode cX2_buyRope 18 = .ok (.if_icmp .ne 7, 3) := dk_160 0 7 (dk_at dksX2_buyRope_0 18 rfl rfl)
theorem dX2_buyRope_21 : decode cX2_buyRope 21 = .ok (.iconst 1, 1) := dk_4 (dk_at dksX2_buyRope_0 21 rfl rfl)
theorem dX2_buyRope_22 : decode cX2_buyRope 22 = .ok (.goto 4, 3) := dk_167 0 4 (dk_at dksX2_buyRope_1 0 rfl rfl)
theorem dX2_buyRope_25 : decode cX2_buyRope 25 = .ok (.iconst 0, 1) := dk_3 (dk_at dksX2_buyRope_1 3 rfl rfl)
theorem dX2_buyRope_26 : decode cX2_buyRope 26 = .ok (.iconst 1, 1) := dk_4 (dk_at dksX2_buyRope_1 4 rfl rfl)
theorem dX2_buyRope_27 : decode cX2_buyRope 27 = .ok (.iconst 4, 1) := dk_7 (dk_at dksX2_buyRope_1 5 rfl rfl)
theorem dX2_buyRope_28 : decode cX2_buyRope 28 = .ok (.invokestatic 158, 3) := dk_184 0 158 (dk_at dksX2_buyRope_1 6 rfl rfl)
theorem dX2_buyRope_31 : decode cX2_buyRope 31 = .ok (.new 73, 3) := dk_187 0 73 (dk_at dksX2_buyRope_1 9 rfl rfl)
theorem dX2_buyRope_34 : decode cX2_buyRope 34 = .ok (.dup, 1) := dk_89 (dk_at dksX2_buyRope_1 12 rfl rfl)
theorem dX2_buyRope_35 : decode cX2_buyRope 35 = .ok (.iload_n 1, 1) := dk_27 (dk_at dksX2_buyRope_1 13 rfl rfl)
theorem dX2_buyRope_36 : decode cX2_buyRope 36 = .ok (.invokespecial 174, 3) := dk_183 0 174 (dk_at dksX2_buyRope_1 14 rfl rfl)
theorem dX2_buyRope_39 : decode cX2_buyRope 39 = .ok (.astore_n 2, 1) := dk_77 (dk_at dksX2_buyRope_1 17 rfl rfl)
theorem dX2_buyRope_40 : decode cX2_buyRope 40 = .ok (.aload_n 0, 1) := dk_42 (dk_at dksX2_buyRope_1 18 rfl rfl)
theorem dX2_buyRope_41 : decode cX2_buyRope 41 = .ok (.aload_n 2, 1) := dk_44 (dk_at dksX2_buyRope_1 19 rfl rfl)
theorem dX2_buyRope_42 : decode cX2_buyRope 42 = .ok (.invokevirtual 176, 3) := dk_182 0 176 (dk_at dksX2_buyRope_1 20 rfl rfl)
theorem dX2_buyRope_45 : decode cX2_buyRope 45 = .ok (.invokevirtual 170, 3) := dk_182 0 170 (dk_at dksX2_buyRope_2 0 rfl rfl)
theorem dX2_buyRope_48 : decode cX2_buyRope 48 = .ok (.aload_n 0, 1) := dk_42 (dk_at dksX2_buyRope_2 3 rfl rfl)
theorem dX2_buyRope_49 : decode cX2_buyRope 49 = .ok (.getfield 25, 3) := dk_180 0 25 (dk_at dksX2_buyRope_2 4 rfl rfl)
theorem dX2_buyRope_52 : decode cX2_buyRope 52 = .ok (.aload_n 2, 1) := dk_44 (dk_at dksX2_buyRope_2 7 rfl rfl)
theorem dX2_buyRope_53 : decode cX2_buyRope 53 = .ok (.invokevirtual 69, 3) := dk_182 0 69 (dk_at dksX2_buyRope_2 8 rfl rfl)
theorem dX2_buyRope_56 : decode cX2_buyRope 56 = .ok (.istore_n 3, 1) := dk_62 (dk_at dksX2_buyRope_2 11 rfl rfl)
theorem dX2_buyRope_57 : decode cX2_buyRope 57 = .ok (.aload_n 0, 1) := dk_42 (dk_at dksX2_buyRope_2 12 rfl rfl)
theorem dX2_buyRope_58 : decode cX2_buyRope 58 = .ok (.getfield 25, 3) := dk_180 0 25 (dk_at dksX2_buyRope_2 13 rfl rfl)
theorem dX2_buyRope_61 : decode cX2_buyRope 61 = .ok (.invokevirtual 83, 3) := dk_182 0 83 (dk_at dksX2_buyRope_2 16 rfl rfl)
theorem dX2_buyRope_64 : decode cX2_buyRope 64 = .ok (.iconst 1, 1) := dk_4 (dk_at dksX2_buyRope_2 19 rfl rfl)
theorem dX2_buyRope_65 : decode cX2_buyRope 65 = .ok (.isub, 1) := dk_100 (dk_at dksX2_buyRope_2 20 rfl rfl)
theorem dX2_buyRope_66 : decode cX2_buyRope 66 = .ok (.ireturn, 1) := dk_172 (dk_at dksX2_buyRope_2 21 rfl rfl)
abbrev cX2_push : ByteArray := prog_12_method_23_code
def yX2_push : MethodName := ⟨RX2, "push", "(I)I"⟩
def dkwX2_push_0 : List UInt8 := [27, 16, 20, 184, 0, 87, 42, 42, 27, 182, 0, 196, 182, 0, 120, 172]
abbrev dktX2_push_0 : List UInt8 := dkwX2_push_0 ++ []
theorem dksX2_push_0 : cX2_push.data.toList.drop 0 = dktX2_push_0 := by decide +kernel
theorem dX2_push_0 : decode cX2_push 0 = .ok (.iload_n 1, 1) := dk_27 (dk_at dksX2_push_0 0 rfl rfl)
theorem dX2_push_1 : decode cX2_push 1 = .ok (.bipush 20, 2) := dk_16 20 (dk_at dksX2_push_0 1 rfl rfl)
theorem dX2_push_3 : decode cX2_push 3 = .ok (.invokestatic 87, 3) := dk_184 0 87 (dk_at dksX2_push_0 3 rfl rfl)
theorem dX2_push_6 : decode cX2_push 6 = .ok (.aload_n 0, 1) := dk_42 (dk_at dksX2_push_0 6 rfl rfl)
theorem dX2_push_7 : decode cX2_push 7 = .ok (.aload_n 0, 1) := dk_42 (dk_at dksX2_push_0 7 rfl rfl)
theorem dX2_push_8 : decode cX2_push 8 = .ok (.iload_n 1, 1) := dk_27 (dk_at dksX2_push_0 8 rfl rfl)
theorem dX2_push_9 : decode cX2_push 9 = .ok (.invokevirtual 196, 3) := dk_182 0 196 (dk_at dksX2_push_0 9 rfl rfl)
theorem dX2_push_12 : decode cX2_push 12 = .ok (.invokevirtual 120, 3) := dk_182 0 120 (dk_at dksX2_push_0 12 rfl rfl)
theorem dX2_push_15 : decode cX2_push 15 = .ok (.ireturn, 1) := dk_172 (dk_at dksX2_push_0 15 rfl rfl)
abbrev cX2_takeCommission : ByteArray := prog_12_method_24_code
def yX2_takeCommission : MethodName := ⟨RX2, "takeCommission", "(III)I"⟩
def dkwX2_takeCommission_3 : List UInt8 := [182, 0, 69, 54, 4, 42, 180, 0, 28, 182, 0, 83, 4, 100, 172]
abbrev dktX2_takeCommission_3 : List UInt8 := dkwX2_takeCommission_3 ++ []
def dkwX2_takeCommission_2 : List UInt8 := [167, 0, 4, 3, 4, 16, 8, 184, 0, 158, 42, 180, 0, 28, 187, 0, 78, 89, 27, 28, 29, 183, 0, 199]
abbrev dktX2_takeCommission_2 : List UInt8 := dkwX2_takeCommission_2 ++ dktX2_takeCommission_3
def dkwX2_takeCommission_1 : List UInt8 := [153, 0, 7, 4, 167, 0, 4, 3, 184, 0, 154, 42, 180, 0, 28, 182, 0, 83, 16, 8, 160, 0, 7, 4]
abbrev dktX2_takeCommission_1 : List UInt8 := dkwX2_takeCommission_1 ++ dktX2_takeCommission_2
def dkwX2_takeCommission_0 : List UInt8 := [27, 7, 184, 0, 87, 28, 4, 16, 9, 184, 0, 150, 153, 0, 17, 29, 4, 16, 50, 184, 0, 150]
abbrev dktX2_takeCommission_0 : List UInt8 := dkwX2_takeCommission_0 ++ dktX2_takeCommission_1
theorem dksX2_takeCommission_0 : cX2_takeCommission.data.toList.drop 0 = dktX2_takeCommission_0 := by decide +kernel
theorem dksX2_takeCommission_1 : cX2_takeCommission.data.toList.drop 22 = dktX2_takeCommission_1 := dk_seg dksX2_takeCommission_0 22 rfl rfl
theorem dksX2_takeCommission_2 : cX2_takeCommission.data.toList.drop 46 = dktX2_takeCommission_2 := dk_seg dksX2_takeCommission_1 24 rfl rfl
theorem dksX2_takeCommission_3 : cX2_takeCommission.data.toList.drop 70 = dktX2_takeCommission_3 := dk_seg dksX2_takeCommission_2 24 rfl rfl
theorem dX2_takeCommission_0 : decode cX2_takeCommission 0 = .ok (.iload_n 1, 1) := dk_27 (dk_at dksX2_takeCommission_0 0 rfl rfl)
theorem dX2_takeCommission_1 : decode cX2_takeCommission 1 = .ok (.iconst 4, 1) := dk_7 (dk_at dksX2_takeCommission_0 1 rfl rfl)
theorem dX2_takeCommission_2 : decode cX2_takeCommission 2 = .ok (.invokestatic 87, 3) := dk_184 0 87 (dk_at dksX2_takeCommission_0 2 rfl rfl)
theorem dX2_takeCommission_5 : decode cX2_takeCommission 5 = .ok (.iload_n 2, 1) := dk_28 (dk_at dksX2_takeCommission_0 5 rfl rfl)
theorem dX2_takeCommission_6 : decode cX2_takeCommission 6 = .ok (.iconst 1, 1) := dk_4 (dk_at dksX2_takeCommission_0 6 rfl rfl)
theorem dX2_takeCommission_7 : decode cX2_takeCommission 7 = .ok (.bipush 9, 2) := dk_16 9 (dk_at dksX2_takeCommission_0 7 rfl rfl)
theorem dX2_takeCommission_9 : decode cX2_takeCommission 9 = .ok (.invokestatic 150, 3) := dk_184 0 150 (dk_at dksX2_takeCommission_0 9 rfl rfl)
theorem dX2_takeCommission_12 : decode cX2_takeCommission 12 = .ok (.ifCond .eq 17, 3) := dk_153 0 17 (dk_at dksX2_takeCommission_0 12 rfl rfl)
theorem dX2_takeCommission_15 : decode cX2_takeCommission 15 = .ok (.iload_n 3, 1) := dk_29 (dk_at dksX2_takeCommission_0 15 rfl rfl)
theorem dX2_takeCommission_16 : decode cX2_takeCommission 16 = .ok (.iconst 1, 1) := dk_4 (dk_at dksX2_takeCommission_0 16 rfl rfl)
theorem dX2_takeCommission_17 : decode cX2_takeCommission 17 = .ok (.bipush 50, 2) := dk_16 50 (dk_at dksX2_takeCommission_0 17 rfl rfl)
theorem dX2_takeCommission_19 : decode cX2_takeCommission 19 = .ok (.invokestatic 150, 3) := dk_184 0 150 (dk_at dksX2_takeCommission_0 19 rfl rfl)
theorem dX2_takeCommission_22 : decode cX2_takeCommission 22 = .ok (.ifCond .eq 7, 3) := dk_153 0 7 (dk_at dksX2_takeCommission_1 0 rfl rfl)
theorem dX2_takeCommission_25 : decode cX2_takeCommission 25 = .ok (.iconst 1, 1) := dk_4 (dk_at dksX2_takeCommission_1 3 rfl rfl)
theorem dX2_takeCommission_26 : decode cX2_takeCommission 26 = .ok (.goto 4, 3) := dk_167 0 4 (dk_at dksX2_takeCommission_1 4 rfl rfl)
theorem dX2_takeCommission_29 : decode cX2_takeCommission 29 = .ok (.iconst 0, 1) := dk_3 (dk_at dksX2_takeCommission_1 7 rfl rfl)
theorem dX2_takeCommission_30 : decode cX2_takeCommission 30 = .ok (.invokestatic 154, 3) := dk_184 0 154 (dk_at dksX2_takeCommission_1 8 rfl rfl)
theorem dX2_takeCommission_33 : decode cX2_takeCommission 33 = .ok (.aload_n 0, 1) := dk_42 (dk_at dksX2_takeCommission_1 11 rfl rfl)
theorem dX2_takeCommission_34 : decode cX2_takeCommission 34 = .ok (.getfield 28, 3) := dk_180 0 28 (dk_at dksX2_takeCommission_1 12 rfl rfl)
theorem dX2_takeCommission_37 : decode cX2_takeCommission 37 = .ok (.invokevirtual 83, 3) := dk_182 0 83 (dk_at dksX2_takeCommission_1 15 rfl rfl)
theorem dX2_takeCommission_40 : decode cX2_takeCommission 40 = .ok (.bipush 8, 2) := dk_16 8 (dk_at dksX2_takeCommission_1 18 rfl rfl)
theorem dX2_takeCommission_42 : decode cX2_takeCommission 42 = .ok (.if_icmp .ne 7, 3) := dk_160 0 7 (dk_at dksX2_takeCommission_1 20 rfl rfl)
theorem dX2_takeCommission_45 : decode cX2_takeCommission 45 = .ok (.iconst 1, 1) := dk_4 (dk_at dksX2_takeCommission_1 23 rfl rfl)
theorem dX2_takeCommission_46 : decode cX2_takeCommission 46 = .ok (.goto 4, 3) := dk_167 0 4 (dk_at dksX2_takeCommission_2 0 rfl rfl)
theorem dX2_takeCommission_49 : decode cX2_takeCommission 49 = .ok (.iconst 0, 1) := dk_3 (dk_at dksX2_takeCommission_2 3 rfl rfl)
theorem dX2_takeCommission_50 : decode cX2_takeCommission 50 = .ok (.iconst 1, 1) := dk_4 (dk_at dksX2_takeCommission_2 4 rfl rfl)
theorem dX2_takeCommission_51 : decode cX2_takeCommission 51 = .ok (.bipush 8, 2) := dk_16 8 (dk_at dksX2_takeCommission_2 5 rfl rfl)
theorem dX2_takeCommission_53 : decode cX2_takeCommission 53 = .ok (.invokestatic 158, 3) := dk_184 0 158 (dk_at dksX2_takeCommission_2 7 rfl rfl)
theorem dX2_takeCommission_56 : decode cX2_takeCommission 56 = .ok (.aload_n 0, 1) := dk_42 (dk_at dksX2_takeCommission_2 10 rfl rfl)
theorem dX2_takeCommission_57 : decode cX2_takeCommission 57 = .ok (.getfield 28, 3) := dk_180 0 28 (dk_at dksX2_takeCommission_2 11 rfl rfl)
theorem dX2_takeCommission_60 : decode cX2_takeCommission 60 = .ok (.new 78, 3) := dk_187 0 78 (dk_at dksX2_takeCommission_2 14 rfl rfl)
theorem dX2_takeCommission_63 : decode cX2_takeCommission 63 = .ok (.dup, 1) := dk_89 (dk_at dksX2_takeCommission_2 17 rfl rfl)
theorem dX2_takeCommission_64 : decode cX2_takeCommission 64 = .ok (.iload_n 1, 1) := dk_27 (dk_at dksX2_takeCommission_2 18 rfl rfl)
theorem dX2_takeCommission_65 : decode cX2_takeCommission 65 = .ok (.iload_n 2, 1) := dk_28 (dk_at dksX2_takeCommission_2 19 rfl rfl)
theorem dX2_takeCommission_66 : decode cX2_takeCommission 66 = .ok (.iload_n 3, 1) := dk_29 (dk_at dksX2_takeCommission_2 20 rfl rfl)
theorem dX2_takeCommission_67 : decode cX2_takeCommission 67 = .ok (.invokespecial 199, 3) := dk_183 0 199 (dk_at dksX2_takeCommission_2 21 rfl rfl)
theorem dX2_takeCommission_70 : decode cX2_takeCommission 70 = .ok (.invokevirtual 69, 3) := dk_182 0 69 (dk_at dksX2_takeCommission_3 0 rfl rfl)
theorem dX2_takeCommission_73 : decode cX2_takeCommission 73 = .ok (.istore 4, 2) := dk_54 4 (dk_at dksX2_takeCommission_3 3 rfl rfl)
theorem dX2_takeCommission_75 : decode cX2_takeCommission 75 = .ok (.aload_n 0, 1) := dk_42 (dk_at dksX2_takeCommission_3 5 rfl rfl)
theorem dX2_takeCommission_76 : decode cX2_takeCommission 76 = .ok (.getfield 28, 3) := dk_180 0 28 (dk_at dksX2_takeCommission_3 6 rfl rfl)
theorem dX2_takeCommission_79 : decode cX2_takeCommission 79 = .ok (.invokevirtual 83, 3) := dk_182 0 83 (dk_at dksX2_takeCommission_3 9 rfl rfl)
theorem dX2_takeCommission_82 : decode cX2_takeCommission 82 = .ok (.iconst 1, 1) := dk_4 (dk_at dksX2_takeCommission_3 12 rfl rfl)
theorem dX2_takeCommission_83 : decode cX2_takeCommission 83 = .ok (.isub, 1) := dk_100 (dk_at dksX2_takeCommission_3 13 rfl rfl)
theorem dX2_takeCommission_84 : decode cX2_takeCommission 84 = .ok (.ireturn, 1) := dk_172 (dk_at dksX2_takeCommission_3 14 rfl rfl)
abbrev cX2_nicheFor : ByteArray := prog_12_method_27_code
def yX2_nicheFor : MethodName := ⟨RX2, "nicheFor", "(LGargoyleTower$Commission;)I"⟩
def dkwX2_nicheFor_1 : List UInt8 := [198, 0, 13, 43, 45, 184, 0, 219, 199, 0, 5, 28, 172, 132, 2, 1, 167, 255, 220, 2, 172]
abbrev dktX2_nicheFor_1 : List UInt8 := dkwX2_nicheFor_1 ++ []
def dkwX2_nicheFor_0 : List UInt8 := [3, 61, 28, 16, 20, 162, 0, 36, 43, 182, 0, 215, 154, 0, 29, 42, 28, 182, 0, 101, 78, 45]
abbrev dktX2_nicheFor_0 : List UInt8 := dkwX2_nicheFor_0 ++ dktX2_nicheFor_1
theorem dksX2_nicheFor_0 : cX2_nicheFor.data.toList.drop 0 = dktX2_nicheFor_0 := by decide +kernel
theorem dksX2_nicheFor_1 : cX2_nicheFor.data.toList.drop 22 = dktX2_nicheFor_1 := dk_seg dksX2_nicheFor_0 22 rfl rfl
theorem dX2_nicheFor_0 : decode cX2_nicheFor 0 = .ok (.iconst 0, 1) := dk_3 (dk_at dksX2_nicheFor_0 0 rfl rfl)
theorem dX2_nicheFor_1 : decode cX2_nicheFor 1 = .ok (.istore_n 2, 1) := dk_61 (dk_at dksX2_nicheFor_0 1 rfl rfl)
theorem dX2_nicheFor_2 : decode cX2_nicheFor 2 = .ok (.iload_n 2, 1) := dk_28 (dk_at dksX2_nicheFor_0 2 rfl rfl)
theorem dX2_nicheFor_3 : decode cX2_nicheFor 3 = .ok (.bipush 20, 2) := dk_16 20 (dk_at dksX2_nicheFor_0 3 rfl rfl)
theorem dX2_nicheFor_5 : decode cX2_nicheFor 5 = .ok (.if_icmp .ge 36, 3) := dk_162 0 36 (dk_at dksX2_nicheFor_0 5 rfl rfl)
theorem dX2_nicheFor_8 : decode cX2_nicheFor 8 = .ok (.aload_n 1, 1) := dk_43 (dk_at dksX2_nicheFor_0 8 rfl rfl)
theorem dX2_nicheFor_9 : decode cX2_nicheFor 9 = .ok (.invokevirtual 215, 3) := dk_182 0 215 (dk_at dksX2_nicheFor_0 9 rfl rfl)
theorem dX2_nicheFor_12 : decode cX2_nicheFor 12 = .ok (.ifCond .ne 29, 3) := dk_154 0 29 (dk_at dksX2_nicheFor_0 12 rfl rfl)
theorem dX2_nicheFor_15 : decode cX2_nicheFor 15 = .ok (.aload_n 0, 1) := dk_42 (dk_at dksX2_nicheFor_0 15 rfl rfl)
theorem dX2_nicheFor_16 : decode cX2_nicheFor 16 = .ok (.iload_n 2, 1) := dk_28 (dk_at dksX2_nicheFor_0 16 rfl rfl)
theorem dX2_nicheFor_17 : decode cX2_nicheFor 17 = .ok (.invokevirtual 101, 3) := dk_182 0 101 (dk_at dksX2_nicheFor_0 17 rfl rfl)
theorem dX2_nicheFor_20 : decode cX2_nicheFor 20 = .ok (.astore_n 3, 1) := dk_78 (dk_at dksX2_nicheFor_0 20 rfl rfl)
theorem dX2_nicheFor_21 : decode cX2_nicheFor 21 = .ok (.aload_n 3, 1) := dk_45 (dk_at dksX2_nicheFor_0 21 rfl rfl)
theorem dX2_nicheFor_22 : decode cX2_nicheFor 22 = .ok (.ifnull 13, 3) := dk_198 0 13 (dk_at dksX2_nicheFor_1 0 rfl rfl)
theorem dX2_nicheFor_25 : decode cX2_nicheFor 25 = .ok (.aload_n 1, 1) := dk_43 (dk_at dksX2_nicheFor_1 3 rfl rfl)
theorem dX2_nicheFor_26 : decode cX2_nicheFor 26 = .ok (.aload_n 3, 1) := dk_45 (dk_at dksX2_nicheFor_1 4 rfl rfl)
theorem dX2_nicheFor_27 : decode cX2_nicheFor 27 = .ok (.invokestatic 219, 3) := dk_184 0 219 (dk_at dksX2_nicheFor_1 5 rfl rfl)
theorem dX2_nicheFor_30 : decode cX2_nicheFor 30 = .ok (.ifnonnull 5, 3) := dk_199 0 5 (dk_at dksX2_nicheFor_1 8 rfl rfl)
theorem dX2_nicheFor_33 : decode cX2_nicheFor 33 = .ok (.iload_n 2, 1) := dk_28 (dk_at dksX2_nicheFor_1 11 rfl rfl)
theorem dX2_nicheFor_34 : decode cX2_nicheFor 34 = .ok (.ireturn, 1) := dk_172 (dk_at dksX2_nicheFor_1 12 rfl rfl)
theorem dX2_nicheFor_35 : decode cX2_nicheFor 35 = .ok (.iinc 2 1, 3) := dk_132 2 1 (dk_at dksX2_nicheFor_1 13 rfl rfl)
theorem dX2_nicheFor_38 : decode cX2_nicheFor 38 = .ok (.goto (-36), 3) := dk_167 255 220 (dk_at dksX2_nicheFor_1 16 rfl rfl)
theorem dX2_nicheFor_41 : decode cX2_nicheFor 41 = .ok (.iconst (-1), 1) := dk_2 (dk_at dksX2_nicheFor_1 19 rfl rfl)
theorem dX2_nicheFor_42 : decode cX2_nicheFor 42 = .ok (.ireturn, 1) := dk_172 (dk_at dksX2_nicheFor_1 20 rfl rfl)
abbrev cX2_carve : ByteArray := prog_12_method_14_code
def yX2_carve : MethodName := ⟨RX2, "carve", "(II)I"⟩
def dkwX2_carve_5 : List UInt8 := [180, 0, 167, 172]
abbrev dktX2_carve_5 : List UInt8 := dkwX2_carve_5 ++ []
def dkwX2_carve_4 : List UInt8 := [42, 89, 180, 0, 15, 21, 4, 100, 181, 0, 15, 45, 89, 180, 0, 167, 28, 96, 181, 0, 167, 45]
abbrev dktX2_carve_4 : List UInt8 := dkwX2_carve_4 ++ dktX2_carve_5
def dkwX2_carve_3 : List UInt8 := [180, 0, 15, 21, 4, 162, 0, 7, 4, 167, 0, 4, 3, 7, 21, 4, 42, 180, 0, 15, 100, 184, 0, 158]
abbrev dktX2_carve_3 : List UInt8 := dkwX2_carve_3 ++ dktX2_carve_4
def dkwX2_carve_2 : List UInt8 := [167, 0, 4, 3, 8, 45, 180, 0, 167, 28, 96, 184, 0, 158, 45, 28, 182, 0, 130, 54, 4, 42]
abbrev dktX2_carve_2 : List UInt8 := dkwX2_carve_2 ++ dktX2_carve_3
def dkwX2_carve_1 : List UInt8 := [167, 0, 4, 3, 6, 45, 180, 0, 95, 184, 0, 158, 45, 180, 0, 167, 28, 96, 16, 9, 164, 0, 7, 4]
abbrev dktX2_carve_1 : List UInt8 := dkwX2_carve_1 ++ dktX2_carve_2
def dkwX2_carve_0 : List UInt8 := [42, 27, 182, 0, 165, 78, 28, 4, 16, 9, 184, 0, 150, 184, 0, 154, 45, 180, 0, 95, 153, 0, 7, 4]
abbrev dktX2_carve_0 : List UInt8 := dkwX2_carve_0 ++ dktX2_carve_1
theorem dksX2_carve_0 : cX2_carve.data.toList.drop 0 = dktX2_carve_0 := by decide +kernel
theorem dksX2_carve_1 : cX2_carve.data.toList.drop 24 = dktX2_carve_1 := dk_seg dksX2_carve_0 24 rfl rfl
theorem dksX2_carve_2 : cX2_carve.data.toList.drop 48 = dktX2_carve_2 := dk_seg dksX2_carve_1 24 rfl rfl
theorem dksX2_carve_3 : cX2_carve.data.toList.drop 70 = dktX2_carve_3 := dk_seg dksX2_carve_2 22 rfl rfl
theorem dksX2_carve_4 : cX2_carve.data.toList.drop 94 = dktX2_carve_4 := dk_seg dksX2_carve_3 24 rfl rfl
theorem dksX2_carve_5 : cX2_carve.data.toList.drop 116 = dktX2_carve_5 := dk_seg dksX2_carve_4 22 rfl rfl
theorem dX2_carve_0 : decode cX2_carve 0 = .ok (.aload_n 0, 1) := dk_42 (dk_at dksX2_carve_0 0 rfl rfl)
theorem dX2_carve_1 : decode cX2_carve 1 = .ok (.iload_n 1, 1) := dk_27 (dk_at dksX2_carve_0 1 rfl rfl)
theorem dX2_carve_2 : decode cX2_carve 2 = .ok (.invokevirtual 165, 3) := dk_182 0 165 (dk_at dksX2_carve_0 2 rfl rfl)
theorem dX2_carve_5 : decode cX2_carve 5 = .ok (.astore_n 3, 1) := dk_78 (dk_at dksX2_carve_0 5 rfl rfl)
theorem dX2_carve_6 : decode cX2_carve 6 = .ok (.iload_n 2, 1) := dk_28 (dk_at dksX2_carve_0 6 rfl rfl)
theorem dX2_carve_7 : decode cX2_carve 7 = .ok (.iconst 1, 1) := dk_4 (dk_at dksX2_carve_0 7 rfl rfl)
theorem dX2_carve_8 : decode cX2_carve 8 = .ok (.bipush 9, 2) := dk_16 9 (dk_at dksX2_carve_0 8 rfl rfl)
theorem dX2_carve_10 : decode cX2_carve 10 = .ok (.invokestatic 150, 3) := dk_184 0 150 (dk_at dksX2_carve_0 10 rfl rfl)
theorem dX2_carve_13 : decode cX2_carve 13 = .ok (.invokestatic 154, 3) := dk_184 0 154 (dk_at dksX2_carve_0 13 rfl rfl)
theorem dX2_carve_16 : decode cX2_carve 16 = .ok (.aload_n 3, 1) := dk_45 (dk_at dksX2_carve_0 16 rfl rfl)
theorem dX2_carve_17 : decode cX2_carve 17 = .ok (.getfield 95, 3) := dk_180 0 95 (dk_at dksX2_carve_0 17 rfl rfl)
theorem dX2_carve_20 : decode cX2_carve 20 = .ok (.ifCond .eq 7, 3) := dk_153 0 7 (dk_at dksX2_carve_0 20 rfl rfl)
theorem dX2_carve_23 : decode cX2_carve 23 = .ok (.iconst 1, 1) := dk_4 (dk_at dksX2_carve_0 23 rfl rfl)
theorem dX2_carve_24 : decode cX2_carve 24 = .ok (.goto 4, 3) := dk_167 0 4 (dk_at dksX2_carve_1 0 rfl rfl)
theorem dX2_carve_27 : decode cX2_carve 27 = .ok (.iconst 0, 1) := dk_3 (dk_at dksX2_carve_1 3 rfl rfl)
theorem dX2_carve_28 : decode cX2_carve 28 = .ok (.iconst 3, 1) := dk_6 (dk_at dksX2_carve_1 4 rfl rfl)
theorem dX2_carve_29 : decode cX2_carve 29 = .ok (.aload_n 3, 1) := dk_45 (dk_at dksX2_carve_1 5 rfl rfl)
theorem dX2_carve_30 : decode cX2_carve 30 = .ok (.getfield 95, 3) := dk_180 0 95 (dk_at dksX2_carve_1 6 rfl rfl)
theorem dX2_carve_33 : decode cX2_carve 33 = .ok (.invokestatic 158, 3) := dk_184 0 158 (dk_at dksX2_carve_1 9 rfl rfl)
theorem dX2_carve_36 : decode cX2_carve 36 = .ok (.aload_n 3, 1) := dk_45 (dk_at dksX2_carve_1 12 rfl rfl)
theorem dX2_carve_37 : decode cX2_carve 37 = .ok (.getfield 167, 3) := dk_180 0 167 (dk_at dksX2_carve_1 13 rfl rfl)
theorem dX2_carve_40 : decode cX2_carve 40 = .ok (.iload_n 2, 1) := dk_28 (dk_at dksX2_carve_1 16 rfl rfl)
theorem dX2_carve_41 : decode cX2_carve 41 = .ok (.iadd, 1) := dk_96 (dk_at dksX2_carve_1 17 rfl rfl)
theorem dX2_carve_42 : decode cX2_carve 42 = .ok (.bipush 9, 2) := dk_16 9 (dk_at dksX2_carve_1 18 rfl rfl)
theorem dX2_carve_44 : decode cX2_carve 44 = .ok (.if_icmp .le 7, 3) := dk_164 0 7 (dk_at dksX2_carve_1 20 rfl rfl)
theorem dX2_carve_47 : decode cX2_carve 47 = .ok (.iconst 1, 1) := dk_4 (dk_at dksX2_carve_1 23 rfl rfl)
theorem dX2_carve_48 : decode cX2_carve 48 = .ok (.goto 4, 3) := dk_167 0 4 (dk_at dksX2_carve_2 0 rfl rfl)
theorem dX2_carve_51 : decode cX2_carve 51 = .ok (.iconst 0, 1) := dk_3 (dk_at dksX2_carve_2 3 rfl rfl)
theorem dX2_carve_52 : decode cX2_carve 52 = .ok (.iconst 5, 1) := dk_8 (dk_at dksX2_carve_2 4 rfl rfl)
theorem dX2_carve_53 : decode cX2_carve 53 = .ok (.aload_n 3, 1) := dk_45 (dk_at dksX2_carve_2 5 rfl rfl)
theorem dX2_carve_54 : decode cX2_carve 54 = .ok (.getfield 167, 3) := dk_180 0 167 (dk_at dksX2_carve_2 6 rfl rfl)
theorem dX2_carve_57 : decode cX2_carve 57 = .ok (.iload_n 2, 1) := dk_28 (dk_at dksX2_carve_2 9 rfl rfl)
theorem dX2_carve_58 : decode cX2_carve 58 = .ok (.iadd, 1) := dk_96 (dk_at dksX2_carve_2 10 rfl rfl)
theorem dX2_carve_59 : decode cX2_carve 59 = .ok (.invokestatic 158, 3) := dk_184 0 158 (dk_at dksX2_carve_2 11 rfl rfl)
theorem dX2_carve_62 : decode cX2_carve 62 = .ok (.aload_n 3, 1) := dk_45 (dk_at dksX2_carve_2 14 rfl rfl)
theorem dX2_carve_63 : decode cX2_carve 63 = .ok (.iload_n 2, 1) := dk_28 (dk_at dksX2_carve_2 15 rfl rfl)
theorem dX2_carve_64 : decode cX2_carve 64 = .ok (.invokevirtual 130, 3) := dk_182 0 130 (dk_at dksX2_carve_2 16 rfl rfl)
theorem dX2_carve_67 : decode cX2_carve 67 = .ok (.istore 4, 2) := dk_54 4 (dk_at dksX2_carve_2 19 rfl rfl)
theorem dX2_carve_69 : decode cX2_carve 69 = .ok (.aload_n 0, 1) := dk_42 (dk_at dksX2_carve_2 21 rfl rfl)
theorem dX2_carve_70 : decode cX2_carve 70 = .ok (.getfield 15, 3) := dk_180 0 15 (dk_at dksX2_carve_3 0 rfl rfl)
theorem dX2_carve_73 : decode cX2_carve 73 = .ok (.iload 4, 2) := dk_21 4 (dk_at dksX2_carve_3 3 rfl rfl)
theorem dX2_carve_75 : decode cX2_carve 75 = .ok (.if_icmp .ge 7, 3) := dk_162 0 7 (dk_at dksX2_carve_3 5 rfl rfl)
theorem dX2_carve_78 : decode cX2_carve 78 = .ok (.iconst 1, 1) := dk_4 (dk_at dksX2_carve_3 8 rfl rfl)
theorem dX2_carve_79 : decode cX2_carve 79 = .ok (.goto 4, 3) := dk_167 0 4 (dk_at dksX2_carve_3 9 rfl rfl)
theorem dX2_carve_82 : decode cX2_carve 82 = .ok (.iconst 0, 1) := dk_3 (dk_at dksX2_carve_3 12 rfl rfl)
theorem dX2_carve_83 : decode cX2_carve 83 = .ok (.iconst 4, 1) := dk_7 (dk_at dksX2_carve_3 13 rfl rfl)
theorem dX2_carve_84 : decode cX2_carve 84 = .ok (.iload 4, 2) := dk_21 4 (dk_at dksX2_carve_3 14 rfl rfl)
theorem dX2_carve_86 : decode cX2_carve 86 = .ok (.aload_n 0, 1) := dk_42 (dk_at dksX2_carve_3 16 rfl rfl)
theorem dX2_carve_87 : decode cX2_carve 87 = .ok (.getfield 15, 3) := dk_180 0 15 (dk_at dksX2_carve_3 17 rfl rfl)
theorem dX2_carve_90 : decode cX2_carve 90 = .ok (.isub, 1) := dk_100 (dk_at dksX2_carve_3 20 rfl rfl)
theorem dX2_carve_91 : decode cX2_carve 91 = .ok (.invokestatic 158, 3) := dk_184 0 158 (dk_at dksX2_carve_3 21 rfl rfl)
theorem dX2_carve_94 : decode cX2_carve 94 = .ok (.aload_n 0, 1) := dk_42 (dk_at dksX2_carve_4 0 rfl rfl)
theorem dX2_carve_95 : decode cX2_carve 95 = .ok (.dup, 1) := dk_89 (dk_at dksX2_carve_4 1 rfl rfl)
theorem dX2_carve_96 : decode cX2_carve 96 = .ok (.getfield 15, 3) := dk_180 0 15 (dk_at dksX2_carve_4 2 rfl rfl)
theorem dX2_carve_99 : decode cX2_carve 99 = .ok (.iload 4, 2) := dk_21 4 (dk_at dksX2_carve_4 5 rfl rfl)
theorem dX2_carve_101 : decode cX2_carve 101 = .ok (.isub, 1) := dk_100 (dk_at dksX2_carve_4 7 rfl rfl)
theorem dX2_carve_102 : decode cX2_carve 102 = .ok (.putfield 15, 3) := dk_181 0 15 (dk_at dksX2_carve_4 8 rfl rfl)
theorem dX2_carve_105 : decode cX2_carve 105 = .ok (.aload_n 3, 1) := dk_45 (dk_at dksX2_carve_4 11 rfl rfl)
theorem dX2_carve_106 : decode cX2_carve 106 = .ok (.dup, 1) := dk_89 (dk_at dksX2_carve_4 12 rfl rfl)
theorem dX2_carve_107 : decode cX2_carve 107 = .ok (.getfield 167, 3) := dk_180 0 167 (dk_at dksX2_carve_4 13 rfl rfl)
theorem dX2_carve_110 : decode cX2_carve 110 = .ok (.iload_n 2, 1) := dk_28 (dk_at dksX2_carve_4 16 rfl rfl)
theorem dX2_carve_111 : decode cX2_carve 111 = .ok (.iadd, 1) := dk_96 (dk_at dksX2_carve_4 17 rfl rfl)
theorem dX2_carve_112 : decode cX2_carve 112 = .ok (.putfield 167, 3) := dk_181 0 167 (dk_at dksX2_carve_4 18 rfl rfl)
theorem dX2_carve_115 : decode cX2_carve 115 = .ok (.aload_n 3, 1) := dk_45 (dk_at dksX2_carve_4 21 rfl rfl)
theorem dX2_carve_116 : decode cX2_carve 116 = .ok (.getfield 167, 3) := dk_180 0 167 (dk_at dksX2_carve_5 0 rfl rfl)
theorem dX2_carve_119 : decode cX2_carve 119 = .ok (.ireturn, 1) := dk_172 (dk_at dksX2_carve_5 3 rfl rfl)
abbrev cX2_whet : ByteArray := prog_12_method_16_code
def yX2_whet : MethodName := ⟨RX2, "whet", "()I"⟩
def dkwX2_whet_2 : List UInt8 := [27, 172]
abbrev dktX2_whet_2 : List UInt8 := dkwX2_whet_2 ++ []
def dkwX2_whet_1 : List UInt8 := [182, 0, 170, 42, 180, 0, 15, 60, 42, 16, 9, 181, 0, 15, 42, 89, 180, 0, 41, 4, 96, 181, 0, 41]
abbrev dktX2_whet_1 : List UInt8 := dkwX2_whet_1 ++ dktX2_whet_2
def dkwX2_whet_0 : List UInt8 := [42, 180, 0, 15, 16, 9, 160, 0, 7, 4, 167, 0, 4, 3, 16, 6, 16, 9, 184, 0, 158, 42, 4]
abbrev dktX2_whet_0 : List UInt8 := dkwX2_whet_0 ++ dktX2_whet_1
theorem dksX2_whet_0 : cX2_whet.data.toList.drop 0 = dktX2_whet_0 := by decide +kernel
theorem dksX2_whet_1 : cX2_whet.data.toList.drop 23 = dktX2_whet_1 := dk_seg dksX2_whet_0 23 rfl rfl
theorem dksX2_whet_2 : cX2_whet.data.toList.drop 47 = dktX2_whet_2 := dk_seg dksX2_whet_1 24 rfl rfl
theorem dX2_whet_0 : decode cX2_whet 0 = .ok (.aload_n 0, 1) := dk_42 (dk_at dksX2_whet_0 0 rfl rfl)
theorem dX2_whet_1 : decode cX2_whet 1 = .ok (.getfield 15, 3) := dk_180 0 15 (dk_at dksX2_whet_0 1 rfl rfl)
theorem dX2_whet_4 : decode cX2_whet 4 = .ok (.bipush 9, 2) := dk_16 9 (dk_at dksX2_whet_0 4 rfl rfl)
theorem dX2_whet_6 : decode cX2_whet 6 = .ok (.if_icmp .ne 7, 3) := dk_160 0 7 (dk_at dksX2_whet_0 6 rfl rfl)
theorem dX2_whet_9 : decode cX2_whet 9 = .ok (.iconst 1, 1) := dk_4 (dk_at dksX2_whet_0 9 rfl rfl)
theorem dX2_whet_10 : decode cX2_whet 10 = .ok (.goto 4, 3) := dk_167 0 4 (dk_at dksX2_whet_0 10 rfl rfl)
theorem dX2_whet_13 : decode cX2_whet 13 = .ok (.iconst 0, 1) := dk_3 (dk_at dksX2_whet_0 13 rfl rfl)
theorem dX2_whet_14 : decode cX2_whet 14 = .ok (.bipush 6, 2) := dk_16 6 (dk_at dksX2_whet_0 14 rfl rfl)
theorem dX2_whet_16 : decode cX2_whet 16 = .ok (.bipush 9, 2) := dk_16 9 (dk_at dksX2_whet_0 16 rfl rfl)
theorem dX2_whet_18 : decode cX2_whet 18 = .ok (.invokestatic 158, 3) := dk_184 0 158 (dk_at dksX2_whet_0 18 rfl rfl)
theorem dX2_whet_21 : decode cX2_whet 21 = .ok (.aload_n 0, 1) := dk_42 (dk_at dksX2_whet_0 21 rfl rfl)
theorem dX2_whet_22 : decode cX2_whet 22 = .ok (.iconst 1, 1) := dk_4 (dk_at dksX2_whet_0 22 rfl rfl)
theorem dX2_whet_23 : decode cX2_whet 23 = .ok (.invokevirtual 170, 3) := dk_182 0 170 (dk_at dksX2_whet_1 0 rfl rfl)
theorem dX2_whet_26 : decode cX2_whet 26 = .ok (.aload_n 0, 1) := dk_42 (dk_at dksX2_whet_1 3 rfl rfl)
theorem dX2_whet_27 : decode cX2_whet 27 = .ok (.getfield 15, 3) := dk_180 0 15 (dk_at dksX2_whet_1 4 rfl rfl)
theorem dX2_whet_30 : decode cX2_whet 30 = .ok (.istore_n 1, 1) := dk_60 (dk_at dksX2_whet_1 7 rfl rfl)
theorem dX2_whet_31 : decode cX2_whet 31 = .ok (.aload_n 0, 1) := dk_42 (dk_at dksX2_whet_1 8 rfl rfl)
theorem dX2_whet_32 : decode cX2_whet 32 = .ok (.bipush 9, 2) := dk_16 9 (dk_at dksX2_whet_1 9 rfl rfl)
theorem dX2_whet_34 : decode cX2_whet 34 = .ok (.putfield 15, 3) := dk_181 0 15 (dk_at dksX2_whet_1 11 rfl rfl)
theorem dX2_whet_37 : decode cX2_whet 37 = .ok (.aload_n 0, 1) := dk_42 (dk_at dksX2_whet_1 14 rfl rfl)
theorem dX2_whet_38 : decode cX2_whet 38 = .ok (.dup, 1) := dk_89 (dk_at dksX2_whet_1 15 rfl rfl)
theorem dX2_whet_39 : decode cX2_whet 39 = .ok (.getfield 41, 3) := dk_180 0 41 (dk_at dksX2_whet_1 16 rfl rfl)
theorem dX2_whet_42 : decode cX2_whet 42 = .ok (.iconst 1, 1) := dk_4 (dk_at dksX2_whet_1 19 rfl rfl)
theorem dX2_whet_43 : decode cX2_whet 43 = .ok (.iadd, 1) := dk_96 (dk_at dksX2_whet_1 20 rfl rfl)
theorem dX2_whet_44 : decode cX2_whet 44 = .ok (.putfield 41, 3) := dk_181 0 41 (dk_at dksX2_whet_1 21 rfl rfl)
theorem dX2_whet_47 : decode cX2_whet 47 = .ok (.iload_n 1, 1) := dk_27 (dk_at dksX2_whet_2 0 rfl rfl)
theorem dX2_whet_48 : decode cX2_whet 48 = .ok (.ireturn, 1) := dk_172 (dk_at dksX2_whet_2 1 rfl rfl)
abbrev cX2_hoist : ByteArray := prog_12_method_18_code
def yX2_hoist : MethodName := ⟨RX2, "hoist", "(II)I"⟩
def dkwX2_hoist_4 : List UInt8 := [182, 0, 105, 25, 4, 182, 0, 187, 172]
abbrev dktX2_hoist_4 : List UInt8 := dkwX2_hoist_4 ++ []
def dkwX2_hoist_3 : List UInt8 := [167, 0, 4, 3, 16, 8, 25, 4, 182, 0, 187, 184, 0, 158, 25, 4, 27, 181, 0, 134, 45, 4, 28]
abbrev dktX2_hoist_3 : List UInt8 := dkwX2_hoist_3 ++ dktX2_hoist_4
def dkwX2_hoist_2 : List UInt8 := [16, 7, 25, 4, 180, 0, 134, 184, 0, 158, 25, 4, 45, 180, 0, 114, 182, 0, 183, 154, 0, 7, 4]
abbrev dktX2_hoist_2 : List UInt8 := dkwX2_hoist_2 ++ dktX2_hoist_3
def dkwX2_hoist_1 : List UInt8 := [3, 6, 45, 180, 0, 95, 184, 0, 158, 25, 4, 180, 0, 134, 2, 159, 0, 7, 4, 167, 0, 4, 3]
abbrev dktX2_hoist_1 : List UInt8 := dkwX2_hoist_1 ++ dktX2_hoist_2
def dkwX2_hoist_0 : List UInt8 := [42, 27, 182, 0, 165, 78, 42, 28, 182, 0, 179, 58, 4, 45, 180, 0, 95, 153, 0, 7, 4, 167, 0, 4]
abbrev dktX2_hoist_0 : List UInt8 := dkwX2_hoist_0 ++ dktX2_hoist_1
theorem dksX2_hoist_0 : cX2_hoist.data.toList.drop 0 = dktX2_hoist_0 := by decide +kernel
theorem dksX2_hoist_1 : cX2_hoist.data.toList.drop 24 = dktX2_hoist_1 := dk_seg dksX2_hoist_0 24 rfl rfl
theorem dksX2_hoist_2 : cX2_hoist.data.toList.drop 47 = dktX2_hoist_2 := dk_seg dksX2_hoist_1 23 rfl rfl
theorem dksX2_hoist_3 : cX2_hoist.data.toList.drop 70 = dktX2_hoist_3 := dk_seg dksX2_hoist_2 23 rfl rfl
theorem dksX2_hoist_4 : cX2_hoist.data.toList.drop 93 = dktX2_hoist_4 := dk_seg dksX2_hoist_3 23 rfl rfl
theorem dX2_hoist_0 : decode cX2_hoist 0 = .ok (.aload_n 0, 1) := dk_42 (dk_at dksX2_hoist_0 0 rfl rfl)
theorem dX2_hoist_1 : decode cX2_hoist 1 = .ok (.iload_n 1, 1) := dk_27 (dk_at dksX2_hoist_0 1 rfl rfl)
theorem dX2_hoist_2 : decode cX2_hoist 2 = .ok (.invokevirtual 165, 3) := dk_182 0 165 (dk_at dksX2_hoist_0 2 rfl rfl)
theorem dX2_hoist_5 : decode cX2_hoist 5 = .ok (.astore_n 3, 1) := dk_78 (dk_at dksX2_hoist_0 5 rfl rfl)
theorem dX2_hoist_6 : decode cX2_hoist 6 = .ok (.aload_n 0, 1) := dk_42 (dk_at dksX2_hoist_0 6 rfl rfl)
theorem dX2_hoist_7 : decode cX2_hoist 7 = .ok (.iload_n 2, 1) := dk_28 (dk_at dksX2_hoist_0 7 rfl rfl)
theorem dX2_hoist_8 : decode cX2_hoist 8 = .ok (.invokevirtual 179, 3) := dk_182 0 179 (dk_at dksX2_hoist_0 8 rfl rfl)
theorem dX2_hoist_11 : decode cX2_hoist 11 = .ok (.astore 4, 2) := dk_58 4 (dk_at dksX2_hoist_0 11 rfl rfl)
theorem dX2_hoist_13 : decode cX2_hoist 13 = .ok (.aload_n 3, 1) := dk_45 (dk_at dksX2_hoist_0 13 rfl rfl)
theorem dX2_hoist_14 : decode cX2_hoist 14 = .ok (.getfield 95, 3) := dk_180 0 95 (dk_at dksX2_hoist_0 14 rfl rfl)
theorem dX2_hoist_17 : decode cX2_hoist 17 = .ok (.ifCond .eq 7, 3) := dk_153 0 7 (dk_at dksX2_hoist_0 17 rfl rfl)
theorem dX2_hoist_20 : decode cX2_hoist 20 = .ok (.iconst 1, 1) := dk_4 (dk_at dksX2_hoist_0 20 rfl rfl)
theorem dX2_hoist_21 : decode cX2_hoist 21 = .ok (.goto 4, 3) := dk_167 0 4 (dk_at dksX2_hoist_0 21 rfl rfl)
theorem dX2_hoist_24 : decode cX2_hoist 24 = .ok (.iconst 0, 1) := dk_3 (dk_at dksX2_hoist_1 0 rfl rfl)
theorem dX2_hoist_25 : decode cX2_hoist 25 = .ok (.iconst 3, 1) := dk_6 (dk_at dksX2_hoist_1 1 rfl rfl)
theorem dX2_hoist_26 : decode cX2_hoist 26 = .ok (.aload_n 3, 1) := dk_45 (dk_at dksX2_hoist_1 2 rfl rfl)
theorem dX2_hoist_27 : decode cX2_hoist 27 = .ok (.getfield 95, 3) := dk_180 0 95 (dk_at dksX2_hoist_1 3 rfl rfl)
theorem dX2_hoist_30 : decode cX2_hoist 30 = .ok (.invokestatic 158, 3) := dk_184 0 158 (dk_at dksX2_hoist_1 6 rfl rfl)
theorem dX2_hoist_33 : decode cX2_hoist 33 = .ok (.aload 4, 2) := dk_25 4 (dk_at dksX2_hoist_1 9 rfl rfl)
theorem dX2_hoist_35 : decode cX2_hoist 35 = .ok (.getfield 134, 3) := dk_180 0 134 (dk_at dksX2_hoist_1 11 rfl rfl)
theorem dX2_hoist_38 : decode cX2_hoist 38 = .ok (.iconst (-1), 1) := dk_2 (dk_at dksX2_hoist_1 14 rfl rfl)
theorem dX2_hoist_39 : decode cX2_hoist 39 = .ok (.if_icmp .eq 7, 3) := dk_159 0 7 (dk_at dksX2_hoist_1 15 rfl rfl)
theorem dX2_hoist_42 : decode cX2_hoist 42 = .ok (.iconst 1, 1) := dk_4 (dk_at dksX2_hoist_1 18 rfl rfl)
theorem dX2_hoist_43 : decode cX2_hoist 43 = .ok (.goto 4, 3) := dk_167 0 4 (dk_at dksX2_hoist_1 19 rfl rfl)
theorem dX2_hoist_46 : decode cX2_hoist 46 = .ok (.iconst 0, 1) := dk_3 (dk_at dksX2_hoist_1 22 rfl rfl)
theorem dX2_hoist_47 : decode cX2_hoist 47 = .ok (.bipush 7, 2) := dk_16 7 (dk_at dksX2_hoist_2 0 rfl rfl)
theorem dX2_hoist_49 : decode cX2_hoist 49 = .ok (.aload 4, 2) := dk_25 4 (dk_at dksX2_hoist_2 2 rfl rfl)
theorem dX2_hoist_51 : decode cX2_hoist 51 = .ok (.getfield 134, 3) := dk_180 0 134 (dk_at dksX2_hoist_2 4 rfl rfl)
theorem dX2_hoist_54 : decode cX2_hoist 54 = .ok (.invokestatic 158, 3) := dk_184 0 158 (dk_at dksX2_hoist_2 7 rfl rfl)
theorem dX2_hoist_57 : decode cX2_hoist 57 = .ok (.aload 4, 2) := dk_25 4 (dk_at dksX2_hoist_2 10 rfl rfl)
theorem dX2_hoist_59 : decode cX2_hoist 59 = .ok (.aload_n 3, 1) := dk_45 (dk_at dksX2_hoist_2 12 rfl rfl)
theorem dX2_hoist_60 : decode cX2_hoist 60 = .ok (.getfield 114, 3) := dk_180 0 114 (dk_at dksX2_hoist_2 13 rfl rfl)
theorem dX2_hoist_63 : decode cX2_hoist 63 = .ok (.invokevirtual 183, 3) := dk_182 0 183 (dk_at dksX2_hoist_2 16 rfl rfl)
theorem dX2_hoist_66 : decode cX2_hoist 66 = .ok (.ifCond .ne 7, 3) := dk_154 0 7 (dk_at dksX2_hoist_2 19 rfl rfl)
theorem dX2_hoist_69 : decode cX2_hoist 69 = .ok (.iconst 1, 1) := dk_4 (dk_at dksX2_hoist_2 22 rfl rfl)
theorem dX2_hoist_70 : decode cX2_hoist 70 = .ok (.goto 4, 3) := dk_167 0 4 (dk_at dksX2_hoist_3 0 rfl rfl)
theorem dX2_hoist_73 : decode cX2_hoist 73 = .ok (.iconst 0, 1) := dk_3 (dk_at dksX2_hoist_3 3 rfl rfl)
theorem dX2_hoist_74 : decode cX2_hoist 74 = .ok (.bipush 8, 2) := dk_16 8 (dk_at dksX2_hoist_3 4 rfl rfl)
theorem dX2_hoist_76 : decode cX2_hoist 76 = .ok (.aload 4, 2) := dk_25 4 (dk_at dksX2_hoist_3 6 rfl rfl)
theorem dX2_hoist_78 : decode cX2_hoist 78 = .ok (.invokevirtual 187, 3) := dk_182 0 187 (dk_at dksX2_hoist_3 8 rfl rfl)
theorem dX2_hoist_81 : decode cX2_hoist 81 = .ok (.invokestatic 158, 3) := dk_184 0 158 (dk_at dksX2_hoist_3 11 rfl rfl)
theorem dX2_hoist_84 : decode cX2_hoist 84 = .ok (.aload 4, 2) := dk_25 4 (dk_at dksX2_hoist_3 14 rfl rfl)
theorem dX2_hoist_86 : decode cX2_hoist 86 = .ok (.iload_n 1, 1) := dk_27 (dk_at dksX2_hoist_3 16 rfl rfl)
theorem dX2_hoist_87 : decode cX2_hoist 87 = .ok (.putfield 134, 3) := dk_181 0 134 (dk_at dksX2_hoist_3 17 rfl rfl)
theorem dX2_hoist_90 : decode cX2_hoist 90 = .ok (.aload_n 3, 1) := dk_45 (dk_at dksX2_hoist_3 20 rfl rfl)
theorem dX2_hoist_91 : decode cX2_hoist 91 = .ok (.iconst 1, 1) := dk_4 (dk_at dksX2_hoist_3 21 rfl rfl)
theorem dX2_hoist_92 : decode cX2_hoist 92 = .ok (.iload_n 2, 1) := dk_28 (dk_at dksX2_hoist_3 22 rfl rfl)
theorem dX2_hoist_93 : decode cX2_hoist 93 = .ok (.invokevirtual 105, 3) := dk_182 0 105 (dk_at dksX2_hoist_4 0 rfl rfl)
theorem dX2_hoist_96 : decode cX2_hoist 96 = .ok (.aload 4, 2) := dk_25 4 (dk_at dksX2_hoist_4 3 rfl rfl)
theorem dX2_hoist_98 : decode cX2_hoist 98 = .ok (.invokevirtual 187, 3) := dk_182 0 187 (dk_at dksX2_hoist_4 5 rfl rfl)
theorem dX2_hoist_101 : decode cX2_hoist 101 = .ok (.ireturn, 1) := dk_172 (dk_at dksX2_hoist_4 8 rfl rfl)
abbrev cX2_lower : ByteArray := prog_12_method_20_code
def yX2_lower : MethodName := ⟨RX2, "lower", "(I)I"⟩
def dkwX2_lower_1 : List UInt8 := [182, 0, 105, 44, 180, 0, 193, 172]
abbrev dktX2_lower_1 : List UInt8 := dkwX2_lower_1 ++ []
def dkwX2_lower_0 : List UInt8 := [42, 27, 182, 0, 190, 77, 42, 180, 0, 25, 27, 182, 0, 91, 192, 0, 73, 2, 181, 0, 134, 44, 3, 2]
abbrev dktX2_lower_0 : List UInt8 := dkwX2_lower_0 ++ dktX2_lower_1
theorem dksX2_lower_0 : cX2_lower.data.toList.drop 0 = dktX2_lower_0 := by decide +kernel
theorem dksX2_lower_1 : cX2_lower.data.toList.drop 24 = dktX2_lower_1 := dk_seg dksX2_lower_0 24 rfl rfl
theorem dX2_lower_0 : decode cX2_lower 0 = .ok (.aload_n 0, 1) := dk_42 (dk_at dksX2_lower_0 0 rfl rfl)
theorem dX2_lower_1 : decode cX2_lower 1 = .ok (.iload_n 1, 1) := dk_27 (dk_at dksX2_lower_0 1 rfl rfl)
theorem dX2_lower_2 : decode cX2_lower 2 = .ok (.invokevirtual 190, 3) := dk_182 0 190 (dk_at dksX2_lower_0 2 rfl rfl)
theorem dX2_lower_5 : decode cX2_lower 5 = .ok (.astore_n 2, 1) := dk_77 (dk_at dksX2_lower_0 5 rfl rfl)
theorem dX2_lower_6 : decode cX2_lower 6 = .ok (.aload_n 0, 1) := dk_42 (dk_at dksX2_lower_0 6 rfl rfl)
theorem dX2_lower_7 : decode cX2_lower 7 = .ok (.getfield 25, 3) := dk_180 0 25 (dk_at dksX2_lower_0 7 rfl rfl)
theorem dX2_lower_10 : decode cX2_lower 10 = .ok (.iload_n 1, 1) := dk_27 (dk_at dksX2_lower_0 10 rfl rfl)
theorem dX2_lower_11 : decode cX2_lower 11 = .ok (.invokevirtual 91, 3) := dk_182 0 91 (dk_at dksX2_lower_0 11 rfl rfl)
theorem dX2_lower_14 : decode cX2_lower 14 = .ok (.checkcast 73, 3) := dk_192 0 73 (dk_at dksX2_lower_0 14 rfl rfl)
theorem dX2_lower_17 : decode cX2_lower 17 = .ok (.iconst (-1), 1) := dk_2 (dk_at dksX2_lower_0 17 rfl rfl)
theorem dX2_lower_18 : decode cX2_lower 18 = .ok (.putfield 134, 3) := dk_181 0 134 (dk_at dksX2_lower_0 18 rfl rfl)
theorem dX2_lower_21 : decode cX2_lower 21 = .ok (.aload_n 2, 1) := dk_44 (dk_at dksX2_lower_0 21 rfl rfl)
theorem dX2_lower_22 : decode cX2_lower 22 = .ok (.iconst 0, 1) := dk_3 (dk_at dksX2_lower_0 22 rfl rfl)
theorem dX2_lower_23 : decode cX2_lower 23 = .ok (.iconst (-1), 1) := dk_2 (dk_at dksX2_lower_0 23 rfl rfl)
theorem dX2_lower_24 : decode cX2_lower 24 = .ok (.invokevirtual 105, 3) := dk_182 0 105 (dk_at dksX2_lower_1 0 rfl rfl)
theorem dX2_lower_27 : decode cX2_lower 27 = .ok (.aload_n 2, 1) := dk_44 (dk_at dksX2_lower_1 3 rfl rfl)
theorem dX2_lower_28 : decode cX2_lower 28 = .ok (.getfield 193, 3) := dk_180 0 193 (dk_at dksX2_lower_1 4 rfl rfl)
theorem dX2_lower_31 : decode cX2_lower 31 = .ok (.ireturn, 1) := dk_172 (dk_at dksX2_lower_1 7 rfl rfl)
abbrev cX2_deliver : ByteArray := prog_12_method_26_code
def yX2_deliver : MethodName := ⟨RX2, "deliver", "(II)I"⟩
def dkwX2_deliver_4 : List UInt8 := [180, 0, 9, 172]
abbrev dktX2_deliver_4 : List UInt8 := dkwX2_deliver_4 ++ []
def dkwX2_deliver_3 : List UInt8 := [181, 0, 218, 25, 4, 27, 181, 0, 209, 42, 89, 180, 0, 9, 45, 180, 0, 226, 96, 181, 0, 9, 42]
abbrev dktX2_deliver_3 : List UInt8 := dkwX2_deliver_3 ++ dktX2_deliver_4
def dkwX2_deliver_2 : List UInt8 := [187, 0, 204, 89, 16, 13, 25, 4, 180, 0, 193, 25, 5, 183, 0, 223, 191, 45, 25, 4, 180, 0, 193]
abbrev dktX2_deliver_2 : List UInt8 := dkwX2_deliver_2 ++ dktX2_deliver_3
def dkwX2_deliver_1 : List UInt8 := [184, 0, 158, 42, 28, 182, 0, 196, 58, 4, 45, 25, 4, 184, 0, 219, 58, 5, 25, 5, 198, 0, 20]
abbrev dktX2_deliver_1 : List UInt8 := dkwX2_deliver_1 ++ dktX2_deliver_2
def dkwX2_deliver_0 : List UInt8 := [42, 27, 182, 0, 212, 78, 28, 16, 20, 184, 0, 87, 45, 182, 0, 215, 16, 12, 45, 180, 0, 218]
abbrev dktX2_deliver_0 : List UInt8 := dkwX2_deliver_0 ++ dktX2_deliver_1
theorem dksX2_deliver_0 : cX2_deliver.data.toList.drop 0 = dktX2_deliver_0 := by decide +kernel
theorem dksX2_deliver_1 : cX2_deliver.data.toList.drop 22 = dktX2_deliver_1 := dk_seg dksX2_deliver_0 22 rfl rfl
theorem dksX2_deliver_2 : cX2_deliver.data.toList.drop 45 = dktX2_deliver_2 := dk_seg dksX2_deliver_1 23 rfl rfl
theorem dksX2_deliver_3 : cX2_deliver.data.toList.drop 68 = dktX2_deliver_3 := dk_seg dksX2_deliver_2 23 rfl rfl
theorem dksX2_deliver_4 : cX2_deliver.data.toList.drop 91 = dktX2_deliver_4 := dk_seg dksX2_deliver_3 23 rfl rfl
theorem dX2_deliver_0 : decode cX2_deliver 0 = .ok (.aload_n 0, 1) := dk_42 (dk_at dksX2_deliver_0 0 rfl rfl)
theorem dX2_deliver_1 : decode cX2_deliver 1 = .ok (.iload_n 1, 1) := dk_27 (dk_at dksX2_deliver_0 1 rfl rfl)
theorem dX2_deliver_2 : decode cX2_deliver 2 = .ok (.invokevirtual 212, 3) := dk_182 0 212 (dk_at dksX2_deliver_0 2 rfl rfl)
theorem dX2_deliver_5 : decode cX2_deliver 5 = .ok (.astore_n 3, 1) := dk_78 (dk_at dksX2_deliver_0 5 rfl rfl)
theorem dX2_deliver_6 : decode cX2_deliver 6 = .ok (.iload_n 2, 1) := dk_28 (dk_at dksX2_deliver_0 6 rfl rfl)
theorem dX2_deliver_7 : decode cX2_deliver 7 = .ok (.bipush 20, 2) := dk_16 20 (dk_at dksX2_deliver_0 7 rfl rfl)
theorem dX2_deliver_9 : decode cX2_deliver 9 = .ok (.invokestatic 87, 3) := dk_184 0 87 (dk_at dksX2_deliver_0 9 rfl rfl)
theorem dX2_deliver_12 : decode cX2_deliver 12 = .ok (.aload_n 3, 1) := dk_45 (dk_at dksX2_deliver_0 12 rfl rfl)
theorem dX2_deliver_13 : decode cX2_deliver 13 = .ok (.invokevirtual 215, 3) := dk_182 0 215 (dk_at dksX2_deliver_0 13 rfl rfl)
theorem dX2_deliver_16 : decode cX2_deliver 16 = .ok (.bipush 12, 2) := dk_16 12 (dk_at dksX2_deliver_0 16 rfl rfl)
theorem dX2_deliver_18 : decode cX2_deliver 18 = .ok (.aload_n 3, 1) := dk_45 (dk_at dksX2_deliver_0 18 rfl rfl)
theorem dX2_deliver_19 : decode cX2_deliver 19 = .ok (.getfield 218, 3) := dk_180 0 218 (dk_at dksX2_deliver_0 19 rfl rfl)
theorem dX2_deliver_22 : decode cX2_deliver 22 = .ok (.invokestatic 158, 3) := dk_184 0 158 (dk_at dksX2_deliver_1 0 rfl rfl)
theorem dX2_deliver_25 : decode cX2_deliver 25 = .ok (.aload_n 0, 1) := dk_42 (dk_at dksX2_deliver_1 3 rfl rfl)
theorem dX2_deliver_26 : decode cX2_deliver 26 = .ok (.iload_n 2, 1) := dk_28 (dk_at dksX2_deliver_1 4 rfl rfl)
theorem dX2_deliver_27 : decode cX2_deliver 27 = .ok (.invokevirtual 196, 3) := dk_182 0 196 (dk_at dksX2_deliver_1 5 rfl rfl)
theorem dX2_deliver_30 : decode cX2_deliver 30 = .ok (.astore 4, 2) := dk_58 4 (dk_at dksX2_deliver_1 8 rfl rfl)
theorem dX2_deliver_32 : decode cX2_deliver 32 = .ok (.aload_n 3, 1) := dk_45 (dk_at dksX2_deliver_1 10 rfl rfl)
theorem dX2_deliver_33 : decode cX2_deliver 33 = .ok (.aload 4, 2) := dk_25 4 (dk_at dksX2_deliver_1 11 rfl rfl)
theorem dX2_deliver_35 : decode cX2_deliver 35 = .ok (.invokestatic 219, 3) := dk_184 0 219 (dk_at dksX2_deliver_1 13 rfl rfl)
theorem dX2_deliver_38 : decode cX2_deliver 38 = .ok (.astore 5, 2) := dk_58 5 (dk_at dksX2_deliver_1 16 rfl rfl)
theorem dX2_deliver_40 : decode cX2_deliver 40 = .ok (.aload 5, 2) := dk_25 5 (dk_at dksX2_deliver_1 18 rfl rfl)
theorem dX2_deliver_42 : decode cX2_deliver 42 = .ok (.ifnull 20, 3) := dk_198 0 20 (dk_at dksX2_deliver_1 20 rfl rfl)
theorem dX2_deliver_45 : decode cX2_deliver 45 = .ok (.new 204, 3) := dk_187 0 204 (dk_at dksX2_deliver_2 0 rfl rfl)
theorem dX2_deliver_48 : decode cX2_deliver 48 = .ok (.dup, 1) := dk_89 (dk_at dksX2_deliver_2 3 rfl rfl)
theorem dX2_deliver_49 : decode cX2_deliver 49 = .ok (.bipush 13, 2) := dk_16 13 (dk_at dksX2_deliver_2 4 rfl rfl)
theorem dX2_deliver_51 : decode cX2_deliver 51 = .ok (.aload 4, 2) := dk_25 4 (dk_at dksX2_deliver_2 6 rfl rfl)
theorem dX2_deliver_53 : decode cX2_deliver 53 = .ok (.getfield 193, 3) := dk_180 0 193 (dk_at dksX2_deliver_2 8 rfl rfl)
theorem dX2_deliver_56 : decode cX2_deliver 56 = .ok (.aload 5, 2) := dk_25 5 (dk_at dksX2_deliver_2 11 rfl rfl)
theorem dX2_deliver_58 : decode cX2_deliver 58 = .ok (.invokespecial 223, 3) := dk_183 0 223 (dk_at dksX2_deliver_2 13 rfl rfl)
theorem dX2_deliver_61 : decode cX2_deliver 61 = .ok (.athrow, 1) := dk_191 (dk_at dksX2_deliver_2 16 rfl rfl)
theorem dX2_deliver_62 : decode cX2_deliver 62 = .ok (.aload_n 3, 1) := dk_45 (dk_at dksX2_deliver_2 17 rfl rfl)
theorem dX2_deliver_63 : decode cX2_deliver 63 = .ok (.aload 4, 2) := dk_25 4 (dk_at dksX2_deliver_2 18 rfl rfl)
theorem dX2_deliver_65 : decode cX2_deliver 65 = .ok (.getfield 193, 3) := dk_180 0 193 (dk_at dksX2_deliver_2 20 rfl rfl)
theorem dX2_deliver_68 : decode cX2_deliver 68 = .ok (.putfield 218, 3) := dk_181 0 218 (dk_at dksX2_deliver_3 0 rfl rfl)
theorem dX2_deliver_71 : decode cX2_deliver 71 = .ok (.aload 4, 2) := dk_25 4 (dk_at dksX2_deliver_3 3 rfl rfl)
theorem dX2_deliver_73 : decode cX2_deliver 73 = .ok (.iload_n 1, 1) := dk_27 (dk_at dksX2_deliver_3 5 rfl rfl)
theorem dX2_deliver_74 : decode cX2_deliver 74 = .ok (.putfield 209, 3) := dk_181 0 209 (dk_at dksX2_deliver_3 6 rfl rfl)
theorem dX2_deliver_77 : decode cX2_deliver 77 = .ok (.aload_n 0, 1) := dk_42 (dk_at dksX2_deliver_3 9 rfl rfl)
theorem dX2_deliver_78 : decode cX2_deliver 78 = .ok (.dup, 1) := dk_89 (dk_at dksX2_deliver_3 10 rfl rfl)
theorem dX2_deliver_79 : decode cX2_deliver 79 = .ok (.getfield 9, 3) := dk_180 0 9 (dk_at dksX2_deliver_3 11 rfl rfl)
theorem dX2_deliver_82 : decode cX2_deliver 82 = .ok (.aload_n 3, 1) := dk_45 (dk_at dksX2_deliver_3 14 rfl rfl)
theorem dX2_deliver_83 : decode cX2_deliver 83 = .ok (.getfield 226, 3) := dk_180 0 226 (dk_at dksX2_deliver_3 15 rfl rfl)
theorem dX2_deliver_86 : decode cX2_deliver 86 = .ok (.iadd, 1) := dk_96 (dk_at dksX2_deliver_3 18 rfl rfl)
theorem dX2_deliver_87 : decode cX2_deliver 87 = .ok (.putfield 9, 3) := dk_181 0 9 (dk_at dksX2_deliver_3 19 rfl rfl)
theorem dX2_deliver_90 : decode cX2_deliver 90 = .ok (.aload_n 0, 1) := dk_42 (dk_at dksX2_deliver_3 22 rfl rfl)
theorem dX2_deliver_91 : decode cX2_deliver 91 = .ok (.getfield 9, 3) := dk_180 0 9 (dk_at dksX2_deliver_4 0 rfl rfl)
theorem dX2_deliver_94 : decode cX2_deliver 94 = .ok (.ireturn, 1) := dk_172 (dk_at dksX2_deliver_4 3 rfl rfl)
abbrev cX2_rain : ByteArray := prog_12_method_10_code
def yX2_rain : MethodName := ⟨RX2, "rain", "()I"⟩
def dkwX2_rain_6 : List UInt8 := [132, 4, 255, 167, 255, 210, 29, 172]
abbrev dktX2_rain_6 : List UInt8 := dkwX2_rain_6 ++ []
def dkwX2_rain_5 : List UInt8 := [198, 0, 20, 25, 5, 182, 0, 117, 153, 0, 12, 42, 25, 5, 182, 0, 120, 167, 0, 4, 3, 96, 62]
abbrev dktX2_rain_5 : List UInt8 := dkwX2_rain_5 ++ dktX2_rain_6
def dkwX2_rain_4 : List UInt8 := [7, 54, 4, 21, 4, 155, 0, 47, 42, 8, 27, 104, 21, 4, 96, 182, 0, 101, 58, 5, 29, 25, 5]
abbrev dktX2_rain_4 : List UInt8 := dkwX2_rain_4 ++ dktX2_rain_5
def dkwX2_rain_3 : List UInt8 := [160, 0, 19, 25, 4, 89, 180, 0, 111, 25, 4, 28, 182, 0, 130, 96, 181, 0, 111, 167, 255, 200, 3, 62]
abbrev dktX2_rain_3 : List UInt8 := dkwX2_rain_3 ++ dktX2_rain_4
def dkwX2_rain_2 : List UInt8 := [192, 0, 64, 58, 4, 25, 4, 180, 0, 95, 5, 160, 0, 30, 25, 4, 180, 0, 98, 8, 108, 27]
abbrev dktX2_rain_2 : List UInt8 := dkwX2_rain_2 ++ dktX2_rain_3
def dkwX2_rain_1 : List UInt8 := [42, 180, 0, 21, 182, 0, 50, 78, 45, 185, 0, 54, 1, 0, 153, 0, 53, 45, 185, 0, 60, 1, 0]
abbrev dktX2_rain_1 : List UInt8 := dkwX2_rain_1 ++ dktX2_rain_2
def dkwX2_rain_0 : List UInt8 := [42, 180, 0, 34, 182, 0, 124, 60, 42, 180, 0, 34, 182, 0, 127, 153, 0, 7, 5, 167, 0, 4, 4, 61]
abbrev dktX2_rain_0 : List UInt8 := dkwX2_rain_0 ++ dktX2_rain_1
theorem dksX2_rain_0 : cX2_rain.data.toList.drop 0 = dktX2_rain_0 := by decide +kernel
theorem dksX2_rain_1 : cX2_rain.data.toList.drop 24 = dktX2_rain_1 := dk_seg dksX2_rain_0 24 rfl rfl
theorem dksX2_rain_2 : cX2_rain.data.toList.drop 47 = dktX2_rain_2 := dk_seg dksX2_rain_1 23 rfl rfl
theorem dksX2_rain_3 : cX2_rain.data.toList.drop 69 = dktX2_rain_3 := dk_seg dksX2_rain_2 22 rfl rfl
theorem dksX2_rain_4 : cX2_rain.data.toList.drop 93 = dktX2_rain_4 := dk_seg dksX2_rain_3 24 rfl rfl
theorem dksX2_rain_5 : cX2_rain.data.toList.drop 116 = dktX2_rain_5 := dk_seg dksX2_rain_4 23 rfl rfl
theorem dksX2_rain_6 : cX2_rain.data.toList.drop 139 = dktX2_rain_6 := dk_seg dksX2_rain_5 23 rfl rfl
theorem dX2_rain_0 : decode cX2_rain 0 = .ok (.aload_n 0, 1) := dk_42 (dk_at dksX2_rain_0 0 rfl rfl)
theorem dX2_rain_1 : decode cX2_rain 1 = .ok (.getfield 34, 3) := dk_180 0 34 (dk_at dksX2_rain_0 1 rfl rfl)
theorem dX2_rain_4 : decode cX2_rain 4 = .ok (.invokevirtual 124, 3) := dk_182 0 124 (dk_at dksX2_rain_0 4 rfl rfl)
theorem dX2_rain_7 : decode cX2_rain 7 = .ok (.istore_n 1, 1) := dk_60 (dk_at dksX2_rain_0 7 rfl rfl)
theorem dX2_rain_8 : decode cX2_rain 8 = .ok (.aload_n 0, 1) := dk_42 (dk_at dksX2_rain_0 8 rfl rfl)
theorem dX2_rain_9 : decode cX2_rain 9 = .ok (.getfield 34, 3) := dk_180 0 34 (dk_at dksX2_rain_0 9 rfl rfl)
theorem dX2_rain_12 : decode cX2_rain 12 = .ok (.invokevirtual 127, 3) := dk_182 0 127 (dk_at dksX2_rain_0 12 rfl rfl)
theorem dX2_rain_15 : decode cX2_rain 15 = .ok (.ifCond .eq 7, 3) := dk_153 0 7 (dk_at dksX2_rain_0 15 rfl rfl)
theorem dX2_rain_18 : decode cX2_rain 18 = .ok (.iconst 2, 1) := dk_5 (dk_at dksX2_rain_0 18 rfl rfl)
theorem dX2_rain_19 : decode cX2_rain 19 = .ok (.goto 4, 3) := dk_167 0 4 (dk_at dksX2_rain_0 19 rfl rfl)
theorem dX2_rain_22 : decode cX2_rain 22 = .ok (.iconst 1, 1) := dk_4 (dk_at dksX2_rain_0 22 rfl rfl)
theorem dX2_rain_23 : decode cX2_rain 23 = .ok (.istore_n 2, 1) := dk_61 (dk_at dksX2_rain_0 23 rfl rfl)
theorem dX2_rain_24 : decode cX2_rain 24 = .ok (.aload_n 0, 1) := dk_42 (dk_at dksX2_rain_1 0 rfl rfl)
theorem dX2_rain_25 : decode cX2_rain 25 = .ok (.getfield 21, 3) := dk_180 0 21 (dk_at dksX2_rain_1 1 rfl rfl)
theorem dX2_rain_28 : decode cX2_rain 28 = .ok (.invokevirtual 50, 3) := dk_182 0 50 (dk_at dksX2_rain_1 4 rfl rfl)
theorem dX2_rain_31 : decode cX2_rain 31 = .ok (.astore_n 3, 1) := dk_78 (dk_at dksX2_rain_1 7 rfl rfl)
theorem dX2_rain_32 : decode cX2_rain 32 = .ok (.aload_n 3, 1) := dk_45 (dk_at dksX2_rain_1 8 rfl rfl)
theorem dX2_rain_33 : decode cX2_rain 33 = .ok (.invokeinterface 54 1, 5) := by decide +kernel
theorem dX2_rain_38 : decode cX2_rain 38 = .ok (.ifCond .eq 53, 3) := dk_153 0 53 (dk_at dksX2_rain_1 14 rfl rfl)
theorem dX2_rain_41 : decode cX2_rain 41 = .ok (.aload_n 3, 1) := dk_45 (dk_at dksX2_rain_1 17 rfl rfl)
theorem dX2_rain_42 : decode cX2_rain 42 = .ok (.invokeinterface 60 1, 5) := by decide +kernel
theorem dX2_rain_47 : decode cX2_rain 47 = .ok (.checkcast 64, 3) := dk_192 0 64 (dk_at dksX2_rain_2 0 rfl rfl)
theorem dX2_rain_50 : decode cX2_rain 50 = .ok (.astore 4, 2) := dk_58 4 (dk_at dksX2_rain_2 3 rfl rfl)
theorem dX2_rain_52 : decode cX2_rain 52 = .ok (.aload 4, 2) := dk_25 4 (dk_at dksX2_rain_2 5 rfl rfl)
theorem dX2_rain_54 : decode cX2_rain 54 = .ok (.getfield 95, 3) := dk_180 0 95 (dk_at dksX2_rain_2 7 rfl rfl)
theorem dX2_rain_57 : decode cX2_rain 57 = .ok (.iconst 2, 1) := dk_5 (dk_at dksX2_rain_2 10 rfl rfl)
theorem dX2_rain_58 : decode cX2_rain 58 = .ok (.if_icmp .ne 30, 3) := dk_160 0 30 (dk_at dksX2_rain_2 11 rfl rfl)
theorem dX2_rain_61 : decode cX2_rain 61 = .ok (.aload 4, 2) := dk_25 4 (dk_at dksX2_rain_2 14 rfl rfl)
theorem dX2_rain_63 : decode cX2_rain 63 = .ok (.getfield 98, 3) := dk_180 0 98 (dk_at dksX2_rain_2 16 rfl rfl)
theorem dX2_rain_66 : decode cX2_rain 66 = .ok (.iconst 5, 1) := dk_8 (dk_at dksX2_rain_2 19 rfl rfl)
theorem dX2_rain_67 : decode cX2_rain 67 = .ok (.idiv, 1) := dk_108 (dk_at dksX2_rain_2 20 rfl rfl)
theorem dX2_rain_68 : decode cX2_rain 68 = .ok (.iload_n 1, 1) := dk_27 (dk_at dksX2_rain_2 21 rfl rfl)
theorem dX2_rain_69 : decode cX2_rain 69 = .ok (.if_icmp .ne 19, 3) := dk_160 0 19 (dk_at dksX2_rain_3 0 rfl rfl)
theorem dX2_rain_72 : decode cX2_rain 72 = .ok (.aload 4, 2) := dk_25 4 (dk_at dksX2_rain_3 3 rfl rfl)
theorem dX2_rain_74 : decode cX2_rain 74 = .ok (.dup, 1) := dk_89 (dk_at dksX2_rain_3 5 rfl rfl)
theorem dX2_rain_75 : decode cX2_rain 75 = .ok (.getfield 111, 3) := dk_180 0 111 (dk_at dksX2_rain_3 6 rfl rfl)
theorem dX2_rain_78 : decode cX2_rain 78 = .ok (.aload 4, 2) := dk_25 4 (dk_at dksX2_rain_3 9 rfl rfl)
theorem dX2_rain_80 : decode cX2_rain 80 = .ok (.iload_n 2, 1) := dk_28 (dk_at dksX2_rain_3 11 rfl rfl)
theorem dX2_rain_81 : decode cX2_rain 81 = .ok (.invokevirtual 130, 3) := dk_182 0 130 (dk_at dksX2_rain_3 12 rfl rfl)
theorem dX2_rain_84 : decode cX2_rain 84 = .ok (.iadd, 1) := dk_96 (dk_at dksX2_rain_3 15 rfl rfl)
theorem dX2_rain_85 : decode cX2_rain 85 = .ok (.putfield 111, 3) := dk_181 0 111 (dk_at dksX2_rain_3 16 rfl rfl)
theorem dX2_rain_88 : decode cX2_rain 88 = .ok (.goto (-56), 3) := dk_167 255 200 (dk_at dksX2_rain_3 19 rfl rfl)
theorem dX2_rain_91 : decode cX2_rain 91 = .ok (.iconst 0, 1) := dk_3 (dk_at dksX2_rain_3 22 rfl rfl)
theorem dX2_rain_92 : decode cX2_rain 92 = .ok (.istore_n 3, 1) := dk_62 (dk_at dksX2_rain_3 23 rfl rfl)
theorem dX2_rain_93 : decode cX2_rain 93 = .ok (.iconst 4, 1) := dk_7 (dk_at dksX2_rain_4 0 rfl rfl)
theorem dX2_rain_94 : decode cX2_rain 94 = .ok (.istore 4, 2) := dk_54 4 (dk_at dksX2_rain_4 1 rfl rfl)
theorem dX2_rain_96 : decode cX2_rain 96 = .ok (.iload 4, 2) := dk_21 4 (dk_at dksX2_rain_4 3 rfl rfl)
theorem dX2_rain_98 : decode cX2_rain 98 = .ok (.ifCond .lt 47, 3) := dk_155 0 47 (dk_at dksX2_rain_4 5 rfl rfl)
theorem dX2_rain_101 : decode cX2_rain 101 = .ok (.aload_n 0, 1) := dk_42 (dk_at dksX2_rain_4 8 rfl rfl)
theorem dX2_rain_102 : decode cX2_rain 102 = .ok (.iconst 5, 1) := dk_8 (dk_at dksX2_rain_4 9 rfl rfl)
theorem dX2_rain_103 : decode cX2_rain 103 = .ok (.iload_n 1, 1) := dk_27 (dk_at dksX2_rain_4 10 rfl rfl)
theorem dX2_rain_104 : decode cX2_rain 104 = .ok (.imul, 1) := dk_104 (dk_at dksX2_rain_4 11 rfl rfl)
theorem dX2_rain_105 : decode cX2_rain 105 = .ok (.iload 4, 2) := dk_21 4 (dk_at dksX2_rain_4 12 rfl rfl)
theorem dX2_rain_107 : decode cX2_rain 107 = .ok (.iadd, 1) := dk_96 (dk_at dksX2_rain_4 14 rfl rfl)
theorem dX2_rain_108 : decode cX2_rain 108 = .ok (.invokevirtual 101, 3) := dk_182 0 101 (dk_at dksX2_rain_4 15 rfl rfl)
theorem dX2_rain_111 : decode cX2_rain 111 = .ok (.astore 5, 2) := dk_58 5 (dk_at dksX2_rain_4 18 rfl rfl)
theorem dX2_rain_113 : decode cX2_rain 113 = .ok (.iload_n 3, 1) := dk_29 (dk_at dksX2_rain_4 20 rfl rfl)
theorem dX2_rain_114 : decode cX2_rain 114 = .ok (.aload 5, 2) := dk_25 5 (dk_at dksX2_rain_4 21 rfl rfl)
theorem dX2_rain_116 : decode cX2_rain 116 = .ok (.ifnull 20, 3) := dk_198 0 20 (dk_at dksX2_rain_5 0 rfl rfl)
theorem dX2_rain_119 : decode cX2_rain 119 = .ok (.aload 5, 2) := dk_25 5 (dk_at dksX2_rain_5 3 rfl rfl)
theorem dX2_rain_121 : decode cX2_rain 121 = .ok (.invokevirtual 117, 3) := dk_182 0 117 (dk_at dksX2_rain_5 5 rfl rfl)
theorem dX2_rain_124 : decode cX2_rain 124 = .ok (.ifCond .eq 12, 3) := dk_153 0 12 (dk_at dksX2_rain_5 8 rfl rfl)
theorem dX2_rain_127 : decode cX2_rain 127 = .ok (.aload_n 0, 1) := dk_42 (dk_at dksX2_rain_5 11 rfl rfl)
theorem dX2_rain_128 : decode cX2_rain 128 = .ok (.aload 5, 2) := dk_25 5 (dk_at dksX2_rain_5 12 rfl rfl)
theorem dX2_rain_130 : decode cX2_rain 130 = .ok (.invokevirtual 120, 3) := dk_182 0 120 (dk_at dksX2_rain_5 14 rfl rfl)
theorem dX2_rain_133 : decode cX2_rain 133 = .ok (.goto 4, 3) := dk_167 0 4 (dk_at dksX2_rain_5 17 rfl rfl)
theorem dX2_rain_136 : decode cX2_rain 136 = .ok (.iconst 0, 1) := dk_3 (dk_at dksX2_rain_5 20 rfl rfl)
theorem dX2_rain_137 : decode cX2_rain 137 = .ok (.iadd, 1) := dk_96 (dk_at dksX2_rain_5 21 rfl rfl)
theorem dX2_rain_138 : decode cX2_rain 138 = .ok (.istore_n 3, 1) := dk_62 (dk_at dksX2_rain_5 22 rfl rfl)
theorem dX2_rain_139 : decode cX2_rain 139 = .ok (.iinc 4 (-1), 3) := dk_132 4 255 (dk_at dksX2_rain_6 0 rfl rfl)
theorem dX2_rain_142 : decode cX2_rain 142 = .ok (.goto (-46), 3) := dk_167 255 210 (dk_at dksX2_rain_6 3 rfl rfl)
theorem dX2_rain_145 : decode cX2_rain 145 = .ok (.iload_n 3, 1) := dk_29 (dk_at dksX2_rain_6 6 rfl rfl)
theorem dX2_rain_146 : decode cX2_rain 146 = .ok (.ireturn, 1) := dk_172 (dk_at dksX2_rain_6 7 rfl rfl)
abbrev cX2_endDay : ByteArray := prog_12_method_12_code
def yX2_endDay : MethodName := ⟨RX2, "endDay", "()I"⟩
def dkwX2_endDay_2 : List UInt8 := [180, 0, 38, 4, 96, 181, 0, 38, 27, 172]
abbrev dktX2_endDay_2 : List UInt8 := dkwX2_endDay_2 ++ []
def dkwX2_endDay_1 : List UInt8 := [167, 0, 4, 3, 96, 181, 0, 44, 42, 182, 0, 144, 60, 27, 42, 182, 0, 147, 96, 60, 42, 89]
abbrev dktX2_endDay_1 : List UInt8 := dkwX2_endDay_1 ++ dktX2_endDay_2
def dkwX2_endDay_0 : List UInt8 := [42, 180, 0, 34, 182, 0, 141, 42, 89, 180, 0, 44, 42, 180, 0, 34, 182, 0, 127, 153, 0, 7, 4]
abbrev dktX2_endDay_0 : List UInt8 := dkwX2_endDay_0 ++ dktX2_endDay_1
theorem dksX2_endDay_0 : cX2_endDay.data.toList.drop 0 = dktX2_endDay_0 := by decide +kernel
theorem dksX2_endDay_1 : cX2_endDay.data.toList.drop 23 = dktX2_endDay_1 := dk_seg dksX2_endDay_0 23 rfl rfl
theorem dksX2_endDay_2 : cX2_endDay.data.toList.drop 45 = dktX2_endDay_2 := dk_seg dksX2_endDay_1 22 rfl rfl
theorem dX2_endDay_0 : decode cX2_endDay 0 = .ok (.aload_n 0, 1) := dk_42 (dk_at dksX2_endDay_0 0 rfl rfl)
theorem dX2_endDay_1 : decode cX2_endDay 1 = .ok (.getfield 34, 3) := dk_180 0 34 (dk_at dksX2_endDay_0 1 rfl rfl)
theorem dX2_endDay_4 : decode cX2_endDay 4 = .ok (.invokevirtual 141, 3) := dk_182 0 141 (dk_at dksX2_endDay_0 4 rfl rfl)
theorem dX2_endDay_7 : decode cX2_endDay 7 = .ok (.aload_n 0, 1) := dk_42 (dk_at dksX2_endDay_0 7 rfl rfl)
theorem dX2_endDay_8 : decode cX2_endDay 8 = .ok (.dup, 1) := dk_89 (dk_at dksX2_endDay_0 8 rfl rfl)
theorem dX2_endDay_9 : decode cX2_endDay 9 = .ok (.getfield 44, 3) := dk_180 0 44 (dk_at dksX2_endDay_0 9 rfl rfl)
theorem dX2_endDay_12 : decode cX2_endDay 12 = .ok (.aload_n 0, 1) := dk_42 (dk_at dksX2_endDay_0 12 rfl rfl)
theorem dX2_endDay_13 : decode cX2_endDay 13 = .ok (.getfield 34, 3) := dk_180 0 34 (dk_at dksX2_endDay_0 13 rfl rfl)
theorem dX2_endDay_16 : decode cX2_endDay 16 = .ok (.invokevirtual 127, 3) := dk_182 0 127 (dk_at dksX2_endDay_0 16 rfl rfl)
theorem dX2_endDay_19 : decode cX2_endDay 19 = .ok (.ifCond .eq 7, 3) := dk_153 0 7 (dk_at dksX2_endDay_0 19 rfl rfl)
theorem dX2_endDay_22 : decode cX2_endDay 22 = .ok (.iconst 1, 1) := dk_4 (dk_at dksX2_endDay_0 22 rfl rfl)
theorem dX2_endDay_23 : decode cX2_endDay 23 = .ok (.goto 4, 3) := dk_167 0 4 (dk_at dksX2_endDay_1 0 rfl rfl)
theorem dX2_endDay_26 : decode cX2_endDay 26 = .ok (.iconst 0, 1) := dk_3 (dk_at dksX2_endDay_1 3 rfl rfl)
theorem dX2_endDay_27 : decode cX2_endDay 27 = .ok (.iadd, 1) := dk_96 (dk_at dksX2_endDay_1 4 rfl rfl)
theorem dX2_endDay_28 : decode cX2_endDay 28 = .ok (.putfield 44, 3) := dk_181 0 44 (dk_at dksX2_endDay_1 5 rfl rfl)
theorem dX2_endDay_31 : decode cX2_endDay 31 = .ok (.aload_n 0, 1) := dk_42 (dk_at dksX2_endDay_1 8 rfl rfl)
theorem dX2_endDay_32 : decode cX2_endDay 32 = .ok (.invokevirtual 144, 3) := dk_182 0 144 (dk_at dksX2_endDay_1 9 rfl rfl)
theorem dX2_endDay_35 : decode cX2_endDay 35 = .ok (.istore_n 1, 1) := dk_60 (dk_at dksX2_endDay_1 12 rfl rfl)
theorem dX2_endDay_36 : decode cX2_endDay 36 = .ok (.iload_n 1, 1) := dk_27 (dk_at dksX2_endDay_1 13 rfl rfl)
theorem dX2_endDay_37 : decode cX2_endDay 37 = .ok (.aload_n 0, 1) := dk_42 (dk_at dksX2_endDay_1 14 rfl rfl)
theorem dX2_endDay_38 : decode cX2_endDay 38 = .ok (.invokevirtual 147, 3) := dk_182 0 147 (dk_at dksX2_endDay_1 15 rfl rfl)
theorem dX2_endDay_41 : decode cX2_endDay 41 = .ok (.iadd, 1) := dk_96 (dk_at dksX2_endDay_1 18 rfl rfl)
theorem dX2_endDay_42 : decode cX2_endDay 42 = .ok (.istore_n 1, 1) := dk_60 (dk_at dksX2_endDay_1 19 rfl rfl)
theorem dX2_endDay_43 : decode cX2_endDay 43 = .ok (.aload_n 0, 1) := dk_42 (dk_at dksX2_endDay_1 20 rfl rfl)
theorem dX2_endDay_44 : decode cX2_endDay 44 = .ok (.dup, 1) := dk_89 (dk_at dksX2_endDay_1 21 rfl rfl)
theorem dX2_endDay_45 : decode cX2_endDay 45 = .ok (.getfield 38, 3) := dk_180 0 38 (dk_at dksX2_endDay_2 0 rfl rfl)
theorem dX2_endDay_48 : decode cX2_endDay 48 = .ok (.iconst 1, 1) := dk_4 (dk_at dksX2_endDay_2 3 rfl rfl)
theorem dX2_endDay_49 : decode cX2_endDay 49 = .ok (.iadd, 1) := dk_96 (dk_at dksX2_endDay_2 4 rfl rfl)
theorem dX2_endDay_50 : decode cX2_endDay 50 = .ok (.putfield 38, 3) := dk_181 0 38 (dk_at dksX2_endDay_2 5 rfl rfl)
theorem dX2_endDay_53 : decode cX2_endDay 53 = .ok (.iload_n 1, 1) := dk_27 (dk_at dksX2_endDay_2 8 rfl rfl)
theorem dX2_endDay_54 : decode cX2_endDay 54 = .ok (.ireturn, 1) := dk_172 (dk_at dksX2_endDay_2 9 rfl rfl)
abbrev cX2_pass : ByteArray := prog_12_method_29_code
def yX2_pass : MethodName := ⟨RX2, "pass", "(I)I"⟩
def dkwX2_pass_1 : List UInt8 := [96, 61, 132, 3, 1, 167, 255, 241, 28, 172]
abbrev dktX2_pass_1 : List UInt8 := dkwX2_pass_1 ++ []
def dkwX2_pass_0 : List UInt8 := [27, 4, 16, 40, 184, 0, 150, 184, 0, 154, 3, 61, 3, 62, 29, 27, 162, 0, 16, 28, 42, 182, 0, 231]
abbrev dktX2_pass_0 : List UInt8 := dkwX2_pass_0 ++ dktX2_pass_1
theorem dksX2_pass_0 : cX2_pass.data.toList.drop 0 = dktX2_pass_0 := by decide +kernel
theorem dksX2_pass_1 : cX2_pass.data.toList.drop 24 = dktX2_pass_1 := dk_seg dksX2_pass_0 24 rfl rfl
theorem dX2_pass_0 : decode cX2_pass 0 = .ok (.iload_n 1, 1) := dk_27 (dk_at dksX2_pass_0 0 rfl rfl)
theorem dX2_pass_1 : decode cX2_pass 1 = .ok (.iconst 1, 1) := dk_4 (dk_at dksX2_pass_0 1 rfl rfl)
theorem dX2_pass_2 : decode cX2_pass 2 = .ok (.bipush 40, 2) := dk_16 40 (dk_at dksX2_pass_0 2 rfl rfl)
theorem dX2_pass_4 : decode cX2_pass 4 = .ok (.invokestatic 150, 3) := dk_184 0 150 (dk_at dksX2_pass_0 4 rfl rfl)
theorem dX2_pass_7 : decode cX2_pass 7 = .ok (.invokestatic 154, 3) := dk_184 0 154 (dk_at dksX2_pass_0 7 rfl rfl)
theorem dX2_pass_10 : decode cX2_pass 10 = .ok (.iconst 0, 1) := dk_3 (dk_at dksX2_pass_0 10 rfl rfl)
theorem dX2_pass_11 : decode cX2_pass 11 = .ok (.istore_n 2, 1) := dk_61 (dk_at dksX2_pass_0 11 rfl rfl)
theorem dX2_pass_12 : decode cX2_pass 12 = .ok (.iconst 0, 1) := dk_3 (dk_at dksX2_pass_0 12 rfl rfl)
theorem dX2_pass_13 : decode cX2_pass 13 = .ok (.istore_n 3, 1) := dk_62 (dk_at dksX2_pass_0 13 rfl rfl)
theorem dX2_pass_14 : decode cX2_pass 14 = .ok (.iload_n 3, 1) := dk_29 (dk_at dksX2_pass_0 14 rfl rfl)
theorem dX2_pass_15 : decode cX2_pass 15 = .ok (.iload_n 1, 1) := dk_27 (dk_at dksX2_pass_0 15 rfl rfl)
theorem dX2_pass_16 : decode cX2_pass 16 = .ok (.if_icmp .ge 16, 3) := dk_162 0 16 (dk_at dksX2_pass_0 16 rfl rfl)
theorem dX2_pass_19 : decode cX2_pass 19 = .ok (.iload_n 2, 1) := dk_28 (dk_at dksX2_pass_0 19 rfl rfl)
theorem dX2_pass_20 : decode cX2_pass 20 = .ok (.aload_n 0, 1) := dk_42 (dk_at dksX2_pass_0 20 rfl rfl)
theorem dX2_pass_21 : decode cX2_pass 21 = .ok (.invokevirtual 231, 3) := dk_182 0 231 (dk_at dksX2_pass_0 21 rfl rfl)
theorem dX2_pass_24 : decode cX2_pass 24 = .ok (.iadd, 1) := dk_96 (dk_at dksX2_pass_1 0 rfl rfl)
theorem dX2_pass_25 : decode cX2_pass 25 = .ok (.istore_n 2, 1) := dk_61 (dk_at dksX2_pass_1 1 rfl rfl)
theorem dX2_pass_26 : decode cX2_pass 26 = .ok (.iinc 3 1, 3) := dk_132 3 1 (dk_at dksX2_pass_1 2 rfl rfl)
theorem dX2_pass_29 : decode cX2_pass 29 = .ok (.goto (-15), 3) := dk_167 255 241 (dk_at dksX2_pass_1 5 rfl rfl)
theorem dX2_pass_32 : decode cX2_pass 32 = .ok (.iload_n 2, 1) := dk_28 (dk_at dksX2_pass_1 8 rfl rfl)
theorem dX2_pass_33 : decode cX2_pass 33 = .ok (.ireturn, 1) := dk_172 (dk_at dksX2_pass_1 9 rfl rfl)
theorem q75 : (Jvm.Cond.initialized "GargoyleTower") ∈ lw_all := lw_g (lw_at lw_m1 1 rfl) rfl
theorem q76 : (Jvm.Cond.initialized "GargoyleTower$World") ∈ lw_all := lw_g (lw_at lw_m1 2 rfl) rfl
theorem q91 : (Jvm.Cond.initialized "java/lang/Throwable") ∈ lw_all := lw_g (lw_at lw_m1 17 rfl) rfl
theorem q92 : (Jvm.Cond.initialized "java/lang/Exception") ∈ lw_all := lw_g (lw_at lw_m1 18 rfl) rfl
theorem q94 : (Jvm.Cond.initialized "java/lang/IndexOutOfBoundsException") ∈ lw_all := lw_g (lw_at lw_m1 20 rfl) rfl
theorem q102 : (Jvm.Cond.initialized "java/lang/IllegalArgumentException") ∈ lw_all := lw_g (lw_at lw_m1 28 rfl) rfl
theorem q103 : (Jvm.Cond.initialized "java/util/NoSuchElementException") ∈ lw_all := lw_g (lw_at lw_m1 29 rfl) rfl
theorem q107 : (Jvm.Cond.initialized "GargoyleTower$RefusedException") ∈ lw_all := lw_g (lw_at lw_m1 33 rfl) rfl
theorem q110 : (Jvm.Cond.initialized "java/lang/IllegalStateException") ∈ lw_all := lw_g (lw_at lw_m1 36 rfl) rfl
theorem q119 : (Jvm.Cond.initialized "GargoyleTower$TextException") ∈ lw_all := lw_g (lw_at lw_m1 45 rfl) rfl
theorem q136 : (Jvm.Cond.code ({ cls := "GargoyleTower$World", name := "<init>", desc := "()V" } : Jvm.MethodName) prog_12_method_1_code (1 : Nat) (Option.none : Option Jvm.ClassFile.FieldType)) ∈ lw_all := lw_g (lw_at lw_m1 62 rfl) rfl
theorem q137 : (Jvm.Cond.methodLink "GargoyleTower$World" (3 : Nat) ({ cls := "java/lang/Object", name := "<init>", desc := "()V" } : Jvm.MethodName)) ∈ lw_all := lw_g (lw_at lw_m1 63 rfl) rfl
theorem q138 : (Jvm.Cond.classLink "GargoyleTower$World" (18 : Nat) "java/util/ArrayList") ∈ lw_all := lw_g (lw_at lw_m1 64 rfl) rfl
theorem q139 : (Jvm.Cond.instantiable "java/util/ArrayList" (3 : Nat)) ∈ lw_all := lw_g (lw_at lw_m1 65 rfl) rfl
theorem q140 : (Jvm.Cond.methodLink "GargoyleTower$World" (20 : Nat) ({ cls := "java/util/ArrayList", name := "<init>", desc := "()V" } : Jvm.MethodName)) ∈ lw_all := lw_g (lw_at lw_m1 66 rfl) rfl
theorem q141 : (Jvm.Cond.instanceMethod ({ cls := "java/util/ArrayList", name := "<init>", desc := "()V" } : Jvm.MethodName)) ∈ lw_all := lw_g (lw_at lw_m1 67 rfl) rfl
theorem q171 : (Jvm.Cond.classLink "GargoyleTower$World" (31 : Nat) "GargoyleTower$Weather") ∈ lw_all := lw_g (lw_at lw_m1 97 rfl) rfl
theorem q172 : (Jvm.Cond.instantiable "GargoyleTower$Weather" (1 : Nat)) ∈ lw_all := lw_g (lw_at lw_m1 98 rfl) rfl
theorem q173 : (Jvm.Cond.methodLink "GargoyleTower$World" (33 : Nat) ({ cls := "GargoyleTower$Weather", name := "<init>", desc := "()V" } : Jvm.MethodName)) ∈ lw_all := lw_g (lw_at lw_m1 99 rfl) rfl
theorem q174 : (Jvm.Cond.instanceMethod ({ cls := "GargoyleTower$Weather", name := "<init>", desc := "()V" } : Jvm.MethodName)) ∈ lw_all := lw_g (lw_at lw_m1 100 rfl) rfl
theorem q178 : (Jvm.Cond.fieldLinkNest "GargoyleTower$World" (228 : Nat) "GargoyleTower$Weather" "seed" "I" "GargoyleTower") ∈ lw_tbl := lw_at lw_m1 104 rfl
theorem q183 : (Jvm.Cond.fieldLink "GargoyleTower$World" (9 : Nat) "GargoyleTower$World" "coins" "I") ∈ lw_all := lw_g (lw_at lw_m1 109 rfl) rfl
theorem q185 : (Jvm.Cond.fieldLink "GargoyleTower$World" (38 : Nat) "GargoyleTower$World" "day" "I") ∈ lw_all := lw_g (lw_at lw_m1 111 rfl) rfl
theorem q187 : (Jvm.Cond.fieldLink "GargoyleTower$World" (15 : Nat) "GargoyleTower$World" "edge" "I") ∈ lw_all := lw_g (lw_at lw_m1 113 rfl) rfl
theorem q189 : (Jvm.Cond.fieldLink "GargoyleTower$World" (41 : Nat) "GargoyleTower$World" "whets" "I") ∈ lw_all := lw_g (lw_at lw_m1 115 rfl) rfl
theorem q191 : (Jvm.Cond.fieldLink "GargoyleTower$World" (44 : Nat) "GargoyleTower$World" "storms" "I") ∈ lw_all := lw_g (lw_at lw_m1 117 rfl) rfl
theorem q193 : (Jvm.Cond.fieldLink "GargoyleTower$World" (34 : Nat) "GargoyleTower$World" "weather" "LGargoyleTower$Weather;") ∈ lw_all := lw_g (lw_at lw_m1 119 rfl) rfl
theorem q195 : (Jvm.Cond.fieldLink "GargoyleTower$World" (21 : Nat) "GargoyleTower$World" "blocks" "Ljava/util/ArrayList;") ∈ lw_all := lw_g (lw_at lw_m1 121 rfl) rfl
theorem q197 : (Jvm.Cond.fieldLink "GargoyleTower$World" (25 : Nat) "GargoyleTower$World" "ropes" "Ljava/util/ArrayList;") ∈ lw_all := lw_g (lw_at lw_m1 123 rfl) rfl
theorem q199 : (Jvm.Cond.fieldLink "GargoyleTower$World" (28 : Nat) "GargoyleTower$World" "commissions" "Ljava/util/ArrayList;") ∈ lw_all := lw_g (lw_at lw_m1 125 rfl) rfl
theorem q309 : (Jvm.Cond.instanceMethod ({ cls := "java/util/ArrayList", name := "iterator", desc := "()Ljava/util/Iterator;" } : Jvm.MethodName)) ∈ lw_all := lw_g (lw_at lw_m1 235 rfl) rfl
theorem q310 : (Jvm.Cond.selects "java/util/ArrayList" ({ cls := "java/util/ArrayList", name := "iterator", desc := "()Ljava/util/Iterator;" } : Jvm.MethodName) ({ cls := "java/util/ArrayList", name := "iterator", desc := "()Ljava/util/Iterator;" } : Jvm.MethodName)) ∈ lw_all := lw_g (lw_at lw_m1 236 rfl) rfl
theorem q336 : (Jvm.Cond.declares ({ cls := "java/util/Iterator", name := "hasNext", desc := "()Z" } : Jvm.MethodName)) ∈ lw_tbl := lw_at lw_m2 22 rfl
theorem q347 : (Jvm.Cond.instanceMethod ({ cls := "java/util/ArrayList", name := "size", desc := "()I" } : Jvm.MethodName)) ∈ lw_all := lw_g (lw_at lw_m2 33 rfl) rfl
theorem q352 : (Jvm.Cond.castable "java/util/ArrayList$Itr" "java/util/Iterator") ∈ lw_tbl := lw_at lw_m2 38 rfl
theorem q353 : (Jvm.Cond.selects "java/util/ArrayList$Itr" ({ cls := "java/util/Iterator", name := "hasNext", desc := "()Z" } : Jvm.MethodName) ({ cls := "java/util/ArrayList$Itr", name := "hasNext", desc := "()Z" } : Jvm.MethodName)) ∈ lw_all := lw_g (lw_at lw_m2 39 rfl) rfl
theorem q354 : (Jvm.Cond.unhidden "java/util/ArrayList$Itr" "hasNext" "()Z") ∈ lw_tbl := lw_at lw_m2 40 rfl
theorem q355 : (Jvm.Cond.instanceMethod ({ cls := "java/util/ArrayList$Itr", name := "hasNext", desc := "()Z" } : Jvm.MethodName)) ∈ lw_all := lw_g (lw_at lw_m2 41 rfl) rfl
theorem q356 : (Jvm.Cond.publicMethod ({ cls := "java/util/ArrayList$Itr", name := "hasNext", desc := "()Z" } : Jvm.MethodName)) ∈ lw_tbl := lw_at lw_m2 42 rfl
theorem q370 : (Jvm.Cond.declares ({ cls := "java/util/Iterator", name := "next", desc := "()Ljava/lang/Object;" } : Jvm.MethodName)) ∈ lw_tbl := lw_at lw_m2 56 rfl
theorem q385 : (Jvm.Cond.instanceMethod ({ cls := "java/util/ArrayList", name := "get", desc := "(I)Ljava/lang/Object;" } : Jvm.MethodName)) ∈ lw_all := lw_g (lw_at lw_m2 71 rfl) rfl
theorem q434 : (Jvm.Cond.methodLink "java/lang/Throwable" (1 : Nat) ({ cls := "java/lang/Object", name := "<init>", desc := "()V" } : Jvm.MethodName)) ∈ lw_all := lw_g (lw_at lw_m2 120 rfl) rfl
theorem q435 : (Jvm.Cond.fieldLink "java/lang/Throwable" (13 : Nat) "java/lang/Throwable" "UNASSIGNED_STACK" "[Ljava/lang/StackTraceElement;") ∈ lw_all := lw_g (lw_at lw_m2 121 rfl) rfl
theorem q437 : (Jvm.Cond.fieldLink "java/lang/Throwable" (20 : Nat) "java/lang/Throwable" "SUPPRESSED_SENTINEL" "Ljava/util/List;") ∈ lw_all := lw_g (lw_at lw_m2 123 rfl) rfl
theorem q674 : (Jvm.Cond.fieldLink "java/lang/Throwable" (31 : Nat) "java/lang/Throwable" "detailMessage" "Ljava/lang/String;") ∈ lw_all := lw_g (lw_at lw_m3 120 rfl) rfl
theorem q675 : (Jvm.Cond.fieldLink "java/lang/Throwable" (7 : Nat) "java/lang/Throwable" "cause" "Ljava/lang/Throwable;") ∈ lw_all := lw_g (lw_at lw_m3 121 rfl) rfl
theorem q676 : (Jvm.Cond.fieldLink "java/lang/Throwable" (17 : Nat) "java/lang/Throwable" "stackTrace" "[Ljava/lang/StackTraceElement;") ∈ lw_all := lw_g (lw_at lw_m3 122 rfl) rfl
theorem q677 : (Jvm.Cond.fieldLink "java/lang/Throwable" (24 : Nat) "java/lang/Throwable" "suppressedExceptions" "Ljava/util/List;") ∈ lw_all := lw_g (lw_at lw_m3 123 rfl) rfl
theorem q826 : (Jvm.Cond.selects "java/util/ArrayList$Itr" ({ cls := "java/util/Iterator", name := "next", desc := "()Ljava/lang/Object;" } : Jvm.MethodName) ({ cls := "java/util/ArrayList$Itr", name := "next", desc := "()Ljava/lang/Object;" } : Jvm.MethodName)) ∈ lw_all := lw_g (lw_at lw_m4 32 rfl) rfl
theorem q827 : (Jvm.Cond.unhidden "java/util/ArrayList$Itr" "next" "()Ljava/lang/Object;") ∈ lw_tbl := lw_at lw_m4 33 rfl
theorem q828 : (Jvm.Cond.instanceMethod ({ cls := "java/util/ArrayList$Itr", name := "next", desc := "()Ljava/lang/Object;" } : Jvm.MethodName)) ∈ lw_all := lw_g (lw_at lw_m4 34 rfl) rfl
theorem q829 : (Jvm.Cond.publicMethod ({ cls := "java/util/ArrayList$Itr", name := "next", desc := "()Ljava/lang/Object;" } : Jvm.MethodName)) ∈ lw_tbl := lw_at lw_m4 35 rfl
theorem q864 : (Jvm.Cond.instanceMethod ({ cls := "GargoyleTower$Commission", name := "isFulfilled", desc := "()Z" } : Jvm.MethodName)) ∈ lw_all := lw_g (lw_at lw_m4 70 rfl) rfl
theorem q865 : (Jvm.Cond.selects "GargoyleTower$Commission" ({ cls := "GargoyleTower$Commission", name := "isFulfilled", desc := "()Z" } : Jvm.MethodName) ({ cls := "GargoyleTower$Commission", name := "isFulfilled", desc := "()Z" } : Jvm.MethodName)) ∈ lw_all := lw_g (lw_at lw_m4 71 rfl) rfl
theorem q869 : (Jvm.Cond.instanceMethod ({ cls := "GargoyleTower$Rope", name := "price", desc := "()I" } : Jvm.MethodName)) ∈ lw_all := lw_g (lw_at lw_m4 75 rfl) rfl
theorem q870 : (Jvm.Cond.selects "GargoyleTower$Rope" ({ cls := "GargoyleTower$Rope", name := "price", desc := "()I" } : Jvm.MethodName) ({ cls := "GargoyleTower$Rope", name := "price", desc := "()I" } : Jvm.MethodName)) ∈ lw_all := lw_g (lw_at lw_m4 76 rfl) rfl
theorem q929 : (Jvm.Cond.declares ({ cls := "GargoyleTower$Hit", name := "isLoose", desc := "()Z" } : Jvm.MethodName)) ∈ lw_tbl := lw_at lw_m4 135 rfl
theorem q931 : (Jvm.Cond.instanceMethod ({ cls := "GargoyleTower$Hit", name := "isLoose", desc := "()Z" } : Jvm.MethodName)) ∈ lw_all := lw_g (lw_at lw_m4 137 rfl) rfl
theorem q948 : (Jvm.Cond.instanceMethod ({ cls := "GargoyleTower$World", name := "blockIn", desc := "(I)LGargoyleTower$Block;" } : Jvm.MethodName)) ∈ lw_all := lw_g (lw_at lw_m4 154 rfl) rfl
theorem q949 : (Jvm.Cond.selects "GargoyleTower$World" ({ cls := "GargoyleTower$World", name := "blockIn", desc := "(I)LGargoyleTower$Block;" } : Jvm.MethodName) ({ cls := "GargoyleTower$World", name := "blockIn", desc := "(I)LGargoyleTower$Block;" } : Jvm.MethodName)) ∈ lw_all := lw_g (lw_at lw_m4 155 rfl) rfl
theorem q950 : (Jvm.Cond.code ({ cls := "GargoyleTower$World", name := "blockIn", desc := "(I)LGargoyleTower$Block;" } : Jvm.MethodName) prog_12_method_6_code (4 : Nat) (Option.some (Jvm.ClassFile.FieldType.object "GargoyleTower$Block"))) ∈ lw_all := lw_g (lw_at lw_m4 156 rfl) rfl
theorem q951 : (Jvm.Cond.methodLink "GargoyleTower$World" (50 : Nat) ({ cls := "java/util/ArrayList", name := "iterator", desc := "()Ljava/util/Iterator;" } : Jvm.MethodName)) ∈ lw_all := lw_g (lw_at lw_m4 157 rfl) rfl
theorem q953 : (Jvm.Cond.methodLink "GargoyleTower$World" (54 : Nat) ({ cls := "java/util/Iterator", name := "hasNext", desc := "()Z" } : Jvm.MethodName)) ∈ lw_all := lw_g (lw_at lw_m4 159 rfl) rfl
theorem q955 : (Jvm.Cond.methodLink "GargoyleTower$World" (60 : Nat) ({ cls := "java/util/Iterator", name := "next", desc := "()Ljava/lang/Object;" } : Jvm.MethodName)) ∈ lw_all := lw_g (lw_at lw_m4 161 rfl) rfl
theorem q956 : (Jvm.Cond.classLink "GargoyleTower$World" (64 : Nat) "GargoyleTower$Block") ∈ lw_all := lw_g (lw_at lw_m4 162 rfl) rfl
theorem q963 : (Jvm.Cond.code ({ cls := "GargoyleTower$World", name := "<init>", desc := "(LGargoyleTower$World;)V" } : Jvm.MethodName) prog_12_method_2_code (5 : Nat) (Option.none : Option Jvm.ClassFile.FieldType)) ∈ lw_all := lw_g (lw_at lw_m4 169 rfl) rfl
theorem q964 : (Jvm.Cond.methodLink "GargoyleTower$World" (47 : Nat) ({ cls := "GargoyleTower$Weather", name := "<init>", desc := "(LGargoyleTower$Weather;)V" } : Jvm.MethodName)) ∈ lw_all := lw_g (lw_at lw_m4 170 rfl) rfl
theorem q965 : (Jvm.Cond.instanceMethod ({ cls := "GargoyleTower$Weather", name := "<init>", desc := "(LGargoyleTower$Weather;)V" } : Jvm.MethodName)) ∈ lw_all := lw_g (lw_at lw_m4 171 rfl) rfl
theorem q967 : (Jvm.Cond.instantiable "GargoyleTower$Block" (8 : Nat)) ∈ lw_all := lw_g (lw_at lw_m4 173 rfl) rfl
theorem q968 : (Jvm.Cond.methodLink "GargoyleTower$World" (66 : Nat) ({ cls := "GargoyleTower$Block", name := "<init>", desc := "(LGargoyleTower$Block;)V" } : Jvm.MethodName)) ∈ lw_all := lw_g (lw_at lw_m4 174 rfl) rfl
theorem q969 : (Jvm.Cond.instanceMethod ({ cls := "GargoyleTower$Block", name := "<init>", desc := "(LGargoyleTower$Block;)V" } : Jvm.MethodName)) ∈ lw_all := lw_g (lw_at lw_m4 175 rfl) rfl
theorem q977 : (Jvm.Cond.fieldLinkNest "GargoyleTower$World" (193 : Nat) "GargoyleTower$Block" "number" "I" "GargoyleTower") ∈ lw_tbl := lw_at lw_m4 183 rfl
theorem q979 : (Jvm.Cond.fieldLinkNest "GargoyleTower$World" (114 : Nat) "GargoyleTower$Block" "weight" "I" "GargoyleTower") ∈ lw_tbl := lw_at lw_m4 185 rfl
theorem q984 : (Jvm.Cond.fieldLinkNest "GargoyleTower$World" (167 : Nat) "GargoyleTower$Block" "detail" "I" "GargoyleTower") ∈ lw_tbl := lw_at lw_m4 190 rfl
theorem q987 : (Jvm.Cond.fieldLinkNest "GargoyleTower$World" (111 : Nat) "GargoyleTower$Block" "damage" "I" "GargoyleTower") ∈ lw_tbl := lw_at lw_m4 193 rfl
theorem q990 : (Jvm.Cond.fieldLinkNest "GargoyleTower$World" (95 : Nat) "GargoyleTower$Block" "where" "I" "GargoyleTower") ∈ lw_tbl := lw_at lw_m4 196 rfl
theorem q993 : (Jvm.Cond.fieldLinkNest "GargoyleTower$World" (98 : Nat) "GargoyleTower$Block" "place" "I" "GargoyleTower") ∈ lw_tbl := lw_at lw_m4 199 rfl
theorem q997 : (Jvm.Cond.fieldLinkNest "GargoyleTower$World" (209 : Nat) "GargoyleTower$Block" "commission" "I" "GargoyleTower") ∈ lw_tbl := lw_at lw_m4 203 rfl
theorem q1014 : (Jvm.Cond.methodLink "GargoyleTower$World" (69 : Nat) ({ cls := "java/util/ArrayList", name := "add", desc := "(Ljava/lang/Object;)Z" } : Jvm.MethodName)) ∈ lw_all := lw_g (lw_at lw_m4 220 rfl) rfl
theorem q1015 : (Jvm.Cond.instanceMethod ({ cls := "java/util/ArrayList", name := "add", desc := "(Ljava/lang/Object;)Z" } : Jvm.MethodName)) ∈ lw_all := lw_g (lw_at lw_m4 221 rfl) rfl
theorem q1016 : (Jvm.Cond.selects "java/util/ArrayList" ({ cls := "java/util/ArrayList", name := "add", desc := "(Ljava/lang/Object;)Z" } : Jvm.MethodName) ({ cls := "java/util/ArrayList", name := "add", desc := "(Ljava/lang/Object;)Z" } : Jvm.MethodName)) ∈ lw_all := lw_g (lw_at lw_m4 222 rfl) rfl
theorem q1042 : (Jvm.Cond.classLink "GargoyleTower$World" (73 : Nat) "GargoyleTower$Rope") ∈ lw_all := lw_g (lw_at lw_m5 8 rfl) rfl
theorem q1043 : (Jvm.Cond.instantiable "GargoyleTower$Rope" (4 : Nat)) ∈ lw_all := lw_g (lw_at lw_m5 9 rfl) rfl
theorem q1044 : (Jvm.Cond.methodLink "GargoyleTower$World" (75 : Nat) ({ cls := "GargoyleTower$Rope", name := "<init>", desc := "(LGargoyleTower$Rope;)V" } : Jvm.MethodName)) ∈ lw_all := lw_g (lw_at lw_m5 10 rfl) rfl
theorem q1045 : (Jvm.Cond.instanceMethod ({ cls := "GargoyleTower$Rope", name := "<init>", desc := "(LGargoyleTower$Rope;)V" } : Jvm.MethodName)) ∈ lw_all := lw_g (lw_at lw_m5 11 rfl) rfl
theorem q1057 : (Jvm.Cond.fieldLinkNest "GargoyleTower$World" (134 : Nat) "GargoyleTower$Rope" "block" "I" "GargoyleTower") ∈ lw_tbl := lw_at lw_m5 23 rfl
theorem q1067 : (Jvm.Cond.classLink "GargoyleTower$World" (78 : Nat) "GargoyleTower$Commission") ∈ lw_all := lw_g (lw_at lw_m5 33 rfl) rfl
theorem q1068 : (Jvm.Cond.instantiable "GargoyleTower$Commission" (4 : Nat)) ∈ lw_all := lw_g (lw_at lw_m5 34 rfl) rfl
theorem q1069 : (Jvm.Cond.methodLink "GargoyleTower$World" (80 : Nat) ({ cls := "GargoyleTower$Commission", name := "<init>", desc := "(LGargoyleTower$Commission;)V" } : Jvm.MethodName)) ∈ lw_all := lw_g (lw_at lw_m5 35 rfl) rfl
theorem q1070 : (Jvm.Cond.instanceMethod ({ cls := "GargoyleTower$Commission", name := "<init>", desc := "(LGargoyleTower$Commission;)V" } : Jvm.MethodName)) ∈ lw_all := lw_g (lw_at lw_m5 36 rfl) rfl
theorem q1077 : (Jvm.Cond.fieldLinkNest "GargoyleTower$World" (202 : Nat) "GargoyleTower$Commission" "face" "I" "GargoyleTower") ∈ lw_tbl := lw_at lw_m5 43 rfl
theorem q1080 : (Jvm.Cond.fieldLinkNest "GargoyleTower$World" (208 : Nat) "GargoyleTower$Commission" "detail" "I" "GargoyleTower") ∈ lw_tbl := lw_at lw_m5 46 rfl
theorem q1083 : (Jvm.Cond.fieldLinkNest "GargoyleTower$World" (226 : Nat) "GargoyleTower$Commission" "pay" "I" "GargoyleTower") ∈ lw_tbl := lw_at lw_m5 49 rfl
theorem q1086 : (Jvm.Cond.fieldLinkNest "GargoyleTower$World" (218 : Nat) "GargoyleTower$Commission" "block" "I" "GargoyleTower") ∈ lw_tbl := lw_at lw_m5 52 rfl
theorem q1133 : (Jvm.Cond.classLink "GargoyleTower" (22 : Nat) "GargoyleTower$RefusedException") ∈ lw_all := lw_g (lw_at lw_m5 99 rfl) rfl
theorem q1221 : (Jvm.Cond.code ({ cls := "GargoyleTower$World", name := "carve", desc := "(II)I" } : Jvm.MethodName) prog_12_method_14_code (5 : Nat) (Option.some Jvm.ClassFile.FieldType.int)) ∈ lw_all := lw_g (lw_at lw_m5 187 rfl) rfl
theorem q1222 : (Jvm.Cond.methodLink "GargoyleTower$World" (165 : Nat) ({ cls := "GargoyleTower$World", name := "block", desc := "(I)LGargoyleTower$Block;" } : Jvm.MethodName)) ∈ lw_all := lw_g (lw_at lw_m5 188 rfl) rfl
theorem q1223 : (Jvm.Cond.instanceMethod ({ cls := "GargoyleTower$World", name := "block", desc := "(I)LGargoyleTower$Block;" } : Jvm.MethodName)) ∈ lw_all := lw_g (lw_at lw_m5 189 rfl) rfl
theorem q1224 : (Jvm.Cond.selects "GargoyleTower$World" ({ cls := "GargoyleTower$World", name := "block", desc := "(I)LGargoyleTower$Block;" } : Jvm.MethodName) ({ cls := "GargoyleTower$World", name := "block", desc := "(I)LGargoyleTower$Block;" } : Jvm.MethodName)) ∈ lw_all := lw_g (lw_at lw_m5 190 rfl) rfl
theorem q1225 : (Jvm.Cond.code ({ cls := "GargoyleTower$World", name := "block", desc := "(I)LGargoyleTower$Block;" } : Jvm.MethodName) prog_12_method_3_code (2 : Nat) (Option.some (Jvm.ClassFile.FieldType.object "GargoyleTower$Block"))) ∈ lw_all := lw_g (lw_at lw_m5 191 rfl) rfl
theorem q1226 : (Jvm.Cond.methodLink "GargoyleTower$World" (83 : Nat) ({ cls := "java/util/ArrayList", name := "size", desc := "()I" } : Jvm.MethodName)) ∈ lw_all := lw_g (lw_at lw_m5 192 rfl) rfl
theorem q1227 : (Jvm.Cond.methodLinkNest "GargoyleTower$World" (87 : Nat) ({ cls := "GargoyleTower", name := "checkIndex", desc := "(II)V" } : Jvm.MethodName) "GargoyleTower") ∈ lw_tbl := lw_at lw_m5 193 rfl
theorem q1228 : (Jvm.Cond.static ({ cls := "GargoyleTower", name := "checkIndex", desc := "(II)V" } : Jvm.MethodName)) ∈ lw_all := lw_g (lw_at lw_m5 194 rfl) rfl
theorem q1229 : (Jvm.Cond.code ({ cls := "GargoyleTower", name := "checkIndex", desc := "(II)V" } : Jvm.MethodName) prog_1_method_4_code (2 : Nat) (Option.none : Option Jvm.ClassFile.FieldType)) ∈ lw_all := lw_g (lw_at lw_m5 195 rfl) rfl
theorem q1230 : (Jvm.Cond.methodLink "GargoyleTower" (10 : Nat) ({ cls := "GargoyleTower", name := "inRange", desc := "(III)Z" } : Jvm.MethodName)) ∈ lw_all := lw_g (lw_at lw_m5 196 rfl) rfl
theorem q1231 : (Jvm.Cond.static ({ cls := "GargoyleTower", name := "inRange", desc := "(III)Z" } : Jvm.MethodName)) ∈ lw_all := lw_g (lw_at lw_m5 197 rfl) rfl
theorem q1232 : (Jvm.Cond.code ({ cls := "GargoyleTower", name := "inRange", desc := "(III)Z" } : Jvm.MethodName) prog_1_method_1_code (3 : Nat) (Option.some Jvm.ClassFile.FieldType.boolean)) ∈ lw_all := lw_g (lw_at lw_m5 198 rfl) rfl
theorem q1233 : (Jvm.Cond.classLink "GargoyleTower" (16 : Nat) "java/lang/IndexOutOfBoundsException") ∈ lw_all := lw_g (lw_at lw_m5 199 rfl) rfl
theorem q1238 : (Jvm.Cond.methodLink "GargoyleTower$World" (91 : Nat) ({ cls := "java/util/ArrayList", name := "get", desc := "(I)Ljava/lang/Object;" } : Jvm.MethodName)) ∈ lw_all := lw_g (lw_at lw_m5 204 rfl) rfl
theorem q1239 : (Jvm.Cond.methodLinkNest "GargoyleTower$World" (150 : Nat) ({ cls := "GargoyleTower", name := "inRange", desc := "(III)Z" } : Jvm.MethodName) "GargoyleTower") ∈ lw_tbl := lw_at lw_m5 205 rfl
theorem q1240 : (Jvm.Cond.methodLinkNest "GargoyleTower$World" (154 : Nat) ({ cls := "GargoyleTower", name := "checkArgument", desc := "(Z)V" } : Jvm.MethodName) "GargoyleTower") ∈ lw_tbl := lw_at lw_m5 206 rfl
theorem q1241 : (Jvm.Cond.static ({ cls := "GargoyleTower", name := "checkArgument", desc := "(Z)V" } : Jvm.MethodName)) ∈ lw_all := lw_g (lw_at lw_m5 207 rfl) rfl
theorem q1242 : (Jvm.Cond.code ({ cls := "GargoyleTower", name := "checkArgument", desc := "(Z)V" } : Jvm.MethodName) prog_1_method_2_code (1 : Nat) (Option.none : Option Jvm.ClassFile.FieldType)) ∈ lw_all := lw_g (lw_at lw_m5 208 rfl) rfl
theorem q1243 : (Jvm.Cond.classLink "GargoyleTower" (1 : Nat) "java/lang/IllegalArgumentException") ∈ lw_all := lw_g (lw_at lw_m5 209 rfl) rfl
theorem q1248 : (Jvm.Cond.methodLinkNest "GargoyleTower$World" (158 : Nat) ({ cls := "GargoyleTower", name := "refuse", desc := "(ZII)V" } : Jvm.MethodName) "GargoyleTower") ∈ lw_tbl := lw_at lw_m5 214 rfl
theorem q1249 : (Jvm.Cond.static ({ cls := "GargoyleTower", name := "refuse", desc := "(ZII)V" } : Jvm.MethodName)) ∈ lw_all := lw_g (lw_at lw_m5 215 rfl) rfl
theorem q1250 : (Jvm.Cond.code ({ cls := "GargoyleTower", name := "refuse", desc := "(ZII)V" } : Jvm.MethodName) prog_1_method_6_code (3 : Nat) (Option.none : Option Jvm.ClassFile.FieldType)) ∈ lw_all := lw_g (lw_at lw_m5 216 rfl) rfl
theorem q1251 : (Jvm.Cond.instantiable "GargoyleTower$RefusedException" (8 : Nat)) ∈ lw_all := lw_g (lw_at lw_m5 217 rfl) rfl
theorem q1259 : (Jvm.Cond.methodLink "GargoyleTower" (24 : Nat) ({ cls := "GargoyleTower$RefusedException", name := "<init>", desc := "(II)V" } : Jvm.MethodName)) ∈ lw_all := lw_g (lw_at lw_m5 225 rfl) rfl
theorem q1260 : (Jvm.Cond.instanceMethod ({ cls := "GargoyleTower$RefusedException", name := "<init>", desc := "(II)V" } : Jvm.MethodName)) ∈ lw_all := lw_g (lw_at lw_m5 226 rfl) rfl
theorem q1261 : (Jvm.Cond.code ({ cls := "GargoyleTower$RefusedException", name := "<init>", desc := "(II)V" } : Jvm.MethodName) prog_8_method_1_code (3 : Nat) (Option.none : Option Jvm.ClassFile.FieldType)) ∈ lw_all := lw_g (lw_at lw_m5 227 rfl) rfl
theorem q1262 : (Jvm.Cond.methodLink "GargoyleTower$RefusedException" (1 : Nat) ({ cls := "GargoyleTower$RefusedException", name := "<init>", desc := "(IILGargoyleTower$RefusedException;)V" } : Jvm.MethodName)) ∈ lw_all := lw_g (lw_at lw_m5 228 rfl) rfl
theorem q1263 : (Jvm.Cond.instanceMethod ({ cls := "GargoyleTower$RefusedException", name := "<init>", desc := "(IILGargoyleTower$RefusedException;)V" } : Jvm.MethodName)) ∈ lw_all := lw_g (lw_at lw_m5 229 rfl) rfl
theorem q1264 : (Jvm.Cond.code ({ cls := "GargoyleTower$RefusedException", name := "<init>", desc := "(IILGargoyleTower$RefusedException;)V" } : Jvm.MethodName) prog_8_method_2_code (4 : Nat) (Option.none : Option Jvm.ClassFile.FieldType)) ∈ lw_all := lw_g (lw_at lw_m5 230 rfl) rfl
theorem q1265 : (Jvm.Cond.methodLink "GargoyleTower$RefusedException" (7 : Nat) ({ cls := "java/lang/Exception", name := "<init>", desc := "(Ljava/lang/String;Ljava/lang/Throwable;ZZ)V" } : Jvm.MethodName)) ∈ lw_all := lw_g (lw_at lw_m5 231 rfl) rfl
theorem q1266 : (Jvm.Cond.instanceMethod ({ cls := "java/lang/Exception", name := "<init>", desc := "(Ljava/lang/String;Ljava/lang/Throwable;ZZ)V" } : Jvm.MethodName)) ∈ lw_all := lw_g (lw_at lw_m5 232 rfl) rfl
theorem q1267 : (Jvm.Cond.code ({ cls := "java/lang/Exception", name := "<init>", desc := "(Ljava/lang/String;Ljava/lang/Throwable;ZZ)V" } : Jvm.MethodName) prog_23_method_5_code (5 : Nat) (Option.none : Option Jvm.ClassFile.FieldType)) ∈ lw_all := lw_g (lw_at lw_m5 233 rfl) rfl
theorem q1268 : (Jvm.Cond.methodLink "java/lang/Exception" (16 : Nat) ({ cls := "java/lang/Throwable", name := "<init>", desc := "(Ljava/lang/String;Ljava/lang/Throwable;ZZ)V" } : Jvm.MethodName)) ∈ lw_all := lw_g (lw_at lw_m5 234 rfl) rfl
theorem q1269 : (Jvm.Cond.instanceMethod ({ cls := "java/lang/Throwable", name := "<init>", desc := "(Ljava/lang/String;Ljava/lang/Throwable;ZZ)V" } : Jvm.MethodName)) ∈ lw_all := lw_g (lw_at lw_m5 235 rfl) rfl
theorem q1270 : (Jvm.Cond.code ({ cls := "java/lang/Throwable", name := "<init>", desc := "(Ljava/lang/String;Ljava/lang/Throwable;ZZ)V" } : Jvm.MethodName) prog_39_method_5_code (5 : Nat) (Option.none : Option Jvm.ClassFile.FieldType)) ∈ lw_all := lw_g (lw_at lw_m5 236 rfl) rfl
theorem q1271 : (Jvm.Cond.fieldLink "GargoyleTower$RefusedException" (12 : Nat) "GargoyleTower$RefusedException" "reason" "I") ∈ lw_all := lw_g (lw_at lw_m5 237 rfl) rfl
theorem q1273 : (Jvm.Cond.fieldLink "GargoyleTower$RefusedException" (16 : Nat) "GargoyleTower$RefusedException" "detail" "I") ∈ lw_all := lw_g (lw_at lw_m5 239 rfl) rfl
theorem q1281 : (Jvm.Cond.methodLink "GargoyleTower$World" (130 : Nat) ({ cls := "GargoyleTower$Block", name := "times", desc := "(I)I" } : Jvm.MethodName)) ∈ lw_all := lw_g (lw_at lw_m6 7 rfl) rfl
theorem q1282 : (Jvm.Cond.instanceMethod ({ cls := "GargoyleTower$Block", name := "times", desc := "(I)I" } : Jvm.MethodName)) ∈ lw_all := lw_g (lw_at lw_m6 8 rfl) rfl
theorem q1283 : (Jvm.Cond.selects "GargoyleTower$Block" ({ cls := "GargoyleTower$Block", name := "times", desc := "(I)I" } : Jvm.MethodName) ({ cls := "GargoyleTower$Block", name := "times", desc := "(I)I" } : Jvm.MethodName)) ∈ lw_all := lw_g (lw_at lw_m6 9 rfl) rfl
theorem q1288 : (Jvm.Cond.code ({ cls := "GargoyleTower$World", name := "whet", desc := "()I" } : Jvm.MethodName) prog_12_method_16_code (2 : Nat) (Option.some Jvm.ClassFile.FieldType.int)) ∈ lw_all := lw_g (lw_at lw_m6 14 rfl) rfl
theorem q1289 : (Jvm.Cond.methodLink "GargoyleTower$World" (170 : Nat) ({ cls := "GargoyleTower$World", name := "pay", desc := "(I)V" } : Jvm.MethodName)) ∈ lw_all := lw_g (lw_at lw_m6 15 rfl) rfl
theorem q1291 : (Jvm.Cond.instanceMethod ({ cls := "GargoyleTower$World", name := "pay", desc := "(I)V" } : Jvm.MethodName)) ∈ lw_all := lw_g (lw_at lw_m6 17 rfl) rfl
theorem q1292 : (Jvm.Cond.code ({ cls := "GargoyleTower$World", name := "pay", desc := "(I)V" } : Jvm.MethodName) prog_12_method_15_code (2 : Nat) (Option.none : Option Jvm.ClassFile.FieldType)) ∈ lw_all := lw_g (lw_at lw_m6 18 rfl) rfl
theorem q1296 : (Jvm.Cond.code ({ cls := "GargoyleTower$World", name := "hoist", desc := "(II)I" } : Jvm.MethodName) prog_12_method_18_code (5 : Nat) (Option.some Jvm.ClassFile.FieldType.int)) ∈ lw_all := lw_g (lw_at lw_m6 22 rfl) rfl
theorem q1297 : (Jvm.Cond.methodLink "GargoyleTower$World" (179 : Nat) ({ cls := "GargoyleTower$World", name := "rope", desc := "(I)LGargoyleTower$Rope;" } : Jvm.MethodName)) ∈ lw_all := lw_g (lw_at lw_m6 23 rfl) rfl
theorem q1298 : (Jvm.Cond.instanceMethod ({ cls := "GargoyleTower$World", name := "rope", desc := "(I)LGargoyleTower$Rope;" } : Jvm.MethodName)) ∈ lw_all := lw_g (lw_at lw_m6 24 rfl) rfl
theorem q1299 : (Jvm.Cond.selects "GargoyleTower$World" ({ cls := "GargoyleTower$World", name := "rope", desc := "(I)LGargoyleTower$Rope;" } : Jvm.MethodName) ({ cls := "GargoyleTower$World", name := "rope", desc := "(I)LGargoyleTower$Rope;" } : Jvm.MethodName)) ∈ lw_all := lw_g (lw_at lw_m6 25 rfl) rfl
theorem q1300 : (Jvm.Cond.code ({ cls := "GargoyleTower$World", name := "rope", desc := "(I)LGargoyleTower$Rope;" } : Jvm.MethodName) prog_12_method_4_code (2 : Nat) (Option.some (Jvm.ClassFile.FieldType.object "GargoyleTower$Rope"))) ∈ lw_all := lw_g (lw_at lw_m6 26 rfl) rfl
theorem q1301 : (Jvm.Cond.methodLink "GargoyleTower$World" (105 : Nat) ({ cls := "GargoyleTower$Block", name := "go", desc := "(II)V" } : Jvm.MethodName)) ∈ lw_all := lw_g (lw_at lw_m6 27 rfl) rfl
theorem q1302 : (Jvm.Cond.instanceMethod ({ cls := "GargoyleTower$Block", name := "go", desc := "(II)V" } : Jvm.MethodName)) ∈ lw_all := lw_g (lw_at lw_m6 28 rfl) rfl
theorem q1303 : (Jvm.Cond.selects "GargoyleTower$Block" ({ cls := "GargoyleTower$Block", name := "go", desc := "(II)V" } : Jvm.MethodName) ({ cls := "GargoyleTower$Block", name := "go", desc := "(II)V" } : Jvm.MethodName)) ∈ lw_all := lw_g (lw_at lw_m6 29 rfl) rfl
theorem q1308 : (Jvm.Cond.code ({ cls := "GargoyleTower$World", name := "lower", desc := "(I)I" } : Jvm.MethodName) prog_12_method_20_code (3 : Nat) (Option.some Jvm.ClassFile.FieldType.int)) ∈ lw_all := lw_g (lw_at lw_m6 34 rfl) rfl
theorem q1309 : (Jvm.Cond.methodLink "GargoyleTower$World" (190 : Nat) ({ cls := "GargoyleTower$World", name := "hanging", desc := "(I)LGargoyleTower$Block;" } : Jvm.MethodName)) ∈ lw_all := lw_g (lw_at lw_m6 35 rfl) rfl
theorem q1311 : (Jvm.Cond.instanceMethod ({ cls := "GargoyleTower$World", name := "hanging", desc := "(I)LGargoyleTower$Block;" } : Jvm.MethodName)) ∈ lw_all := lw_g (lw_at lw_m6 37 rfl) rfl
theorem q1312 : (Jvm.Cond.code ({ cls := "GargoyleTower$World", name := "hanging", desc := "(I)LGargoyleTower$Block;" } : Jvm.MethodName) prog_12_method_19_code (3 : Nat) (Option.some (Jvm.ClassFile.FieldType.object "GargoyleTower$Block"))) ∈ lw_all := lw_g (lw_at lw_m6 38 rfl) rfl
theorem q1316 : (Jvm.Cond.code ({ cls := "GargoyleTower$World", name := "set", desc := "(II)I" } : Jvm.MethodName) prog_12_method_21_code (7 : Nat) (Option.some Jvm.ClassFile.FieldType.int)) ∈ lw_all := lw_g (lw_at lw_m6 42 rfl) rfl
theorem q1317 : (Jvm.Cond.methodLink "GargoyleTower$World" (101 : Nat) ({ cls := "GargoyleTower$World", name := "blockIn", desc := "(I)LGargoyleTower$Block;" } : Jvm.MethodName)) ∈ lw_all := lw_g (lw_at lw_m6 43 rfl) rfl
theorem q1318 : (Jvm.Cond.methodLink "GargoyleTower$World" (137 : Nat) ({ cls := "GargoyleTower$Rope", name := "wearBy", desc := "(II)Z" } : Jvm.MethodName)) ∈ lw_all := lw_g (lw_at lw_m6 44 rfl) rfl
theorem q1319 : (Jvm.Cond.instanceMethod ({ cls := "GargoyleTower$Rope", name := "wearBy", desc := "(II)Z" } : Jvm.MethodName)) ∈ lw_all := lw_g (lw_at lw_m6 45 rfl) rfl
theorem q1320 : (Jvm.Cond.selects "GargoyleTower$Rope" ({ cls := "GargoyleTower$Rope", name := "wearBy", desc := "(II)Z" } : Jvm.MethodName) ({ cls := "GargoyleTower$Rope", name := "wearBy", desc := "(II)Z" } : Jvm.MethodName)) ∈ lw_all := lw_g (lw_at lw_m6 46 rfl) rfl
theorem q1325 : (Jvm.Cond.code ({ cls := "GargoyleTower$World", name := "deliver", desc := "(II)I" } : Jvm.MethodName) prog_12_method_26_code (6 : Nat) (Option.some Jvm.ClassFile.FieldType.int)) ∈ lw_all := lw_g (lw_at lw_m6 51 rfl) rfl
theorem q1326 : (Jvm.Cond.methodLink "GargoyleTower$World" (212 : Nat) ({ cls := "GargoyleTower$World", name := "commission", desc := "(I)LGargoyleTower$Commission;" } : Jvm.MethodName)) ∈ lw_all := lw_g (lw_at lw_m6 52 rfl) rfl
theorem q1327 : (Jvm.Cond.instanceMethod ({ cls := "GargoyleTower$World", name := "commission", desc := "(I)LGargoyleTower$Commission;" } : Jvm.MethodName)) ∈ lw_all := lw_g (lw_at lw_m6 53 rfl) rfl
theorem q1328 : (Jvm.Cond.selects "GargoyleTower$World" ({ cls := "GargoyleTower$World", name := "commission", desc := "(I)LGargoyleTower$Commission;" } : Jvm.MethodName) ({ cls := "GargoyleTower$World", name := "commission", desc := "(I)LGargoyleTower$Commission;" } : Jvm.MethodName)) ∈ lw_all := lw_g (lw_at lw_m6 54 rfl) rfl
theorem q1329 : (Jvm.Cond.code ({ cls := "GargoyleTower$World", name := "commission", desc := "(I)LGargoyleTower$Commission;" } : Jvm.MethodName) prog_12_method_5_code (2 : Nat) (Option.some (Jvm.ClassFile.FieldType.object "GargoyleTower$Commission"))) ∈ lw_all := lw_g (lw_at lw_m6 55 rfl) rfl
theorem q1330 : (Jvm.Cond.methodLink "GargoyleTower$World" (215 : Nat) ({ cls := "GargoyleTower$Commission", name := "isFulfilled", desc := "()Z" } : Jvm.MethodName)) ∈ lw_all := lw_g (lw_at lw_m6 56 rfl) rfl
theorem q1331 : (Jvm.Cond.methodLink "GargoyleTower$World" (196 : Nat) ({ cls := "GargoyleTower$World", name := "standing", desc := "(I)LGargoyleTower$Block;" } : Jvm.MethodName)) ∈ lw_all := lw_g (lw_at lw_m6 57 rfl) rfl
theorem q1333 : (Jvm.Cond.instanceMethod ({ cls := "GargoyleTower$World", name := "standing", desc := "(I)LGargoyleTower$Block;" } : Jvm.MethodName)) ∈ lw_all := lw_g (lw_at lw_m6 59 rfl) rfl
theorem q1334 : (Jvm.Cond.code ({ cls := "GargoyleTower$World", name := "standing", desc := "(I)LGargoyleTower$Block;" } : Jvm.MethodName) prog_12_method_22_code (3 : Nat) (Option.some (Jvm.ClassFile.FieldType.object "GargoyleTower$Block"))) ∈ lw_all := lw_g (lw_at lw_m6 60 rfl) rfl
theorem q1335 : (Jvm.Cond.methodLink "GargoyleTower$World" (219 : Nat) ({ cls := "GargoyleTower$World", name := "fault", desc := "(LGargoyleTower$Commission;LGargoyleTower$Block;)LGargoyleTower$RefusedException;" } : Jvm.MethodName)) ∈ lw_all := lw_g (lw_at lw_m6 61 rfl) rfl
theorem q1336 : (Jvm.Cond.static ({ cls := "GargoyleTower$World", name := "fault", desc := "(LGargoyleTower$Commission;LGargoyleTower$Block;)LGargoyleTower$RefusedException;" } : Jvm.MethodName)) ∈ lw_all := lw_g (lw_at lw_m6 62 rfl) rfl
theorem q1337 : (Jvm.Cond.code ({ cls := "GargoyleTower$World", name := "fault", desc := "(LGargoyleTower$Commission;LGargoyleTower$Block;)LGargoyleTower$RefusedException;" } : Jvm.MethodName) prog_12_method_25_code (2 : Nat) (Option.some (Jvm.ClassFile.FieldType.object "GargoyleTower$RefusedException"))) ∈ lw_all := lw_g (lw_at lw_m6 63 rfl) rfl
theorem q1338 : (Jvm.Cond.classLink "GargoyleTower$World" (204 : Nat) "GargoyleTower$RefusedException") ∈ lw_all := lw_g (lw_at lw_m6 64 rfl) rfl
theorem q1339 : (Jvm.Cond.methodLink "GargoyleTower$World" (206 : Nat) ({ cls := "GargoyleTower$RefusedException", name := "<init>", desc := "(II)V" } : Jvm.MethodName)) ∈ lw_all := lw_g (lw_at lw_m6 65 rfl) rfl
theorem q1340 : (Jvm.Cond.methodLink "GargoyleTower$World" (223 : Nat) ({ cls := "GargoyleTower$RefusedException", name := "<init>", desc := "(IILGargoyleTower$RefusedException;)V" } : Jvm.MethodName)) ∈ lw_all := lw_g (lw_at lw_m6 66 rfl) rfl
theorem q1344 : (Jvm.Cond.code ({ cls := "GargoyleTower$World", name := "pass", desc := "(I)I" } : Jvm.MethodName) prog_12_method_29_code (4 : Nat) (Option.some Jvm.ClassFile.FieldType.int)) ∈ lw_all := lw_g (lw_at lw_m6 70 rfl) rfl
theorem q1345 : (Jvm.Cond.methodLink "GargoyleTower$World" (231 : Nat) ({ cls := "GargoyleTower$World", name := "endDay", desc := "()I" } : Jvm.MethodName)) ∈ lw_all := lw_g (lw_at lw_m6 71 rfl) rfl
theorem q1346 : (Jvm.Cond.instanceMethod ({ cls := "GargoyleTower$World", name := "endDay", desc := "()I" } : Jvm.MethodName)) ∈ lw_all := lw_g (lw_at lw_m6 72 rfl) rfl
theorem q1347 : (Jvm.Cond.selects "GargoyleTower$World" ({ cls := "GargoyleTower$World", name := "endDay", desc := "()I" } : Jvm.MethodName) ({ cls := "GargoyleTower$World", name := "endDay", desc := "()I" } : Jvm.MethodName)) ∈ lw_all := lw_g (lw_at lw_m6 73 rfl) rfl
theorem q1348 : (Jvm.Cond.code ({ cls := "GargoyleTower$World", name := "endDay", desc := "()I" } : Jvm.MethodName) prog_12_method_12_code (2 : Nat) (Option.some Jvm.ClassFile.FieldType.int)) ∈ lw_all := lw_g (lw_at lw_m6 74 rfl) rfl
theorem q1349 : (Jvm.Cond.methodLink "GargoyleTower$World" (141 : Nat) ({ cls := "GargoyleTower$Weather", name := "draw", desc := "()V" } : Jvm.MethodName)) ∈ lw_all := lw_g (lw_at lw_m6 75 rfl) rfl
theorem q1350 : (Jvm.Cond.instanceMethod ({ cls := "GargoyleTower$Weather", name := "draw", desc := "()V" } : Jvm.MethodName)) ∈ lw_all := lw_g (lw_at lw_m6 76 rfl) rfl
theorem q1351 : (Jvm.Cond.selects "GargoyleTower$Weather" ({ cls := "GargoyleTower$Weather", name := "draw", desc := "()V" } : Jvm.MethodName) ({ cls := "GargoyleTower$Weather", name := "draw", desc := "()V" } : Jvm.MethodName)) ∈ lw_all := lw_g (lw_at lw_m6 77 rfl) rfl
theorem q1353 : (Jvm.Cond.methodLink "GargoyleTower$World" (127 : Nat) ({ cls := "GargoyleTower$Weather", name := "isStorm", desc := "()Z" } : Jvm.MethodName)) ∈ lw_all := lw_g (lw_at lw_m6 79 rfl) rfl
theorem q1354 : (Jvm.Cond.instanceMethod ({ cls := "GargoyleTower$Weather", name := "isStorm", desc := "()Z" } : Jvm.MethodName)) ∈ lw_all := lw_g (lw_at lw_m6 80 rfl) rfl
theorem q1355 : (Jvm.Cond.selects "GargoyleTower$Weather" ({ cls := "GargoyleTower$Weather", name := "isStorm", desc := "()Z" } : Jvm.MethodName) ({ cls := "GargoyleTower$Weather", name := "isStorm", desc := "()Z" } : Jvm.MethodName)) ∈ lw_all := lw_g (lw_at lw_m6 81 rfl) rfl
theorem q1357 : (Jvm.Cond.methodLink "GargoyleTower$World" (144 : Nat) ({ cls := "GargoyleTower$World", name := "rain", desc := "()I" } : Jvm.MethodName)) ∈ lw_all := lw_g (lw_at lw_m6 83 rfl) rfl
theorem q1359 : (Jvm.Cond.instanceMethod ({ cls := "GargoyleTower$World", name := "rain", desc := "()I" } : Jvm.MethodName)) ∈ lw_all := lw_g (lw_at lw_m6 85 rfl) rfl
theorem q1360 : (Jvm.Cond.code ({ cls := "GargoyleTower$World", name := "rain", desc := "()I" } : Jvm.MethodName) prog_12_method_10_code (6 : Nat) (Option.some Jvm.ClassFile.FieldType.int)) ∈ lw_all := lw_g (lw_at lw_m6 86 rfl) rfl
theorem q1361 : (Jvm.Cond.methodLink "GargoyleTower$World" (124 : Nat) ({ cls := "GargoyleTower$Weather", name := "face", desc := "()I" } : Jvm.MethodName)) ∈ lw_all := lw_g (lw_at lw_m6 87 rfl) rfl
theorem q1362 : (Jvm.Cond.instanceMethod ({ cls := "GargoyleTower$Weather", name := "face", desc := "()I" } : Jvm.MethodName)) ∈ lw_all := lw_g (lw_at lw_m6 88 rfl) rfl
theorem q1363 : (Jvm.Cond.selects "GargoyleTower$Weather" ({ cls := "GargoyleTower$Weather", name := "face", desc := "()I" } : Jvm.MethodName) ({ cls := "GargoyleTower$Weather", name := "face", desc := "()I" } : Jvm.MethodName)) ∈ lw_all := lw_g (lw_at lw_m6 89 rfl) rfl
theorem q1365 : (Jvm.Cond.methodLink "GargoyleTower$World" (120 : Nat) ({ cls := "GargoyleTower$World", name := "fall", desc := "(LGargoyleTower$Block;)I" } : Jvm.MethodName)) ∈ lw_all := lw_g (lw_at lw_m6 91 rfl) rfl
theorem q1366 : (Jvm.Cond.instanceMethod ({ cls := "GargoyleTower$World", name := "fall", desc := "(LGargoyleTower$Block;)I" } : Jvm.MethodName)) ∈ lw_all := lw_g (lw_at lw_m6 92 rfl) rfl
theorem q1367 : (Jvm.Cond.selects "GargoyleTower$World" ({ cls := "GargoyleTower$World", name := "fall", desc := "(LGargoyleTower$Block;)I" } : Jvm.MethodName) ({ cls := "GargoyleTower$World", name := "fall", desc := "(LGargoyleTower$Block;)I" } : Jvm.MethodName)) ∈ lw_all := lw_g (lw_at lw_m6 93 rfl) rfl
theorem q1368 : (Jvm.Cond.code ({ cls := "GargoyleTower$World", name := "fall", desc := "(LGargoyleTower$Block;)I" } : Jvm.MethodName) prog_12_method_9_code (4 : Nat) (Option.some Jvm.ClassFile.FieldType.int)) ∈ lw_all := lw_g (lw_at lw_m6 94 rfl) rfl
theorem q1369 : (Jvm.Cond.methodLink "GargoyleTower$World" (108 : Nat) ({ cls := "GargoyleTower$World", name := "blockBelow", desc := "(I)LGargoyleTower$Block;" } : Jvm.MethodName)) ∈ lw_all := lw_g (lw_at lw_m6 95 rfl) rfl
theorem q1370 : (Jvm.Cond.instanceMethod ({ cls := "GargoyleTower$World", name := "blockBelow", desc := "(I)LGargoyleTower$Block;" } : Jvm.MethodName)) ∈ lw_all := lw_g (lw_at lw_m6 96 rfl) rfl
theorem q1371 : (Jvm.Cond.selects "GargoyleTower$World" ({ cls := "GargoyleTower$World", name := "blockBelow", desc := "(I)LGargoyleTower$Block;" } : Jvm.MethodName) ({ cls := "GargoyleTower$World", name := "blockBelow", desc := "(I)LGargoyleTower$Block;" } : Jvm.MethodName)) ∈ lw_all := lw_g (lw_at lw_m6 97 rfl) rfl
theorem q1372 : (Jvm.Cond.code ({ cls := "GargoyleTower$World", name := "blockBelow", desc := "(I)LGargoyleTower$Block;" } : Jvm.MethodName) prog_12_method_7_code (4 : Nat) (Option.some (Jvm.ClassFile.FieldType.object "GargoyleTower$Block"))) ∈ lw_all := lw_g (lw_at lw_m6 98 rfl) rfl
theorem q1373 : (Jvm.Cond.methodLink "GargoyleTower$World" (147 : Nat) ({ cls := "GargoyleTower$World", name := "wearRopes", desc := "()I" } : Jvm.MethodName)) ∈ lw_all := lw_g (lw_at lw_m6 99 rfl) rfl
theorem q1375 : (Jvm.Cond.instanceMethod ({ cls := "GargoyleTower$World", name := "wearRopes", desc := "()I" } : Jvm.MethodName)) ∈ lw_all := lw_g (lw_at lw_m6 101 rfl) rfl
theorem q1376 : (Jvm.Cond.code ({ cls := "GargoyleTower$World", name := "wearRopes", desc := "()I" } : Jvm.MethodName) prog_12_method_11_code (5 : Nat) (Option.some Jvm.ClassFile.FieldType.int)) ∈ lw_all := lw_g (lw_at lw_m6 102 rfl) rfl
theorem q1380 : (Jvm.Cond.code ({ cls := "GargoyleTower$World", name := "cutBlock", desc := "(IZ)I" } : Jvm.MethodName) prog_12_method_13_code (4 : Nat) (Option.some Jvm.ClassFile.FieldType.int)) ∈ lw_all := lw_g (lw_at lw_m6 106 rfl) rfl
theorem q1381 : (Jvm.Cond.methodLink "GargoyleTower$World" (162 : Nat) ({ cls := "GargoyleTower$Block", name := "<init>", desc := "(IIZ)V" } : Jvm.MethodName)) ∈ lw_all := lw_g (lw_at lw_m6 107 rfl) rfl
theorem q1385 : (Jvm.Cond.code ({ cls := "GargoyleTower$World", name := "buyRope", desc := "(I)I" } : Jvm.MethodName) prog_12_method_17_code (4 : Nat) (Option.some Jvm.ClassFile.FieldType.int)) ∈ lw_all := lw_g (lw_at lw_m6 111 rfl) rfl
theorem q1386 : (Jvm.Cond.methodLink "GargoyleTower$World" (174 : Nat) ({ cls := "GargoyleTower$Rope", name := "<init>", desc := "(I)V" } : Jvm.MethodName)) ∈ lw_all := lw_g (lw_at lw_m6 112 rfl) rfl
theorem q1387 : (Jvm.Cond.methodLink "GargoyleTower$World" (176 : Nat) ({ cls := "GargoyleTower$Rope", name := "price", desc := "()I" } : Jvm.MethodName)) ∈ lw_all := lw_g (lw_at lw_m6 113 rfl) rfl
theorem q1391 : (Jvm.Cond.code ({ cls := "GargoyleTower$World", name := "push", desc := "(I)I" } : Jvm.MethodName) prog_12_method_23_code (2 : Nat) (Option.some Jvm.ClassFile.FieldType.int)) ∈ lw_all := lw_g (lw_at lw_m6 117 rfl) rfl
theorem q1395 : (Jvm.Cond.code ({ cls := "GargoyleTower$World", name := "takeCommission", desc := "(III)I" } : Jvm.MethodName) prog_12_method_24_code (5 : Nat) (Option.some Jvm.ClassFile.FieldType.int)) ∈ lw_all := lw_g (lw_at lw_m6 121 rfl) rfl
theorem q1396 : (Jvm.Cond.methodLink "GargoyleTower$World" (199 : Nat) ({ cls := "GargoyleTower$Commission", name := "<init>", desc := "(III)V" } : Jvm.MethodName)) ∈ lw_all := lw_g (lw_at lw_m6 122 rfl) rfl
theorem q1400 : (Jvm.Cond.code ({ cls := "GargoyleTower$World", name := "setSeed", desc := "(I)I" } : Jvm.MethodName) prog_12_method_28_code (3 : Nat) (Option.some Jvm.ClassFile.FieldType.int)) ∈ lw_all := lw_g (lw_at lw_m6 126 rfl) rfl
theorem q1596 : (Jvm.Cond.code ({ cls := "GargoyleTower", name := "checkFound", desc := "(Z)V" } : Jvm.MethodName) prog_1_method_5_code (1 : Nat) (Option.none : Option Jvm.ClassFile.FieldType)) ∈ lw_all := lw_g (lw_at lw_m7 82 rfl) rfl
theorem q1597 : (Jvm.Cond.classLink "GargoyleTower" (19 : Nat) "java/util/NoSuchElementException") ∈ lw_all := lw_g (lw_at lw_m7 83 rfl) rfl
theorem q1711 : (Jvm.Cond.code ({ cls := "GargoyleTower$World", name := "nicheFor", desc := "(LGargoyleTower$Commission;)I" } : Jvm.MethodName) prog_12_method_27_code (4 : Nat) (Option.some Jvm.ClassFile.FieldType.int)) ∈ lw_all := lw_g (lw_at lw_m7 197 rfl) rfl
theorem q1988 : (Jvm.Cond.code ({ cls := "GargoyleTower$World", name := "count", desc := "(I)I" } : Jvm.MethodName) prog_12_method_8_code (5 : Nat) (Option.some Jvm.ClassFile.FieldType.int)) ∈ lw_all := lw_g (lw_at lw_m8 234 rfl) rfl
theorem q2052 : (Jvm.Cond.code ({ cls := "GargoyleTower", name := "checkState", desc := "(Z)V" } : Jvm.MethodName) prog_1_method_3_code (1 : Nat) (Option.none : Option Jvm.ClassFile.FieldType)) ∈ lw_all := lw_g (lw_at lw_m9 58 rfl) rfl
theorem q2053 : (Jvm.Cond.classLink "GargoyleTower" (7 : Nat) "java/lang/IllegalStateException") ∈ lw_all := lw_g (lw_at lw_m9 59 rfl) rfl
theorem q2116 : (Jvm.Cond.code ({ cls := "GargoyleTower$TextException", name := "<init>", desc := "(I)V" } : Jvm.MethodName) prog_10_method_1_code (2 : Nat) (Option.none : Option Jvm.ClassFile.FieldType)) ∈ lw_all := lw_g (lw_at lw_m9 122 rfl) rfl
theorem q2117 : (Jvm.Cond.methodLink "GargoyleTower$TextException" (1 : Nat) ({ cls := "java/lang/Exception", name := "<init>", desc := "(Ljava/lang/String;Ljava/lang/Throwable;ZZ)V" } : Jvm.MethodName)) ∈ lw_all := lw_g (lw_at lw_m9 123 rfl) rfl
theorem q2118 : (Jvm.Cond.fieldLink "GargoyleTower$TextException" (7 : Nat) "GargoyleTower$TextException" "position" "I") ∈ lw_all := lw_g (lw_at lw_m9 124 rfl) rfl
theorem q2725 : (Jvm.Cond.selects "java/util/ArrayList" ({ cls := "java/util/ArrayList", name := "get", desc := "(I)Ljava/lang/Object;" } : Jvm.MethodName) ({ cls := "java/util/ArrayList", name := "get", desc := "(I)Ljava/lang/Object;" } : Jvm.MethodName)) ∈ lw_all := lw_g (lw_at lw_m12 11 rfl) rfl
theorem q2726 : (Jvm.Cond.selects "java/util/ArrayList" ({ cls := "java/util/ArrayList", name := "size", desc := "()I" } : Jvm.MethodName) ({ cls := "java/util/ArrayList", name := "size", desc := "()I" } : Jvm.MethodName)) ∈ lw_all := lw_g (lw_at lw_m12 12 rfl) rfl
theorem np45 : gh_np "(Ljava/lang/String;Ljava/lang/Throwable;ZZ)V" 4 := by unfold gh_np; decide +kernel
theorem np46 : gh_np "()Ljava/util/Iterator;" 0 := by unfold gh_np; decide +kernel
theorem np47 : gh_np "(LGargoyleTower$Commission;)V" 1 := by unfold gh_np; decide +kernel
theorem np48 : gh_np "(Ljava/lang/Object;)Z" 1 := by unfold gh_np; decide +kernel
theorem np49 : gh_np "(LGargoyleTower$Rope;)V" 1 := by unfold gh_np; decide +kernel
theorem np50 : gh_np "(LGargoyleTower$Block;)V" 1 := by unfold gh_np; decide +kernel
theorem np51 : gh_np "(LGargoyleTower$Weather;)V" 1 := by unfold gh_np; decide +kernel
theorem np52 : gh_np "(I)LGargoyleTower$Block;" 1 := by unfold gh_np; decide +kernel
theorem np53 : gh_np "(II)Z" 2 := by unfold gh_np; decide +kernel
theorem np54 : gh_np "(III)Z" 3 := by unfold gh_np; decide +kernel
theorem np55 : gh_np "(Z)V" 1 := by unfold gh_np; decide +kernel
theorem np56 : gh_np "(IILGargoyleTower$RefusedException;)V" 3 := by unfold gh_np; decide +kernel
theorem np57 : gh_np "(ZII)V" 3 := by unfold gh_np; decide +kernel
theorem np58 : gh_np "(I)LGargoyleTower$Rope;" 1 := by unfold gh_np; decide +kernel
theorem np59 : gh_np "(LGargoyleTower$Block;)I" 1 := by unfold gh_np; decide +kernel
theorem np60 : gh_np "(LGargoyleTower$Commission;LGargoyleTower$Block;)LGargoyleTower$RefusedException;" 2 := by unfold gh_np; decide +kernel
theorem np61 : gh_np "(I)LGargoyleTower$Commission;" 1 := by unfold gh_np; decide +kernel
theorem mh_X1 : gh_mh "GargoyleTower" := ⟨by decide, by decide⟩
theorem mh_X9 : gh_mh "GargoyleTower$RefusedException" := ⟨by decide, by decide⟩
theorem mh_X3 : gh_mh "GargoyleTower$Weather" := ⟨by decide, by decide⟩
theorem mh_X2 : gh_mh "GargoyleTower$World" := ⟨by decide, by decide⟩
theorem mh_J12 : gh_mh "java/lang/Exception" := ⟨by decide, by decide⟩
theorem mh_J11 : gh_mh "java/lang/Throwable" := ⟨by decide, by decide⟩
theorem mh_java_util_Iterator : gh_mh "java/util/Iterator" := ⟨by decide, by decide⟩
theorem dw_3 : Cond.sameMethod "GargoyleTower$Block" "GargoyleTower$Hit" "isLoose" "()Z" ∈ defaultWords_1 := List.mem_of_getElem? (i := 3) rfl
theorem dw_4 : Cond.methodLink "GargoyleTower$World" 183 ⟨"GargoyleTower$Rope", "canHold", "(I)Z"⟩ ∈ defaultWords_1 := List.mem_of_getElem? (i := 4) rfl
theorem dw_5 : Cond.methodLink "GargoyleTower$World" 187 ⟨"GargoyleTower$Rope", "holds", "()I"⟩ ∈ defaultWords_1 := List.mem_of_getElem? (i := 5) rfl
theorem dw_6 : Cond.sameMethod "GargoyleTower$Rope" "GargoyleTower$Holding" "holds" "()I" ∈ defaultWords_1 := List.mem_of_getElem? (i := 6) rfl
theorem dw_9 : Cond.methodLink "GargoyleTower$World" 117 ⟨"GargoyleTower$Block", "isLoose", "()Z"⟩ ∈ defaultWords_1 := List.mem_of_getElem? (i := 9) rfl
theorem at0_X1_J14 : ∀ w ∈ vx_at0 "GargoyleTower" 18 "java/lang/IndexOutOfBoundsException" ["java/lang/RuntimeException", "java/lang/Exception"], w ∈ lw_tbl ∧ gh_tw w = true := gh_in2 _ [91, 431, 440, 451, 454, 456, 432, 433, 130, 131, 434, 439, 452, 675, 421, 676, 423, 677, 425, 435, 437, 427, 1235, 1236, 1237, 842, 412, 842, 843, 844, 845, 414, 845, 846, 847, 432, 416, 1234, 410, 411, 418, 419, 420, 422, 424, 426, 430, 429, 428] (by decide +kernel) (by decide +kernel)
theorem at0_X1_J20 : ∀ w ∈ vx_at0 "GargoyleTower" 3 "java/lang/IllegalArgumentException" ["java/lang/RuntimeException", "java/lang/Exception"], w ∈ lw_tbl ∧ gh_tw w = true := gh_in2 _ [91, 431, 440, 451, 454, 456, 432, 433, 130, 131, 434, 439, 452, 675, 421, 676, 423, 677, 425, 435, 437, 427, 1245, 1246, 1247, 842, 412, 842, 843, 844, 845, 414, 845, 846, 847, 432, 416, 1244, 647, 648, 649, 446, 650, 651, 652, 653, 430, 429, 654] (by decide +kernel) (by decide +kernel)
theorem at0_X1_J21 : ∀ w ∈ vx_at0 "GargoyleTower" 21 "java/util/NoSuchElementException" ["java/lang/RuntimeException", "java/lang/Exception"], w ∈ lw_tbl ∧ gh_tw w = true := gh_in2 _ [91, 431, 440, 451, 454, 456, 432, 433, 130, 131, 434, 439, 452, 675, 421, 676, 423, 677, 425, 435, 437, 427, 839, 840, 841, 842, 412, 842, 843, 844, 845, 414, 845, 846, 847, 432, 416, 1598, 723, 724, 725, 450, 726, 727, 728, 729, 430, 429, 730] (by decide +kernel) (by decide +kernel)
theorem at0_X1_J22 : ∀ w ∈ vx_at0 "GargoyleTower" 9 "java/lang/IllegalStateException" ["java/lang/RuntimeException", "java/lang/Exception"], w ∈ lw_tbl ∧ gh_tw w = true := gh_in2 _ [91, 431, 440, 451, 454, 456, 432, 433, 130, 131, 434, 439, 452, 675, 421, 676, 423, 677, 425, 435, 437, 427, 2055, 2056, 2057, 842, 412, 842, 843, 844, 845, 414, 845, 846, 847, 432, 416, 2054, 1442, 1443, 1444, 447, 1445, 1446, 1447, 1448, 430, 429, 1449] (by decide +kernel) (by decide +kernel)
-- Throwable.<init>(Ljava/lang/String;Ljava/lang/Throwable;ZZ)V of GargoyleTower$RefusedException
noncomputable def f_J11_init_4_X9 (t0 : Nat) (p1 : Option Nat) (p2 : Option Nat) (p3 : Int32) (p4 : Int32) : gh_M Unit :=
  gh_bd (gh_putv t0 8 0 (.object "java/lang/Throwable") (va_rf (some t0))) fun _ =>
  gh_bd (gh_cst 16) fun v1 =>
  gh_bd (gh_putv t0 8 1 (.array (.object "java/lang/StackTraceElement")) (va_rf v1)) fun _ =>
  gh_bd (gh_cst 17) fun v2 =>
  gh_bd (gh_putv t0 8 2 (.object "java/util/List") (va_rf v2)) fun _ =>
  if p4 = 0 then
  (gh_bd (gh_putv t0 8 1 (.array (.object "java/lang/StackTraceElement")) (va_rf none)) fun _ =>
  gh_bd (gh_putv t0 8 3 (.object "java/lang/String") (va_rf p1)) fun _ =>
  gh_bd (gh_putv t0 8 0 (.object "java/lang/Throwable") (va_rf p2)) fun _ =>
  if p3 = 0 then
  (gh_bd (gh_putv t0 8 2 (.object "java/util/List") (va_rf none)) fun _ =>
  gh_ret ())
  else
  (gh_ret ()))
  else
  (gh_stk)
theorem w_J11_init_4_X9 {x : gh_C} {g : gh_G} {o : (Unit ⊕ gh_X) × gh_G} {ls : Array Slot} (C : gh_K x cJ11_init_4 "java/lang/Throwable" 5 none "<init>" 1 20 []) (t0 : Nat) (p1 : Option Nat) (p2 : Option Nat) (p3 : Int32) (p4 : Int32) (hl : gh_lv ls 5 [(0, va_rf (some t0)), (1, va_rf p1), (2, va_rf p2), (3, .int p3), (4, .int p4)]) (h : gh_run (f_J11_init_4_X9 t0 p1 p2 p3 p4) g = some o) (hk : (gh_K0 x gh_rV) o) : gh_Wd x g (F0 (gh_cm x) 0 ls []) := by
  unfold f_J11_init_4_X9 at h
  refine gr_aload_n (pc := 0) (i := 0) C rfl (gl_at hl 0 rfl) dJ11_init_4_0 ?_
  refine gr_oinit (pc := 1) C q434 q130 q131 hl.1.1 (Nat.le_of_ble_eq_true rfl) (Nat.le_of_ble_eq_true rfl) (Nat.le_of_ble_eq_true rfl) dJ11_init_4_1 ?_
  refine gr_aload_n (pc := 4) (i := 0) C rfl (gl_at hl 0 rfl) dJ11_init_4_4 ?_
  refine gr_aload_n (pc := 5) (i := 0) C rfl (gl_at hl 0 rfl) dJ11_init_4_5 ?_
  refine gr_putp (pc := 6) C gh_bX9 (k := 0) (Nat.le_of_ble_eq_true rfl) q675 (fun _ h => h) rfl dJ11_init_4_6 h fun g h => ?_
  refine gr_aload_n (pc := 9) (i := 0) C rfl (gl_at hl 0 rfl) dJ11_init_4_9 ?_
  refine gr_gets (pc := 10) C (Cn := "java/lang/Throwable") (n := "UNASSIGNED_STACK") (d := "[Ljava/lang/StackTraceElement;") (j := 16) (by decide +kernel) q435 (fun _ h => h) dJ11_init_4_10 h fun v1 h => ?_
  refine gr_putp (pc := 13) C gh_bX9 (k := 1) (Nat.le_of_ble_eq_true rfl) q676 (fun _ h => h) rfl dJ11_init_4_13 h fun g h => ?_
  refine gr_aload_n (pc := 16) (i := 0) C rfl (gl_at hl 0 rfl) dJ11_init_4_16 ?_
  refine gr_gets (pc := 17) C (Cn := "java/lang/Throwable") (n := "SUPPRESSED_SENTINEL") (d := "Ljava/util/List;") (j := 17) (by decide +kernel) q437 (fun _ h => h) dJ11_init_4_17 h fun v2 h => ?_
  refine gr_putp (pc := 20) C gh_bX9 (k := 2) (Nat.le_of_ble_eq_true rfl) q677 (fun _ h => h) rfl dJ11_init_4_20 h fun g h => ?_
  refine gr_iload (pc := 23) (i := 4) C (gl_at hl 4 rfl) dJ11_init_4_23 ?_
  refine gr_if_eq (pc := 25) (tgt := 36) C rfl dJ11_init_4_25 (fun c9 => ?_) (fun c9 => ?_)
  · replace h := gh_ift h c9
    refine gr_aload_n (pc := 36) (i := 0) C rfl (gl_at hl 0 rfl) dJ11_init_4_36 ?_
    refine gr_null (pc := 37) C dJ11_init_4_37 ?_
    refine gr_putp (pc := 38) C gh_bX9 (k := 1) (Nat.le_of_ble_eq_true rfl) q676 (fun _ h => h) rfl dJ11_init_4_38 h fun g h => ?_
    refine gr_aload_n (pc := 41) (i := 0) C rfl (gl_at hl 0 rfl) dJ11_init_4_41 ?_
    refine gr_aload_n (pc := 42) (i := 1) C rfl (gl_at hl 1 rfl) dJ11_init_4_42 ?_
    refine gr_putp (pc := 43) C gh_bX9 (k := 3) (Nat.le_of_ble_eq_true rfl) q674 (fun _ h => h) rfl dJ11_init_4_43 h fun g h => ?_
    refine gr_aload_n (pc := 46) (i := 0) C rfl (gl_at hl 0 rfl) dJ11_init_4_46 ?_
    refine gr_aload_n (pc := 47) (i := 2) C rfl (gl_at hl 2 rfl) dJ11_init_4_47 ?_
    refine gr_putp (pc := 48) C gh_bX9 (k := 0) (Nat.le_of_ble_eq_true rfl) q675 (fun _ h => h) rfl dJ11_init_4_48 h fun g h => ?_
    refine gr_iload_n (pc := 51) (i := 3) C rfl (gl_at hl 3 rfl) dJ11_init_4_51 ?_
    refine gr_if_ne (pc := 52) (tgt := 60) C rfl dJ11_init_4_52 (fun c9 => ?_) (fun c9 => ?_)
    · replace h := gh_iff h c9
      exact gr_vret (pc := 60) C dJ11_init_4_60 h hk
    · replace h := gh_ift h c9
      refine gr_aload_n (pc := 55) (i := 0) C rfl (gl_at hl 0 rfl) dJ11_init_4_55 ?_
      refine gr_null (pc := 56) C dJ11_init_4_56 ?_
      refine gr_putp (pc := 57) C gh_bX9 (k := 2) (Nat.le_of_ble_eq_true rfl) q677 (fun _ h => h) rfl dJ11_init_4_57 h fun g h => ?_
      exact gr_vret (pc := 60) C dJ11_init_4_60 h hk
  · replace h := gh_iff h c9
    exact gh_stk_inv h

theorem k_J11_init_4_X9 {l : Launch} (hst : l.stackTraces = false) (t0 : Nat) (p1 : Option Nat) (p2 : Option Nat) (p3 : Int32) (p4 : Int32) : gh_Ct l yJ11_init_4 1 36 (f_J11_init_4_X9 t0 p1 p2 p3 p4) gh_rV [va_rf (some t0), va_rf p1, va_rf p2, .int p3, .int p4] := gh_intro2 (L1 := 20) hst (by decide +kernel) q1270 q91 rfl ⟨gh_cat _, gh_cat _, gh_cat _, rfl, rfl, trivial⟩ (Nat.le_of_ble_eq_true rfl) fun x o ls hl C h hk => w_J11_init_4_X9 C t0 p1 p2 p3 p4 hl h hk
-- Throwable.<init>(Ljava/lang/String;Ljava/lang/Throwable;ZZ)V of GargoyleTower$TextException
noncomputable def f_J11_init_4_X13 (t0 : Nat) (p1 : Option Nat) (p2 : Option Nat) (p3 : Int32) (p4 : Int32) : gh_M Unit :=
  gh_bd (gh_putv t0 10 0 (.object "java/lang/Throwable") (va_rf (some t0))) fun _ =>
  gh_bd (gh_cst 16) fun v1 =>
  gh_bd (gh_putv t0 10 1 (.array (.object "java/lang/StackTraceElement")) (va_rf v1)) fun _ =>
  gh_bd (gh_cst 17) fun v2 =>
  gh_bd (gh_putv t0 10 2 (.object "java/util/List") (va_rf v2)) fun _ =>
  if p4 = 0 then
  (gh_bd (gh_putv t0 10 1 (.array (.object "java/lang/StackTraceElement")) (va_rf none)) fun _ =>
  gh_bd (gh_putv t0 10 3 (.object "java/lang/String") (va_rf p1)) fun _ =>
  gh_bd (gh_putv t0 10 0 (.object "java/lang/Throwable") (va_rf p2)) fun _ =>
  if p3 = 0 then
  (gh_bd (gh_putv t0 10 2 (.object "java/util/List") (va_rf none)) fun _ =>
  gh_ret ())
  else
  (gh_ret ()))
  else
  (gh_stk)
theorem w_J11_init_4_X13 {x : gh_C} {g : gh_G} {o : (Unit ⊕ gh_X) × gh_G} {ls : Array Slot} (C : gh_K x cJ11_init_4 "java/lang/Throwable" 5 none "<init>" 1 20 []) (t0 : Nat) (p1 : Option Nat) (p2 : Option Nat) (p3 : Int32) (p4 : Int32) (hl : gh_lv ls 5 [(0, va_rf (some t0)), (1, va_rf p1), (2, va_rf p2), (3, .int p3), (4, .int p4)]) (h : gh_run (f_J11_init_4_X13 t0 p1 p2 p3 p4) g = some o) (hk : (gh_K0 x gh_rV) o) : gh_Wd x g (F0 (gh_cm x) 0 ls []) := by
  unfold f_J11_init_4_X13 at h
  refine gr_aload_n (pc := 0) (i := 0) C rfl (gl_at hl 0 rfl) dJ11_init_4_0 ?_
  refine gr_oinit (pc := 1) C q434 q130 q131 hl.1.1 (Nat.le_of_ble_eq_true rfl) (Nat.le_of_ble_eq_true rfl) (Nat.le_of_ble_eq_true rfl) dJ11_init_4_1 ?_
  refine gr_aload_n (pc := 4) (i := 0) C rfl (gl_at hl 0 rfl) dJ11_init_4_4 ?_
  refine gr_aload_n (pc := 5) (i := 0) C rfl (gl_at hl 0 rfl) dJ11_init_4_5 ?_
  refine gr_putp (pc := 6) C gh_bX13 (k := 0) (Nat.le_of_ble_eq_true rfl) q675 (fun _ h => h) rfl dJ11_init_4_6 h fun g h => ?_
  refine gr_aload_n (pc := 9) (i := 0) C rfl (gl_at hl 0 rfl) dJ11_init_4_9 ?_
  refine gr_gets (pc := 10) C (Cn := "java/lang/Throwable") (n := "UNASSIGNED_STACK") (d := "[Ljava/lang/StackTraceElement;") (j := 16) (by decide +kernel) q435 (fun _ h => h) dJ11_init_4_10 h fun v1 h => ?_
  refine gr_putp (pc := 13) C gh_bX13 (k := 1) (Nat.le_of_ble_eq_true rfl) q676 (fun _ h => h) rfl dJ11_init_4_13 h fun g h => ?_
  refine gr_aload_n (pc := 16) (i := 0) C rfl (gl_at hl 0 rfl) dJ11_init_4_16 ?_
  refine gr_gets (pc := 17) C (Cn := "java/lang/Throwable") (n := "SUPPRESSED_SENTINEL") (d := "Ljava/util/List;") (j := 17) (by decide +kernel) q437 (fun _ h => h) dJ11_init_4_17 h fun v2 h => ?_
  refine gr_putp (pc := 20) C gh_bX13 (k := 2) (Nat.le_of_ble_eq_true rfl) q677 (fun _ h => h) rfl dJ11_init_4_20 h fun g h => ?_
  refine gr_iload (pc := 23) (i := 4) C (gl_at hl 4 rfl) dJ11_init_4_23 ?_
  refine gr_if_eq (pc := 25) (tgt := 36) C rfl dJ11_init_4_25 (fun c9 => ?_) (fun c9 => ?_)
  · replace h := gh_ift h c9
    refine gr_aload_n (pc := 36) (i := 0) C rfl (gl_at hl 0 rfl) dJ11_init_4_36 ?_
    refine gr_null (pc := 37) C dJ11_init_4_37 ?_
    refine gr_putp (pc := 38) C gh_bX13 (k := 1) (Nat.le_of_ble_eq_true rfl) q676 (fun _ h => h) rfl dJ11_init_4_38 h fun g h => ?_
    refine gr_aload_n (pc := 41) (i := 0) C rfl (gl_at hl 0 rfl) dJ11_init_4_41 ?_
    refine gr_aload_n (pc := 42) (i := 1) C rfl (gl_at hl 1 rfl) dJ11_init_4_42 ?_
    refine gr_putp (pc := 43) C gh_bX13 (k := 3) (Nat.le_of_ble_eq_true rfl) q674 (fun _ h => h) rfl dJ11_init_4_43 h fun g h => ?_
    refine gr_aload_n (pc := 46) (i := 0) C rfl (gl_at hl 0 rfl) dJ11_init_4_46 ?_
    refine gr_aload_n (pc := 47) (i := 2) C rfl (gl_at hl 2 rfl) dJ11_init_4_47 ?_
    refine gr_putp (pc := 48) C gh_bX13 (k := 0) (Nat.le_of_ble_eq_true rfl) q675 (fun _ h => h) rfl dJ11_init_4_48 h fun g h => ?_
    refine gr_iload_n (pc := 51) (i := 3) C rfl (gl_at hl 3 rfl) dJ11_init_4_51 ?_
    refine gr_if_ne (pc := 52) (tgt := 60) C rfl dJ11_init_4_52 (fun c9 => ?_) (fun c9 => ?_)
    · replace h := gh_iff h c9
      exact gr_vret (pc := 60) C dJ11_init_4_60 h hk
    · replace h := gh_ift h c9
      refine gr_aload_n (pc := 55) (i := 0) C rfl (gl_at hl 0 rfl) dJ11_init_4_55 ?_
      refine gr_null (pc := 56) C dJ11_init_4_56 ?_
      refine gr_putp (pc := 57) C gh_bX13 (k := 2) (Nat.le_of_ble_eq_true rfl) q677 (fun _ h => h) rfl dJ11_init_4_57 h fun g h => ?_
      exact gr_vret (pc := 60) C dJ11_init_4_60 h hk
  · replace h := gh_iff h c9
    exact gh_stk_inv h

theorem k_J11_init_4_X13 {l : Launch} (hst : l.stackTraces = false) (t0 : Nat) (p1 : Option Nat) (p2 : Option Nat) (p3 : Int32) (p4 : Int32) : gh_Ct l yJ11_init_4 1 36 (f_J11_init_4_X13 t0 p1 p2 p3 p4) gh_rV [va_rf (some t0), va_rf p1, va_rf p2, .int p3, .int p4] := gh_intro2 (L1 := 20) hst (by decide +kernel) q1270 q91 rfl ⟨gh_cat _, gh_cat _, gh_cat _, rfl, rfl, trivial⟩ (Nat.le_of_ble_eq_true rfl) fun x o ls hl C h hk => w_J11_init_4_X13 C t0 p1 p2 p3 p4 hl h hk
-- Exception.<init>(Ljava/lang/String;Ljava/lang/Throwable;ZZ)V of GargoyleTower$RefusedException
noncomputable def f_J12_init_4_X9 (t0 : Nat) (p1 : Option Nat) (p2 : Option Nat) (p3 : Int32) (p4 : Int32) : gh_M Unit :=
  gh_bd (f_J11_init_4_X9 t0 p1 p2 p3 p4) fun _ =>
  gh_ret ()
theorem w_J12_init_4_X9 {x : gh_C} {g : gh_G} {o : (Unit ⊕ gh_X) × gh_G} {ls : Array Slot} (C : gh_K x cJ12_init_4 "java/lang/Exception" 5 none "<init>" 2 44 []) (t0 : Nat) (p1 : Option Nat) (p2 : Option Nat) (p3 : Int32) (p4 : Int32) (hl : gh_lv ls 5 [(0, va_rf (some t0)), (1, va_rf p1), (2, va_rf p2), (3, .int p3), (4, .int p4)]) (h : gh_run (f_J12_init_4_X9 t0 p1 p2 p3 p4) g = some o) (hk : (gh_K0 x gh_rV) o) : gh_Wd x g (F0 (gh_cm x) 0 ls []) := by
  unfold f_J12_init_4_X9 at h
  refine gr_aload_n (pc := 0) (i := 0) C rfl (gl_at hl 0 rfl) dJ12_init_4_0 ?_
  refine gr_aload_n (pc := 1) (i := 1) C rfl (gl_at hl 1 rfl) dJ12_init_4_1 ?_
  refine gr_aload_n (pc := 2) (i := 2) C rfl (gl_at hl 2 rfl) dJ12_init_4_2 ?_
  refine gr_iload_n (pc := 3) (i := 3) C rfl (gl_at hl 3 rfl) dJ12_init_4_3 ?_
  refine gr_iload (pc := 4) (i := 4) C (gl_at hl 4 rfl) dJ12_init_4_4 ?_
  refine gh_callV (pc := 6) (rest := []) C (k_J11_init_4_X9 C.tr t0 p1 p2 p3 p4) (Nat.le_of_ble_eq_true rfl) (Nat.le_of_ble_eq_true rfl) (gh_r4 (Nat.le_of_ble_eq_true rfl)) (fun H9 L9 hp9 => gi_I C q1268 rfl q1269 q1270 mh_J11 np45 rfl hl.1.1 dJ12_init_4_6 rfl) h (gh_K0_b _ hk) (fun g h => ?_) (fun e g h => ?_)
  rotate_left
  ·
    exact gh_out C (fun _ h => nomatch h) h hk
  exact gr_vret (pc := 9) C dJ12_init_4_9 h hk

theorem k_J12_init_4_X9 {l : Launch} (hst : l.stackTraces = false) (t0 : Nat) (p1 : Option Nat) (p2 : Option Nat) (p3 : Int32) (p4 : Int32) : gh_Ct l yJ12_init_4 2 60 (f_J12_init_4_X9 t0 p1 p2 p3 p4) gh_rV [va_rf (some t0), va_rf p1, va_rf p2, .int p3, .int p4] := gh_intro2 (L1 := 44) hst (by decide +kernel) q1267 q92 rfl ⟨gh_cat _, gh_cat _, gh_cat _, rfl, rfl, trivial⟩ (Nat.le_of_ble_eq_true rfl) fun x o ls hl C h hk => w_J12_init_4_X9 C t0 p1 p2 p3 p4 hl h hk
-- Exception.<init>(Ljava/lang/String;Ljava/lang/Throwable;ZZ)V of GargoyleTower$TextException
noncomputable def f_J12_init_4_X13 (t0 : Nat) (p1 : Option Nat) (p2 : Option Nat) (p3 : Int32) (p4 : Int32) : gh_M Unit :=
  gh_bd (f_J11_init_4_X13 t0 p1 p2 p3 p4) fun _ =>
  gh_ret ()
theorem w_J12_init_4_X13 {x : gh_C} {g : gh_G} {o : (Unit ⊕ gh_X) × gh_G} {ls : Array Slot} (C : gh_K x cJ12_init_4 "java/lang/Exception" 5 none "<init>" 2 44 []) (t0 : Nat) (p1 : Option Nat) (p2 : Option Nat) (p3 : Int32) (p4 : Int32) (hl : gh_lv ls 5 [(0, va_rf (some t0)), (1, va_rf p1), (2, va_rf p2), (3, .int p3), (4, .int p4)]) (h : gh_run (f_J12_init_4_X13 t0 p1 p2 p3 p4) g = some o) (hk : (gh_K0 x gh_rV) o) : gh_Wd x g (F0 (gh_cm x) 0 ls []) := by
  unfold f_J12_init_4_X13 at h
  refine gr_aload_n (pc := 0) (i := 0) C rfl (gl_at hl 0 rfl) dJ12_init_4_0 ?_
  refine gr_aload_n (pc := 1) (i := 1) C rfl (gl_at hl 1 rfl) dJ12_init_4_1 ?_
  refine gr_aload_n (pc := 2) (i := 2) C rfl (gl_at hl 2 rfl) dJ12_init_4_2 ?_
  refine gr_iload_n (pc := 3) (i := 3) C rfl (gl_at hl 3 rfl) dJ12_init_4_3 ?_
  refine gr_iload (pc := 4) (i := 4) C (gl_at hl 4 rfl) dJ12_init_4_4 ?_
  refine gh_callV (pc := 6) (rest := []) C (k_J11_init_4_X13 C.tr t0 p1 p2 p3 p4) (Nat.le_of_ble_eq_true rfl) (Nat.le_of_ble_eq_true rfl) (gh_r4 (Nat.le_of_ble_eq_true rfl)) (fun H9 L9 hp9 => gi_I C q1268 rfl q1269 q1270 mh_J11 np45 rfl hl.1.1 dJ12_init_4_6 rfl) h (gh_K0_b _ hk) (fun g h => ?_) (fun e g h => ?_)
  rotate_left
  ·
    exact gh_out C (fun _ h => nomatch h) h hk
  exact gr_vret (pc := 9) C dJ12_init_4_9 h hk

theorem k_J12_init_4_X13 {l : Launch} (hst : l.stackTraces = false) (t0 : Nat) (p1 : Option Nat) (p2 : Option Nat) (p3 : Int32) (p4 : Int32) : gh_Ct l yJ12_init_4 2 60 (f_J12_init_4_X13 t0 p1 p2 p3 p4) gh_rV [va_rf (some t0), va_rf p1, va_rf p2, .int p3, .int p4] := gh_intro2 (L1 := 44) hst (by decide +kernel) q1267 q92 rfl ⟨gh_cat _, gh_cat _, gh_cat _, rfl, rfl, trivial⟩ (Nat.le_of_ble_eq_true rfl) fun x o ls hl C h hk => w_J12_init_4_X13 C t0 p1 p2 p3 p4 hl h hk
-- GargoyleTower$TextException.<init>(I)V
noncomputable def f_X13_init (t0 : Nat) (p1 : Int32) : gh_M Unit :=
  gh_bd (f_J12_init_4_X13 t0 none none (0 : Int32) (0 : Int32)) fun _ =>
  gh_bd (gh_putv t0 10 6 .int (.int p1)) fun _ =>
  gh_ret ()
theorem w_X13_init {x : gh_C} {g : gh_G} {o : (Unit ⊕ gh_X) × gh_G} {ls : Array Slot} (C : gh_K x cX13_init "GargoyleTower$TextException" 2 none "<init>" 3 68 []) (t0 : Nat) (p1 : Int32) (hl : gh_lv ls 2 [(0, va_rf (some t0)), (1, .int p1)]) (h : gh_run (f_X13_init t0 p1) g = some o) (hk : (gh_K0 x gh_rV) o) : gh_Wd x g (F0 (gh_cm x) 0 ls []) := by
  unfold f_X13_init at h
  refine gr_aload_n (pc := 0) (i := 0) C rfl (gl_at hl 0 rfl) dX13_init_0 ?_
  refine gr_null (pc := 1) C dX13_init_1 ?_
  refine gr_null (pc := 2) C dX13_init_2 ?_
  refine gr_iconst (pc := 3) (v := (0 : Int32)) C rfl dX13_init_3 ?_
  refine gr_iconst (pc := 4) (v := (0 : Int32)) C rfl dX13_init_4 ?_
  refine gh_callV (pc := 5) (rest := []) C (k_J12_init_4_X13 C.tr t0 none none (0 : Int32) (0 : Int32)) (Nat.le_of_ble_eq_true rfl) (Nat.le_of_ble_eq_true rfl) (gh_r4 (Nat.le_of_ble_eq_true rfl)) (fun H9 L9 hp9 => gi_I C q2117 rfl q1266 q1267 mh_J12 np45 rfl hl.1.1 dX13_init_5 rfl) h (gh_K0_b _ hk) (fun g h => ?_) (fun e g h => ?_)
  rotate_left
  ·
    exact gh_out C (fun _ h => nomatch h) h hk
  refine gr_aload_n (pc := 8) (i := 0) C rfl (gl_at hl 0 rfl) dX13_init_8 ?_
  refine gr_iload_n (pc := 9) (i := 1) C rfl (gl_at hl 1 rfl) dX13_init_9 ?_
  refine gr_putF (pc := 10) C gh_bX13 (k := 6) (Nat.le_of_ble_eq_true rfl) q2118 (fun _ h => h) rfl rfl dX13_init_10 h fun g h => ?_
  exact gr_vret (pc := 13) C dX13_init_13 h hk

theorem k_X13_init {l : Launch} (hst : l.stackTraces = false) (t0 : Nat) (p1 : Int32) : gh_Ct l yX13_init 3 81 (f_X13_init t0 p1) gh_rV [va_rf (some t0), .int p1] := gh_intro2 (L1 := 68) hst (by decide +kernel) q2116 q119 rfl ⟨gh_cat _, rfl, trivial⟩ (Nat.le_of_ble_eq_true rfl) fun x o ls hl C h hk => w_X13_init C t0 p1 hl h hk
-- GargoyleTower$RefusedException.<init>(IILGargoyleTower$RefusedException;)V
noncomputable def f_X9_init_2 (t0 : Nat) (p1 : Int32) (p2 : Int32) (p3 : Option Nat) : gh_M Unit :=
  gh_bd (f_J12_init_4_X9 t0 none p3 (0 : Int32) (0 : Int32)) fun _ =>
  gh_bd (gh_putv t0 8 6 .int (.int p1)) fun _ =>
  gh_bd (gh_putv t0 8 7 .int (.int p2)) fun _ =>
  gh_ret ()
theorem w_X9_init_2 {x : gh_C} {g : gh_G} {o : (Unit ⊕ gh_X) × gh_G} {ls : Array Slot} (C : gh_K x cX9_init_2 "GargoyleTower$RefusedException" 4 none "<init>" 3 68 []) (t0 : Nat) (p1 : Int32) (p2 : Int32) (p3 : Option Nat) (hl : gh_lv ls 4 [(0, va_rf (some t0)), (1, .int p1), (2, .int p2), (3, va_rf p3)]) (h : gh_run (f_X9_init_2 t0 p1 p2 p3) g = some o) (hk : (gh_K0 x gh_rV) o) : gh_Wd x g (F0 (gh_cm x) 0 ls []) := by
  unfold f_X9_init_2 at h
  refine gr_aload_n (pc := 0) (i := 0) C rfl (gl_at hl 0 rfl) dX9_init_2_0 ?_
  refine gr_null (pc := 1) C dX9_init_2_1 ?_
  refine gr_aload_n (pc := 2) (i := 3) C rfl (gl_at hl 3 rfl) dX9_init_2_2 ?_
  refine gr_iconst (pc := 3) (v := (0 : Int32)) C rfl dX9_init_2_3 ?_
  refine gr_iconst (pc := 4) (v := (0 : Int32)) C rfl dX9_init_2_4 ?_
  refine gh_callV (pc := 5) (rest := []) C (k_J12_init_4_X9 C.tr t0 none p3 (0 : Int32) (0 : Int32)) (Nat.le_of_ble_eq_true rfl) (Nat.le_of_ble_eq_true rfl) (gh_r4 (Nat.le_of_ble_eq_true rfl)) (fun H9 L9 hp9 => gi_I C q1265 rfl q1266 q1267 mh_J12 np45 rfl hl.1.1 dX9_init_2_5 rfl) h (gh_K0_b _ hk) (fun g h => ?_) (fun e g h => ?_)
  rotate_left
  ·
    exact gh_out C (fun _ h => nomatch h) h hk
  refine gr_aload_n (pc := 8) (i := 0) C rfl (gl_at hl 0 rfl) dX9_init_2_8 ?_
  refine gr_iload_n (pc := 9) (i := 1) C rfl (gl_at hl 1 rfl) dX9_init_2_9 ?_
  refine gr_putF (pc := 10) C gh_bX9 (k := 6) (Nat.le_of_ble_eq_true rfl) q1271 (fun _ h => h) rfl rfl dX9_init_2_10 h fun g h => ?_
  refine gr_aload_n (pc := 13) (i := 0) C rfl (gl_at hl 0 rfl) dX9_init_2_13 ?_
  refine gr_iload_n (pc := 14) (i := 2) C rfl (gl_at hl 2 rfl) dX9_init_2_14 ?_
  refine gr_putF (pc := 15) C gh_bX9 (k := 7) (Nat.le_of_ble_eq_true rfl) q1273 (fun _ h => h) rfl rfl dX9_init_2_15 h fun g h => ?_
  exact gr_vret (pc := 18) C dX9_init_2_18 h hk

theorem k_X9_init_2 {l : Launch} (hst : l.stackTraces = false) (t0 : Nat) (p1 : Int32) (p2 : Int32) (p3 : Option Nat) : gh_Ct l yX9_init_2 3 83 (f_X9_init_2 t0 p1 p2 p3) gh_rV [va_rf (some t0), .int p1, .int p2, va_rf p3] := gh_intro2 (L1 := 68) hst (by decide +kernel) q1264 q107 rfl ⟨gh_cat _, rfl, rfl, gh_cat _, trivial⟩ (Nat.le_of_ble_eq_true rfl) fun x o ls hl C h hk => w_X9_init_2 C t0 p1 p2 p3 hl h hk
-- GargoyleTower.inRange(III)Z
noncomputable def f_X1_inRange (p0 : Int32) (p1 : Int32) (p2 : Int32) : gh_M Int32 :=
  if p0 < p1 then
  (gh_rz .boolean (0 : Int32))
  else
  (if p2 < p0 then
  (gh_rz .boolean (0 : Int32))
  else
  (gh_rz .boolean (1 : Int32)))
theorem w_X1_inRange {x : gh_C} {g : gh_G} {o : (Int32 ⊕ gh_X) × gh_G} {ls : Array Slot} (C : gh_K x cX1_inRange "GargoyleTower" 3 (some .boolean) "inRange" 0 0 []) (p0 : Int32) (p1 : Int32) (p2 : Int32) (hl : gh_lv ls 3 [(0, .int p0), (1, .int p1), (2, .int p2)]) (h : gh_run (f_X1_inRange p0 p1 p2) g = some o) (hk : (gh_K0 x gh_rI) o) : gh_Wd x g (F0 (gh_cm x) 0 ls []) := by
  unfold f_X1_inRange at h
  refine gr_iload_n (pc := 0) (i := 0) C rfl (gl_at hl 0 rfl) dX1_inRange_0 ?_
  refine gr_iload_n (pc := 1) (i := 1) C rfl (gl_at hl 1 rfl) dX1_inRange_1 ?_
  refine gr_icmp_lt (pc := 2) (tgt := 14) C rfl dX1_inRange_2 (fun c9 => ?_) (fun c9 => ?_)
  · replace h := gh_ift h c9
    refine gr_iconst (pc := 14) (v := (0 : Int32)) C rfl dX1_inRange_14 ?_
    exact gr_bret (pc := 15) C dX1_inRange_15 h hk
  · replace h := gh_iff h c9
    refine gr_iload_n (pc := 5) (i := 0) C rfl (gl_at hl 0 rfl) dX1_inRange_5 ?_
    refine gr_iload_n (pc := 6) (i := 2) C rfl (gl_at hl 2 rfl) dX1_inRange_6 ?_
    refine gr_icmp_gt (pc := 7) (tgt := 14) C rfl dX1_inRange_7 (fun c9 => ?_) (fun c9 => ?_)
    · replace h := gh_ift h c9
      refine gr_iconst (pc := 14) (v := (0 : Int32)) C rfl dX1_inRange_14 ?_
      exact gr_bret (pc := 15) C dX1_inRange_15 h hk
    · replace h := gh_iff h c9
      refine gr_iconst (pc := 10) (v := (1 : Int32)) C rfl dX1_inRange_10 ?_
      refine gr_goto (pc := 11) (tgt := 15) C rfl dX1_inRange_11 ?_
      exact gr_bret (pc := 15) C dX1_inRange_15 h hk

theorem k_X1_inRange {l : Launch} (hst : l.stackTraces = false) (p0 : Int32) (p1 : Int32) (p2 : Int32) : gh_Ct l yX1_inRange 0 14 (f_X1_inRange p0 p1 p2) gh_rI [.int p0, .int p1, .int p2] := gh_intro2 (L1 := 0) hst (by decide +kernel) q1232 q75 rfl ⟨rfl, rfl, rfl, trivial⟩ (Nat.le_of_ble_eq_true rfl) fun x o ls hl C h hk => w_X1_inRange C p0 p1 p2 hl h hk
-- GargoyleTower.checkArgument(Z)V
noncomputable def f_X1_checkArgument (p0 : Int32) : gh_M Unit :=
  if p0 = 0 then
  (gh_tro 17)
  else
  (gh_ret ())
theorem w_X1_checkArgument {x : gh_C} {g : gh_G} {o : (Unit ⊕ gh_X) × gh_G} {ls : Array Slot} (C : gh_K x cX1_checkArgument "GargoyleTower" 1 none "checkArgument" 7 110 []) (p0 : Int32) (hl : gh_lv ls 1 [(0, .int p0)]) (h : gh_run (f_X1_checkArgument p0) g = some o) (hk : (gh_K0 x gh_rV) o) : gh_Wd x g (F0 (gh_cm x) 0 ls []) := by
  unfold f_X1_checkArgument at h
  refine gr_iload_n (pc := 0) (i := 0) C rfl (gl_at hl 0 rfl) dX1_checkArgument_0 ?_
  refine gr_if_ne (pc := 1) (tgt := 12) C rfl dX1_checkArgument_1 (fun c9 => ?_) (fun c9 => ?_)
  · replace h := gh_iff h c9
    exact gr_vret (pc := 12) C dX1_checkArgument_12 h hk
  · replace h := gh_ift h c9
    exact gr_tro (pc := 4) C gh_cJ20 (by decide +kernel) (by decide +kernel) q1243 q102 at0_X1_J20 hl.1.1 dX1_checkArgument_4 dX1_checkArgument_7 dX1_checkArgument_8 dX1_checkArgument_11 (fun _ h => nomatch h) (Nat.le_of_ble_eq_true rfl) (Nat.le_of_ble_eq_true rfl) (Nat.le_of_ble_eq_true rfl) (Nat.le_of_ble_eq_true rfl) h hk

theorem k_X1_checkArgument {l : Launch} (hst : l.stackTraces = false) (p0 : Int32) : gh_Ct l yX1_checkArgument 7 122 (f_X1_checkArgument p0) gh_rV [.int p0] := gh_intro2 (L1 := 110) hst (by decide +kernel) q1242 q75 rfl ⟨rfl, trivial⟩ (Nat.le_of_ble_eq_true rfl) fun x o ls hl C h hk => w_X1_checkArgument C p0 hl h hk
-- GargoyleTower.checkFound(Z)V
noncomputable def f_X1_checkFound (p0 : Int32) : gh_M Unit :=
  if p0 = 0 then
  (gh_tro 18)
  else
  (gh_ret ())
theorem w_X1_checkFound {x : gh_C} {g : gh_G} {o : (Unit ⊕ gh_X) × gh_G} {ls : Array Slot} (C : gh_K x cX1_checkFound "GargoyleTower" 1 none "checkFound" 7 110 []) (p0 : Int32) (hl : gh_lv ls 1 [(0, .int p0)]) (h : gh_run (f_X1_checkFound p0) g = some o) (hk : (gh_K0 x gh_rV) o) : gh_Wd x g (F0 (gh_cm x) 0 ls []) := by
  unfold f_X1_checkFound at h
  refine gr_iload_n (pc := 0) (i := 0) C rfl (gl_at hl 0 rfl) dX1_checkFound_0 ?_
  refine gr_if_ne (pc := 1) (tgt := 12) C rfl dX1_checkFound_1 (fun c9 => ?_) (fun c9 => ?_)
  · replace h := gh_iff h c9
    exact gr_vret (pc := 12) C dX1_checkFound_12 h hk
  · replace h := gh_ift h c9
    exact gr_tro (pc := 4) C gh_cJ21 (by decide +kernel) (by decide +kernel) q1597 q103 at0_X1_J21 hl.1.1 dX1_checkFound_4 dX1_checkFound_7 dX1_checkFound_8 dX1_checkFound_11 (fun _ h => nomatch h) (Nat.le_of_ble_eq_true rfl) (Nat.le_of_ble_eq_true rfl) (Nat.le_of_ble_eq_true rfl) (Nat.le_of_ble_eq_true rfl) h hk

theorem k_X1_checkFound {l : Launch} (hst : l.stackTraces = false) (p0 : Int32) : gh_Ct l yX1_checkFound 7 122 (f_X1_checkFound p0) gh_rV [.int p0] := gh_intro2 (L1 := 110) hst (by decide +kernel) q1596 q75 rfl ⟨rfl, trivial⟩ (Nat.le_of_ble_eq_true rfl) fun x o ls hl C h hk => w_X1_checkFound C p0 hl h hk
-- GargoyleTower.checkState(Z)V
noncomputable def f_X1_checkState (p0 : Int32) : gh_M Unit :=
  if p0 = 0 then
  (gh_tro 19)
  else
  (gh_ret ())
theorem w_X1_checkState {x : gh_C} {g : gh_G} {o : (Unit ⊕ gh_X) × gh_G} {ls : Array Slot} (C : gh_K x cX1_checkState "GargoyleTower" 1 none "checkState" 7 110 []) (p0 : Int32) (hl : gh_lv ls 1 [(0, .int p0)]) (h : gh_run (f_X1_checkState p0) g = some o) (hk : (gh_K0 x gh_rV) o) : gh_Wd x g (F0 (gh_cm x) 0 ls []) := by
  unfold f_X1_checkState at h
  refine gr_iload_n (pc := 0) (i := 0) C rfl (gl_at hl 0 rfl) dX1_checkState_0 ?_
  refine gr_if_ne (pc := 1) (tgt := 12) C rfl dX1_checkState_1 (fun c9 => ?_) (fun c9 => ?_)
  · replace h := gh_iff h c9
    exact gr_vret (pc := 12) C dX1_checkState_12 h hk
  · replace h := gh_ift h c9
    exact gr_tro (pc := 4) C gh_cJ22 (by decide +kernel) (by decide +kernel) q2053 q110 at0_X1_J22 hl.1.1 dX1_checkState_4 dX1_checkState_7 dX1_checkState_8 dX1_checkState_11 (fun _ h => nomatch h) (Nat.le_of_ble_eq_true rfl) (Nat.le_of_ble_eq_true rfl) (Nat.le_of_ble_eq_true rfl) (Nat.le_of_ble_eq_true rfl) h hk

theorem k_X1_checkState {l : Launch} (hst : l.stackTraces = false) (p0 : Int32) : gh_Ct l yX1_checkState 7 122 (f_X1_checkState p0) gh_rV [.int p0] := gh_intro2 (L1 := 110) hst (by decide +kernel) q2052 q75 rfl ⟨rfl, trivial⟩ (Nat.le_of_ble_eq_true rfl) fun x o ls hl C h hk => w_X1_checkState C p0 hl h hk
-- GargoyleTower$World.<init>()V
noncomputable def f_X2_init (t0 : Nat) : gh_M Unit :=
  gh_bd (gh_putv t0 1 0 .int (.int (60 : Int32))) fun _ =>
  gh_bd (gh_putv t0 1 2 .int (.int (9 : Int32))) fun _ =>
  gh_bd (gh_new 11 3 gh_nJ2) fun a1 =>
  gh_bd (f_J2_init a1) fun _ =>
  gh_bd (gh_putv t0 1 6 (.object "java/util/ArrayList") (va_rf (some a1))) fun _ =>
  gh_bd (gh_new 11 3 gh_nJ2) fun a3 =>
  gh_bd (f_J2_init a3) fun _ =>
  gh_bd (gh_putv t0 1 7 (.object "java/util/ArrayList") (va_rf (some a3))) fun _ =>
  gh_bd (gh_new 11 3 gh_nJ2) fun a5 =>
  gh_bd (f_J2_init a5) fun _ =>
  gh_bd (gh_putv t0 1 8 (.object "java/util/ArrayList") (va_rf (some a5))) fun _ =>
  gh_bd (gh_new 2 1 gh_nX3) fun a7 =>
  gh_bd (f_X3_init a7) fun _ =>
  gh_bd (gh_putv t0 1 5 (.object "GargoyleTower$Weather") (va_rf (some a7))) fun _ =>
  gh_ret ()
theorem w_X2_init {x : gh_C} {g : gh_G} {o : (Unit ⊕ gh_X) × gh_G} {ls : Array Slot} (C : gh_K x cX2_init "GargoyleTower$World" 1 none "<init>" 4 80 []) (t0 : Nat) (hl : gh_lv ls 1 [(0, va_rf (some t0))]) (h : gh_run (f_X2_init t0) g = some o) (hk : (gh_K0 x gh_rV) o) : gh_Wd x g (F0 (gh_cm x) 0 ls []) := by
  unfold f_X2_init at h
  refine gr_aload_n (pc := 0) (i := 0) C rfl (gl_at hl 0 rfl) dX2_init_0 ?_
  refine gr_oinit (pc := 1) C q137 q130 q131 hl.1.1 (Nat.le_of_ble_eq_true rfl) (Nat.le_of_ble_eq_true rfl) (Nat.le_of_ble_eq_true rfl) dX2_init_1 ?_
  refine gr_aload_n (pc := 4) (i := 0) C rfl (gl_at hl 0 rfl) dX2_init_4 ?_
  refine gr_bipush (pc := 5) (v := (60 : Int32)) C rfl dX2_init_5 ?_
  refine gr_putp (pc := 7) C gh_bX2 (k := 0) (Nat.le_of_ble_eq_true rfl) q183 (fun _ h => h) rfl dX2_init_7 h fun g h => ?_
  refine gr_aload_n (pc := 10) (i := 0) C rfl (gl_at hl 0 rfl) dX2_init_10 ?_
  refine gr_bipush (pc := 11) (v := (9 : Int32)) C rfl dX2_init_11 ?_
  refine gr_putp (pc := 13) C gh_bX2 (k := 2) (Nat.le_of_ble_eq_true rfl) q187 (fun _ h => h) rfl dX2_init_13 h fun g h => ?_
  refine gr_aload_n (pc := 16) (i := 0) C rfl (gl_at hl 0 rfl) dX2_init_16 ?_
  refine gr_newo (pc := 17) C gh_bJ2 q138 q139 q79 gh_dJ2 dX2_init_17 h (gh_K0_b _ hk) fun a1 g h => ?_
  refine gr_dup (pc := 20) C (gh_cat _) dX2_init_20 ?_
  refine gh_callV (pc := 21) (rest := [va_rf (some a1), va_rf (some t0)]) C (k_J2_init C.tr a1) (Nat.le_of_ble_eq_true rfl) (Nat.le_of_ble_eq_true rfl) (gh_r4 (Nat.le_of_ble_eq_true rfl)) (fun H9 L9 hp9 => gi_I C q140 rfl q141 q142 mh_J2 np8 rfl hl.1.1 dX2_init_21 rfl) h (gh_K0_b _ hk) (fun g h => ?_) (fun e g h => ?_)
  rotate_left
  ·
    exact gh_out C (fun _ h => nomatch h) h hk
  refine gr_putF (pc := 24) C gh_bX2 (k := 6) (Nat.le_of_ble_eq_true rfl) q195 (fun _ h => h) rfl rfl dX2_init_24 h fun g h => ?_
  refine gr_aload_n (pc := 27) (i := 0) C rfl (gl_at hl 0 rfl) dX2_init_27 ?_
  refine gr_newo (pc := 28) C gh_bJ2 q138 q139 q79 gh_dJ2 dX2_init_28 h (gh_K0_b _ hk) fun a3 g h => ?_
  refine gr_dup (pc := 31) C (gh_cat _) dX2_init_31 ?_
  refine gh_callV (pc := 32) (rest := [va_rf (some a3), va_rf (some t0)]) C (k_J2_init C.tr a3) (Nat.le_of_ble_eq_true rfl) (Nat.le_of_ble_eq_true rfl) (gh_r4 (Nat.le_of_ble_eq_true rfl)) (fun H9 L9 hp9 => gi_I C q140 rfl q141 q142 mh_J2 np8 rfl hl.1.1 dX2_init_32 rfl) h (gh_K0_b _ hk) (fun g h => ?_) (fun e g h => ?_)
  rotate_left
  ·
    exact gh_out C (fun _ h => nomatch h) h hk
  refine gr_putF (pc := 35) C gh_bX2 (k := 7) (Nat.le_of_ble_eq_true rfl) q197 (fun _ h => h) rfl rfl dX2_init_35 h fun g h => ?_
  refine gr_aload_n (pc := 38) (i := 0) C rfl (gl_at hl 0 rfl) dX2_init_38 ?_
  refine gr_newo (pc := 39) C gh_bJ2 q138 q139 q79 gh_dJ2 dX2_init_39 h (gh_K0_b _ hk) fun a5 g h => ?_
  refine gr_dup (pc := 42) C (gh_cat _) dX2_init_42 ?_
  refine gh_callV (pc := 43) (rest := [va_rf (some a5), va_rf (some t0)]) C (k_J2_init C.tr a5) (Nat.le_of_ble_eq_true rfl) (Nat.le_of_ble_eq_true rfl) (gh_r4 (Nat.le_of_ble_eq_true rfl)) (fun H9 L9 hp9 => gi_I C q140 rfl q141 q142 mh_J2 np8 rfl hl.1.1 dX2_init_43 rfl) h (gh_K0_b _ hk) (fun g h => ?_) (fun e g h => ?_)
  rotate_left
  ·
    exact gh_out C (fun _ h => nomatch h) h hk
  refine gr_putF (pc := 46) C gh_bX2 (k := 8) (Nat.le_of_ble_eq_true rfl) q199 (fun _ h => h) rfl rfl dX2_init_46 h fun g h => ?_
  refine gr_aload_n (pc := 49) (i := 0) C rfl (gl_at hl 0 rfl) dX2_init_49 ?_
  refine gr_newo (pc := 50) C gh_bX3 q171 q172 q80 gh_dX3 dX2_init_50 h (gh_K0_b _ hk) fun a7 g h => ?_
  refine gr_dup (pc := 53) C (gh_cat _) dX2_init_53 ?_
  refine gh_callV (pc := 54) (rest := [va_rf (some a7), va_rf (some t0)]) C (k_X3_init C.tr a7) (Nat.le_of_ble_eq_true rfl) (Nat.le_of_ble_eq_true rfl) (gh_r4 (Nat.le_of_ble_eq_true rfl)) (fun H9 L9 hp9 => gi_I C q173 rfl q174 q175 mh_X3 np8 rfl hl.1.1 dX2_init_54 rfl) h (gh_K0_b _ hk) (fun g h => ?_) (fun e g h => ?_)
  rotate_left
  ·
    exact gh_out C (fun _ h => nomatch h) h hk
  refine gr_putF (pc := 57) C gh_bX2 (k := 5) (Nat.le_of_ble_eq_true rfl) q193 (fun _ h => h) rfl rfl dX2_init_57 h fun g h => ?_
  exact gr_vret (pc := 60) C dX2_init_60 h hk

theorem k_X2_init {l : Launch} (hst : l.stackTraces = false) (t0 : Nat) : gh_Ct l yX2_init 4 92 (f_X2_init t0) gh_rV [va_rf (some t0)] := gh_intro2 (L1 := 80) hst (by decide +kernel) q136 q76 rfl ⟨gh_cat _, trivial⟩ (Nat.le_of_ble_eq_true rfl) fun x o ls hl C h hk => w_X2_init C t0 hl h hk
-- GargoyleTower$World.blockIn(I)LGargoyleTower$Block;
def gp_X2_blockIn_8 (x : gh_C) (u8_1 : Int32) (u8_2 : Option Nat) (st : Unit) (g : gh_G) : Prop := ∀ ls : Array Slot, gh_lv ls 4 [(1, .int u8_1), (2, va_rf u8_2)] → gh_Wd x g (F0 (gh_cm x) 8 ls [])
noncomputable def f_X2_blockIn_45 (u8_1 : Int32) (u8_2 : Option Nat) : gh_M ((Unit) ⊕ (Option Nat)) :=
  gh_ret (.inl ())
theorem w_X2_blockIn_45 {x : gh_C} {g : gh_G} {o : (((Unit) ⊕ (Option Nat)) ⊕ gh_X) × gh_G} {ls : Array Slot} (C : gh_K x cX2_blockIn "GargoyleTower$World" 4 (some (.object "GargoyleTower$Block")) "blockIn" 3 61 []) (u8_1 : Int32) (u8_2 : Option Nat) (hl : gh_lv ls 4 [(1, .int u8_1), (2, va_rf u8_2)]) (h : gh_run (f_X2_blockIn_45 u8_1 u8_2) g = some o) (hk : (gh_K1 x (gh_K0 x gh_rQ) (gp_X2_blockIn_8 x u8_1 u8_2)) o) : gh_Wd x g (F0 (gh_cm x) 45 ls []) := by
  unfold f_X2_blockIn_45 at h
  refine gr_goto (pc := 45) (tgt := 8) C rfl dX2_blockIn_45 ?_
  exact gh_K1_in h hk ls (gl_sub hl [0, 1] rfl)

noncomputable def f_X2_blockIn_8_l (u8_1 : Int32) (u8_2 : Option Nat) : gh_M ((Unit) ⊕ (Option Nat)) :=
  gh_nn u8_2 fun a1 =>
  gh_bd (gh_is a1 15) fun _ =>
  gh_bd (f_J8_hasNext a1) fun v2 =>
  if v2 = 0 then
  (gh_up (gh_ret none))
  else
  (gh_bd (gh_is a1 15) fun _ =>
  gh_bd (f_J8_next a1) fun v3 =>
  gh_nn v3 fun a4 =>
  gh_bd (gh_is a4 5) fun _ =>
  gh_bd (gh_geti a4 5 5) fun v5 =>
  if v5 = (2 : Int32) then
  (gh_bd (gh_geti a4 5 6) fun v6 =>
  if v6 = u8_1 then
  (gh_up (gh_ret (some a4)))
  else
  (f_X2_blockIn_45 u8_1 (some a1)))
  else
  (f_X2_blockIn_45 u8_1 (some a1)))
theorem w_X2_blockIn_8_l {x : gh_C} {g : gh_G} {o : (((Unit) ⊕ (Option Nat)) ⊕ gh_X) × gh_G} {ls : Array Slot} (C : gh_K x cX2_blockIn "GargoyleTower$World" 4 (some (.object "GargoyleTower$Block")) "blockIn" 3 61 []) (u8_1 : Int32) (u8_2 : Option Nat) (hl : gh_lv ls 4 [(1, .int u8_1), (2, va_rf u8_2)]) (h : gh_run (f_X2_blockIn_8_l u8_1 u8_2) g = some o) (hk : (gh_K1 x (gh_K0 x gh_rQ) (gp_X2_blockIn_8 x u8_1 u8_2)) o) : gh_Wd x g (F0 (gh_cm x) 8 ls []) := by
  unfold f_X2_blockIn_8_l at h
  refine gr_aload_n (pc := 8) (i := 2) C rfl (gl_at hl 1 rfl) dX2_blockIn_8 ?_
  rcases u8_2 with _ | a1
  · exact gh_stk_inv h
  replace h := gh_nn_ss h
  obtain ⟨⟨fs9, hg9⟩, h⟩ := gh_is_inv h
  refine gh_callI (pc := 9) (rest := []) C (k_J8_hasNext C.tr a1) (Nat.le_of_ble_eq_true rfl) (Nat.le_of_ble_eq_true rfl) (gh_r4 (Nat.le_of_ble_eq_true rfl)) (fun H9 L9 hp9 => gi_F C hp9 hg9 gh_cJ8 q953 q336 (by decide +kernel) q353 q355 q356 q354 q352 q357 mh_java_util_Iterator np7 rfl hl.1.1 dX2_blockIn_9 rfl) h ((gh_K1_b gh_K0_b) _ hk) (fun v2 g h => ?_) (fun e g h => ?_)
  rotate_left
  ·
    obtain ⟨o, h, hk⟩ := gh_K1_thr h hk
    exact gh_out C (fun _ h => nomatch h) h hk
  refine gr_if_eq (pc := 14) (tgt := 48) C rfl dX2_blockIn_14 (fun c9 => ?_) (fun c9 => ?_)
  · replace h := gh_ift h c9
    refine gr_null (pc := 48) C dX2_blockIn_48 ?_
    obtain ⟨o, h, hk⟩ := gh_K1_up h hk
    exact gr_aret (pc := 49) C (Or.inl ⟨_, rfl⟩) dX2_blockIn_49 h hk
  · replace h := gh_iff h c9
    refine gr_aload_n (pc := 17) (i := 2) C rfl (gl_at hl 1 rfl) dX2_blockIn_17 ?_
    obtain ⟨⟨fs9, hg9⟩, h⟩ := gh_is_inv h
    refine gh_callQ (pc := 18) (rest := []) C (k_J8_next C.tr a1) (Nat.le_of_ble_eq_true rfl) (Nat.le_of_ble_eq_true rfl) (gh_r4 (Nat.le_of_ble_eq_true rfl)) (fun H9 L9 hp9 => gi_F C hp9 hg9 gh_cJ8 q955 q370 (by decide +kernel) q826 q828 q829 q827 q352 q830 mh_java_util_Iterator np23 rfl hl.1.1 dX2_blockIn_18 rfl) h ((gh_K1_b gh_K0_b) _ hk) (fun v3 g h => ?_) (fun e g h => ?_)
    rotate_left
    ·
      obtain ⟨o, h, hk⟩ := gh_K1_thr h hk
      exact gh_out C (fun _ h => nomatch h) h hk
    rcases v3 with _ | a4
    · exact gh_stk_inv h
    replace h := gh_nn_ss h
    obtain ⟨⟨fs9, hg9⟩, h⟩ := gh_is_inv h
    refine gr_castY (pc := 23) C gh_cX6 q956 (Or.inl rfl) dX2_blockIn_23 hg9 ?_
    refine gr_astore_n (pc := 26) (i := 3) (l' := [(3, va_rf (some a4)), (1, .int u8_1), (2, va_rf (some a1))]) C rfl hl (Nat.le_of_ble_eq_true rfl) rfl dX2_blockIn_26 fun ls hl => ?_
    refine gr_aload_n (pc := 27) (i := 3) C rfl (gl_at hl 0 rfl) dX2_blockIn_27 ?_
    refine gr_getiN (pc := 28) C gh_bX6 (k := 5) (Nat.le_of_ble_eq_true rfl) q990 (fun _ h => h) dX2_blockIn_28 h fun v5 h => ?_
    refine gr_iconst (pc := 31) (v := (2 : Int32)) C rfl dX2_blockIn_31 ?_
    refine gr_icmp_ne (pc := 32) (tgt := 45) C rfl dX2_blockIn_32 (fun c9 => ?_) (fun c9 => ?_)
    · replace h := gh_iff h c9
      exact w_X2_blockIn_45 C u8_1 (some a1) (gl_sub hl [1, 2] rfl) h hk
    · replace h := gh_ift h c9
      refine gr_aload_n (pc := 35) (i := 3) C rfl (gl_at hl 0 rfl) dX2_blockIn_35 ?_
      refine gr_getiN (pc := 36) C gh_bX6 (k := 6) (Nat.le_of_ble_eq_true rfl) q993 (fun _ h => h) dX2_blockIn_36 h fun v6 h => ?_
      refine gr_iload_n (pc := 39) (i := 1) C rfl (gl_at hl 1 rfl) dX2_blockIn_39 ?_
      refine gr_icmp_ne (pc := 40) (tgt := 45) C rfl dX2_blockIn_40 (fun c9 => ?_) (fun c9 => ?_)
      · replace h := gh_iff h c9
        exact w_X2_blockIn_45 C u8_1 (some a1) (gl_sub hl [1, 2] rfl) h hk
      · replace h := gh_ift h c9
        refine gr_aload_n (pc := 43) (i := 3) C rfl (gl_at hl 0 rfl) dX2_blockIn_43 ?_
        obtain ⟨o, h, hk⟩ := gh_K1_up h hk
        exact gr_aret (pc := 44) C (Or.inl ⟨_, rfl⟩) dX2_blockIn_44 h hk

noncomputable def f_X2_blockIn_8 (p1 : Int32) (p2 : Option Nat) : gh_M (Option Nat) := gh_it (fun st : Unit => f_X2_blockIn_8_l p1 p2) ()
theorem w_X2_blockIn_8 {x : gh_C} {g : gh_G} {o : ((Option Nat) ⊕ gh_X) × gh_G} {ls : Array Slot} (C : gh_K x cX2_blockIn "GargoyleTower$World" 4 (some (.object "GargoyleTower$Block")) "blockIn" 3 61 []) (p1 : Int32) (p2 : Option Nat) (hl : gh_lv ls 4 [(1, .int p1), (2, va_rf p2)]) (h : gh_run (f_X2_blockIn_8 p1 p2) g = some o) (hk : (gh_K0 x gh_rQ) o) : gh_Wd x g (F0 (gh_cm x) 8 ls []) := by
  unfold f_X2_blockIn_8 at h
  exact gh_loop gh_K0_b (fun st : Unit => f_X2_blockIn_8_l p1 p2) (gp_X2_blockIn_8 x p1 p2) (fun st g o h hk ls hl => w_X2_blockIn_8_l C p1 p2 hl h hk) _ g o h hk ls hl
noncomputable def f_X2_blockIn (t0 : Nat) (p1 : Int32) : gh_M (Option Nat) :=
  gh_bd (gh_getr t0 1 6) fun v1 =>
  gh_nn v1 fun a2 =>
  gh_bd (gh_is a2 11) fun _ =>
  gh_bd (f_J2_iterator a2) fun v3 =>
  f_X2_blockIn_8 p1 v3
theorem w_X2_blockIn {x : gh_C} {g : gh_G} {o : ((Option Nat) ⊕ gh_X) × gh_G} {ls : Array Slot} (C : gh_K x cX2_blockIn "GargoyleTower$World" 4 (some (.object "GargoyleTower$Block")) "blockIn" 3 61 []) (t0 : Nat) (p1 : Int32) (hl : gh_lv ls 4 [(0, va_rf (some t0)), (1, .int p1)]) (h : gh_run (f_X2_blockIn t0 p1) g = some o) (hk : (gh_K0 x gh_rQ) o) : gh_Wd x g (F0 (gh_cm x) 0 ls []) := by
  unfold f_X2_blockIn at h
  refine gr_aload_n (pc := 0) (i := 0) C rfl (gl_at hl 0 rfl) dX2_blockIn_0 ?_
  refine gr_getr (pc := 1) C gh_bX2 (k := 6) (Nat.le_of_ble_eq_true rfl) q195 (fun _ h => h) dX2_blockIn_1 h fun v1 h => ?_
  rcases v1 with _ | a2
  · exact gh_stk_inv h
  replace h := gh_nn_ss h
  obtain ⟨⟨fs9, hg9⟩, h⟩ := gh_is_inv h
  refine gh_callQ (pc := 4) (rest := []) C (k_J2_iterator C.tr a2) (Nat.le_of_ble_eq_true rfl) (Nat.le_of_ble_eq_true rfl) (gh_r4 (Nat.le_of_ble_eq_true rfl)) (fun H9 L9 hp9 => gi_V C hp9 hg9 gh_cJ2 q951 q309 q310 q311 mh_J2 np46 rfl hl.1.1 dX2_blockIn_4 rfl) h (gh_K0_b _ hk) (fun v3 g h => ?_) (fun e g h => ?_)
  rotate_left
  ·
    exact gh_out C (fun _ h => nomatch h) h hk
  refine gr_astore_n (pc := 7) (i := 2) (l' := [(2, va_rf v3), (0, va_rf (some t0)), (1, .int p1)]) C rfl hl (Nat.le_of_ble_eq_true rfl) rfl dX2_blockIn_7 fun ls hl => ?_
  exact w_X2_blockIn_8 C p1 v3 (gl_sub hl [2, 0] rfl) h hk

theorem k_X2_blockIn {l : Launch} (hst : l.stackTraces = false) (t0 : Nat) (p1 : Int32) : gh_Ct l yX2_blockIn 3 76 (f_X2_blockIn t0 p1) gh_rQ [va_rf (some t0), .int p1] := gh_intro2 (L1 := 61) hst (by decide +kernel) q950 q76 rfl ⟨gh_cat _, rfl, trivial⟩ (Nat.le_of_ble_eq_true rfl) fun x o ls hl C h hk => w_X2_blockIn C t0 p1 hl h hk
-- GargoyleTower$World.<init>(LGargoyleTower$World;)V
def gp_X2_init_2_112 (x : gh_C) (t0 : Nat) (u112_1 : Option Nat) (u112_3 : Option Nat) (st : Unit) (g : gh_G) : Prop := ∀ ls : Array Slot, gh_lv ls 5 [(0, va_rf (some t0)), (1, va_rf u112_1), (3, va_rf u112_3)] → gh_Wd x g (F0 (gh_cm x) 112 ls [])
def gp_X2_init_2_160 (x : gh_C) (t0 : Nat) (u160_1 : Option Nat) (u160_3 : Option Nat) (st : Unit) (g : gh_G) : Prop := ∀ ls : Array Slot, gh_lv ls 5 [(0, va_rf (some t0)), (1, va_rf u160_1), (3, va_rf u160_3)] → gh_Wd x g (F0 (gh_cm x) 160 ls [])
def gp_X2_init_2_208 (x : gh_C) (t0 : Nat) (u208_3 : Option Nat) (st : Unit) (g : gh_G) : Prop := ∀ ls : Array Slot, gh_lv ls 5 [(0, va_rf (some t0)), (3, va_rf u208_3)] → gh_Wd x g (F0 (gh_cm x) 208 ls [])
noncomputable def f_X2_init_2_208_l (t0 : Nat) (u208_3 : Option Nat) : gh_M ((Unit) ⊕ Unit) :=
  gh_nn u208_3 fun a1 =>
  gh_bd (gh_is a1 15) fun _ =>
  gh_bd (f_J8_hasNext a1) fun v2 =>
  if v2 = 0 then
  (gh_up (gh_ret ()))
  else
  (gh_bd (gh_is a1 15) fun _ =>
  gh_bd (f_J8_next a1) fun v3 =>
  gh_nn v3 fun a4 =>
  gh_bd (gh_is a4 7) fun _ =>
  gh_bd (gh_getr t0 1 8) fun v5 =>
  gh_bd (gh_new 7 4 gh_nX8) fun a6 =>
  gh_bd (f_X8_init a6 (some a4)) fun _ =>
  gh_nn v5 fun a8 =>
  gh_bd (gh_is a8 11) fun _ =>
  gh_bd (f_J2_add a8 (some a6)) fun v9 =>
  gh_ret (.inl ()))
theorem w_X2_init_2_208_l {x : gh_C} {g : gh_G} {o : (((Unit) ⊕ Unit) ⊕ gh_X) × gh_G} {ls : Array Slot} (C : gh_K x cX2_init_2 "GargoyleTower$World" 5 none "<init>" 7 191 []) (t0 : Nat) (u208_3 : Option Nat) (hl : gh_lv ls 5 [(0, va_rf (some t0)), (3, va_rf u208_3)]) (h : gh_run (f_X2_init_2_208_l t0 u208_3) g = some o) (hk : (gh_K1 x (gh_K0 x gh_rV) (gp_X2_init_2_208 x t0 u208_3)) o) : gh_Wd x g (F0 (gh_cm x) 208 ls []) := by
  unfold f_X2_init_2_208_l at h
  refine gr_aload_n (pc := 208) (i := 3) C rfl (gl_at hl 1 rfl) dX2_init_2_208 ?_
  rcases u208_3 with _ | a1
  · exact gh_stk_inv h
  replace h := gh_nn_ss h
  obtain ⟨⟨fs9, hg9⟩, h⟩ := gh_is_inv h
  refine gh_callI (pc := 209) (rest := []) C (k_J8_hasNext C.tr a1) (Nat.le_of_ble_eq_true rfl) (Nat.le_of_ble_eq_true rfl) (gh_r4 (Nat.le_of_ble_eq_true rfl)) (fun H9 L9 hp9 => gi_F C hp9 hg9 gh_cJ8 q953 q336 (by decide +kernel) q353 q355 q356 q354 q352 q357 mh_java_util_Iterator np7 rfl hl.1.1 dX2_init_2_209 rfl) h ((gh_K1_b gh_K0_b) _ hk) (fun v2 g h => ?_) (fun e g h => ?_)
  rotate_left
  ·
    obtain ⟨o, h, hk⟩ := gh_K1_thr h hk
    exact gh_out C (fun _ h => nomatch h) h hk
  refine gr_if_eq (pc := 214) (tgt := 248) C rfl dX2_init_2_214 (fun c9 => ?_) (fun c9 => ?_)
  · replace h := gh_ift h c9
    obtain ⟨o, h, hk⟩ := gh_K1_up h hk
    exact gr_vret (pc := 248) C dX2_init_2_248 h hk
  · replace h := gh_iff h c9
    refine gr_aload_n (pc := 217) (i := 3) C rfl (gl_at hl 1 rfl) dX2_init_2_217 ?_
    obtain ⟨⟨fs9, hg9⟩, h⟩ := gh_is_inv h
    refine gh_callQ (pc := 218) (rest := []) C (k_J8_next C.tr a1) (Nat.le_of_ble_eq_true rfl) (Nat.le_of_ble_eq_true rfl) (gh_r4 (Nat.le_of_ble_eq_true rfl)) (fun H9 L9 hp9 => gi_F C hp9 hg9 gh_cJ8 q955 q370 (by decide +kernel) q826 q828 q829 q827 q352 q830 mh_java_util_Iterator np23 rfl hl.1.1 dX2_init_2_218 rfl) h ((gh_K1_b gh_K0_b) _ hk) (fun v3 g h => ?_) (fun e g h => ?_)
    rotate_left
    ·
      obtain ⟨o, h, hk⟩ := gh_K1_thr h hk
      exact gh_out C (fun _ h => nomatch h) h hk
    rcases v3 with _ | a4
    · exact gh_stk_inv h
    replace h := gh_nn_ss h
    obtain ⟨⟨fs9, hg9⟩, h⟩ := gh_is_inv h
    refine gr_castY (pc := 223) C gh_cX8 q1067 (Or.inl rfl) dX2_init_2_223 hg9 ?_
    refine gr_astore (pc := 226) (i := 4) (l' := [(4, va_rf (some a4)), (0, va_rf (some t0)), (3, va_rf (some a1))]) C hl (Nat.le_of_ble_eq_true rfl) rfl dX2_init_2_226 fun ls hl => ?_
    refine gr_aload_n (pc := 228) (i := 0) C rfl (gl_at hl 1 rfl) dX2_init_2_228 ?_
    refine gr_getr (pc := 229) C gh_bX2 (k := 8) (Nat.le_of_ble_eq_true rfl) q199 (fun _ h => h) dX2_init_2_229 h fun v5 h => ?_
    refine gr_newo (pc := 232) C gh_bX8 q1067 q1068 q106 gh_dX8 dX2_init_2_232 h ((gh_K1_b gh_K0_b) _ hk) fun a6 g h => ?_
    refine gr_dup (pc := 235) C (gh_cat _) dX2_init_2_235 ?_
    refine gr_aload (pc := 236) (i := 4) C (gl_at hl 0 rfl) dX2_init_2_236 ?_
    refine gh_callV (pc := 238) (rest := [va_rf (some a6), va_rf v5]) C (k_X8_init C.tr a6 (some a4)) (Nat.le_of_ble_eq_true rfl) (Nat.le_of_ble_eq_true rfl) (gh_r4 (Nat.le_of_ble_eq_true rfl)) (fun H9 L9 hp9 => gi_I C q1069 rfl q1070 q1071 mh_X8 np47 rfl hl.1.1 dX2_init_2_238 rfl) h ((gh_K1_b gh_K0_b) _ hk) (fun g h => ?_) (fun e g h => ?_)
    rotate_left
    ·
      obtain ⟨o, h, hk⟩ := gh_K1_thr h hk
      exact gh_out C (fun _ h => nomatch h) h hk
    rcases v5 with _ | a8
    · exact gh_stk_inv h
    replace h := gh_nn_ss h
    obtain ⟨⟨fs9, hg9⟩, h⟩ := gh_is_inv h
    refine gh_callI (pc := 241) (rest := []) C (k_J2_add C.tr a8 (some a6)) (Nat.le_of_ble_eq_true rfl) (Nat.le_of_ble_eq_true rfl) (gh_r4 (Nat.le_of_ble_eq_true rfl)) (fun H9 L9 hp9 => gi_V C hp9 hg9 gh_cJ2 q1014 q1015 q1016 q1017 mh_J2 np48 rfl hl.1.1 dX2_init_2_241 rfl) h ((gh_K1_b gh_K0_b) _ hk) (fun v9 g h => ?_) (fun e g h => ?_)
    rotate_left
    ·
      obtain ⟨o, h, hk⟩ := gh_K1_thr h hk
      exact gh_out C (fun _ h => nomatch h) h hk
    refine gr_istore_n (pc := 244) (i := 2) (l' := [(2, .int v9), (4, va_rf (some a4)), (0, va_rf (some t0)), (3, va_rf (some a1))]) C rfl hl (Nat.le_of_ble_eq_true rfl) rfl dX2_init_2_244 fun ls hl => ?_
    refine gr_goto (pc := 245) (tgt := 208) C rfl dX2_init_2_245 ?_
    exact gh_K1_in h hk ls (gl_sub hl [2, 3] rfl)

noncomputable def f_X2_init_2_208 (t0 : Nat) (p3 : Option Nat) : gh_M Unit := gh_it (fun st : Unit => f_X2_init_2_208_l t0 p3) ()
theorem w_X2_init_2_208 {x : gh_C} {g : gh_G} {o : (Unit ⊕ gh_X) × gh_G} {ls : Array Slot} (C : gh_K x cX2_init_2 "GargoyleTower$World" 5 none "<init>" 7 191 []) (t0 : Nat) (p3 : Option Nat) (hl : gh_lv ls 5 [(0, va_rf (some t0)), (3, va_rf p3)]) (h : gh_run (f_X2_init_2_208 t0 p3) g = some o) (hk : (gh_K0 x gh_rV) o) : gh_Wd x g (F0 (gh_cm x) 208 ls []) := by
  unfold f_X2_init_2_208 at h
  exact gh_loop gh_K0_b (fun st : Unit => f_X2_init_2_208_l t0 p3) (gp_X2_init_2_208 x t0 p3) (fun st g o h hk ls hl => w_X2_init_2_208_l C t0 p3 hl h hk) _ g o h hk ls hl
noncomputable def f_X2_init_2_160_l (t0 : Nat) (u160_1 : Option Nat) (u160_3 : Option Nat) : gh_M ((Unit) ⊕ Unit) :=
  gh_nn u160_3 fun a1 =>
  gh_bd (gh_is a1 15) fun _ =>
  gh_bd (f_J8_hasNext a1) fun v2 =>
  if v2 = 0 then
  (gh_nn u160_1 fun a3 =>
  gh_bd (gh_getr a3 1 8) fun v4 =>
  gh_nn v4 fun a5 =>
  gh_bd (gh_is a5 11) fun _ =>
  gh_bd (f_J2_iterator a5) fun v6 =>
  gh_up (f_X2_init_2_208 t0 v6))
  else
  (gh_bd (gh_is a1 15) fun _ =>
  gh_bd (f_J8_next a1) fun v7 =>
  gh_nn v7 fun a8 =>
  gh_bd (gh_is a8 6) fun _ =>
  gh_bd (gh_getr t0 1 7) fun v9 =>
  gh_bd (gh_new 6 4 gh_nX7) fun a10 =>
  gh_bd (f_X7_init a10 (some a8)) fun _ =>
  gh_nn v9 fun a12 =>
  gh_bd (gh_is a12 11) fun _ =>
  gh_bd (f_J2_add a12 (some a10)) fun v13 =>
  gh_ret (.inl ()))
theorem w_X2_init_2_160_l {x : gh_C} {g : gh_G} {o : (((Unit) ⊕ Unit) ⊕ gh_X) × gh_G} {ls : Array Slot} (C : gh_K x cX2_init_2 "GargoyleTower$World" 5 none "<init>" 7 191 []) (t0 : Nat) (u160_1 : Option Nat) (u160_3 : Option Nat) (hl : gh_lv ls 5 [(0, va_rf (some t0)), (1, va_rf u160_1), (3, va_rf u160_3)]) (h : gh_run (f_X2_init_2_160_l t0 u160_1 u160_3) g = some o) (hk : (gh_K1 x (gh_K0 x gh_rV) (gp_X2_init_2_160 x t0 u160_1 u160_3)) o) : gh_Wd x g (F0 (gh_cm x) 160 ls []) := by
  unfold f_X2_init_2_160_l at h
  refine gr_aload_n (pc := 160) (i := 3) C rfl (gl_at hl 2 rfl) dX2_init_2_160 ?_
  rcases u160_3 with _ | a1
  · exact gh_stk_inv h
  replace h := gh_nn_ss h
  obtain ⟨⟨fs9, hg9⟩, h⟩ := gh_is_inv h
  refine gh_callI (pc := 161) (rest := []) C (k_J8_hasNext C.tr a1) (Nat.le_of_ble_eq_true rfl) (Nat.le_of_ble_eq_true rfl) (gh_r4 (Nat.le_of_ble_eq_true rfl)) (fun H9 L9 hp9 => gi_F C hp9 hg9 gh_cJ8 q953 q336 (by decide +kernel) q353 q355 q356 q354 q352 q357 mh_java_util_Iterator np7 rfl hl.1.1 dX2_init_2_161 rfl) h ((gh_K1_b gh_K0_b) _ hk) (fun v2 g h => ?_) (fun e g h => ?_)
  rotate_left
  ·
    obtain ⟨o, h, hk⟩ := gh_K1_thr h hk
    exact gh_out C (fun _ h => nomatch h) h hk
  refine gr_if_eq (pc := 166) (tgt := 200) C rfl dX2_init_2_166 (fun c9 => ?_) (fun c9 => ?_)
  · replace h := gh_ift h c9
    refine gr_aload_n (pc := 200) (i := 1) C rfl (gl_at hl 1 rfl) dX2_init_2_200 ?_
    rcases u160_1 with _ | a3
    · exact gh_stk_inv h
    replace h := gh_nn_ss h
    refine gr_getr (pc := 201) C gh_bX2 (k := 8) (Nat.le_of_ble_eq_true rfl) q199 (fun _ h => h) dX2_init_2_201 h fun v4 h => ?_
    rcases v4 with _ | a5
    · exact gh_stk_inv h
    replace h := gh_nn_ss h
    obtain ⟨⟨fs9, hg9⟩, h⟩ := gh_is_inv h
    refine gh_callQ (pc := 204) (rest := []) C (k_J2_iterator C.tr a5) (Nat.le_of_ble_eq_true rfl) (Nat.le_of_ble_eq_true rfl) (gh_r4 (Nat.le_of_ble_eq_true rfl)) (fun H9 L9 hp9 => gi_V C hp9 hg9 gh_cJ2 q951 q309 q310 q311 mh_J2 np46 rfl hl.1.1 dX2_init_2_204 rfl) h ((gh_K1_b gh_K0_b) _ hk) (fun v6 g h => ?_) (fun e g h => ?_)
    rotate_left
    ·
      obtain ⟨o, h, hk⟩ := gh_K1_thr h hk
      exact gh_out C (fun _ h => nomatch h) h hk
    refine gr_astore_n (pc := 207) (i := 3) (l' := [(3, va_rf v6), (0, va_rf (some t0)), (1, va_rf (some a3))]) C rfl hl (Nat.le_of_ble_eq_true rfl) rfl dX2_init_2_207 fun ls hl => ?_
    obtain ⟨o, h, hk⟩ := gh_K1_up h hk
    exact w_X2_init_2_208 C t0 v6 (gl_sub hl [1, 0] rfl) h hk
  · replace h := gh_iff h c9
    refine gr_aload_n (pc := 169) (i := 3) C rfl (gl_at hl 2 rfl) dX2_init_2_169 ?_
    obtain ⟨⟨fs9, hg9⟩, h⟩ := gh_is_inv h
    refine gh_callQ (pc := 170) (rest := []) C (k_J8_next C.tr a1) (Nat.le_of_ble_eq_true rfl) (Nat.le_of_ble_eq_true rfl) (gh_r4 (Nat.le_of_ble_eq_true rfl)) (fun H9 L9 hp9 => gi_F C hp9 hg9 gh_cJ8 q955 q370 (by decide +kernel) q826 q828 q829 q827 q352 q830 mh_java_util_Iterator np23 rfl hl.1.1 dX2_init_2_170 rfl) h ((gh_K1_b gh_K0_b) _ hk) (fun v7 g h => ?_) (fun e g h => ?_)
    rotate_left
    ·
      obtain ⟨o, h, hk⟩ := gh_K1_thr h hk
      exact gh_out C (fun _ h => nomatch h) h hk
    rcases v7 with _ | a8
    · exact gh_stk_inv h
    replace h := gh_nn_ss h
    obtain ⟨⟨fs9, hg9⟩, h⟩ := gh_is_inv h
    refine gr_castY (pc := 175) C gh_cX7 q1042 (Or.inl rfl) dX2_init_2_175 hg9 ?_
    refine gr_astore (pc := 178) (i := 4) (l' := [(4, va_rf (some a8)), (0, va_rf (some t0)), (1, va_rf u160_1), (3, va_rf (some a1))]) C hl (Nat.le_of_ble_eq_true rfl) rfl dX2_init_2_178 fun ls hl => ?_
    refine gr_aload_n (pc := 180) (i := 0) C rfl (gl_at hl 1 rfl) dX2_init_2_180 ?_
    refine gr_getr (pc := 181) C gh_bX2 (k := 7) (Nat.le_of_ble_eq_true rfl) q197 (fun _ h => h) dX2_init_2_181 h fun v9 h => ?_
    refine gr_newo (pc := 184) C gh_bX7 q1042 q1043 q105 gh_dX7 dX2_init_2_184 h ((gh_K1_b gh_K0_b) _ hk) fun a10 g h => ?_
    refine gr_dup (pc := 187) C (gh_cat _) dX2_init_2_187 ?_
    refine gr_aload (pc := 188) (i := 4) C (gl_at hl 0 rfl) dX2_init_2_188 ?_
    refine gh_callV (pc := 190) (rest := [va_rf (some a10), va_rf v9]) C (k_X7_init C.tr a10 (some a8)) (Nat.le_of_ble_eq_true rfl) (Nat.le_of_ble_eq_true rfl) (gh_r4 (Nat.le_of_ble_eq_true rfl)) (fun H9 L9 hp9 => gi_I C q1044 rfl q1045 q1046 mh_X7 np49 rfl hl.1.1 dX2_init_2_190 rfl) h ((gh_K1_b gh_K0_b) _ hk) (fun g h => ?_) (fun e g h => ?_)
    rotate_left
    ·
      obtain ⟨o, h, hk⟩ := gh_K1_thr h hk
      exact gh_out C (fun _ h => nomatch h) h hk
    rcases v9 with _ | a12
    · exact gh_stk_inv h
    replace h := gh_nn_ss h
    obtain ⟨⟨fs9, hg9⟩, h⟩ := gh_is_inv h
    refine gh_callI (pc := 193) (rest := []) C (k_J2_add C.tr a12 (some a10)) (Nat.le_of_ble_eq_true rfl) (Nat.le_of_ble_eq_true rfl) (gh_r4 (Nat.le_of_ble_eq_true rfl)) (fun H9 L9 hp9 => gi_V C hp9 hg9 gh_cJ2 q1014 q1015 q1016 q1017 mh_J2 np48 rfl hl.1.1 dX2_init_2_193 rfl) h ((gh_K1_b gh_K0_b) _ hk) (fun v13 g h => ?_) (fun e g h => ?_)
    rotate_left
    ·
      obtain ⟨o, h, hk⟩ := gh_K1_thr h hk
      exact gh_out C (fun _ h => nomatch h) h hk
    refine gr_istore_n (pc := 196) (i := 2) (l' := [(2, .int v13), (4, va_rf (some a8)), (0, va_rf (some t0)), (1, va_rf u160_1), (3, va_rf (some a1))]) C rfl hl (Nat.le_of_ble_eq_true rfl) rfl dX2_init_2_196 fun ls hl => ?_
    refine gr_goto (pc := 197) (tgt := 160) C rfl dX2_init_2_197 ?_
    exact gh_K1_in h hk ls (gl_sub hl [2, 3, 4] rfl)

noncomputable def f_X2_init_2_160 (t0 : Nat) (p1 : Option Nat) (p3 : Option Nat) : gh_M Unit := gh_it (fun st : Unit => f_X2_init_2_160_l t0 p1 p3) ()
theorem w_X2_init_2_160 {x : gh_C} {g : gh_G} {o : (Unit ⊕ gh_X) × gh_G} {ls : Array Slot} (C : gh_K x cX2_init_2 "GargoyleTower$World" 5 none "<init>" 7 191 []) (t0 : Nat) (p1 : Option Nat) (p3 : Option Nat) (hl : gh_lv ls 5 [(0, va_rf (some t0)), (1, va_rf p1), (3, va_rf p3)]) (h : gh_run (f_X2_init_2_160 t0 p1 p3) g = some o) (hk : (gh_K0 x gh_rV) o) : gh_Wd x g (F0 (gh_cm x) 160 ls []) := by
  unfold f_X2_init_2_160 at h
  exact gh_loop gh_K0_b (fun st : Unit => f_X2_init_2_160_l t0 p1 p3) (gp_X2_init_2_160 x t0 p1 p3) (fun st g o h hk ls hl => w_X2_init_2_160_l C t0 p1 p3 hl h hk) _ g o h hk ls hl
noncomputable def f_X2_init_2_112_l (t0 : Nat) (u112_1 : Option Nat) (u112_3 : Option Nat) : gh_M ((Unit) ⊕ Unit) :=
  gh_nn u112_3 fun a1 =>
  gh_bd (gh_is a1 15) fun _ =>
  gh_bd (f_J8_hasNext a1) fun v2 =>
  if v2 = 0 then
  (gh_nn u112_1 fun a3 =>
  gh_bd (gh_getr a3 1 7) fun v4 =>
  gh_nn v4 fun a5 =>
  gh_bd (gh_is a5 11) fun _ =>
  gh_bd (f_J2_iterator a5) fun v6 =>
  gh_up (f_X2_init_2_160 t0 (some a3) v6))
  else
  (gh_bd (gh_is a1 15) fun _ =>
  gh_bd (f_J8_next a1) fun v7 =>
  gh_nn v7 fun a8 =>
  gh_bd (gh_is a8 5) fun _ =>
  gh_bd (gh_getr t0 1 6) fun v9 =>
  gh_bd (gh_new 5 8 gh_nX6) fun a10 =>
  gh_bd (f_X6_init a10 (some a8)) fun _ =>
  gh_nn v9 fun a12 =>
  gh_bd (gh_is a12 11) fun _ =>
  gh_bd (f_J2_add a12 (some a10)) fun v13 =>
  gh_ret (.inl ()))
theorem w_X2_init_2_112_l {x : gh_C} {g : gh_G} {o : (((Unit) ⊕ Unit) ⊕ gh_X) × gh_G} {ls : Array Slot} (C : gh_K x cX2_init_2 "GargoyleTower$World" 5 none "<init>" 7 191 []) (t0 : Nat) (u112_1 : Option Nat) (u112_3 : Option Nat) (hl : gh_lv ls 5 [(0, va_rf (some t0)), (1, va_rf u112_1), (3, va_rf u112_3)]) (h : gh_run (f_X2_init_2_112_l t0 u112_1 u112_3) g = some o) (hk : (gh_K1 x (gh_K0 x gh_rV) (gp_X2_init_2_112 x t0 u112_1 u112_3)) o) : gh_Wd x g (F0 (gh_cm x) 112 ls []) := by
  unfold f_X2_init_2_112_l at h
  refine gr_aload_n (pc := 112) (i := 3) C rfl (gl_at hl 2 rfl) dX2_init_2_112 ?_
  rcases u112_3 with _ | a1
  · exact gh_stk_inv h
  replace h := gh_nn_ss h
  obtain ⟨⟨fs9, hg9⟩, h⟩ := gh_is_inv h
  refine gh_callI (pc := 113) (rest := []) C (k_J8_hasNext C.tr a1) (Nat.le_of_ble_eq_true rfl) (Nat.le_of_ble_eq_true rfl) (gh_r4 (Nat.le_of_ble_eq_true rfl)) (fun H9 L9 hp9 => gi_F C hp9 hg9 gh_cJ8 q953 q336 (by decide +kernel) q353 q355 q356 q354 q352 q357 mh_java_util_Iterator np7 rfl hl.1.1 dX2_init_2_113 rfl) h ((gh_K1_b gh_K0_b) _ hk) (fun v2 g h => ?_) (fun e g h => ?_)
  rotate_left
  ·
    obtain ⟨o, h, hk⟩ := gh_K1_thr h hk
    exact gh_out C (fun _ h => nomatch h) h hk
  refine gr_if_eq (pc := 118) (tgt := 152) C rfl dX2_init_2_118 (fun c9 => ?_) (fun c9 => ?_)
  · replace h := gh_ift h c9
    refine gr_aload_n (pc := 152) (i := 1) C rfl (gl_at hl 1 rfl) dX2_init_2_152 ?_
    rcases u112_1 with _ | a3
    · exact gh_stk_inv h
    replace h := gh_nn_ss h
    refine gr_getr (pc := 153) C gh_bX2 (k := 7) (Nat.le_of_ble_eq_true rfl) q197 (fun _ h => h) dX2_init_2_153 h fun v4 h => ?_
    rcases v4 with _ | a5
    · exact gh_stk_inv h
    replace h := gh_nn_ss h
    obtain ⟨⟨fs9, hg9⟩, h⟩ := gh_is_inv h
    refine gh_callQ (pc := 156) (rest := []) C (k_J2_iterator C.tr a5) (Nat.le_of_ble_eq_true rfl) (Nat.le_of_ble_eq_true rfl) (gh_r4 (Nat.le_of_ble_eq_true rfl)) (fun H9 L9 hp9 => gi_V C hp9 hg9 gh_cJ2 q951 q309 q310 q311 mh_J2 np46 rfl hl.1.1 dX2_init_2_156 rfl) h ((gh_K1_b gh_K0_b) _ hk) (fun v6 g h => ?_) (fun e g h => ?_)
    rotate_left
    ·
      obtain ⟨o, h, hk⟩ := gh_K1_thr h hk
      exact gh_out C (fun _ h => nomatch h) h hk
    refine gr_astore_n (pc := 159) (i := 3) (l' := [(3, va_rf v6), (0, va_rf (some t0)), (1, va_rf (some a3))]) C rfl hl (Nat.le_of_ble_eq_true rfl) rfl dX2_init_2_159 fun ls hl => ?_
    obtain ⟨o, h, hk⟩ := gh_K1_up h hk
    exact w_X2_init_2_160 C t0 (some a3) v6 (gl_sub hl [1, 2, 0] rfl) h hk
  · replace h := gh_iff h c9
    refine gr_aload_n (pc := 121) (i := 3) C rfl (gl_at hl 2 rfl) dX2_init_2_121 ?_
    obtain ⟨⟨fs9, hg9⟩, h⟩ := gh_is_inv h
    refine gh_callQ (pc := 122) (rest := []) C (k_J8_next C.tr a1) (Nat.le_of_ble_eq_true rfl) (Nat.le_of_ble_eq_true rfl) (gh_r4 (Nat.le_of_ble_eq_true rfl)) (fun H9 L9 hp9 => gi_F C hp9 hg9 gh_cJ8 q955 q370 (by decide +kernel) q826 q828 q829 q827 q352 q830 mh_java_util_Iterator np23 rfl hl.1.1 dX2_init_2_122 rfl) h ((gh_K1_b gh_K0_b) _ hk) (fun v7 g h => ?_) (fun e g h => ?_)
    rotate_left
    ·
      obtain ⟨o, h, hk⟩ := gh_K1_thr h hk
      exact gh_out C (fun _ h => nomatch h) h hk
    rcases v7 with _ | a8
    · exact gh_stk_inv h
    replace h := gh_nn_ss h
    obtain ⟨⟨fs9, hg9⟩, h⟩ := gh_is_inv h
    refine gr_castY (pc := 127) C gh_cX6 q956 (Or.inl rfl) dX2_init_2_127 hg9 ?_
    refine gr_astore (pc := 130) (i := 4) (l' := [(4, va_rf (some a8)), (0, va_rf (some t0)), (1, va_rf u112_1), (3, va_rf (some a1))]) C hl (Nat.le_of_ble_eq_true rfl) rfl dX2_init_2_130 fun ls hl => ?_
    refine gr_aload_n (pc := 132) (i := 0) C rfl (gl_at hl 1 rfl) dX2_init_2_132 ?_
    refine gr_getr (pc := 133) C gh_bX2 (k := 6) (Nat.le_of_ble_eq_true rfl) q195 (fun _ h => h) dX2_init_2_133 h fun v9 h => ?_
    refine gr_newo (pc := 136) C gh_bX6 q956 q967 q104 gh_dX6 dX2_init_2_136 h ((gh_K1_b gh_K0_b) _ hk) fun a10 g h => ?_
    refine gr_dup (pc := 139) C (gh_cat _) dX2_init_2_139 ?_
    refine gr_aload (pc := 140) (i := 4) C (gl_at hl 0 rfl) dX2_init_2_140 ?_
    refine gh_callV (pc := 142) (rest := [va_rf (some a10), va_rf v9]) C (k_X6_init C.tr a10 (some a8)) (Nat.le_of_ble_eq_true rfl) (Nat.le_of_ble_eq_true rfl) (gh_r4 (Nat.le_of_ble_eq_true rfl)) (fun H9 L9 hp9 => gi_I C q968 rfl q969 q970 mh_X6 np50 rfl hl.1.1 dX2_init_2_142 rfl) h ((gh_K1_b gh_K0_b) _ hk) (fun g h => ?_) (fun e g h => ?_)
    rotate_left
    ·
      obtain ⟨o, h, hk⟩ := gh_K1_thr h hk
      exact gh_out C (fun _ h => nomatch h) h hk
    rcases v9 with _ | a12
    · exact gh_stk_inv h
    replace h := gh_nn_ss h
    obtain ⟨⟨fs9, hg9⟩, h⟩ := gh_is_inv h
    refine gh_callI (pc := 145) (rest := []) C (k_J2_add C.tr a12 (some a10)) (Nat.le_of_ble_eq_true rfl) (Nat.le_of_ble_eq_true rfl) (gh_r4 (Nat.le_of_ble_eq_true rfl)) (fun H9 L9 hp9 => gi_V C hp9 hg9 gh_cJ2 q1014 q1015 q1016 q1017 mh_J2 np48 rfl hl.1.1 dX2_init_2_145 rfl) h ((gh_K1_b gh_K0_b) _ hk) (fun v13 g h => ?_) (fun e g h => ?_)
    rotate_left
    ·
      obtain ⟨o, h, hk⟩ := gh_K1_thr h hk
      exact gh_out C (fun _ h => nomatch h) h hk
    refine gr_istore_n (pc := 148) (i := 2) (l' := [(2, .int v13), (4, va_rf (some a8)), (0, va_rf (some t0)), (1, va_rf u112_1), (3, va_rf (some a1))]) C rfl hl (Nat.le_of_ble_eq_true rfl) rfl dX2_init_2_148 fun ls hl => ?_
    refine gr_goto (pc := 149) (tgt := 112) C rfl dX2_init_2_149 ?_
    exact gh_K1_in h hk ls (gl_sub hl [2, 3, 4] rfl)

noncomputable def f_X2_init_2_112 (t0 : Nat) (p1 : Option Nat) (p3 : Option Nat) : gh_M Unit := gh_it (fun st : Unit => f_X2_init_2_112_l t0 p1 p3) ()
theorem w_X2_init_2_112 {x : gh_C} {g : gh_G} {o : (Unit ⊕ gh_X) × gh_G} {ls : Array Slot} (C : gh_K x cX2_init_2 "GargoyleTower$World" 5 none "<init>" 7 191 []) (t0 : Nat) (p1 : Option Nat) (p3 : Option Nat) (hl : gh_lv ls 5 [(0, va_rf (some t0)), (1, va_rf p1), (3, va_rf p3)]) (h : gh_run (f_X2_init_2_112 t0 p1 p3) g = some o) (hk : (gh_K0 x gh_rV) o) : gh_Wd x g (F0 (gh_cm x) 112 ls []) := by
  unfold f_X2_init_2_112 at h
  exact gh_loop gh_K0_b (fun st : Unit => f_X2_init_2_112_l t0 p1 p3) (gp_X2_init_2_112 x t0 p1 p3) (fun st g o h hk ls hl => w_X2_init_2_112_l C t0 p1 p3 hl h hk) _ g o h hk ls hl
noncomputable def f_X2_init_2 (t0 : Nat) (p1 : Option Nat) : gh_M Unit :=
  gh_bd (gh_putv t0 1 0 .int (.int (60 : Int32))) fun _ =>
  gh_bd (gh_putv t0 1 2 .int (.int (9 : Int32))) fun _ =>
  gh_bd (gh_new 11 3 gh_nJ2) fun a1 =>
  gh_bd (f_J2_init a1) fun _ =>
  gh_bd (gh_putv t0 1 6 (.object "java/util/ArrayList") (va_rf (some a1))) fun _ =>
  gh_bd (gh_new 11 3 gh_nJ2) fun a3 =>
  gh_bd (f_J2_init a3) fun _ =>
  gh_bd (gh_putv t0 1 7 (.object "java/util/ArrayList") (va_rf (some a3))) fun _ =>
  gh_bd (gh_new 11 3 gh_nJ2) fun a5 =>
  gh_bd (f_J2_init a5) fun _ =>
  gh_bd (gh_putv t0 1 8 (.object "java/util/ArrayList") (va_rf (some a5))) fun _ =>
  gh_nn p1 fun a7 =>
  gh_bd (gh_geti a7 1 0) fun v8 =>
  gh_bd (gh_putv t0 1 0 .int (.int v8)) fun _ =>
  gh_bd (gh_geti a7 1 1) fun v9 =>
  gh_bd (gh_putv t0 1 1 .int (.int v9)) fun _ =>
  gh_bd (gh_geti a7 1 2) fun v10 =>
  gh_bd (gh_putv t0 1 2 .int (.int v10)) fun _ =>
  gh_bd (gh_geti a7 1 3) fun v11 =>
  gh_bd (gh_putv t0 1 3 .int (.int v11)) fun _ =>
  gh_bd (gh_geti a7 1 4) fun v12 =>
  gh_bd (gh_putv t0 1 4 .int (.int v12)) fun _ =>
  gh_bd (gh_new 2 1 gh_nX3) fun a13 =>
  gh_bd (gh_getr a7 1 5) fun v14 =>
  gh_bd (f_X3_init_2 a13 v14) fun _ =>
  gh_bd (gh_putv t0 1 5 (.object "GargoyleTower$Weather") (va_rf (some a13))) fun _ =>
  gh_bd (gh_getr a7 1 6) fun v16 =>
  gh_nn v16 fun a17 =>
  gh_bd (gh_is a17 11) fun _ =>
  gh_bd (f_J2_iterator a17) fun v18 =>
  f_X2_init_2_112 t0 (some a7) v18
theorem w_X2_init_2 {x : gh_C} {g : gh_G} {o : (Unit ⊕ gh_X) × gh_G} {ls : Array Slot} (C : gh_K x cX2_init_2 "GargoyleTower$World" 5 none "<init>" 7 191 []) (t0 : Nat) (p1 : Option Nat) (hl : gh_lv ls 5 [(0, va_rf (some t0)), (1, va_rf p1)]) (h : gh_run (f_X2_init_2 t0 p1) g = some o) (hk : (gh_K0 x gh_rV) o) : gh_Wd x g (F0 (gh_cm x) 0 ls []) := by
  unfold f_X2_init_2 at h
  refine gr_aload_n (pc := 0) (i := 0) C rfl (gl_at hl 0 rfl) dX2_init_2_0 ?_
  refine gr_oinit (pc := 1) C q137 q130 q131 hl.1.1 (Nat.le_of_ble_eq_true rfl) (Nat.le_of_ble_eq_true rfl) (Nat.le_of_ble_eq_true rfl) dX2_init_2_1 ?_
  refine gr_aload_n (pc := 4) (i := 0) C rfl (gl_at hl 0 rfl) dX2_init_2_4 ?_
  refine gr_bipush (pc := 5) (v := (60 : Int32)) C rfl dX2_init_2_5 ?_
  refine gr_putp (pc := 7) C gh_bX2 (k := 0) (Nat.le_of_ble_eq_true rfl) q183 (fun _ h => h) rfl dX2_init_2_7 h fun g h => ?_
  refine gr_aload_n (pc := 10) (i := 0) C rfl (gl_at hl 0 rfl) dX2_init_2_10 ?_
  refine gr_bipush (pc := 11) (v := (9 : Int32)) C rfl dX2_init_2_11 ?_
  refine gr_putp (pc := 13) C gh_bX2 (k := 2) (Nat.le_of_ble_eq_true rfl) q187 (fun _ h => h) rfl dX2_init_2_13 h fun g h => ?_
  refine gr_aload_n (pc := 16) (i := 0) C rfl (gl_at hl 0 rfl) dX2_init_2_16 ?_
  refine gr_newo (pc := 17) C gh_bJ2 q138 q139 q79 gh_dJ2 dX2_init_2_17 h (gh_K0_b _ hk) fun a1 g h => ?_
  refine gr_dup (pc := 20) C (gh_cat _) dX2_init_2_20 ?_
  refine gh_callV (pc := 21) (rest := [va_rf (some a1), va_rf (some t0)]) C (k_J2_init C.tr a1) (Nat.le_of_ble_eq_true rfl) (Nat.le_of_ble_eq_true rfl) (gh_r4 (Nat.le_of_ble_eq_true rfl)) (fun H9 L9 hp9 => gi_I C q140 rfl q141 q142 mh_J2 np8 rfl hl.1.1 dX2_init_2_21 rfl) h (gh_K0_b _ hk) (fun g h => ?_) (fun e g h => ?_)
  rotate_left
  ·
    exact gh_out C (fun _ h => nomatch h) h hk
  refine gr_putF (pc := 24) C gh_bX2 (k := 6) (Nat.le_of_ble_eq_true rfl) q195 (fun _ h => h) rfl rfl dX2_init_2_24 h fun g h => ?_
  refine gr_aload_n (pc := 27) (i := 0) C rfl (gl_at hl 0 rfl) dX2_init_2_27 ?_
  refine gr_newo (pc := 28) C gh_bJ2 q138 q139 q79 gh_dJ2 dX2_init_2_28 h (gh_K0_b _ hk) fun a3 g h => ?_
  refine gr_dup (pc := 31) C (gh_cat _) dX2_init_2_31 ?_
  refine gh_callV (pc := 32) (rest := [va_rf (some a3), va_rf (some t0)]) C (k_J2_init C.tr a3) (Nat.le_of_ble_eq_true rfl) (Nat.le_of_ble_eq_true rfl) (gh_r4 (Nat.le_of_ble_eq_true rfl)) (fun H9 L9 hp9 => gi_I C q140 rfl q141 q142 mh_J2 np8 rfl hl.1.1 dX2_init_2_32 rfl) h (gh_K0_b _ hk) (fun g h => ?_) (fun e g h => ?_)
  rotate_left
  ·
    exact gh_out C (fun _ h => nomatch h) h hk
  refine gr_putF (pc := 35) C gh_bX2 (k := 7) (Nat.le_of_ble_eq_true rfl) q197 (fun _ h => h) rfl rfl dX2_init_2_35 h fun g h => ?_
  refine gr_aload_n (pc := 38) (i := 0) C rfl (gl_at hl 0 rfl) dX2_init_2_38 ?_
  refine gr_newo (pc := 39) C gh_bJ2 q138 q139 q79 gh_dJ2 dX2_init_2_39 h (gh_K0_b _ hk) fun a5 g h => ?_
  refine gr_dup (pc := 42) C (gh_cat _) dX2_init_2_42 ?_
  refine gh_callV (pc := 43) (rest := [va_rf (some a5), va_rf (some t0)]) C (k_J2_init C.tr a5) (Nat.le_of_ble_eq_true rfl) (Nat.le_of_ble_eq_true rfl) (gh_r4 (Nat.le_of_ble_eq_true rfl)) (fun H9 L9 hp9 => gi_I C q140 rfl q141 q142 mh_J2 np8 rfl hl.1.1 dX2_init_2_43 rfl) h (gh_K0_b _ hk) (fun g h => ?_) (fun e g h => ?_)
  rotate_left
  ·
    exact gh_out C (fun _ h => nomatch h) h hk
  refine gr_putF (pc := 46) C gh_bX2 (k := 8) (Nat.le_of_ble_eq_true rfl) q199 (fun _ h => h) rfl rfl dX2_init_2_46 h fun g h => ?_
  refine gr_aload_n (pc := 49) (i := 0) C rfl (gl_at hl 0 rfl) dX2_init_2_49 ?_
  refine gr_aload_n (pc := 50) (i := 1) C rfl (gl_at hl 1 rfl) dX2_init_2_50 ?_
  rcases p1 with _ | a7
  · exact gh_stk_inv h
  replace h := gh_nn_ss h
  refine gr_geti (pc := 51) C gh_bX2 (k := 0) (Nat.le_of_ble_eq_true rfl) q183 (fun _ h => h) dX2_init_2_51 h fun v8 h => ?_
  refine gr_putp (pc := 54) C gh_bX2 (k := 0) (Nat.le_of_ble_eq_true rfl) q183 (fun _ h => h) rfl dX2_init_2_54 h fun g h => ?_
  refine gr_aload_n (pc := 57) (i := 0) C rfl (gl_at hl 0 rfl) dX2_init_2_57 ?_
  refine gr_aload_n (pc := 58) (i := 1) C rfl (gl_at hl 1 rfl) dX2_init_2_58 ?_
  refine gr_geti (pc := 59) C gh_bX2 (k := 1) (Nat.le_of_ble_eq_true rfl) q185 (fun _ h => h) dX2_init_2_59 h fun v9 h => ?_
  refine gr_putp (pc := 62) C gh_bX2 (k := 1) (Nat.le_of_ble_eq_true rfl) q185 (fun _ h => h) rfl dX2_init_2_62 h fun g h => ?_
  refine gr_aload_n (pc := 65) (i := 0) C rfl (gl_at hl 0 rfl) dX2_init_2_65 ?_
  refine gr_aload_n (pc := 66) (i := 1) C rfl (gl_at hl 1 rfl) dX2_init_2_66 ?_
  refine gr_geti (pc := 67) C gh_bX2 (k := 2) (Nat.le_of_ble_eq_true rfl) q187 (fun _ h => h) dX2_init_2_67 h fun v10 h => ?_
  refine gr_putp (pc := 70) C gh_bX2 (k := 2) (Nat.le_of_ble_eq_true rfl) q187 (fun _ h => h) rfl dX2_init_2_70 h fun g h => ?_
  refine gr_aload_n (pc := 73) (i := 0) C rfl (gl_at hl 0 rfl) dX2_init_2_73 ?_
  refine gr_aload_n (pc := 74) (i := 1) C rfl (gl_at hl 1 rfl) dX2_init_2_74 ?_
  refine gr_geti (pc := 75) C gh_bX2 (k := 3) (Nat.le_of_ble_eq_true rfl) q189 (fun _ h => h) dX2_init_2_75 h fun v11 h => ?_
  refine gr_putp (pc := 78) C gh_bX2 (k := 3) (Nat.le_of_ble_eq_true rfl) q189 (fun _ h => h) rfl dX2_init_2_78 h fun g h => ?_
  refine gr_aload_n (pc := 81) (i := 0) C rfl (gl_at hl 0 rfl) dX2_init_2_81 ?_
  refine gr_aload_n (pc := 82) (i := 1) C rfl (gl_at hl 1 rfl) dX2_init_2_82 ?_
  refine gr_geti (pc := 83) C gh_bX2 (k := 4) (Nat.le_of_ble_eq_true rfl) q191 (fun _ h => h) dX2_init_2_83 h fun v12 h => ?_
  refine gr_putp (pc := 86) C gh_bX2 (k := 4) (Nat.le_of_ble_eq_true rfl) q191 (fun _ h => h) rfl dX2_init_2_86 h fun g h => ?_
  refine gr_aload_n (pc := 89) (i := 0) C rfl (gl_at hl 0 rfl) dX2_init_2_89 ?_
  refine gr_newo (pc := 90) C gh_bX3 q171 q172 q80 gh_dX3 dX2_init_2_90 h (gh_K0_b _ hk) fun a13 g h => ?_
  refine gr_dup (pc := 93) C (gh_cat _) dX2_init_2_93 ?_
  refine gr_aload_n (pc := 94) (i := 1) C rfl (gl_at hl 1 rfl) dX2_init_2_94 ?_
  refine gr_getr (pc := 95) C gh_bX2 (k := 5) (Nat.le_of_ble_eq_true rfl) q193 (fun _ h => h) dX2_init_2_95 h fun v14 h => ?_
  refine gh_callV (pc := 98) (rest := [va_rf (some a13), va_rf (some t0)]) C (k_X3_init_2 C.tr a13 v14) (Nat.le_of_ble_eq_true rfl) (Nat.le_of_ble_eq_true rfl) (gh_r4 (Nat.le_of_ble_eq_true rfl)) (fun H9 L9 hp9 => gi_I C q964 rfl q965 q966 mh_X3 np51 rfl hl.1.1 dX2_init_2_98 rfl) h (gh_K0_b _ hk) (fun g h => ?_) (fun e g h => ?_)
  rotate_left
  ·
    exact gh_out C (fun _ h => nomatch h) h hk
  refine gr_putF (pc := 101) C gh_bX2 (k := 5) (Nat.le_of_ble_eq_true rfl) q193 (fun _ h => h) rfl rfl dX2_init_2_101 h fun g h => ?_
  refine gr_aload_n (pc := 104) (i := 1) C rfl (gl_at hl 1 rfl) dX2_init_2_104 ?_
  refine gr_getr (pc := 105) C gh_bX2 (k := 6) (Nat.le_of_ble_eq_true rfl) q195 (fun _ h => h) dX2_init_2_105 h fun v16 h => ?_
  rcases v16 with _ | a17
  · exact gh_stk_inv h
  replace h := gh_nn_ss h
  obtain ⟨⟨fs9, hg9⟩, h⟩ := gh_is_inv h
  refine gh_callQ (pc := 108) (rest := []) C (k_J2_iterator C.tr a17) (Nat.le_of_ble_eq_true rfl) (Nat.le_of_ble_eq_true rfl) (gh_r4 (Nat.le_of_ble_eq_true rfl)) (fun H9 L9 hp9 => gi_V C hp9 hg9 gh_cJ2 q951 q309 q310 q311 mh_J2 np46 rfl hl.1.1 dX2_init_2_108 rfl) h (gh_K0_b _ hk) (fun v18 g h => ?_) (fun e g h => ?_)
  rotate_left
  ·
    exact gh_out C (fun _ h => nomatch h) h hk
  refine gr_astore_n (pc := 111) (i := 3) (l' := [(3, va_rf v18), (0, va_rf (some t0)), (1, va_rf (some a7))]) C rfl hl (Nat.le_of_ble_eq_true rfl) rfl dX2_init_2_111 fun ls hl => ?_
  exact w_X2_init_2_112 C t0 (some a7) v18 (gl_sub hl [1, 2, 0] rfl) h hk

theorem k_X2_init_2 {l : Launch} (hst : l.stackTraces = false) (t0 : Nat) (p1 : Option Nat) : gh_Ct l yX2_init_2 7 207 (f_X2_init_2 t0 p1) gh_rV [va_rf (some t0), va_rf p1] := gh_intro2 (L1 := 191) hst (by decide +kernel) q963 q76 rfl ⟨gh_cat _, gh_cat _, trivial⟩ (Nat.le_of_ble_eq_true rfl) fun x o ls hl C h hk => w_X2_init_2 C t0 p1 hl h hk
-- GargoyleTower$World.blockBelow(I)LGargoyleTower$Block;
def gp_X2_blockBelow_4 (x : gh_C) (t0 : Nat) (u4_1 : Int32) (st : Int32) (g : gh_G) : Prop := ∀ ls : Array Slot, gh_lv ls 4 [(0, va_rf (some t0)), (1, .int u4_1), (2, .int st)] → gh_Wd x g (F0 (gh_cm x) 4 ls [])
noncomputable def f_X2_blockBelow_4_l (t0 : Nat) (u4_1 : Int32) (p2 : Int32) : gh_M ((Int32) ⊕ (Option Nat)) :=
  if (p2 / (5 : Int32)) = (u4_1 / (5 : Int32)) then
  (if p2 < 0 then
  (gh_up (gh_ret none))
  else
  (gh_bd (gh_is t0 1) fun _ =>
  gh_bd (f_X2_blockIn t0 p2) fun v1 =>
  gh_on v1
  (gh_ret (.inl (p2 + (-1 : Int32))))
  (fun b2 => gh_up (gh_ret (some b2)))))
  else
  (gh_up (gh_ret none))
theorem w_X2_blockBelow_4_l {x : gh_C} {g : gh_G} {o : (((Int32) ⊕ (Option Nat)) ⊕ gh_X) × gh_G} {ls : Array Slot} (C : gh_K x cX2_blockBelow "GargoyleTower$World" 4 (some (.object "GargoyleTower$Block")) "blockBelow" 4 84 []) (t0 : Nat) (u4_1 : Int32) (p2 : Int32) (hl : gh_lv ls 4 [(0, va_rf (some t0)), (1, .int u4_1), (2, .int p2)]) (h : gh_run (f_X2_blockBelow_4_l t0 u4_1 p2) g = some o) (hk : (gh_K1 x (gh_K0 x gh_rQ) (gp_X2_blockBelow_4 x t0 u4_1)) o) : gh_Wd x g (F0 (gh_cm x) 4 ls []) := by
  unfold f_X2_blockBelow_4_l at h
  refine gr_iload_n (pc := 4) (i := 2) C rfl (gl_at hl 2 rfl) dX2_blockBelow_4 ?_
  refine gr_iconst (pc := 5) (v := (5 : Int32)) C rfl dX2_blockBelow_5 ?_
  refine gr_idiv (pc := 6) C (by decide) dX2_blockBelow_6 ?_
  refine gr_iload_n (pc := 7) (i := 1) C rfl (gl_at hl 1 rfl) dX2_blockBelow_7 ?_
  refine gr_iconst (pc := 8) (v := (5 : Int32)) C rfl dX2_blockBelow_8 ?_
  refine gr_idiv (pc := 9) C (by decide) dX2_blockBelow_9 ?_
  refine gr_icmp_ne (pc := 10) (tgt := 35) C rfl dX2_blockBelow_10 (fun c9 => ?_) (fun c9 => ?_)
  · replace h := gh_iff h c9
    refine gr_null (pc := 35) C dX2_blockBelow_35 ?_
    obtain ⟨o, h, hk⟩ := gh_K1_up h hk
    exact gr_aret (pc := 36) C (Or.inl ⟨_, rfl⟩) dX2_blockBelow_36 h hk
  · replace h := gh_ift h c9
    refine gr_iload_n (pc := 13) (i := 2) C rfl (gl_at hl 2 rfl) dX2_blockBelow_13 ?_
    refine gr_if_lt (pc := 14) (tgt := 35) C rfl dX2_blockBelow_14 (fun c9 => ?_) (fun c9 => ?_)
    · replace h := gh_ift h c9
      refine gr_null (pc := 35) C dX2_blockBelow_35 ?_
      obtain ⟨o, h, hk⟩ := gh_K1_up h hk
      exact gr_aret (pc := 36) C (Or.inl ⟨_, rfl⟩) dX2_blockBelow_36 h hk
    · replace h := gh_iff h c9
      refine gr_aload_n (pc := 17) (i := 0) C rfl (gl_at hl 0 rfl) dX2_blockBelow_17 ?_
      refine gr_iload_n (pc := 18) (i := 2) C rfl (gl_at hl 2 rfl) dX2_blockBelow_18 ?_
      obtain ⟨⟨fs9, hg9⟩, h⟩ := gh_is_inv h
      refine gh_callQ (pc := 19) (rest := []) C (k_X2_blockIn C.tr t0 p2) (Nat.le_of_ble_eq_true rfl) (Nat.le_of_ble_eq_true rfl) (gh_r4 (Nat.le_of_ble_eq_true rfl)) (fun H9 L9 hp9 => gi_V C hp9 hg9 gh_cX2 q1317 q948 q949 q950 mh_X2 np52 rfl hl.1.1 dX2_blockBelow_19 rfl) h ((gh_K1_b gh_K0_b) _ hk) (fun v1 g h => ?_) (fun e g h => ?_)
      rotate_left
      ·
        obtain ⟨o, h, hk⟩ := gh_K1_thr h hk
        exact gh_out C (fun _ h => nomatch h) h hk
      refine gr_astore_n (pc := 22) (i := 3) (l' := [(3, va_rf v1), (0, va_rf (some t0)), (1, .int u4_1), (2, .int p2)]) C rfl hl (Nat.le_of_ble_eq_true rfl) rfl dX2_blockBelow_22 fun ls hl => ?_
      refine gr_aload_n (pc := 23) (i := 3) C rfl (gl_at hl 0 rfl) dX2_blockBelow_23 ?_
      refine gr_ifnull (pc := 24) (tgt := 29) C rfl dX2_blockBelow_24 (fun c9 => ?_) (fun b2 c9 => ?_)
      · subst c9
        replace h := gh_on_n h
        refine gr_iinc (pc := 29) (i := 2) (z := 3) (v := p2 + (-1 : Int32)) (l' := [(2, .int (p2 + (-1 : Int32))), (3, va_rf none), (0, va_rf (some t0)), (1, .int u4_1)]) C hl rfl (congrArg (fun z9 => p2 + z9) (rfl : Int32.ofInt (-1) = (-1 : Int32))) (Nat.le_of_ble_eq_true rfl) rfl dX2_blockBelow_29 fun ls hl => ?_
        refine gr_goto (pc := 32) (tgt := 4) C rfl dX2_blockBelow_32 ?_
        exact gh_K1_in h hk ls (gl_sub hl [2, 3, 0] rfl)
      · subst c9
        replace h := gh_on_s h
        refine gr_aload_n (pc := 27) (i := 3) C rfl (gl_at hl 0 rfl) dX2_blockBelow_27 ?_
        obtain ⟨o, h, hk⟩ := gh_K1_up h hk
        exact gr_aret (pc := 28) C (Or.inl ⟨_, rfl⟩) dX2_blockBelow_28 h hk

noncomputable def f_X2_blockBelow_4 (t0 : Nat) (p1 : Int32) (p2 : Int32) : gh_M (Option Nat) := gh_it (fun st : Int32 => f_X2_blockBelow_4_l t0 p1 st) (p2)
theorem w_X2_blockBelow_4 {x : gh_C} {g : gh_G} {o : ((Option Nat) ⊕ gh_X) × gh_G} {ls : Array Slot} (C : gh_K x cX2_blockBelow "GargoyleTower$World" 4 (some (.object "GargoyleTower$Block")) "blockBelow" 4 84 []) (t0 : Nat) (p1 : Int32) (p2 : Int32) (hl : gh_lv ls 4 [(0, va_rf (some t0)), (1, .int p1), (2, .int p2)]) (h : gh_run (f_X2_blockBelow_4 t0 p1 p2) g = some o) (hk : (gh_K0 x gh_rQ) o) : gh_Wd x g (F0 (gh_cm x) 4 ls []) := by
  unfold f_X2_blockBelow_4 at h
  exact gh_loop gh_K0_b (fun st : Int32 => f_X2_blockBelow_4_l t0 p1 st) (gp_X2_blockBelow_4 x t0 p1) (fun st g o h hk ls hl => w_X2_blockBelow_4_l C t0 p1 st hl h hk) _ g o h hk ls hl
noncomputable def f_X2_blockBelow (t0 : Nat) (p1 : Int32) : gh_M (Option Nat) :=
  f_X2_blockBelow_4 t0 p1 (p1 - (1 : Int32))
theorem w_X2_blockBelow {x : gh_C} {g : gh_G} {o : ((Option Nat) ⊕ gh_X) × gh_G} {ls : Array Slot} (C : gh_K x cX2_blockBelow "GargoyleTower$World" 4 (some (.object "GargoyleTower$Block")) "blockBelow" 4 84 []) (t0 : Nat) (p1 : Int32) (hl : gh_lv ls 4 [(0, va_rf (some t0)), (1, .int p1)]) (h : gh_run (f_X2_blockBelow t0 p1) g = some o) (hk : (gh_K0 x gh_rQ) o) : gh_Wd x g (F0 (gh_cm x) 0 ls []) := by
  unfold f_X2_blockBelow at h
  refine gr_iload_n (pc := 0) (i := 1) C rfl (gl_at hl 1 rfl) dX2_blockBelow_0 ?_
  refine gr_iconst (pc := 1) (v := (1 : Int32)) C rfl dX2_blockBelow_1 ?_
  refine gr_isub (pc := 2) C dX2_blockBelow_2 ?_
  refine gr_istore_n (pc := 3) (i := 2) (l' := [(2, .int (p1 - (1 : Int32))), (0, va_rf (some t0)), (1, .int p1)]) C rfl hl (Nat.le_of_ble_eq_true rfl) rfl dX2_blockBelow_3 fun ls hl => ?_
  exact w_X2_blockBelow_4 C t0 p1 (p1 - (1 : Int32)) (gl_sub hl [1, 2, 0] rfl) h hk

theorem k_X2_blockBelow {l : Launch} (hst : l.stackTraces = false) (t0 : Nat) (p1 : Int32) : gh_Ct l yX2_blockBelow 4 99 (f_X2_blockBelow t0 p1) gh_rQ [va_rf (some t0), .int p1] := gh_intro2 (L1 := 84) hst (by decide +kernel) q1372 q76 rfl ⟨gh_cat _, rfl, trivial⟩ (Nat.le_of_ble_eq_true rfl) fun x o ls hl C h hk => w_X2_blockBelow C t0 p1 hl h hk
-- GargoyleTower$World.wearRopes()I
def gp_X2_wearRopes_10 (x : gh_C) (t0 : Nat) (u10_2 : Option Nat) (st : Int32) (g : gh_G) : Prop := ∀ ls : Array Slot, gh_lv ls 5 [(0, va_rf (some t0)), (1, .int st), (2, va_rf u10_2)] → gh_Wd x g (F0 (gh_cm x) 10 ls [])
noncomputable def f_X2_wearRopes_81 (t0 : Nat) (p1 : Int32) (u10_2 : Option Nat) : gh_M ((Int32) ⊕ Int32) :=
  gh_ret (.inl (p1))
theorem w_X2_wearRopes_81 {x : gh_C} {g : gh_G} {o : (((Int32) ⊕ Int32) ⊕ gh_X) × gh_G} {ls : Array Slot} (C : gh_K x cX2_wearRopes "GargoyleTower$World" 5 (some .int) "wearRopes" 6 124 []) (t0 : Nat) (p1 : Int32) (u10_2 : Option Nat) (hl : gh_lv ls 5 [(0, va_rf (some t0)), (1, .int p1), (2, va_rf u10_2)]) (h : gh_run (f_X2_wearRopes_81 t0 p1 u10_2) g = some o) (hk : (gh_K1 x (gh_K0 x gh_rI) (gp_X2_wearRopes_10 x t0 u10_2)) o) : gh_Wd x g (F0 (gh_cm x) 81 ls []) := by
  unfold f_X2_wearRopes_81 at h
  refine gr_goto (pc := 81) (tgt := 10) C rfl dX2_wearRopes_81 ?_
  exact gh_K1_in h hk ls (gl_sub hl [0, 1, 2] rfl)

noncomputable def f_X2_wearRopes_10_l (t0 : Nat) (p1 : Int32) (u10_2 : Option Nat) : gh_M ((Int32) ⊕ Int32) :=
  gh_nn u10_2 fun a1 =>
  gh_bd (gh_is a1 15) fun _ =>
  gh_bd (f_J8_hasNext a1) fun v2 =>
  if v2 = 0 then
  (gh_up (gh_ret p1))
  else
  (gh_bd (gh_is a1 15) fun _ =>
  gh_bd (f_J8_next a1) fun v3 =>
  gh_nn v3 fun a4 =>
  gh_bd (gh_is a4 6) fun _ =>
  gh_bd (gh_geti a4 6 3) fun v5 =>
  if v5 = (-1 : Int32) then
  (f_X2_wearRopes_81 t0 p1 (some a1))
  else
  (gh_bd (gh_getr t0 1 6) fun v6 =>
  gh_bd (gh_geti a4 6 3) fun v7 =>
  gh_nn v6 fun a8 =>
  gh_bd (gh_is a8 11) fun _ =>
  gh_bd (f_J2_get a8 v7) fun v9 =>
  gh_nn v9 fun a10 =>
  gh_bd (gh_is a10 5) fun _ =>
  gh_bd (gh_geti a10 5 1) fun v11 =>
  gh_bd (gh_is a4 6) fun _ =>
  gh_bd (f_X7_wearBy a4 (1 : Int32) v11) fun v12 =>
  if v12 = 0 then
  (f_X2_wearRopes_81 t0 p1 (some a1))
  else
  (gh_bd (gh_is a10 5) fun _ =>
  gh_bd (f_X6_go a10 (3 : Int32) (-1 : Int32)) fun _ =>
  gh_bd (gh_putv a4 6 3 .int (.int (-1 : Int32))) fun _ =>
  f_X2_wearRopes_81 t0 (p1 + (1 : Int32)) (some a1))))
theorem w_X2_wearRopes_10_l {x : gh_C} {g : gh_G} {o : (((Int32) ⊕ Int32) ⊕ gh_X) × gh_G} {ls : Array Slot} (C : gh_K x cX2_wearRopes "GargoyleTower$World" 5 (some .int) "wearRopes" 6 124 []) (t0 : Nat) (p1 : Int32) (u10_2 : Option Nat) (hl : gh_lv ls 5 [(0, va_rf (some t0)), (1, .int p1), (2, va_rf u10_2)]) (h : gh_run (f_X2_wearRopes_10_l t0 p1 u10_2) g = some o) (hk : (gh_K1 x (gh_K0 x gh_rI) (gp_X2_wearRopes_10 x t0 u10_2)) o) : gh_Wd x g (F0 (gh_cm x) 10 ls []) := by
  unfold f_X2_wearRopes_10_l at h
  refine gr_aload_n (pc := 10) (i := 2) C rfl (gl_at hl 2 rfl) dX2_wearRopes_10 ?_
  rcases u10_2 with _ | a1
  · exact gh_stk_inv h
  replace h := gh_nn_ss h
  obtain ⟨⟨fs9, hg9⟩, h⟩ := gh_is_inv h
  refine gh_callI (pc := 11) (rest := []) C (k_J8_hasNext C.tr a1) (Nat.le_of_ble_eq_true rfl) (Nat.le_of_ble_eq_true rfl) (gh_r4 (Nat.le_of_ble_eq_true rfl)) (fun H9 L9 hp9 => gi_F C hp9 hg9 gh_cJ8 q953 q336 (by decide +kernel) q353 q355 q356 q354 q352 q357 mh_java_util_Iterator np7 rfl hl.1.1 dX2_wearRopes_11 rfl) h ((gh_K1_b gh_K0_b) _ hk) (fun v2 g h => ?_) (fun e g h => ?_)
  rotate_left
  ·
    obtain ⟨o, h, hk⟩ := gh_K1_thr h hk
    exact gh_out C (fun _ h => nomatch h) h hk
  refine gr_if_eq (pc := 16) (tgt := 84) C rfl dX2_wearRopes_16 (fun c9 => ?_) (fun c9 => ?_)
  · replace h := gh_ift h c9
    refine gr_iload_n (pc := 84) (i := 1) C rfl (gl_at hl 1 rfl) dX2_wearRopes_84 ?_
    obtain ⟨o, h, hk⟩ := gh_K1_up h hk
    exact gr_iret (pc := 85) C dX2_wearRopes_85 h hk
  · replace h := gh_iff h c9
    refine gr_aload_n (pc := 19) (i := 2) C rfl (gl_at hl 2 rfl) dX2_wearRopes_19 ?_
    obtain ⟨⟨fs9, hg9⟩, h⟩ := gh_is_inv h
    refine gh_callQ (pc := 20) (rest := []) C (k_J8_next C.tr a1) (Nat.le_of_ble_eq_true rfl) (Nat.le_of_ble_eq_true rfl) (gh_r4 (Nat.le_of_ble_eq_true rfl)) (fun H9 L9 hp9 => gi_F C hp9 hg9 gh_cJ8 q955 q370 (by decide +kernel) q826 q828 q829 q827 q352 q830 mh_java_util_Iterator np23 rfl hl.1.1 dX2_wearRopes_20 rfl) h ((gh_K1_b gh_K0_b) _ hk) (fun v3 g h => ?_) (fun e g h => ?_)
    rotate_left
    ·
      obtain ⟨o, h, hk⟩ := gh_K1_thr h hk
      exact gh_out C (fun _ h => nomatch h) h hk
    rcases v3 with _ | a4
    · exact gh_stk_inv h
    replace h := gh_nn_ss h
    obtain ⟨⟨fs9, hg9⟩, h⟩ := gh_is_inv h
    refine gr_castY (pc := 25) C gh_cX7 q1042 (Or.inl rfl) dX2_wearRopes_25 hg9 ?_
    refine gr_astore_n (pc := 28) (i := 3) (l' := [(3, va_rf (some a4)), (0, va_rf (some t0)), (1, .int p1), (2, va_rf (some a1))]) C rfl hl (Nat.le_of_ble_eq_true rfl) rfl dX2_wearRopes_28 fun ls hl => ?_
    refine gr_aload_n (pc := 29) (i := 3) C rfl (gl_at hl 0 rfl) dX2_wearRopes_29 ?_
    refine gr_getiN (pc := 30) C gh_bX7 (k := 3) (Nat.le_of_ble_eq_true rfl) q1057 (fun _ h => h) dX2_wearRopes_30 h fun v5 h => ?_
    refine gr_iconst (pc := 33) (v := (-1 : Int32)) C rfl dX2_wearRopes_33 ?_
    refine gr_icmp_eq (pc := 34) (tgt := 81) C rfl dX2_wearRopes_34 (fun c9 => ?_) (fun c9 => ?_)
    · replace h := gh_ift h c9
      exact w_X2_wearRopes_81 C t0 p1 (some a1) (gl_sub hl [1, 2, 3] rfl) h hk
    · replace h := gh_iff h c9
      refine gr_aload_n (pc := 37) (i := 0) C rfl (gl_at hl 1 rfl) dX2_wearRopes_37 ?_
      refine gr_getr (pc := 38) C gh_bX2 (k := 6) (Nat.le_of_ble_eq_true rfl) q195 (fun _ h => h) dX2_wearRopes_38 h fun v6 h => ?_
      refine gr_aload_n (pc := 41) (i := 3) C rfl (gl_at hl 0 rfl) dX2_wearRopes_41 ?_
      refine gr_getiN (pc := 42) C gh_bX7 (k := 3) (Nat.le_of_ble_eq_true rfl) q1057 (fun _ h => h) dX2_wearRopes_42 h fun v7 h => ?_
      rcases v6 with _ | a8
      · exact gh_stk_inv h
      replace h := gh_nn_ss h
      obtain ⟨⟨fs9, hg9⟩, h⟩ := gh_is_inv h
      refine gh_callQ (pc := 45) (rest := []) C (k_J2_get C.tr a8 v7) (Nat.le_of_ble_eq_true rfl) (Nat.le_of_ble_eq_true rfl) (gh_r4 (Nat.le_of_ble_eq_true rfl)) (fun H9 L9 hp9 => gi_V C hp9 hg9 gh_cJ2 q1238 q385 q2725 q386 mh_J2 np21 rfl hl.1.1 dX2_wearRopes_45 rfl) h ((gh_K1_b gh_K0_b) _ hk) (fun v9 g h => ?_) (fun e g h => ?_)
      rotate_left
      ·
        obtain ⟨o, h, hk⟩ := gh_K1_thr h hk
        exact gh_out C (fun _ h => nomatch h) h hk
      rcases v9 with _ | a10
      · exact gh_stk_inv h
      replace h := gh_nn_ss h
      obtain ⟨⟨fs9, hg9⟩, h⟩ := gh_is_inv h
      refine gr_castY (pc := 48) C gh_cX6 q956 (Or.inl rfl) dX2_wearRopes_48 hg9 ?_
      refine gr_astore (pc := 51) (i := 4) (l' := [(4, va_rf (some a10)), (3, va_rf (some a4)), (0, va_rf (some t0)), (1, .int p1), (2, va_rf (some a1))]) C hl (Nat.le_of_ble_eq_true rfl) rfl dX2_wearRopes_51 fun ls hl => ?_
      refine gr_aload_n (pc := 53) (i := 3) C rfl (gl_at hl 1 rfl) dX2_wearRopes_53 ?_
      refine gr_iconst (pc := 54) (v := (1 : Int32)) C rfl dX2_wearRopes_54 ?_
      refine gr_aload (pc := 55) (i := 4) C (gl_at hl 0 rfl) dX2_wearRopes_55 ?_
      refine gr_getiN (pc := 57) C gh_bX6 (k := 1) (Nat.le_of_ble_eq_true rfl) q979 (fun _ h => h) dX2_wearRopes_57 h fun v11 h => ?_
      obtain ⟨⟨fs9, hg9⟩, h⟩ := gh_is_inv h
      refine gh_callI (pc := 60) (rest := []) C (k_X7_wearBy C.tr a4 (1 : Int32) v11) (Nat.le_of_ble_eq_true rfl) (Nat.le_of_ble_eq_true rfl) (gh_r4 (Nat.le_of_ble_eq_true rfl)) (fun H9 L9 hp9 => gi_V C hp9 hg9 gh_cX7 q1318 q1319 q1320 q1321 mh_X7 np53 rfl hl.1.1 dX2_wearRopes_60 rfl) h ((gh_K1_b gh_K0_b) _ hk) (fun v12 g h => ?_) (fun e g h => ?_)
      rotate_left
      ·
        obtain ⟨o, h, hk⟩ := gh_K1_thr h hk
        exact gh_out C (fun _ h => nomatch h) h hk
      refine gr_if_eq (pc := 63) (tgt := 81) C rfl dX2_wearRopes_63 (fun c9 => ?_) (fun c9 => ?_)
      · replace h := gh_ift h c9
        exact w_X2_wearRopes_81 C t0 p1 (some a1) (gl_sub hl [2, 3, 4] rfl) h hk
      · replace h := gh_iff h c9
        refine gr_aload (pc := 66) (i := 4) C (gl_at hl 0 rfl) dX2_wearRopes_66 ?_
        refine gr_iconst (pc := 68) (v := (3 : Int32)) C rfl dX2_wearRopes_68 ?_
        refine gr_iconst (pc := 69) (v := (-1 : Int32)) C rfl dX2_wearRopes_69 ?_
        obtain ⟨⟨fs9, hg9⟩, h⟩ := gh_is_inv h
        refine gh_callV (pc := 70) (rest := []) C (k_X6_go C.tr a10 (3 : Int32) (-1 : Int32)) (Nat.le_of_ble_eq_true rfl) (Nat.le_of_ble_eq_true rfl) (gh_r4 (Nat.le_of_ble_eq_true rfl)) (fun H9 L9 hp9 => gi_V C hp9 hg9 gh_cX6 q1301 q1302 q1303 q1304 mh_X6 np30 rfl hl.1.1 dX2_wearRopes_70 rfl) h ((gh_K1_b gh_K0_b) _ hk) (fun g h => ?_) (fun e g h => ?_)
        rotate_left
        ·
          obtain ⟨o, h, hk⟩ := gh_K1_thr h hk
          exact gh_out C (fun _ h => nomatch h) h hk
        refine gr_aload_n (pc := 73) (i := 3) C rfl (gl_at hl 1 rfl) dX2_wearRopes_73 ?_
        refine gr_iconst (pc := 74) (v := (-1 : Int32)) C rfl dX2_wearRopes_74 ?_
        refine gr_putN (pc := 75) C gh_bX7 (k := 3) (Nat.le_of_ble_eq_true rfl) q1057 (fun _ h => h) rfl dX2_wearRopes_75 h fun g h => ?_
        refine gr_iinc (pc := 78) (i := 1) (z := 3) (v := p1 + (1 : Int32)) (l' := [(1, .int (p1 + (1 : Int32))), (4, va_rf (some a10)), (3, va_rf (some a4)), (0, va_rf (some t0)), (2, va_rf (some a1))]) C hl rfl rfl (Nat.le_of_ble_eq_true rfl) rfl dX2_wearRopes_78 fun ls hl => ?_
        exact w_X2_wearRopes_81 C t0 (p1 + (1 : Int32)) (some a1) (gl_sub hl [3, 0, 4] rfl) h hk

noncomputable def f_X2_wearRopes_10 (t0 : Nat) (p1 : Int32) (p2 : Option Nat) : gh_M Int32 := gh_it (fun st : Int32 => f_X2_wearRopes_10_l t0 st p2) (p1)
theorem w_X2_wearRopes_10 {x : gh_C} {g : gh_G} {o : (Int32 ⊕ gh_X) × gh_G} {ls : Array Slot} (C : gh_K x cX2_wearRopes "GargoyleTower$World" 5 (some .int) "wearRopes" 6 124 []) (t0 : Nat) (p1 : Int32) (p2 : Option Nat) (hl : gh_lv ls 5 [(0, va_rf (some t0)), (1, .int p1), (2, va_rf p2)]) (h : gh_run (f_X2_wearRopes_10 t0 p1 p2) g = some o) (hk : (gh_K0 x gh_rI) o) : gh_Wd x g (F0 (gh_cm x) 10 ls []) := by
  unfold f_X2_wearRopes_10 at h
  exact gh_loop gh_K0_b (fun st : Int32 => f_X2_wearRopes_10_l t0 st p2) (gp_X2_wearRopes_10 x t0 p2) (fun st g o h hk ls hl => w_X2_wearRopes_10_l C t0 st p2 hl h hk) _ g o h hk ls hl
noncomputable def f_X2_wearRopes (t0 : Nat) : gh_M Int32 :=
  gh_bd (gh_getr t0 1 7) fun v1 =>
  gh_nn v1 fun a2 =>
  gh_bd (gh_is a2 11) fun _ =>
  gh_bd (f_J2_iterator a2) fun v3 =>
  f_X2_wearRopes_10 t0 (0 : Int32) v3
theorem w_X2_wearRopes {x : gh_C} {g : gh_G} {o : (Int32 ⊕ gh_X) × gh_G} {ls : Array Slot} (C : gh_K x cX2_wearRopes "GargoyleTower$World" 5 (some .int) "wearRopes" 6 124 []) (t0 : Nat) (hl : gh_lv ls 5 [(0, va_rf (some t0))]) (h : gh_run (f_X2_wearRopes t0) g = some o) (hk : (gh_K0 x gh_rI) o) : gh_Wd x g (F0 (gh_cm x) 0 ls []) := by
  unfold f_X2_wearRopes at h
  refine gr_iconst (pc := 0) (v := (0 : Int32)) C rfl dX2_wearRopes_0 ?_
  refine gr_istore_n (pc := 1) (i := 1) (l' := [(1, .int (0 : Int32)), (0, va_rf (some t0))]) C rfl hl (Nat.le_of_ble_eq_true rfl) rfl dX2_wearRopes_1 fun ls hl => ?_
  refine gr_aload_n (pc := 2) (i := 0) C rfl (gl_at hl 1 rfl) dX2_wearRopes_2 ?_
  refine gr_getr (pc := 3) C gh_bX2 (k := 7) (Nat.le_of_ble_eq_true rfl) q197 (fun _ h => h) dX2_wearRopes_3 h fun v1 h => ?_
  rcases v1 with _ | a2
  · exact gh_stk_inv h
  replace h := gh_nn_ss h
  obtain ⟨⟨fs9, hg9⟩, h⟩ := gh_is_inv h
  refine gh_callQ (pc := 6) (rest := []) C (k_J2_iterator C.tr a2) (Nat.le_of_ble_eq_true rfl) (Nat.le_of_ble_eq_true rfl) (gh_r4 (Nat.le_of_ble_eq_true rfl)) (fun H9 L9 hp9 => gi_V C hp9 hg9 gh_cJ2 q951 q309 q310 q311 mh_J2 np46 rfl hl.1.1 dX2_wearRopes_6 rfl) h (gh_K0_b _ hk) (fun v3 g h => ?_) (fun e g h => ?_)
  rotate_left
  ·
    exact gh_out C (fun _ h => nomatch h) h hk
  refine gr_astore_n (pc := 9) (i := 2) (l' := [(2, va_rf v3), (1, .int (0 : Int32)), (0, va_rf (some t0))]) C rfl hl (Nat.le_of_ble_eq_true rfl) rfl dX2_wearRopes_9 fun ls hl => ?_
  exact w_X2_wearRopes_10 C t0 (0 : Int32) v3 (gl_sub hl [2, 1, 0] rfl) h hk

theorem k_X2_wearRopes {l : Launch} (hst : l.stackTraces = false) (t0 : Nat) : gh_Ct l yX2_wearRopes 6 140 (f_X2_wearRopes t0) gh_rI [va_rf (some t0)] := gh_intro2 (L1 := 124) hst (by decide +kernel) q1376 q76 rfl ⟨gh_cat _, trivial⟩ (Nat.le_of_ble_eq_true rfl) fun x o ls hl C h hk => w_X2_wearRopes C t0 hl h hk
-- GargoyleTower$World.setSeed(I)I
noncomputable def f_X2_setSeed (t0 : Nat) (p1 : Int32) : gh_M Int32 :=
  gh_bd (f_X1_inRange p1 (0 : Int32) (9999 : Int32)) fun v1 =>
  gh_bd (f_X1_checkArgument v1) fun _ =>
  gh_bd (gh_getr t0 1 5) fun v3 =>
  gh_nn v3 fun a4 =>
  gh_bd (gh_geti a4 2 0) fun v5 =>
  gh_bd (gh_getr t0 1 5) fun v6 =>
  gh_nn v6 fun a7 =>
  gh_bd (gh_putv a7 2 0 .int (.int p1)) fun _ =>
  gh_ret v5
theorem w_X2_setSeed {x : gh_C} {g : gh_G} {o : (Int32 ⊕ gh_X) × gh_G} {ls : Array Slot} (C : gh_K x cX2_setSeed "GargoyleTower$World" 3 (some .int) "setSeed" 8 130 []) (t0 : Nat) (p1 : Int32) (hl : gh_lv ls 3 [(0, va_rf (some t0)), (1, .int p1)]) (h : gh_run (f_X2_setSeed t0 p1) g = some o) (hk : (gh_K0 x gh_rI) o) : gh_Wd x g (F0 (gh_cm x) 0 ls []) := by
  unfold f_X2_setSeed at h
  refine gr_iload_n (pc := 0) (i := 1) C rfl (gl_at hl 1 rfl) dX2_setSeed_0 ?_
  refine gr_iconst (pc := 1) (v := (0 : Int32)) C rfl dX2_setSeed_1 ?_
  refine gr_sipush (pc := 2) (v := (9999 : Int32)) C rfl dX2_setSeed_2 ?_
  refine gh_callI (pc := 5) (rest := []) C (k_X1_inRange C.tr p1 (0 : Int32) (9999 : Int32)) (Nat.le_of_ble_eq_true rfl) (Nat.le_of_ble_eq_true rfl) (gh_r4 (Nat.le_of_ble_eq_true rfl)) (fun H9 L9 hp9 => gi_SN C q1239 q1231 q75 q1232 mh_X1 np54 rfl hl.1.1 dX2_setSeed_5 rfl) h (gh_K0_b _ hk) (fun v1 g h => ?_) (fun e g h => ?_)
  rotate_left
  ·
    exact gh_out C (fun _ h => nomatch h) h hk
  refine gh_callV (pc := 8) (rest := []) C (k_X1_checkArgument C.tr v1) (Nat.le_of_ble_eq_true rfl) (Nat.le_of_ble_eq_true rfl) (gh_r4 (Nat.le_of_ble_eq_true rfl)) (fun H9 L9 hp9 => gi_SN C q1240 q1241 q75 q1242 mh_X1 np55 rfl hl.1.1 dX2_setSeed_8 rfl) h (gh_K0_b _ hk) (fun g h => ?_) (fun e g h => ?_)
  rotate_left
  ·
    exact gh_out C (fun _ h => nomatch h) h hk
  refine gr_aload_n (pc := 11) (i := 0) C rfl (gl_at hl 0 rfl) dX2_setSeed_11 ?_
  refine gr_getr (pc := 12) C gh_bX2 (k := 5) (Nat.le_of_ble_eq_true rfl) q193 (fun _ h => h) dX2_setSeed_12 h fun v3 h => ?_
  rcases v3 with _ | a4
  · exact gh_stk_inv h
  replace h := gh_nn_ss h
  refine gr_getiN (pc := 15) C gh_bX3 (k := 0) (Nat.le_of_ble_eq_true rfl) q178 (fun _ h => h) dX2_setSeed_15 h fun v5 h => ?_
  refine gr_istore_n (pc := 18) (i := 2) (l' := [(2, .int v5), (0, va_rf (some t0)), (1, .int p1)]) C rfl hl (Nat.le_of_ble_eq_true rfl) rfl dX2_setSeed_18 fun ls hl => ?_
  refine gr_aload_n (pc := 19) (i := 0) C rfl (gl_at hl 1 rfl) dX2_setSeed_19 ?_
  refine gr_getr (pc := 20) C gh_bX2 (k := 5) (Nat.le_of_ble_eq_true rfl) q193 (fun _ h => h) dX2_setSeed_20 h fun v6 h => ?_
  refine gr_iload_n (pc := 23) (i := 1) C rfl (gl_at hl 2 rfl) dX2_setSeed_23 ?_
  rcases v6 with _ | a7
  · exact gh_stk_inv h
  replace h := gh_nn_ss h
  refine gr_putN (pc := 24) C gh_bX3 (k := 0) (Nat.le_of_ble_eq_true rfl) q178 (fun _ h => h) rfl dX2_setSeed_24 h fun g h => ?_
  refine gr_iload_n (pc := 27) (i := 2) C rfl (gl_at hl 0 rfl) dX2_setSeed_27 ?_
  exact gr_iret (pc := 28) C dX2_setSeed_28 h hk

theorem k_X2_setSeed {l : Launch} (hst : l.stackTraces = false) (t0 : Nat) (p1 : Int32) : gh_Ct l yX2_setSeed 8 144 (f_X2_setSeed t0 p1) gh_rI [va_rf (some t0), .int p1] := gh_intro2 (L1 := 130) hst (by decide +kernel) q1400 q76 rfl ⟨gh_cat _, rfl, trivial⟩ (Nat.le_of_ble_eq_true rfl) fun x o ls hl C h hk => w_X2_setSeed C t0 p1 hl h hk
-- GargoyleTower$World.count(I)I
def gp_X2_count_10 (x : gh_C) (u10_1 : Int32) (u10_3 : Option Nat) (st : Int32) (g : gh_G) : Prop := ∀ ls : Array Slot, gh_lv ls 5 [(1, .int u10_1), (2, .int st), (3, va_rf u10_3)] → gh_Wd x g (F0 (gh_cm x) 10 ls [])
noncomputable def f_X2_count_45 (u10_1 : Int32) (u10_3 : Option Nat) (s0 : Int32) (s1 : Int32) : gh_M ((Int32) ⊕ Int32) :=
  gh_ret (.inl (s0 + s1))
theorem w_X2_count_45 {x : gh_C} {g : gh_G} {o : (((Int32) ⊕ Int32) ⊕ gh_X) × gh_G} {ls : Array Slot} (C : gh_K x cX2_count "GargoyleTower$World" 5 (some .int) "count" 3 61 []) (u10_1 : Int32) (u10_3 : Option Nat) (s0 : Int32) (s1 : Int32) (hl : gh_lv ls 5 [(1, .int u10_1), (3, va_rf u10_3)]) (h : gh_run (f_X2_count_45 u10_1 u10_3 s0 s1) g = some o) (hk : (gh_K1 x (gh_K0 x gh_rI) (gp_X2_count_10 x u10_1 u10_3)) o) : gh_Wd x g (F0 (gh_cm x) 45 ls [.int s1, .int s0]) := by
  unfold f_X2_count_45 at h
  refine gr_iadd (pc := 45) C dX2_count_45 ?_
  refine gr_istore_n (pc := 46) (i := 2) (l' := [(2, .int (s0 + s1)), (1, .int u10_1), (3, va_rf u10_3)]) C rfl hl (Nat.le_of_ble_eq_true rfl) rfl dX2_count_46 fun ls hl => ?_
  refine gr_goto (pc := 47) (tgt := 10) C rfl dX2_count_47 ?_
  exact gh_K1_in h hk ls (gl_sub hl [1, 0, 2] rfl)

noncomputable def f_X2_count_10_l (u10_1 : Int32) (p2 : Int32) (u10_3 : Option Nat) : gh_M ((Int32) ⊕ Int32) :=
  gh_nn u10_3 fun a1 =>
  gh_bd (gh_is a1 15) fun _ =>
  gh_bd (f_J8_hasNext a1) fun v2 =>
  if v2 = 0 then
  (gh_up (gh_ret p2))
  else
  (gh_bd (gh_is a1 15) fun _ =>
  gh_bd (f_J8_next a1) fun v3 =>
  gh_nn v3 fun a4 =>
  gh_bd (gh_is a4 5) fun _ =>
  gh_bd (gh_geti a4 5 5) fun v5 =>
  if v5 = u10_1 then
  (f_X2_count_45 u10_1 (some a1) p2 (1 : Int32))
  else
  (f_X2_count_45 u10_1 (some a1) p2 (0 : Int32)))
theorem w_X2_count_10_l {x : gh_C} {g : gh_G} {o : (((Int32) ⊕ Int32) ⊕ gh_X) × gh_G} {ls : Array Slot} (C : gh_K x cX2_count "GargoyleTower$World" 5 (some .int) "count" 3 61 []) (u10_1 : Int32) (p2 : Int32) (u10_3 : Option Nat) (hl : gh_lv ls 5 [(1, .int u10_1), (2, .int p2), (3, va_rf u10_3)]) (h : gh_run (f_X2_count_10_l u10_1 p2 u10_3) g = some o) (hk : (gh_K1 x (gh_K0 x gh_rI) (gp_X2_count_10 x u10_1 u10_3)) o) : gh_Wd x g (F0 (gh_cm x) 10 ls []) := by
  unfold f_X2_count_10_l at h
  refine gr_aload_n (pc := 10) (i := 3) C rfl (gl_at hl 2 rfl) dX2_count_10 ?_
  rcases u10_3 with _ | a1
  · exact gh_stk_inv h
  replace h := gh_nn_ss h
  obtain ⟨⟨fs9, hg9⟩, h⟩ := gh_is_inv h
  refine gh_callI (pc := 11) (rest := []) C (k_J8_hasNext C.tr a1) (Nat.le_of_ble_eq_true rfl) (Nat.le_of_ble_eq_true rfl) (gh_r4 (Nat.le_of_ble_eq_true rfl)) (fun H9 L9 hp9 => gi_F C hp9 hg9 gh_cJ8 q953 q336 (by decide +kernel) q353 q355 q356 q354 q352 q357 mh_java_util_Iterator np7 rfl hl.1.1 dX2_count_11 rfl) h ((gh_K1_b gh_K0_b) _ hk) (fun v2 g h => ?_) (fun e g h => ?_)
  rotate_left
  ·
    obtain ⟨o, h, hk⟩ := gh_K1_thr h hk
    exact gh_out C (fun _ h => nomatch h) h hk
  refine gr_if_eq (pc := 16) (tgt := 50) C rfl dX2_count_16 (fun c9 => ?_) (fun c9 => ?_)
  · replace h := gh_ift h c9
    refine gr_iload_n (pc := 50) (i := 2) C rfl (gl_at hl 1 rfl) dX2_count_50 ?_
    obtain ⟨o, h, hk⟩ := gh_K1_up h hk
    exact gr_iret (pc := 51) C dX2_count_51 h hk
  · replace h := gh_iff h c9
    refine gr_aload_n (pc := 19) (i := 3) C rfl (gl_at hl 2 rfl) dX2_count_19 ?_
    obtain ⟨⟨fs9, hg9⟩, h⟩ := gh_is_inv h
    refine gh_callQ (pc := 20) (rest := []) C (k_J8_next C.tr a1) (Nat.le_of_ble_eq_true rfl) (Nat.le_of_ble_eq_true rfl) (gh_r4 (Nat.le_of_ble_eq_true rfl)) (fun H9 L9 hp9 => gi_F C hp9 hg9 gh_cJ8 q955 q370 (by decide +kernel) q826 q828 q829 q827 q352 q830 mh_java_util_Iterator np23 rfl hl.1.1 dX2_count_20 rfl) h ((gh_K1_b gh_K0_b) _ hk) (fun v3 g h => ?_) (fun e g h => ?_)
    rotate_left
    ·
      obtain ⟨o, h, hk⟩ := gh_K1_thr h hk
      exact gh_out C (fun _ h => nomatch h) h hk
    rcases v3 with _ | a4
    · exact gh_stk_inv h
    replace h := gh_nn_ss h
    obtain ⟨⟨fs9, hg9⟩, h⟩ := gh_is_inv h
    refine gr_castY (pc := 25) C gh_cX6 q956 (Or.inl rfl) dX2_count_25 hg9 ?_
    refine gr_astore (pc := 28) (i := 4) (l' := [(4, va_rf (some a4)), (1, .int u10_1), (2, .int p2), (3, va_rf (some a1))]) C hl (Nat.le_of_ble_eq_true rfl) rfl dX2_count_28 fun ls hl => ?_
    refine gr_iload_n (pc := 30) (i := 2) C rfl (gl_at hl 2 rfl) dX2_count_30 ?_
    refine gr_aload (pc := 31) (i := 4) C (gl_at hl 0 rfl) dX2_count_31 ?_
    refine gr_getiN (pc := 33) C gh_bX6 (k := 5) (Nat.le_of_ble_eq_true rfl) q990 (fun _ h => h) dX2_count_33 h fun v5 h => ?_
    refine gr_iload_n (pc := 36) (i := 1) C rfl (gl_at hl 1 rfl) dX2_count_36 ?_
    refine gr_icmp_ne (pc := 37) (tgt := 44) C rfl dX2_count_37 (fun c9 => ?_) (fun c9 => ?_)
    · replace h := gh_iff h c9
      refine gr_iconst (pc := 44) (v := (0 : Int32)) C rfl dX2_count_44 ?_
      exact w_X2_count_45 C u10_1 (some a1) p2 (0 : Int32) (gl_sub hl [1, 3] rfl) h hk
    · replace h := gh_ift h c9
      refine gr_iconst (pc := 40) (v := (1 : Int32)) C rfl dX2_count_40 ?_
      refine gr_goto (pc := 41) (tgt := 45) C rfl dX2_count_41 ?_
      exact w_X2_count_45 C u10_1 (some a1) p2 (1 : Int32) (gl_sub hl [1, 3] rfl) h hk

noncomputable def f_X2_count_10 (p1 : Int32) (p2 : Int32) (p3 : Option Nat) : gh_M Int32 := gh_it (fun st : Int32 => f_X2_count_10_l p1 st p3) (p2)
theorem w_X2_count_10 {x : gh_C} {g : gh_G} {o : (Int32 ⊕ gh_X) × gh_G} {ls : Array Slot} (C : gh_K x cX2_count "GargoyleTower$World" 5 (some .int) "count" 3 61 []) (p1 : Int32) (p2 : Int32) (p3 : Option Nat) (hl : gh_lv ls 5 [(1, .int p1), (2, .int p2), (3, va_rf p3)]) (h : gh_run (f_X2_count_10 p1 p2 p3) g = some o) (hk : (gh_K0 x gh_rI) o) : gh_Wd x g (F0 (gh_cm x) 10 ls []) := by
  unfold f_X2_count_10 at h
  exact gh_loop gh_K0_b (fun st : Int32 => f_X2_count_10_l p1 st p3) (gp_X2_count_10 x p1 p3) (fun st g o h hk ls hl => w_X2_count_10_l C p1 st p3 hl h hk) _ g o h hk ls hl
noncomputable def f_X2_count (t0 : Nat) (p1 : Int32) : gh_M Int32 :=
  gh_bd (gh_getr t0 1 6) fun v1 =>
  gh_nn v1 fun a2 =>
  gh_bd (gh_is a2 11) fun _ =>
  gh_bd (f_J2_iterator a2) fun v3 =>
  f_X2_count_10 p1 (0 : Int32) v3
theorem w_X2_count {x : gh_C} {g : gh_G} {o : (Int32 ⊕ gh_X) × gh_G} {ls : Array Slot} (C : gh_K x cX2_count "GargoyleTower$World" 5 (some .int) "count" 3 61 []) (t0 : Nat) (p1 : Int32) (hl : gh_lv ls 5 [(0, va_rf (some t0)), (1, .int p1)]) (h : gh_run (f_X2_count t0 p1) g = some o) (hk : (gh_K0 x gh_rI) o) : gh_Wd x g (F0 (gh_cm x) 0 ls []) := by
  unfold f_X2_count at h
  refine gr_iconst (pc := 0) (v := (0 : Int32)) C rfl dX2_count_0 ?_
  refine gr_istore_n (pc := 1) (i := 2) (l' := [(2, .int (0 : Int32)), (0, va_rf (some t0)), (1, .int p1)]) C rfl hl (Nat.le_of_ble_eq_true rfl) rfl dX2_count_1 fun ls hl => ?_
  refine gr_aload_n (pc := 2) (i := 0) C rfl (gl_at hl 1 rfl) dX2_count_2 ?_
  refine gr_getr (pc := 3) C gh_bX2 (k := 6) (Nat.le_of_ble_eq_true rfl) q195 (fun _ h => h) dX2_count_3 h fun v1 h => ?_
  rcases v1 with _ | a2
  · exact gh_stk_inv h
  replace h := gh_nn_ss h
  obtain ⟨⟨fs9, hg9⟩, h⟩ := gh_is_inv h
  refine gh_callQ (pc := 6) (rest := []) C (k_J2_iterator C.tr a2) (Nat.le_of_ble_eq_true rfl) (Nat.le_of_ble_eq_true rfl) (gh_r4 (Nat.le_of_ble_eq_true rfl)) (fun H9 L9 hp9 => gi_V C hp9 hg9 gh_cJ2 q951 q309 q310 q311 mh_J2 np46 rfl hl.1.1 dX2_count_6 rfl) h (gh_K0_b _ hk) (fun v3 g h => ?_) (fun e g h => ?_)
  rotate_left
  ·
    exact gh_out C (fun _ h => nomatch h) h hk
  refine gr_astore_n (pc := 9) (i := 3) (l' := [(3, va_rf v3), (2, .int (0 : Int32)), (0, va_rf (some t0)), (1, .int p1)]) C rfl hl (Nat.le_of_ble_eq_true rfl) rfl dX2_count_9 fun ls hl => ?_
  exact w_X2_count_10 C p1 (0 : Int32) v3 (gl_sub hl [3, 1, 0] rfl) h hk

theorem k_X2_count {l : Launch} (hst : l.stackTraces = false) (t0 : Nat) (p1 : Int32) : gh_Ct l yX2_count 3 77 (f_X2_count t0 p1) gh_rI [va_rf (some t0), .int p1] := gh_intro2 (L1 := 61) hst (by decide +kernel) q1988 q76 rfl ⟨gh_cat _, rfl, trivial⟩ (Nat.le_of_ble_eq_true rfl) fun x o ls hl C h hk => w_X2_count C t0 p1 hl h hk
-- GargoyleTower$RefusedException.<init>(II)V
noncomputable def f_X9_init (t0 : Nat) (p1 : Int32) (p2 : Int32) : gh_M Unit :=
  gh_bd (f_X9_init_2 t0 p1 p2 none) fun _ =>
  gh_ret ()
theorem w_X9_init {x : gh_C} {g : gh_G} {o : (Unit ⊕ gh_X) × gh_G} {ls : Array Slot} (C : gh_K x cX9_init "GargoyleTower$RefusedException" 3 none "<init>" 4 91 []) (t0 : Nat) (p1 : Int32) (p2 : Int32) (hl : gh_lv ls 3 [(0, va_rf (some t0)), (1, .int p1), (2, .int p2)]) (h : gh_run (f_X9_init t0 p1 p2) g = some o) (hk : (gh_K0 x gh_rV) o) : gh_Wd x g (F0 (gh_cm x) 0 ls []) := by
  unfold f_X9_init at h
  refine gr_aload_n (pc := 0) (i := 0) C rfl (gl_at hl 0 rfl) dX9_init_0 ?_
  refine gr_iload_n (pc := 1) (i := 1) C rfl (gl_at hl 1 rfl) dX9_init_1 ?_
  refine gr_iload_n (pc := 2) (i := 2) C rfl (gl_at hl 2 rfl) dX9_init_2 ?_
  refine gr_null (pc := 3) C dX9_init_3 ?_
  refine gh_callV (pc := 4) (rest := []) C (k_X9_init_2 C.tr t0 p1 p2 none) (Nat.le_of_ble_eq_true rfl) (Nat.le_of_ble_eq_true rfl) (gh_r4 (Nat.le_of_ble_eq_true rfl)) (fun H9 L9 hp9 => gi_I C q1262 rfl q1263 q1264 mh_X9 np56 rfl hl.1.1 dX9_init_4 rfl) h (gh_K0_b _ hk) (fun g h => ?_) (fun e g h => ?_)
  rotate_left
  ·
    exact gh_out C (fun _ h => nomatch h) h hk
  exact gr_vret (pc := 7) C dX9_init_7 h hk

theorem k_X9_init {l : Launch} (hst : l.stackTraces = false) (t0 : Nat) (p1 : Int32) (p2 : Int32) : gh_Ct l yX9_init 4 105 (f_X9_init t0 p1 p2) gh_rV [va_rf (some t0), .int p1, .int p2] := gh_intro2 (L1 := 91) hst (by decide +kernel) q1261 q107 rfl ⟨gh_cat _, rfl, rfl, trivial⟩ (Nat.le_of_ble_eq_true rfl) fun x o ls hl C h hk => w_X9_init C t0 p1 p2 hl h hk
-- GargoyleTower.checkIndex(II)V
noncomputable def f_X1_checkIndex (p0 : Int32) (p1 : Int32) : gh_M Unit :=
  gh_bd (f_X1_inRange p0 (0 : Int32) (p1 - (1 : Int32))) fun v1 =>
  if v1 = 0 then
  (gh_tro 16)
  else
  (gh_ret ())
theorem w_X1_checkIndex {x : gh_C} {g : gh_G} {o : (Unit ⊕ gh_X) × gh_G} {ls : Array Slot} (C : gh_K x cX1_checkIndex "GargoyleTower" 2 none "checkIndex" 7 110 []) (p0 : Int32) (p1 : Int32) (hl : gh_lv ls 2 [(0, .int p0), (1, .int p1)]) (h : gh_run (f_X1_checkIndex p0 p1) g = some o) (hk : (gh_K0 x gh_rV) o) : gh_Wd x g (F0 (gh_cm x) 0 ls []) := by
  unfold f_X1_checkIndex at h
  refine gr_iload_n (pc := 0) (i := 0) C rfl (gl_at hl 0 rfl) dX1_checkIndex_0 ?_
  refine gr_iconst (pc := 1) (v := (0 : Int32)) C rfl dX1_checkIndex_1 ?_
  refine gr_iload_n (pc := 2) (i := 1) C rfl (gl_at hl 1 rfl) dX1_checkIndex_2 ?_
  refine gr_iconst (pc := 3) (v := (1 : Int32)) C rfl dX1_checkIndex_3 ?_
  refine gr_isub (pc := 4) C dX1_checkIndex_4 ?_
  refine gh_callI (pc := 5) (rest := []) C (k_X1_inRange C.tr p0 (0 : Int32) (p1 - (1 : Int32))) (Nat.le_of_ble_eq_true rfl) (Nat.le_of_ble_eq_true rfl) (gh_r4 (Nat.le_of_ble_eq_true rfl)) (fun H9 L9 hp9 => gi_S C q1230 q1231 q75 q1232 mh_X1 np54 rfl hl.1.1 dX1_checkIndex_5 rfl) h (gh_K0_b _ hk) (fun v1 g h => ?_) (fun e g h => ?_)
  rotate_left
  ·
    exact gh_out C (fun _ h => nomatch h) h hk
  refine gr_if_ne (pc := 8) (tgt := 19) C rfl dX1_checkIndex_8 (fun c9 => ?_) (fun c9 => ?_)
  · replace h := gh_iff h c9
    exact gr_vret (pc := 19) C dX1_checkIndex_19 h hk
  · replace h := gh_ift h c9
    exact gr_tro (pc := 11) C gh_cJ14 (by decide +kernel) (by decide +kernel) q1233 q94 at0_X1_J14 hl.1.1 dX1_checkIndex_11 dX1_checkIndex_14 dX1_checkIndex_15 dX1_checkIndex_18 (fun _ h => nomatch h) (Nat.le_of_ble_eq_true rfl) (Nat.le_of_ble_eq_true rfl) (Nat.le_of_ble_eq_true rfl) (Nat.le_of_ble_eq_true rfl) h hk

theorem k_X1_checkIndex {l : Launch} (hst : l.stackTraces = false) (p0 : Int32) (p1 : Int32) : gh_Ct l yX1_checkIndex 7 123 (f_X1_checkIndex p0 p1) gh_rV [.int p0, .int p1] := gh_intro2 (L1 := 110) hst (by decide +kernel) q1229 q75 rfl ⟨rfl, rfl, trivial⟩ (Nat.le_of_ble_eq_true rfl) fun x o ls hl C h hk => w_X1_checkIndex C p0 p1 hl h hk
-- GargoyleTower.refuse(ZII)V
noncomputable def f_X1_refuse (p0 : Int32) (p1 : Int32) (p2 : Int32) : gh_M Unit :=
  if p0 = 0 then
  (gh_ret ())
  else
  (gh_bd (gh_new 8 8 gh_nX9) fun a1 =>
  gh_bd (f_X9_init a1 p1 p2) fun _ =>
  gh_ath a1 gh_thr)
theorem w_X1_refuse {x : gh_C} {g : gh_G} {o : (Unit ⊕ gh_X) × gh_G} {ls : Array Slot} (C : gh_K x cX1_refuse "GargoyleTower" 3 none "refuse" 5 113 []) (p0 : Int32) (p1 : Int32) (p2 : Int32) (hl : gh_lv ls 3 [(0, .int p0), (1, .int p1), (2, .int p2)]) (h : gh_run (f_X1_refuse p0 p1 p2) g = some o) (hk : (gh_K0 x gh_rV) o) : gh_Wd x g (F0 (gh_cm x) 0 ls []) := by
  unfold f_X1_refuse at h
  refine gr_iload_n (pc := 0) (i := 0) C rfl (gl_at hl 0 rfl) dX1_refuse_0 ?_
  refine gr_if_eq (pc := 1) (tgt := 14) C rfl dX1_refuse_1 (fun c9 => ?_) (fun c9 => ?_)
  · replace h := gh_ift h c9
    exact gr_vret (pc := 14) C dX1_refuse_14 h hk
  · replace h := gh_iff h c9
    refine gr_newo (pc := 4) C gh_bX9 q1133 q1251 q107 gh_dX9 dX1_refuse_4 h (gh_K0_b _ hk) fun a1 g h => ?_
    refine gr_dup (pc := 7) C (gh_cat _) dX1_refuse_7 ?_
    refine gr_iload_n (pc := 8) (i := 1) C rfl (gl_at hl 1 rfl) dX1_refuse_8 ?_
    refine gr_iload_n (pc := 9) (i := 2) C rfl (gl_at hl 2 rfl) dX1_refuse_9 ?_
    refine gh_callV (pc := 10) (rest := [va_rf (some a1)]) C (k_X9_init C.tr a1 p1 p2) (Nat.le_of_ble_eq_true rfl) (Nat.le_of_ble_eq_true rfl) (gh_r4 (Nat.le_of_ble_eq_true rfl)) (fun H9 L9 hp9 => gi_I C q1259 rfl q1260 q1261 mh_X9 np30 rfl hl.1.1 dX1_refuse_10 rfl) h (gh_K0_b _ hk) (fun g h => ?_) (fun e g h => ?_)
    rotate_left
    ·
      exact gh_out C (fun _ h => nomatch h) h hk
    refine gr_ath (pc := 13) C dX1_refuse_13 h fun c8 h => ?_
    obtain ⟨e, he⟩ : ∃ e : gh_X, e = (c8, a1) := ⟨_, rfl⟩
    rw [← he] at h ⊢
    clear he
    exact gh_out C (fun _ h => nomatch h) h hk

theorem k_X1_refuse {l : Launch} (hst : l.stackTraces = false) (p0 : Int32) (p1 : Int32) (p2 : Int32) : gh_Ct l yX1_refuse 5 127 (f_X1_refuse p0 p1 p2) gh_rV [.int p0, .int p1, .int p2] := gh_intro2 (L1 := 113) hst (by decide +kernel) q1250 q75 rfl ⟨rfl, rfl, rfl, trivial⟩ (Nat.le_of_ble_eq_true rfl) fun x o ls hl C h hk => w_X1_refuse C p0 p1 p2 hl h hk
-- GargoyleTower$World.block(I)LGargoyleTower$Block;
noncomputable def f_X2_block (t0 : Nat) (p1 : Int32) : gh_M (Option Nat) :=
  gh_bd (gh_getr t0 1 6) fun v1 =>
  gh_nn v1 fun a2 =>
  gh_bd (gh_is a2 11) fun _ =>
  gh_bd (f_J2_size a2) fun v3 =>
  gh_bd (f_X1_checkIndex p1 v3) fun _ =>
  gh_bd (gh_getr t0 1 6) fun v5 =>
  gh_nn v5 fun a6 =>
  gh_bd (gh_is a6 11) fun _ =>
  gh_bd (f_J2_get a6 p1) fun v7 =>
  gh_nn v7 fun a8 =>
  gh_bd (gh_is a8 5) fun _ =>
  gh_ret (some a8)
theorem w_X2_block {x : gh_C} {g : gh_G} {o : ((Option Nat) ⊕ gh_X) × gh_G} {ls : Array Slot} (C : gh_K x cX2_block "GargoyleTower$World" 2 (some (.object "GargoyleTower$Block")) "block" 8 131 []) (t0 : Nat) (p1 : Int32) (hl : gh_lv ls 2 [(0, va_rf (some t0)), (1, .int p1)]) (h : gh_run (f_X2_block t0 p1) g = some o) (hk : (gh_K0 x gh_rQ) o) : gh_Wd x g (F0 (gh_cm x) 0 ls []) := by
  unfold f_X2_block at h
  refine gr_iload_n (pc := 0) (i := 1) C rfl (gl_at hl 1 rfl) dX2_block_0 ?_
  refine gr_aload_n (pc := 1) (i := 0) C rfl (gl_at hl 0 rfl) dX2_block_1 ?_
  refine gr_getr (pc := 2) C gh_bX2 (k := 6) (Nat.le_of_ble_eq_true rfl) q195 (fun _ h => h) dX2_block_2 h fun v1 h => ?_
  rcases v1 with _ | a2
  · exact gh_stk_inv h
  replace h := gh_nn_ss h
  obtain ⟨⟨fs9, hg9⟩, h⟩ := gh_is_inv h
  refine gh_callI (pc := 5) (rest := [.int p1]) C (k_J2_size C.tr a2) (Nat.le_of_ble_eq_true rfl) (Nat.le_of_ble_eq_true rfl) (gh_r4 (Nat.le_of_ble_eq_true rfl)) (fun H9 L9 hp9 => gi_V C hp9 hg9 gh_cJ2 q1226 q347 q2726 q348 mh_J2 np0 rfl hl.1.1 dX2_block_5 rfl) h (gh_K0_b _ hk) (fun v3 g h => ?_) (fun e g h => ?_)
  rotate_left
  ·
    exact gh_out C (fun _ h => nomatch h) h hk
  refine gh_callV (pc := 8) (rest := []) C (k_X1_checkIndex C.tr p1 v3) (Nat.le_of_ble_eq_true rfl) (Nat.le_of_ble_eq_true rfl) (gh_r4 (Nat.le_of_ble_eq_true rfl)) (fun H9 L9 hp9 => gi_SN C q1227 q1228 q75 q1229 mh_X1 np30 rfl hl.1.1 dX2_block_8 rfl) h (gh_K0_b _ hk) (fun g h => ?_) (fun e g h => ?_)
  rotate_left
  ·
    exact gh_out C (fun _ h => nomatch h) h hk
  refine gr_aload_n (pc := 11) (i := 0) C rfl (gl_at hl 0 rfl) dX2_block_11 ?_
  refine gr_getr (pc := 12) C gh_bX2 (k := 6) (Nat.le_of_ble_eq_true rfl) q195 (fun _ h => h) dX2_block_12 h fun v5 h => ?_
  refine gr_iload_n (pc := 15) (i := 1) C rfl (gl_at hl 1 rfl) dX2_block_15 ?_
  rcases v5 with _ | a6
  · exact gh_stk_inv h
  replace h := gh_nn_ss h
  obtain ⟨⟨fs9, hg9⟩, h⟩ := gh_is_inv h
  refine gh_callQ (pc := 16) (rest := []) C (k_J2_get C.tr a6 p1) (Nat.le_of_ble_eq_true rfl) (Nat.le_of_ble_eq_true rfl) (gh_r4 (Nat.le_of_ble_eq_true rfl)) (fun H9 L9 hp9 => gi_V C hp9 hg9 gh_cJ2 q1238 q385 q2725 q386 mh_J2 np21 rfl hl.1.1 dX2_block_16 rfl) h (gh_K0_b _ hk) (fun v7 g h => ?_) (fun e g h => ?_)
  rotate_left
  ·
    exact gh_out C (fun _ h => nomatch h) h hk
  rcases v7 with _ | a8
  · exact gh_stk_inv h
  replace h := gh_nn_ss h
  obtain ⟨⟨fs9, hg9⟩, h⟩ := gh_is_inv h
  refine gr_castY (pc := 19) C gh_cX6 q956 (Or.inl rfl) dX2_block_19 hg9 ?_
  exact gr_aret (pc := 22) C (Or.inl ⟨_, rfl⟩) dX2_block_22 h hk

theorem k_X2_block {l : Launch} (hst : l.stackTraces = false) (t0 : Nat) (p1 : Int32) : gh_Ct l yX2_block 8 144 (f_X2_block t0 p1) gh_rQ [va_rf (some t0), .int p1] := gh_intro2 (L1 := 131) hst (by decide +kernel) q1225 q76 rfl ⟨gh_cat _, rfl, trivial⟩ (Nat.le_of_ble_eq_true rfl) fun x o ls hl C h hk => w_X2_block C t0 p1 hl h hk
-- GargoyleTower$World.pay(I)V
noncomputable def f_X2_pay_13 (t0 : Nat) (p1 : Int32) (s0 : Int32) : gh_M Unit :=
  gh_bd (gh_geti t0 1 0) fun v1 =>
  gh_bd (f_X1_refuse s0 (2 : Int32) (p1 - v1)) fun _ =>
  gh_bd (gh_geti t0 1 0) fun v3 =>
  gh_bd (gh_putv t0 1 0 .int (.int (v3 - p1))) fun _ =>
  gh_ret ()
theorem w_X2_pay_13 {x : gh_C} {g : gh_G} {o : (Unit ⊕ gh_X) × gh_G} {ls : Array Slot} (C : gh_K x cX2_pay "GargoyleTower$World" 2 none "pay" 6 135 []) (t0 : Nat) (p1 : Int32) (s0 : Int32) (hl : gh_lv ls 2 [(0, va_rf (some t0)), (1, .int p1)]) (h : gh_run (f_X2_pay_13 t0 p1 s0) g = some o) (hk : (gh_K0 x gh_rV) o) : gh_Wd x g (F0 (gh_cm x) 13 ls [.int s0]) := by
  unfold f_X2_pay_13 at h
  refine gr_iconst (pc := 13) (v := (2 : Int32)) C rfl dX2_pay_13 ?_
  refine gr_iload_n (pc := 14) (i := 1) C rfl (gl_at hl 1 rfl) dX2_pay_14 ?_
  refine gr_aload_n (pc := 15) (i := 0) C rfl (gl_at hl 0 rfl) dX2_pay_15 ?_
  refine gr_geti (pc := 16) C gh_bX2 (k := 0) (Nat.le_of_ble_eq_true rfl) q183 (fun _ h => h) dX2_pay_16 h fun v1 h => ?_
  refine gr_isub (pc := 19) C dX2_pay_19 ?_
  refine gh_callV (pc := 20) (rest := []) C (k_X1_refuse C.tr s0 (2 : Int32) (p1 - v1)) (Nat.le_of_ble_eq_true rfl) (Nat.le_of_ble_eq_true rfl) (gh_r4 (Nat.le_of_ble_eq_true rfl)) (fun H9 L9 hp9 => gi_SN C q1248 q1249 q75 q1250 mh_X1 np57 rfl hl.1.1 dX2_pay_20 rfl) h (gh_K0_b _ hk) (fun g h => ?_) (fun e g h => ?_)
  rotate_left
  ·
    exact gh_out C (fun _ h => nomatch h) h hk
  refine gr_aload_n (pc := 23) (i := 0) C rfl (gl_at hl 0 rfl) dX2_pay_23 ?_
  refine gr_dup (pc := 24) C (gh_cat _) dX2_pay_24 ?_
  refine gr_geti (pc := 25) C gh_bX2 (k := 0) (Nat.le_of_ble_eq_true rfl) q183 (fun _ h => h) dX2_pay_25 h fun v3 h => ?_
  refine gr_iload_n (pc := 28) (i := 1) C rfl (gl_at hl 1 rfl) dX2_pay_28 ?_
  refine gr_isub (pc := 29) C dX2_pay_29 ?_
  refine gr_putp (pc := 30) C gh_bX2 (k := 0) (Nat.le_of_ble_eq_true rfl) q183 (fun _ h => h) rfl dX2_pay_30 h fun g h => ?_
  exact gr_vret (pc := 33) C dX2_pay_33 h hk

noncomputable def f_X2_pay (t0 : Nat) (p1 : Int32) : gh_M Unit :=
  gh_bd (gh_geti t0 1 0) fun v1 =>
  if p1 ≤ v1 then
  (f_X2_pay_13 t0 p1 (0 : Int32))
  else
  (f_X2_pay_13 t0 p1 (1 : Int32))
theorem w_X2_pay {x : gh_C} {g : gh_G} {o : (Unit ⊕ gh_X) × gh_G} {ls : Array Slot} (C : gh_K x cX2_pay "GargoyleTower$World" 2 none "pay" 6 135 []) (t0 : Nat) (p1 : Int32) (hl : gh_lv ls 2 [(0, va_rf (some t0)), (1, .int p1)]) (h : gh_run (f_X2_pay t0 p1) g = some o) (hk : (gh_K0 x gh_rV) o) : gh_Wd x g (F0 (gh_cm x) 0 ls []) := by
  unfold f_X2_pay at h
  refine gr_aload_n (pc := 0) (i := 0) C rfl (gl_at hl 0 rfl) dX2_pay_0 ?_
  refine gr_geti (pc := 1) C gh_bX2 (k := 0) (Nat.le_of_ble_eq_true rfl) q183 (fun _ h => h) dX2_pay_1 h fun v1 h => ?_
  refine gr_iload_n (pc := 4) (i := 1) C rfl (gl_at hl 1 rfl) dX2_pay_4 ?_
  refine gr_icmp_ge (pc := 5) (tgt := 12) C rfl dX2_pay_5 (fun c9 => ?_) (fun c9 => ?_)
  · replace h := gh_ift h c9
    refine gr_iconst (pc := 12) (v := (0 : Int32)) C rfl dX2_pay_12 ?_
    exact w_X2_pay_13 C t0 p1 (0 : Int32) (gl_sub hl [0, 1] rfl) h hk
  · replace h := gh_iff h c9
    refine gr_iconst (pc := 8) (v := (1 : Int32)) C rfl dX2_pay_8 ?_
    refine gr_goto (pc := 9) (tgt := 13) C rfl dX2_pay_9 ?_
    exact w_X2_pay_13 C t0 p1 (1 : Int32) (gl_sub hl [0, 1] rfl) h hk

theorem k_X2_pay {l : Launch} (hst : l.stackTraces = false) (t0 : Nat) (p1 : Int32) : gh_Ct l yX2_pay 6 148 (f_X2_pay t0 p1) gh_rV [va_rf (some t0), .int p1] := gh_intro2 (L1 := 135) hst (by decide +kernel) q1292 q76 rfl ⟨gh_cat _, rfl, trivial⟩ (Nat.le_of_ble_eq_true rfl) fun x o ls hl C h hk => w_X2_pay C t0 p1 hl h hk
-- GargoyleTower$World.rope(I)LGargoyleTower$Rope;
noncomputable def f_X2_rope (t0 : Nat) (p1 : Int32) : gh_M (Option Nat) :=
  gh_bd (gh_getr t0 1 7) fun v1 =>
  gh_nn v1 fun a2 =>
  gh_bd (gh_is a2 11) fun _ =>
  gh_bd (f_J2_size a2) fun v3 =>
  gh_bd (f_X1_checkIndex p1 v3) fun _ =>
  gh_bd (gh_getr t0 1 7) fun v5 =>
  gh_nn v5 fun a6 =>
  gh_bd (gh_is a6 11) fun _ =>
  gh_bd (f_J2_get a6 p1) fun v7 =>
  gh_nn v7 fun a8 =>
  gh_bd (gh_is a8 6) fun _ =>
  gh_ret (some a8)
theorem w_X2_rope {x : gh_C} {g : gh_G} {o : ((Option Nat) ⊕ gh_X) × gh_G} {ls : Array Slot} (C : gh_K x cX2_rope "GargoyleTower$World" 2 (some (.object "GargoyleTower$Rope")) "rope" 8 131 []) (t0 : Nat) (p1 : Int32) (hl : gh_lv ls 2 [(0, va_rf (some t0)), (1, .int p1)]) (h : gh_run (f_X2_rope t0 p1) g = some o) (hk : (gh_K0 x gh_rQ) o) : gh_Wd x g (F0 (gh_cm x) 0 ls []) := by
  unfold f_X2_rope at h
  refine gr_iload_n (pc := 0) (i := 1) C rfl (gl_at hl 1 rfl) dX2_rope_0 ?_
  refine gr_aload_n (pc := 1) (i := 0) C rfl (gl_at hl 0 rfl) dX2_rope_1 ?_
  refine gr_getr (pc := 2) C gh_bX2 (k := 7) (Nat.le_of_ble_eq_true rfl) q197 (fun _ h => h) dX2_rope_2 h fun v1 h => ?_
  rcases v1 with _ | a2
  · exact gh_stk_inv h
  replace h := gh_nn_ss h
  obtain ⟨⟨fs9, hg9⟩, h⟩ := gh_is_inv h
  refine gh_callI (pc := 5) (rest := [.int p1]) C (k_J2_size C.tr a2) (Nat.le_of_ble_eq_true rfl) (Nat.le_of_ble_eq_true rfl) (gh_r4 (Nat.le_of_ble_eq_true rfl)) (fun H9 L9 hp9 => gi_V C hp9 hg9 gh_cJ2 q1226 q347 q2726 q348 mh_J2 np0 rfl hl.1.1 dX2_rope_5 rfl) h (gh_K0_b _ hk) (fun v3 g h => ?_) (fun e g h => ?_)
  rotate_left
  ·
    exact gh_out C (fun _ h => nomatch h) h hk
  refine gh_callV (pc := 8) (rest := []) C (k_X1_checkIndex C.tr p1 v3) (Nat.le_of_ble_eq_true rfl) (Nat.le_of_ble_eq_true rfl) (gh_r4 (Nat.le_of_ble_eq_true rfl)) (fun H9 L9 hp9 => gi_SN C q1227 q1228 q75 q1229 mh_X1 np30 rfl hl.1.1 dX2_rope_8 rfl) h (gh_K0_b _ hk) (fun g h => ?_) (fun e g h => ?_)
  rotate_left
  ·
    exact gh_out C (fun _ h => nomatch h) h hk
  refine gr_aload_n (pc := 11) (i := 0) C rfl (gl_at hl 0 rfl) dX2_rope_11 ?_
  refine gr_getr (pc := 12) C gh_bX2 (k := 7) (Nat.le_of_ble_eq_true rfl) q197 (fun _ h => h) dX2_rope_12 h fun v5 h => ?_
  refine gr_iload_n (pc := 15) (i := 1) C rfl (gl_at hl 1 rfl) dX2_rope_15 ?_
  rcases v5 with _ | a6
  · exact gh_stk_inv h
  replace h := gh_nn_ss h
  obtain ⟨⟨fs9, hg9⟩, h⟩ := gh_is_inv h
  refine gh_callQ (pc := 16) (rest := []) C (k_J2_get C.tr a6 p1) (Nat.le_of_ble_eq_true rfl) (Nat.le_of_ble_eq_true rfl) (gh_r4 (Nat.le_of_ble_eq_true rfl)) (fun H9 L9 hp9 => gi_V C hp9 hg9 gh_cJ2 q1238 q385 q2725 q386 mh_J2 np21 rfl hl.1.1 dX2_rope_16 rfl) h (gh_K0_b _ hk) (fun v7 g h => ?_) (fun e g h => ?_)
  rotate_left
  ·
    exact gh_out C (fun _ h => nomatch h) h hk
  rcases v7 with _ | a8
  · exact gh_stk_inv h
  replace h := gh_nn_ss h
  obtain ⟨⟨fs9, hg9⟩, h⟩ := gh_is_inv h
  refine gr_castY (pc := 19) C gh_cX7 q1042 (Or.inl rfl) dX2_rope_19 hg9 ?_
  exact gr_aret (pc := 22) C (Or.inl ⟨_, rfl⟩) dX2_rope_22 h hk

theorem k_X2_rope {l : Launch} (hst : l.stackTraces = false) (t0 : Nat) (p1 : Int32) : gh_Ct l yX2_rope 8 144 (f_X2_rope t0 p1) gh_rQ [va_rf (some t0), .int p1] := gh_intro2 (L1 := 131) hst (by decide +kernel) q1300 q76 rfl ⟨gh_cat _, rfl, trivial⟩ (Nat.le_of_ble_eq_true rfl) fun x o ls hl C h hk => w_X2_rope C t0 p1 hl h hk
-- GargoyleTower$World.hanging(I)LGargoyleTower$Block;
noncomputable def f_X2_hanging_19 (t0 : Nat) (p1 : Int32) (p2 : Option Nat) (s0 : Int32) : gh_M (Option Nat) :=
  gh_bd (f_X1_refuse s0 (9 : Int32) p1) fun _ =>
  gh_bd (gh_getr t0 1 6) fun v2 =>
  gh_nn p2 fun a3 =>
  gh_bd (gh_geti a3 6 3) fun v4 =>
  gh_nn v2 fun a5 =>
  gh_bd (gh_is a5 11) fun _ =>
  gh_bd (f_J2_get a5 v4) fun v6 =>
  gh_nn v6 fun a7 =>
  gh_bd (gh_is a7 5) fun _ =>
  gh_ret (some a7)
theorem w_X2_hanging_19 {x : gh_C} {g : gh_G} {o : ((Option Nat) ⊕ gh_X) × gh_G} {ls : Array Slot} (C : gh_K x cX2_hanging "GargoyleTower$World" 3 (some (.object "GargoyleTower$Block")) "hanging" 9 152 []) (t0 : Nat) (p1 : Int32) (p2 : Option Nat) (s0 : Int32) (hl : gh_lv ls 3 [(0, va_rf (some t0)), (1, .int p1), (2, va_rf p2)]) (h : gh_run (f_X2_hanging_19 t0 p1 p2 s0) g = some o) (hk : (gh_K0 x gh_rQ) o) : gh_Wd x g (F0 (gh_cm x) 19 ls [.int s0]) := by
  unfold f_X2_hanging_19 at h
  refine gr_bipush (pc := 19) (v := (9 : Int32)) C rfl dX2_hanging_19 ?_
  refine gr_iload_n (pc := 21) (i := 1) C rfl (gl_at hl 1 rfl) dX2_hanging_21 ?_
  refine gh_callV (pc := 22) (rest := []) C (k_X1_refuse C.tr s0 (9 : Int32) p1) (Nat.le_of_ble_eq_true rfl) (Nat.le_of_ble_eq_true rfl) (gh_r4 (Nat.le_of_ble_eq_true rfl)) (fun H9 L9 hp9 => gi_SN C q1248 q1249 q75 q1250 mh_X1 np57 rfl hl.1.1 dX2_hanging_22 rfl) h (gh_K0_b _ hk) (fun g h => ?_) (fun e g h => ?_)
  rotate_left
  ·
    exact gh_out C (fun _ h => nomatch h) h hk
  refine gr_aload_n (pc := 25) (i := 0) C rfl (gl_at hl 0 rfl) dX2_hanging_25 ?_
  refine gr_getr (pc := 26) C gh_bX2 (k := 6) (Nat.le_of_ble_eq_true rfl) q195 (fun _ h => h) dX2_hanging_26 h fun v2 h => ?_
  refine gr_aload_n (pc := 29) (i := 2) C rfl (gl_at hl 2 rfl) dX2_hanging_29 ?_
  rcases p2 with _ | a3
  · exact gh_stk_inv h
  replace h := gh_nn_ss h
  refine gr_getiN (pc := 30) C gh_bX7 (k := 3) (Nat.le_of_ble_eq_true rfl) q1057 (fun _ h => h) dX2_hanging_30 h fun v4 h => ?_
  rcases v2 with _ | a5
  · exact gh_stk_inv h
  replace h := gh_nn_ss h
  obtain ⟨⟨fs9, hg9⟩, h⟩ := gh_is_inv h
  refine gh_callQ (pc := 33) (rest := []) C (k_J2_get C.tr a5 v4) (Nat.le_of_ble_eq_true rfl) (Nat.le_of_ble_eq_true rfl) (gh_r4 (Nat.le_of_ble_eq_true rfl)) (fun H9 L9 hp9 => gi_V C hp9 hg9 gh_cJ2 q1238 q385 q2725 q386 mh_J2 np21 rfl hl.1.1 dX2_hanging_33 rfl) h (gh_K0_b _ hk) (fun v6 g h => ?_) (fun e g h => ?_)
  rotate_left
  ·
    exact gh_out C (fun _ h => nomatch h) h hk
  rcases v6 with _ | a7
  · exact gh_stk_inv h
  replace h := gh_nn_ss h
  obtain ⟨⟨fs9, hg9⟩, h⟩ := gh_is_inv h
  refine gr_castY (pc := 36) C gh_cX6 q956 (Or.inl rfl) dX2_hanging_36 hg9 ?_
  exact gr_aret (pc := 39) C (Or.inl ⟨_, rfl⟩) dX2_hanging_39 h hk

noncomputable def f_X2_hanging (t0 : Nat) (p1 : Int32) : gh_M (Option Nat) :=
  gh_bd (gh_is t0 1) fun _ =>
  gh_bd (f_X2_rope t0 p1) fun v1 =>
  gh_nn v1 fun a2 =>
  gh_bd (gh_geti a2 6 3) fun v3 =>
  if v3 = (-1 : Int32) then
  (f_X2_hanging_19 t0 p1 (some a2) (1 : Int32))
  else
  (f_X2_hanging_19 t0 p1 (some a2) (0 : Int32))
theorem w_X2_hanging {x : gh_C} {g : gh_G} {o : ((Option Nat) ⊕ gh_X) × gh_G} {ls : Array Slot} (C : gh_K x cX2_hanging "GargoyleTower$World" 3 (some (.object "GargoyleTower$Block")) "hanging" 9 152 []) (t0 : Nat) (p1 : Int32) (hl : gh_lv ls 3 [(0, va_rf (some t0)), (1, .int p1)]) (h : gh_run (f_X2_hanging t0 p1) g = some o) (hk : (gh_K0 x gh_rQ) o) : gh_Wd x g (F0 (gh_cm x) 0 ls []) := by
  unfold f_X2_hanging at h
  refine gr_aload_n (pc := 0) (i := 0) C rfl (gl_at hl 0 rfl) dX2_hanging_0 ?_
  refine gr_iload_n (pc := 1) (i := 1) C rfl (gl_at hl 1 rfl) dX2_hanging_1 ?_
  obtain ⟨⟨fs9, hg9⟩, h⟩ := gh_is_inv h
  refine gh_callQ (pc := 2) (rest := []) C (k_X2_rope C.tr t0 p1) (Nat.le_of_ble_eq_true rfl) (Nat.le_of_ble_eq_true rfl) (gh_r4 (Nat.le_of_ble_eq_true rfl)) (fun H9 L9 hp9 => gi_V C hp9 hg9 gh_cX2 q1297 q1298 q1299 q1300 mh_X2 np58 rfl hl.1.1 dX2_hanging_2 rfl) h (gh_K0_b _ hk) (fun v1 g h => ?_) (fun e g h => ?_)
  rotate_left
  ·
    exact gh_out C (fun _ h => nomatch h) h hk
  refine gr_astore_n (pc := 5) (i := 2) (l' := [(2, va_rf v1), (0, va_rf (some t0)), (1, .int p1)]) C rfl hl (Nat.le_of_ble_eq_true rfl) rfl dX2_hanging_5 fun ls hl => ?_
  refine gr_aload_n (pc := 6) (i := 2) C rfl (gl_at hl 0 rfl) dX2_hanging_6 ?_
  rcases v1 with _ | a2
  · exact gh_stk_inv h
  replace h := gh_nn_ss h
  refine gr_getiN (pc := 7) C gh_bX7 (k := 3) (Nat.le_of_ble_eq_true rfl) q1057 (fun _ h => h) dX2_hanging_7 h fun v3 h => ?_
  refine gr_iconst (pc := 10) (v := (-1 : Int32)) C rfl dX2_hanging_10 ?_
  refine gr_icmp_ne (pc := 11) (tgt := 18) C rfl dX2_hanging_11 (fun c9 => ?_) (fun c9 => ?_)
  · replace h := gh_iff h c9
    refine gr_iconst (pc := 18) (v := (0 : Int32)) C rfl dX2_hanging_18 ?_
    exact w_X2_hanging_19 C t0 p1 (some a2) (0 : Int32) (gl_sub hl [1, 2, 0] rfl) h hk
  · replace h := gh_ift h c9
    refine gr_iconst (pc := 14) (v := (1 : Int32)) C rfl dX2_hanging_14 ?_
    refine gr_goto (pc := 15) (tgt := 19) C rfl dX2_hanging_15 ?_
    exact w_X2_hanging_19 C t0 p1 (some a2) (1 : Int32) (gl_sub hl [1, 2, 0] rfl) h hk

theorem k_X2_hanging {l : Launch} (hst : l.stackTraces = false) (t0 : Nat) (p1 : Int32) : gh_Ct l yX2_hanging 9 166 (f_X2_hanging t0 p1) gh_rQ [va_rf (some t0), .int p1] := gh_intro2 (L1 := 152) hst (by decide +kernel) q1312 q76 rfl ⟨gh_cat _, rfl, trivial⟩ (Nat.le_of_ble_eq_true rfl) fun x o ls hl C h hk => w_X2_hanging C t0 p1 hl h hk
-- GargoyleTower$World.set(II)I
noncomputable def f_X2_set_52 (p2 : Int32) (p3 : Option Nat) (p4 : Option Nat) (s0 : Int32) (s1 : Int32) (s2 : Int32) : gh_M Int32 :=
  gh_bd (f_X1_refuse s0 s1 s2) fun _ =>
  gh_nn p4 fun a2 =>
  gh_bd (gh_is a2 5) fun _ =>
  gh_bd (f_X6_go a2 (2 : Int32) p2) fun _ =>
  gh_nn p3 fun a4 =>
  gh_bd (gh_putv a4 6 3 .int (.int (-1 : Int32))) fun _ =>
  gh_bd (gh_is a4 6) fun _ =>
  gh_bd (f_X7_wearBy a4 (p2 - p2 / (5 : Int32) * (5 : Int32)) (0 : Int32)) fun v5 =>
  gh_bd (gh_geti a2 5 0) fun v6 =>
  gh_ret v6
theorem w_X2_set_52 {x : gh_C} {g : gh_G} {o : (Int32 ⊕ gh_X) × gh_G} {ls : Array Slot} (C : gh_K x cX2_set "GargoyleTower$World" 7 (some .int) "set" 10 174 []) (p2 : Int32) (p3 : Option Nat) (p4 : Option Nat) (s0 : Int32) (s1 : Int32) (s2 : Int32) (hl : gh_lv ls 7 [(2, .int p2), (3, va_rf p3), (4, va_rf p4)]) (h : gh_run (f_X2_set_52 p2 p3 p4 s0 s1 s2) g = some o) (hk : (gh_K0 x gh_rI) o) : gh_Wd x g (F0 (gh_cm x) 52 ls [.int s2, .int s1, .int s0]) := by
  unfold f_X2_set_52 at h
  refine gh_callV (pc := 52) (rest := []) C (k_X1_refuse C.tr s0 s1 s2) (Nat.le_of_ble_eq_true rfl) (Nat.le_of_ble_eq_true rfl) (gh_r4 (Nat.le_of_ble_eq_true rfl)) (fun H9 L9 hp9 => gi_SN C q1248 q1249 q75 q1250 mh_X1 np57 rfl hl.1.1 dX2_set_52 rfl) h (gh_K0_b _ hk) (fun g h => ?_) (fun e g h => ?_)
  rotate_left
  ·
    exact gh_out C (fun _ h => nomatch h) h hk
  refine gr_aload (pc := 55) (i := 4) C (gl_at hl 2 rfl) dX2_set_55 ?_
  refine gr_iconst (pc := 57) (v := (2 : Int32)) C rfl dX2_set_57 ?_
  refine gr_iload_n (pc := 58) (i := 2) C rfl (gl_at hl 0 rfl) dX2_set_58 ?_
  rcases p4 with _ | a2
  · exact gh_stk_inv h
  replace h := gh_nn_ss h
  obtain ⟨⟨fs9, hg9⟩, h⟩ := gh_is_inv h
  refine gh_callV (pc := 59) (rest := []) C (k_X6_go C.tr a2 (2 : Int32) p2) (Nat.le_of_ble_eq_true rfl) (Nat.le_of_ble_eq_true rfl) (gh_r4 (Nat.le_of_ble_eq_true rfl)) (fun H9 L9 hp9 => gi_V C hp9 hg9 gh_cX6 q1301 q1302 q1303 q1304 mh_X6 np30 rfl hl.1.1 dX2_set_59 rfl) h (gh_K0_b _ hk) (fun g h => ?_) (fun e g h => ?_)
  rotate_left
  ·
    exact gh_out C (fun _ h => nomatch h) h hk
  refine gr_aload_n (pc := 62) (i := 3) C rfl (gl_at hl 1 rfl) dX2_set_62 ?_
  refine gr_iconst (pc := 63) (v := (-1 : Int32)) C rfl dX2_set_63 ?_
  rcases p3 with _ | a4
  · exact gh_stk_inv h
  replace h := gh_nn_ss h
  refine gr_putN (pc := 64) C gh_bX7 (k := 3) (Nat.le_of_ble_eq_true rfl) q1057 (fun _ h => h) rfl dX2_set_64 h fun g h => ?_
  refine gr_aload_n (pc := 67) (i := 3) C rfl (gl_at hl 1 rfl) dX2_set_67 ?_
  refine gr_iload_n (pc := 68) (i := 2) C rfl (gl_at hl 0 rfl) dX2_set_68 ?_
  refine gr_iconst (pc := 69) (v := (5 : Int32)) C rfl dX2_set_69 ?_
  refine gr_irem (pc := 70) C (by decide) dX2_set_70 ?_
  refine gr_iconst (pc := 71) (v := (0 : Int32)) C rfl dX2_set_71 ?_
  obtain ⟨⟨fs9, hg9⟩, h⟩ := gh_is_inv h
  refine gh_callI (pc := 72) (rest := []) C (k_X7_wearBy C.tr a4 (p2 - p2 / (5 : Int32) * (5 : Int32)) (0 : Int32)) (Nat.le_of_ble_eq_true rfl) (Nat.le_of_ble_eq_true rfl) (gh_r4 (Nat.le_of_ble_eq_true rfl)) (fun H9 L9 hp9 => gi_V C hp9 hg9 gh_cX7 q1318 q1319 q1320 q1321 mh_X7 np53 rfl hl.1.1 dX2_set_72 rfl) h (gh_K0_b _ hk) (fun v5 g h => ?_) (fun e g h => ?_)
  rotate_left
  ·
    exact gh_out C (fun _ h => nomatch h) h hk
  refine gr_istore (pc := 75) (i := 6) (l' := [(6, .int v5), (2, .int p2), (3, va_rf (some a4)), (4, va_rf (some a2))]) C hl (Nat.le_of_ble_eq_true rfl) rfl dX2_set_75 fun ls hl => ?_
  refine gr_aload (pc := 77) (i := 4) C (gl_at hl 3 rfl) dX2_set_77 ?_
  refine gr_getiN (pc := 79) C gh_bX6 (k := 0) (Nat.le_of_ble_eq_true rfl) q977 (fun _ h => h) dX2_set_79 h fun v6 h => ?_
  exact gr_iret (pc := 82) C dX2_set_82 h hk

noncomputable def f_X2_set_36 (p2 : Int32) (p3 : Option Nat) (p4 : Option Nat) (p5 : Option Nat) (s0 : Int32) : gh_M Int32 :=
  gh_on p5
  (f_X2_set_52 p2 p3 p4 s0 (10 : Int32) (-1 : Int32))
  (fun b1 => gh_bd (gh_geti b1 5 0) fun v2 =>
  f_X2_set_52 p2 p3 p4 s0 (10 : Int32) v2)
theorem w_X2_set_36 {x : gh_C} {g : gh_G} {o : (Int32 ⊕ gh_X) × gh_G} {ls : Array Slot} (C : gh_K x cX2_set "GargoyleTower$World" 7 (some .int) "set" 10 174 []) (p2 : Int32) (p3 : Option Nat) (p4 : Option Nat) (p5 : Option Nat) (s0 : Int32) (hl : gh_lv ls 7 [(2, .int p2), (3, va_rf p3), (4, va_rf p4), (5, va_rf p5)]) (h : gh_run (f_X2_set_36 p2 p3 p4 p5 s0) g = some o) (hk : (gh_K0 x gh_rI) o) : gh_Wd x g (F0 (gh_cm x) 36 ls [.int s0]) := by
  unfold f_X2_set_36 at h
  refine gr_bipush (pc := 36) (v := (10 : Int32)) C rfl dX2_set_36 ?_
  refine gr_aload (pc := 38) (i := 5) C (gl_at hl 3 rfl) dX2_set_38 ?_
  refine gr_ifnonnull (pc := 40) (tgt := 47) C rfl dX2_set_40 (fun b1 c9 => ?_) (fun c9 => ?_)
  · subst c9
    replace h := gh_on_s h
    refine gr_aload (pc := 47) (i := 5) C (gl_at hl 3 rfl) dX2_set_47 ?_
    refine gr_getiN (pc := 49) C gh_bX6 (k := 0) (Nat.le_of_ble_eq_true rfl) q977 (fun _ h => h) dX2_set_49 h fun v2 h => ?_
    exact w_X2_set_52 C p2 p3 p4 s0 (10 : Int32) v2 (gl_sub hl [0, 1, 2] rfl) h hk
  · subst c9
    replace h := gh_on_n h
    refine gr_iconst (pc := 43) (v := (-1 : Int32)) C rfl dX2_set_43 ?_
    refine gr_goto (pc := 44) (tgt := 52) C rfl dX2_set_44 ?_
    exact w_X2_set_52 C p2 p3 p4 s0 (10 : Int32) (-1 : Int32) (gl_sub hl [0, 1, 2] rfl) h hk

noncomputable def f_X2_set (t0 : Nat) (p1 : Int32) (p2 : Int32) : gh_M Int32 :=
  gh_bd (gh_is t0 1) fun _ =>
  gh_bd (f_X2_rope t0 p1) fun v1 =>
  gh_bd (f_X1_checkIndex p2 (20 : Int32)) fun _ =>
  gh_bd (gh_is t0 1) fun _ =>
  gh_bd (f_X2_hanging t0 p1) fun v3 =>
  gh_bd (gh_is t0 1) fun _ =>
  gh_bd (f_X2_blockIn t0 p2) fun v4 =>
  gh_on v4
  (f_X2_set_36 p2 v1 v3 none (0 : Int32))
  (fun b5 => f_X2_set_36 p2 v1 v3 (some b5) (1 : Int32))
theorem w_X2_set {x : gh_C} {g : gh_G} {o : (Int32 ⊕ gh_X) × gh_G} {ls : Array Slot} (C : gh_K x cX2_set "GargoyleTower$World" 7 (some .int) "set" 10 174 []) (t0 : Nat) (p1 : Int32) (p2 : Int32) (hl : gh_lv ls 7 [(0, va_rf (some t0)), (1, .int p1), (2, .int p2)]) (h : gh_run (f_X2_set t0 p1 p2) g = some o) (hk : (gh_K0 x gh_rI) o) : gh_Wd x g (F0 (gh_cm x) 0 ls []) := by
  unfold f_X2_set at h
  refine gr_aload_n (pc := 0) (i := 0) C rfl (gl_at hl 0 rfl) dX2_set_0 ?_
  refine gr_iload_n (pc := 1) (i := 1) C rfl (gl_at hl 1 rfl) dX2_set_1 ?_
  obtain ⟨⟨fs9, hg9⟩, h⟩ := gh_is_inv h
  refine gh_callQ (pc := 2) (rest := []) C (k_X2_rope C.tr t0 p1) (Nat.le_of_ble_eq_true rfl) (Nat.le_of_ble_eq_true rfl) (gh_r4 (Nat.le_of_ble_eq_true rfl)) (fun H9 L9 hp9 => gi_V C hp9 hg9 gh_cX2 q1297 q1298 q1299 q1300 mh_X2 np58 rfl hl.1.1 dX2_set_2 rfl) h (gh_K0_b _ hk) (fun v1 g h => ?_) (fun e g h => ?_)
  rotate_left
  ·
    exact gh_out C (fun _ h => nomatch h) h hk
  refine gr_astore_n (pc := 5) (i := 3) (l' := [(3, va_rf v1), (0, va_rf (some t0)), (1, .int p1), (2, .int p2)]) C rfl hl (Nat.le_of_ble_eq_true rfl) rfl dX2_set_5 fun ls hl => ?_
  refine gr_iload_n (pc := 6) (i := 2) C rfl (gl_at hl 3 rfl) dX2_set_6 ?_
  refine gr_bipush (pc := 7) (v := (20 : Int32)) C rfl dX2_set_7 ?_
  refine gh_callV (pc := 9) (rest := []) C (k_X1_checkIndex C.tr p2 (20 : Int32)) (Nat.le_of_ble_eq_true rfl) (Nat.le_of_ble_eq_true rfl) (gh_r4 (Nat.le_of_ble_eq_true rfl)) (fun H9 L9 hp9 => gi_SN C q1227 q1228 q75 q1229 mh_X1 np30 rfl hl.1.1 dX2_set_9 rfl) h (gh_K0_b _ hk) (fun g h => ?_) (fun e g h => ?_)
  rotate_left
  ·
    exact gh_out C (fun _ h => nomatch h) h hk
  refine gr_aload_n (pc := 12) (i := 0) C rfl (gl_at hl 1 rfl) dX2_set_12 ?_
  refine gr_iload_n (pc := 13) (i := 1) C rfl (gl_at hl 2 rfl) dX2_set_13 ?_
  obtain ⟨⟨fs9, hg9⟩, h⟩ := gh_is_inv h
  refine gh_callQ (pc := 14) (rest := []) C (k_X2_hanging C.tr t0 p1) (Nat.le_of_ble_eq_true rfl) (Nat.le_of_ble_eq_true rfl) (gh_r4 (Nat.le_of_ble_eq_true rfl)) (fun H9 L9 hp9 => gi_V C hp9 hg9 gh_cX2 q1309 q1311 qs11 q1312 mh_X2 np52 rfl hl.1.1 dX2_set_14 rfl) h (gh_K0_b _ hk) (fun v3 g h => ?_) (fun e g h => ?_)
  rotate_left
  ·
    exact gh_out C (fun _ h => nomatch h) h hk
  refine gr_astore (pc := 17) (i := 4) (l' := [(4, va_rf v3), (3, va_rf v1), (0, va_rf (some t0)), (1, .int p1), (2, .int p2)]) C hl (Nat.le_of_ble_eq_true rfl) rfl dX2_set_17 fun ls hl => ?_
  refine gr_aload_n (pc := 19) (i := 0) C rfl (gl_at hl 2 rfl) dX2_set_19 ?_
  refine gr_iload_n (pc := 20) (i := 2) C rfl (gl_at hl 4 rfl) dX2_set_20 ?_
  obtain ⟨⟨fs9, hg9⟩, h⟩ := gh_is_inv h
  refine gh_callQ (pc := 21) (rest := []) C (k_X2_blockIn C.tr t0 p2) (Nat.le_of_ble_eq_true rfl) (Nat.le_of_ble_eq_true rfl) (gh_r4 (Nat.le_of_ble_eq_true rfl)) (fun H9 L9 hp9 => gi_V C hp9 hg9 gh_cX2 q1317 q948 q949 q950 mh_X2 np52 rfl hl.1.1 dX2_set_21 rfl) h (gh_K0_b _ hk) (fun v4 g h => ?_) (fun e g h => ?_)
  rotate_left
  ·
    exact gh_out C (fun _ h => nomatch h) h hk
  refine gr_astore (pc := 24) (i := 5) (l' := [(5, va_rf v4), (4, va_rf v3), (3, va_rf v1), (0, va_rf (some t0)), (1, .int p1), (2, .int p2)]) C hl (Nat.le_of_ble_eq_true rfl) rfl dX2_set_24 fun ls hl => ?_
  refine gr_aload (pc := 26) (i := 5) C (gl_at hl 0 rfl) dX2_set_26 ?_
  refine gr_ifnull (pc := 28) (tgt := 35) C rfl dX2_set_28 (fun c9 => ?_) (fun b5 c9 => ?_)
  · subst c9
    replace h := gh_on_n h
    refine gr_iconst (pc := 35) (v := (0 : Int32)) C rfl dX2_set_35 ?_
    exact w_X2_set_36 C p2 v1 v3 none (0 : Int32) (gl_sub hl [5, 2, 1, 0] rfl) h hk
  · subst c9
    replace h := gh_on_s h
    refine gr_iconst (pc := 31) (v := (1 : Int32)) C rfl dX2_set_31 ?_
    refine gr_goto (pc := 32) (tgt := 36) C rfl dX2_set_32 ?_
    exact w_X2_set_36 C p2 v1 v3 (some b5) (1 : Int32) (gl_sub hl [5, 2, 1, 0] rfl) h hk

theorem k_X2_set {l : Launch} (hst : l.stackTraces = false) (t0 : Nat) (p1 : Int32) (p2 : Int32) : gh_Ct l yX2_set 10 192 (f_X2_set t0 p1 p2) gh_rI [va_rf (some t0), .int p1, .int p2] := gh_intro2 (L1 := 174) hst (by decide +kernel) q1316 q76 rfl ⟨gh_cat _, rfl, rfl, trivial⟩ (Nat.le_of_ble_eq_true rfl) fun x o ls hl C h hk => w_X2_set C t0 p1 p2 hl h hk
-- GargoyleTower$World.commission(I)LGargoyleTower$Commission;
noncomputable def f_X2_commission (t0 : Nat) (p1 : Int32) : gh_M (Option Nat) :=
  gh_bd (gh_getr t0 1 8) fun v1 =>
  gh_nn v1 fun a2 =>
  gh_bd (gh_is a2 11) fun _ =>
  gh_bd (f_J2_size a2) fun v3 =>
  gh_bd (f_X1_checkIndex p1 v3) fun _ =>
  gh_bd (gh_getr t0 1 8) fun v5 =>
  gh_nn v5 fun a6 =>
  gh_bd (gh_is a6 11) fun _ =>
  gh_bd (f_J2_get a6 p1) fun v7 =>
  gh_nn v7 fun a8 =>
  gh_bd (gh_is a8 7) fun _ =>
  gh_ret (some a8)
theorem w_X2_commission {x : gh_C} {g : gh_G} {o : ((Option Nat) ⊕ gh_X) × gh_G} {ls : Array Slot} (C : gh_K x cX2_commission "GargoyleTower$World" 2 (some (.object "GargoyleTower$Commission")) "commission" 8 131 []) (t0 : Nat) (p1 : Int32) (hl : gh_lv ls 2 [(0, va_rf (some t0)), (1, .int p1)]) (h : gh_run (f_X2_commission t0 p1) g = some o) (hk : (gh_K0 x gh_rQ) o) : gh_Wd x g (F0 (gh_cm x) 0 ls []) := by
  unfold f_X2_commission at h
  refine gr_iload_n (pc := 0) (i := 1) C rfl (gl_at hl 1 rfl) dX2_commission_0 ?_
  refine gr_aload_n (pc := 1) (i := 0) C rfl (gl_at hl 0 rfl) dX2_commission_1 ?_
  refine gr_getr (pc := 2) C gh_bX2 (k := 8) (Nat.le_of_ble_eq_true rfl) q199 (fun _ h => h) dX2_commission_2 h fun v1 h => ?_
  rcases v1 with _ | a2
  · exact gh_stk_inv h
  replace h := gh_nn_ss h
  obtain ⟨⟨fs9, hg9⟩, h⟩ := gh_is_inv h
  refine gh_callI (pc := 5) (rest := [.int p1]) C (k_J2_size C.tr a2) (Nat.le_of_ble_eq_true rfl) (Nat.le_of_ble_eq_true rfl) (gh_r4 (Nat.le_of_ble_eq_true rfl)) (fun H9 L9 hp9 => gi_V C hp9 hg9 gh_cJ2 q1226 q347 q2726 q348 mh_J2 np0 rfl hl.1.1 dX2_commission_5 rfl) h (gh_K0_b _ hk) (fun v3 g h => ?_) (fun e g h => ?_)
  rotate_left
  ·
    exact gh_out C (fun _ h => nomatch h) h hk
  refine gh_callV (pc := 8) (rest := []) C (k_X1_checkIndex C.tr p1 v3) (Nat.le_of_ble_eq_true rfl) (Nat.le_of_ble_eq_true rfl) (gh_r4 (Nat.le_of_ble_eq_true rfl)) (fun H9 L9 hp9 => gi_SN C q1227 q1228 q75 q1229 mh_X1 np30 rfl hl.1.1 dX2_commission_8 rfl) h (gh_K0_b _ hk) (fun g h => ?_) (fun e g h => ?_)
  rotate_left
  ·
    exact gh_out C (fun _ h => nomatch h) h hk
  refine gr_aload_n (pc := 11) (i := 0) C rfl (gl_at hl 0 rfl) dX2_commission_11 ?_
  refine gr_getr (pc := 12) C gh_bX2 (k := 8) (Nat.le_of_ble_eq_true rfl) q199 (fun _ h => h) dX2_commission_12 h fun v5 h => ?_
  refine gr_iload_n (pc := 15) (i := 1) C rfl (gl_at hl 1 rfl) dX2_commission_15 ?_
  rcases v5 with _ | a6
  · exact gh_stk_inv h
  replace h := gh_nn_ss h
  obtain ⟨⟨fs9, hg9⟩, h⟩ := gh_is_inv h
  refine gh_callQ (pc := 16) (rest := []) C (k_J2_get C.tr a6 p1) (Nat.le_of_ble_eq_true rfl) (Nat.le_of_ble_eq_true rfl) (gh_r4 (Nat.le_of_ble_eq_true rfl)) (fun H9 L9 hp9 => gi_V C hp9 hg9 gh_cJ2 q1238 q385 q2725 q386 mh_J2 np21 rfl hl.1.1 dX2_commission_16 rfl) h (gh_K0_b _ hk) (fun v7 g h => ?_) (fun e g h => ?_)
  rotate_left
  ·
    exact gh_out C (fun _ h => nomatch h) h hk
  rcases v7 with _ | a8
  · exact gh_stk_inv h
  replace h := gh_nn_ss h
  obtain ⟨⟨fs9, hg9⟩, h⟩ := gh_is_inv h
  refine gr_castY (pc := 19) C gh_cX8 q1067 (Or.inl rfl) dX2_commission_19 hg9 ?_
  exact gr_aret (pc := 22) C (Or.inl ⟨_, rfl⟩) dX2_commission_22 h hk

theorem k_X2_commission {l : Launch} (hst : l.stackTraces = false) (t0 : Nat) (p1 : Int32) : gh_Ct l yX2_commission 8 144 (f_X2_commission t0 p1) gh_rQ [va_rf (some t0), .int p1] := gh_intro2 (L1 := 131) hst (by decide +kernel) q1329 q76 rfl ⟨gh_cat _, rfl, trivial⟩ (Nat.le_of_ble_eq_true rfl) fun x o ls hl C h hk => w_X2_commission C t0 p1 hl h hk
-- GargoyleTower$World.standing(I)LGargoyleTower$Block;
noncomputable def f_X2_standing_15 (p1 : Int32) (p2 : Option Nat) (s0 : Int32) : gh_M (Option Nat) :=
  gh_bd (f_X1_refuse s0 (11 : Int32) p1) fun _ =>
  gh_ret p2
theorem w_X2_standing_15 {x : gh_C} {g : gh_G} {o : ((Option Nat) ⊕ gh_X) × gh_G} {ls : Array Slot} (C : gh_K x cX2_standing "GargoyleTower$World" 3 (some (.object "GargoyleTower$Block")) "standing" 6 135 []) (p1 : Int32) (p2 : Option Nat) (s0 : Int32) (hl : gh_lv ls 3 [(1, .int p1), (2, va_rf p2)]) (h : gh_run (f_X2_standing_15 p1 p2 s0) g = some o) (hk : (gh_K0 x gh_rQ) o) : gh_Wd x g (F0 (gh_cm x) 15 ls [.int s0]) := by
  unfold f_X2_standing_15 at h
  refine gr_bipush (pc := 15) (v := (11 : Int32)) C rfl dX2_standing_15 ?_
  refine gr_iload_n (pc := 17) (i := 1) C rfl (gl_at hl 0 rfl) dX2_standing_17 ?_
  refine gh_callV (pc := 18) (rest := []) C (k_X1_refuse C.tr s0 (11 : Int32) p1) (Nat.le_of_ble_eq_true rfl) (Nat.le_of_ble_eq_true rfl) (gh_r4 (Nat.le_of_ble_eq_true rfl)) (fun H9 L9 hp9 => gi_SN C q1248 q1249 q75 q1250 mh_X1 np57 rfl hl.1.1 dX2_standing_18 rfl) h (gh_K0_b _ hk) (fun g h => ?_) (fun e g h => ?_)
  rotate_left
  ·
    exact gh_out C (fun _ h => nomatch h) h hk
  refine gr_aload_n (pc := 21) (i := 2) C rfl (gl_at hl 1 rfl) dX2_standing_21 ?_
  exact gr_aret (pc := 22) C (Or.inl ⟨_, rfl⟩) dX2_standing_22 h hk

noncomputable def f_X2_standing (t0 : Nat) (p1 : Int32) : gh_M (Option Nat) :=
  gh_bd (gh_is t0 1) fun _ =>
  gh_bd (f_X2_blockIn t0 p1) fun v1 =>
  gh_on v1
  (f_X2_standing_15 p1 none (1 : Int32))
  (fun b2 => f_X2_standing_15 p1 (some b2) (0 : Int32))
theorem w_X2_standing {x : gh_C} {g : gh_G} {o : ((Option Nat) ⊕ gh_X) × gh_G} {ls : Array Slot} (C : gh_K x cX2_standing "GargoyleTower$World" 3 (some (.object "GargoyleTower$Block")) "standing" 6 135 []) (t0 : Nat) (p1 : Int32) (hl : gh_lv ls 3 [(0, va_rf (some t0)), (1, .int p1)]) (h : gh_run (f_X2_standing t0 p1) g = some o) (hk : (gh_K0 x gh_rQ) o) : gh_Wd x g (F0 (gh_cm x) 0 ls []) := by
  unfold f_X2_standing at h
  refine gr_aload_n (pc := 0) (i := 0) C rfl (gl_at hl 0 rfl) dX2_standing_0 ?_
  refine gr_iload_n (pc := 1) (i := 1) C rfl (gl_at hl 1 rfl) dX2_standing_1 ?_
  obtain ⟨⟨fs9, hg9⟩, h⟩ := gh_is_inv h
  refine gh_callQ (pc := 2) (rest := []) C (k_X2_blockIn C.tr t0 p1) (Nat.le_of_ble_eq_true rfl) (Nat.le_of_ble_eq_true rfl) (gh_r4 (Nat.le_of_ble_eq_true rfl)) (fun H9 L9 hp9 => gi_V C hp9 hg9 gh_cX2 q1317 q948 q949 q950 mh_X2 np52 rfl hl.1.1 dX2_standing_2 rfl) h (gh_K0_b _ hk) (fun v1 g h => ?_) (fun e g h => ?_)
  rotate_left
  ·
    exact gh_out C (fun _ h => nomatch h) h hk
  refine gr_astore_n (pc := 5) (i := 2) (l' := [(2, va_rf v1), (0, va_rf (some t0)), (1, .int p1)]) C rfl hl (Nat.le_of_ble_eq_true rfl) rfl dX2_standing_5 fun ls hl => ?_
  refine gr_aload_n (pc := 6) (i := 2) C rfl (gl_at hl 0 rfl) dX2_standing_6 ?_
  refine gr_ifnonnull (pc := 7) (tgt := 14) C rfl dX2_standing_7 (fun b2 c9 => ?_) (fun c9 => ?_)
  · subst c9
    replace h := gh_on_s h
    refine gr_iconst (pc := 14) (v := (0 : Int32)) C rfl dX2_standing_14 ?_
    exact w_X2_standing_15 C p1 (some b2) (0 : Int32) (gl_sub hl [2, 0] rfl) h hk
  · subst c9
    replace h := gh_on_n h
    refine gr_iconst (pc := 10) (v := (1 : Int32)) C rfl dX2_standing_10 ?_
    refine gr_goto (pc := 11) (tgt := 15) C rfl dX2_standing_11 ?_
    exact w_X2_standing_15 C p1 none (1 : Int32) (gl_sub hl [2, 0] rfl) h hk

theorem k_X2_standing {l : Launch} (hst : l.stackTraces = false) (t0 : Nat) (p1 : Int32) : gh_Ct l yX2_standing 6 149 (f_X2_standing t0 p1) gh_rQ [va_rf (some t0), .int p1] := gh_intro2 (L1 := 135) hst (by decide +kernel) q1334 q76 rfl ⟨gh_cat _, rfl, trivial⟩ (Nat.le_of_ble_eq_true rfl) fun x o ls hl C h hk => w_X2_standing C t0 p1 hl h hk
-- GargoyleTower$World.fault(LGargoyleTower$Commission;LGargoyleTower$Block;)LGargoyleTower$RefusedException;
noncomputable def f_X2_fault (p0 : Option Nat) (p1 : Option Nat) : gh_M (Option Nat) :=
  gh_nn p1 fun a1 =>
  gh_bd (gh_geti a1 5 6) fun v2 =>
  gh_nn p0 fun a3 =>
  gh_bd (gh_geti a3 7 0) fun v4 =>
  if (v2 / (5 : Int32)) = v4 then
  (gh_bd (gh_geti a1 5 3) fun v5 =>
  gh_bd (gh_geti a3 7 1) fun v6 =>
  if v6 ≤ v5 then
  (gh_bd (gh_geti a1 5 7) fun v7 =>
  if v7 = (-1 : Int32) then
  (gh_ret none)
  else
  (gh_bd (gh_new 8 8 gh_nX9) fun a8 =>
  gh_bd (gh_geti a1 5 7) fun v9 =>
  gh_bd (f_X9_init a8 (16 : Int32) v9) fun _ =>
  gh_ret (some a8)))
  else
  (gh_bd (gh_new 8 8 gh_nX9) fun a11 =>
  gh_bd (gh_geti a3 7 1) fun v12 =>
  gh_bd (gh_geti a1 5 3) fun v13 =>
  gh_bd (f_X9_init a11 (15 : Int32) (v12 - v13)) fun _ =>
  gh_ret (some a11)))
  else
  (gh_bd (gh_new 8 8 gh_nX9) fun a15 =>
  gh_bd (gh_geti a1 5 6) fun v16 =>
  gh_bd (f_X9_init a15 (14 : Int32) (v16 / (5 : Int32))) fun _ =>
  gh_ret (some a15))
theorem w_X2_fault {x : gh_C} {g : gh_G} {o : ((Option Nat) ⊕ gh_X) × gh_G} {ls : Array Slot} (C : gh_K x cX2_fault "GargoyleTower$World" 2 (some (.object "GargoyleTower$RefusedException")) "fault" 5 113 []) (p0 : Option Nat) (p1 : Option Nat) (hl : gh_lv ls 2 [(0, va_rf p0), (1, va_rf p1)]) (h : gh_run (f_X2_fault p0 p1) g = some o) (hk : (gh_K0 x gh_rQ) o) : gh_Wd x g (F0 (gh_cm x) 0 ls []) := by
  unfold f_X2_fault at h
  refine gr_aload_n (pc := 0) (i := 1) C rfl (gl_at hl 1 rfl) dX2_fault_0 ?_
  rcases p1 with _ | a1
  · exact gh_stk_inv h
  replace h := gh_nn_ss h
  refine gr_getiN (pc := 1) C gh_bX6 (k := 6) (Nat.le_of_ble_eq_true rfl) q993 (fun _ h => h) dX2_fault_1 h fun v2 h => ?_
  refine gr_iconst (pc := 4) (v := (5 : Int32)) C rfl dX2_fault_4 ?_
  refine gr_idiv (pc := 5) C (by decide) dX2_fault_5 ?_
  refine gr_aload_n (pc := 6) (i := 0) C rfl (gl_at hl 0 rfl) dX2_fault_6 ?_
  rcases p0 with _ | a3
  · exact gh_stk_inv h
  replace h := gh_nn_ss h
  refine gr_getiN (pc := 7) C gh_bX8 (k := 0) (Nat.le_of_ble_eq_true rfl) q1077 (fun _ h => h) dX2_fault_7 h fun v4 h => ?_
  refine gr_icmp_eq (pc := 10) (tgt := 29) C rfl dX2_fault_10 (fun c9 => ?_) (fun c9 => ?_)
  · replace h := gh_ift h c9
    refine gr_aload_n (pc := 29) (i := 1) C rfl (gl_at hl 1 rfl) dX2_fault_29 ?_
    refine gr_getiN (pc := 30) C gh_bX6 (k := 3) (Nat.le_of_ble_eq_true rfl) q984 (fun _ h => h) dX2_fault_30 h fun v5 h => ?_
    refine gr_aload_n (pc := 33) (i := 0) C rfl (gl_at hl 0 rfl) dX2_fault_33 ?_
    refine gr_getiN (pc := 34) C gh_bX8 (k := 1) (Nat.le_of_ble_eq_true rfl) q1080 (fun _ h => h) dX2_fault_34 h fun v6 h => ?_
    refine gr_icmp_ge (pc := 37) (tgt := 59) C rfl dX2_fault_37 (fun c9 => ?_) (fun c9 => ?_)
    · replace h := gh_ift h c9
      refine gr_aload_n (pc := 59) (i := 1) C rfl (gl_at hl 1 rfl) dX2_fault_59 ?_
      refine gr_getiN (pc := 60) C gh_bX6 (k := 7) (Nat.le_of_ble_eq_true rfl) q997 (fun _ h => h) dX2_fault_60 h fun v7 h => ?_
      refine gr_iconst (pc := 63) (v := (-1 : Int32)) C rfl dX2_fault_63 ?_
      refine gr_icmp_ne (pc := 64) (tgt := 71) C rfl dX2_fault_64 (fun c9 => ?_) (fun c9 => ?_)
      · replace h := gh_iff h c9
        refine gr_newo (pc := 71) C gh_bX9 q1338 q1251 q107 gh_dX9 dX2_fault_71 h (gh_K0_b _ hk) fun a8 g h => ?_
        refine gr_dup (pc := 74) C (gh_cat _) dX2_fault_74 ?_
        refine gr_bipush (pc := 75) (v := (16 : Int32)) C rfl dX2_fault_75 ?_
        refine gr_aload_n (pc := 77) (i := 1) C rfl (gl_at hl 1 rfl) dX2_fault_77 ?_
        refine gr_getiN (pc := 78) C gh_bX6 (k := 7) (Nat.le_of_ble_eq_true rfl) q997 (fun _ h => h) dX2_fault_78 h fun v9 h => ?_
        refine gh_callV (pc := 81) (rest := [va_rf (some a8)]) C (k_X9_init C.tr a8 (16 : Int32) v9) (Nat.le_of_ble_eq_true rfl) (Nat.le_of_ble_eq_true rfl) (gh_r4 (Nat.le_of_ble_eq_true rfl)) (fun H9 L9 hp9 => gi_I C q1339 rfl q1260 q1261 mh_X9 np30 rfl hl.1.1 dX2_fault_81 rfl) h (gh_K0_b _ hk) (fun g h => ?_) (fun e g h => ?_)
        rotate_left
        ·
          exact gh_out C (fun _ h => nomatch h) h hk
        exact gr_aret (pc := 84) C (Or.inl ⟨_, rfl⟩) dX2_fault_84 h hk
      · replace h := gh_ift h c9
        refine gr_null (pc := 67) C dX2_fault_67 ?_
        refine gr_goto (pc := 68) (tgt := 84) C rfl dX2_fault_68 ?_
        exact gr_aret (pc := 84) C (Or.inl ⟨_, rfl⟩) dX2_fault_84 h hk
    · replace h := gh_iff h c9
      refine gr_newo (pc := 40) C gh_bX9 q1338 q1251 q107 gh_dX9 dX2_fault_40 h (gh_K0_b _ hk) fun a11 g h => ?_
      refine gr_dup (pc := 43) C (gh_cat _) dX2_fault_43 ?_
      refine gr_bipush (pc := 44) (v := (15 : Int32)) C rfl dX2_fault_44 ?_
      refine gr_aload_n (pc := 46) (i := 0) C rfl (gl_at hl 0 rfl) dX2_fault_46 ?_
      refine gr_getiN (pc := 47) C gh_bX8 (k := 1) (Nat.le_of_ble_eq_true rfl) q1080 (fun _ h => h) dX2_fault_47 h fun v12 h => ?_
      refine gr_aload_n (pc := 50) (i := 1) C rfl (gl_at hl 1 rfl) dX2_fault_50 ?_
      refine gr_getiN (pc := 51) C gh_bX6 (k := 3) (Nat.le_of_ble_eq_true rfl) q984 (fun _ h => h) dX2_fault_51 h fun v13 h => ?_
      refine gr_isub (pc := 54) C dX2_fault_54 ?_
      refine gh_callV (pc := 55) (rest := [va_rf (some a11)]) C (k_X9_init C.tr a11 (15 : Int32) (v12 - v13)) (Nat.le_of_ble_eq_true rfl) (Nat.le_of_ble_eq_true rfl) (gh_r4 (Nat.le_of_ble_eq_true rfl)) (fun H9 L9 hp9 => gi_I C q1339 rfl q1260 q1261 mh_X9 np30 rfl hl.1.1 dX2_fault_55 rfl) h (gh_K0_b _ hk) (fun g h => ?_) (fun e g h => ?_)
      rotate_left
      ·
        exact gh_out C (fun _ h => nomatch h) h hk
      exact gr_aret (pc := 58) C (Or.inl ⟨_, rfl⟩) dX2_fault_58 h hk
  · replace h := gh_iff h c9
    refine gr_newo (pc := 13) C gh_bX9 q1338 q1251 q107 gh_dX9 dX2_fault_13 h (gh_K0_b _ hk) fun a15 g h => ?_
    refine gr_dup (pc := 16) C (gh_cat _) dX2_fault_16 ?_
    refine gr_bipush (pc := 17) (v := (14 : Int32)) C rfl dX2_fault_17 ?_
    refine gr_aload_n (pc := 19) (i := 1) C rfl (gl_at hl 1 rfl) dX2_fault_19 ?_
    refine gr_getiN (pc := 20) C gh_bX6 (k := 6) (Nat.le_of_ble_eq_true rfl) q993 (fun _ h => h) dX2_fault_20 h fun v16 h => ?_
    refine gr_iconst (pc := 23) (v := (5 : Int32)) C rfl dX2_fault_23 ?_
    refine gr_idiv (pc := 24) C (by decide) dX2_fault_24 ?_
    refine gh_callV (pc := 25) (rest := [va_rf (some a15)]) C (k_X9_init C.tr a15 (14 : Int32) (v16 / (5 : Int32))) (Nat.le_of_ble_eq_true rfl) (Nat.le_of_ble_eq_true rfl) (gh_r4 (Nat.le_of_ble_eq_true rfl)) (fun H9 L9 hp9 => gi_I C q1339 rfl q1260 q1261 mh_X9 np30 rfl hl.1.1 dX2_fault_25 rfl) h (gh_K0_b _ hk) (fun g h => ?_) (fun e g h => ?_)
    rotate_left
    ·
      exact gh_out C (fun _ h => nomatch h) h hk
    exact gr_aret (pc := 28) C (Or.inl ⟨_, rfl⟩) dX2_fault_28 h hk

theorem k_X2_fault {l : Launch} (hst : l.stackTraces = false) (p0 : Option Nat) (p1 : Option Nat) : gh_Ct l yX2_fault 5 126 (f_X2_fault p0 p1) gh_rQ [va_rf p0, va_rf p1] := gh_intro2 (L1 := 113) hst (by decide +kernel) q1337 q76 rfl ⟨gh_cat _, gh_cat _, trivial⟩ (Nat.le_of_ble_eq_true rfl) fun x o ls hl C h hk => w_X2_fault C p0 p1 hl h hk
-- GargoyleTower$World.fall(LGargoyleTower$Block;)I
noncomputable def f_X2_fall_s (rc : Nat → Option Nat → gh_M Int32) (t0 : Nat) (p1 : Option Nat) : gh_M Int32 :=
  gh_nn p1 fun a1 =>
  gh_bd (gh_geti a1 5 6) fun v2 =>
  gh_bd (gh_is a1 5) fun _ =>
  gh_bd (f_X6_go a1 (3 : Int32) (-1 : Int32)) fun _ =>
  gh_bd (gh_is t0 1) fun _ =>
  gh_bd (f_X2_blockBelow t0 v2) fun v4 =>
  gh_on v4
  (gh_ret (1 : Int32))
  (fun b5 => gh_bd (gh_geti b5 5 4) fun v6 =>
  gh_bd (gh_geti a1 5 1) fun v7 =>
  gh_bd (gh_putv b5 5 4 .int (.int (v6 + v7))) fun _ =>
  gh_bd (gh_is b5 5) fun _ =>
  gh_bd (f_X11_isLoose b5) fun v8 =>
  if v8 = 0 then
  (gh_ret (1 : Int32))
  else
  (gh_bd (gh_is t0 1) fun _ =>
  gh_bd (rc t0 (some b5)) fun v9 =>
  gh_ret ((1 : Int32) + v9)))
theorem w_X2_fall {x : gh_C} {F1 L1 : Nat} {g : gh_G} {o : (Int32 ⊕ gh_X) × gh_G} {ls : Array Slot} (C : gh_K x cX2_fall "GargoyleTower$World" 4 (some .int) "fall" (F1 + 6) (L1 + 115) []) (rc : Nat → Option Nat → gh_M Int32) (hrc : ∀ (t : Nat) (p : Option Nat), gh_Ct (gh_cL x) yX2_fall F1 L1 (rc t p) gh_rI [va_rf (some t), va_rf p]) (t0 : Nat) (p1 : Option Nat) (hl : gh_lv ls 4 [(0, va_rf (some t0)), (1, va_rf p1)]) (h : gh_run (f_X2_fall_s rc t0 p1) g = some o) (hk : (gh_K0 x gh_rI) o) : gh_Wd x g (F0 (gh_cm x) 0 ls []) := by
  unfold f_X2_fall_s at h
  refine gr_aload_n (pc := 0) (i := 1) C rfl (gl_at hl 1 rfl) dX2_fall_0 ?_
  rcases p1 with _ | a1
  · exact gh_stk_inv h
  replace h := gh_nn_ss h
  refine gr_getiN (pc := 1) C gh_bX6 (k := 6) (Nat.le_of_ble_eq_true rfl) q993 (fun _ h => h) dX2_fall_1 h fun v2 h => ?_
  refine gr_istore_n (pc := 4) (i := 2) (l' := [(2, .int v2), (0, va_rf (some t0)), (1, va_rf (some a1))]) C rfl hl (Nat.le_of_ble_eq_true rfl) rfl dX2_fall_4 fun ls hl => ?_
  refine gr_aload_n (pc := 5) (i := 1) C rfl (gl_at hl 2 rfl) dX2_fall_5 ?_
  refine gr_iconst (pc := 6) (v := (3 : Int32)) C rfl dX2_fall_6 ?_
  refine gr_iconst (pc := 7) (v := (-1 : Int32)) C rfl dX2_fall_7 ?_
  obtain ⟨⟨fs9, hg9⟩, h⟩ := gh_is_inv h
  refine gh_callV (pc := 8) (rest := []) C (k_X6_go C.tr a1 (3 : Int32) (-1 : Int32)) (by omega) (by omega) (gh_r4 (Nat.le_of_ble_eq_true rfl)) (fun H9 L9 hp9 => gi_V C hp9 hg9 gh_cX6 q1301 q1302 q1303 q1304 mh_X6 np30 rfl hl.1.1 dX2_fall_8 rfl) h (gh_K0_b _ hk) (fun g h => ?_) (fun e g h => ?_)
  rotate_left
  ·
    exact gh_out C (fun _ h => nomatch h) h hk
  refine gr_aload_n (pc := 11) (i := 0) C rfl (gl_at hl 1 rfl) dX2_fall_11 ?_
  refine gr_iload_n (pc := 12) (i := 2) C rfl (gl_at hl 0 rfl) dX2_fall_12 ?_
  obtain ⟨⟨fs9, hg9⟩, h⟩ := gh_is_inv h
  refine gh_callQ (pc := 13) (rest := []) C (k_X2_blockBelow C.tr t0 v2) (by omega) (by omega) (gh_r4 (Nat.le_of_ble_eq_true rfl)) (fun H9 L9 hp9 => gi_V C hp9 hg9 gh_cX2 q1369 q1370 q1371 q1372 mh_X2 np52 rfl hl.1.1 dX2_fall_13 rfl) h (gh_K0_b _ hk) (fun v4 g h => ?_) (fun e g h => ?_)
  rotate_left
  ·
    exact gh_out C (fun _ h => nomatch h) h hk
  refine gr_astore_n (pc := 16) (i := 3) (l' := [(3, va_rf v4), (2, .int v2), (0, va_rf (some t0)), (1, va_rf (some a1))]) C rfl hl (Nat.le_of_ble_eq_true rfl) rfl dX2_fall_16 fun ls hl => ?_
  refine gr_aload_n (pc := 17) (i := 3) C rfl (gl_at hl 0 rfl) dX2_fall_17 ?_
  refine gr_ifnonnull (pc := 18) (tgt := 23) C rfl dX2_fall_18 (fun b5 c9 => ?_) (fun c9 => ?_)
  · subst c9
    replace h := gh_on_s h
    refine gr_aload_n (pc := 23) (i := 3) C rfl (gl_at hl 0 rfl) dX2_fall_23 ?_
    refine gr_dup (pc := 24) C (gh_cat _) dX2_fall_24 ?_
    refine gr_getiN (pc := 25) C gh_bX6 (k := 4) (Nat.le_of_ble_eq_true rfl) q987 (fun _ h => h) dX2_fall_25 h fun v6 h => ?_
    refine gr_aload_n (pc := 28) (i := 1) C rfl (gl_at hl 3 rfl) dX2_fall_28 ?_
    refine gr_getiN (pc := 29) C gh_bX6 (k := 1) (Nat.le_of_ble_eq_true rfl) q979 (fun _ h => h) dX2_fall_29 h fun v7 h => ?_
    refine gr_iadd (pc := 32) C dX2_fall_32 ?_
    refine gr_putN (pc := 33) C gh_bX6 (k := 4) (Nat.le_of_ble_eq_true rfl) q987 (fun _ h => h) rfl dX2_fall_33 h fun g h => ?_
    refine gr_aload_n (pc := 36) (i := 3) C rfl (gl_at hl 0 rfl) dX2_fall_36 ?_
    obtain ⟨⟨fs9, hg9⟩, h⟩ := gh_is_inv h
    refine gh_callI (pc := 37) (rest := []) C (k_X11_isLoose C.tr b5) (by omega) (by omega) (gh_r4 (Nat.le_of_ble_eq_true rfl)) (fun H9 L9 hp9 => gi_VD C hp9 hg9 gh_cX6 (dw_9) (dw_3) q929 mh_X11 (by decide +kernel) q931 np7 rfl hl.1.1 dX2_fall_37 rfl) h (gh_K0_b _ hk) (fun v8 g h => ?_) (fun e g h => ?_)
    rotate_left
    ·
      exact gh_out C (fun _ h => nomatch h) h hk
    refine gr_if_eq (pc := 40) (tgt := 53) C rfl dX2_fall_40 (fun c9 => ?_) (fun c9 => ?_)
    · replace h := gh_ift h c9
      refine gr_iconst (pc := 53) (v := (1 : Int32)) C rfl dX2_fall_53 ?_
      exact gr_iret (pc := 54) C dX2_fall_54 h hk
    · replace h := gh_iff h c9
      refine gr_iconst (pc := 43) (v := (1 : Int32)) C rfl dX2_fall_43 ?_
      refine gr_aload_n (pc := 44) (i := 0) C rfl (gl_at hl 2 rfl) dX2_fall_44 ?_
      refine gr_aload_n (pc := 45) (i := 3) C rfl (gl_at hl 0 rfl) dX2_fall_45 ?_
      obtain ⟨⟨fs9, hg9⟩, h⟩ := gh_is_inv h
      refine gh_callI (pc := 46) (rest := [.int (1 : Int32)]) C (hrc t0 (some b5)) (by omega) (by omega) (gh_r4 (Nat.le_of_ble_eq_true rfl)) (fun H9 L9 hp9 => gi_V C hp9 hg9 gh_cX2 q1365 q1366 q1367 q1368 mh_X2 np59 rfl hl.1.1 dX2_fall_46 rfl) h (gh_K0_b _ hk) (fun v9 g h => ?_) (fun e g h => ?_)
      rotate_left
      ·
        exact gh_out C (fun _ h => nomatch h) h hk
      refine gr_iadd (pc := 49) C dX2_fall_49 ?_
      refine gr_goto (pc := 50) (tgt := 54) C rfl dX2_fall_50 ?_
      exact gr_iret (pc := 54) C dX2_fall_54 h hk
  · subst c9
    replace h := gh_on_n h
    refine gr_iconst (pc := 21) (v := (1 : Int32)) C rfl dX2_fall_21 ?_
    exact gr_iret (pc := 22) C dX2_fall_22 h hk

noncomputable def f_X2_fall : Nat → Nat → Option Nat → gh_M Int32
  | 0, _, _ => gh_stk
  | n + 1, t, p => f_X2_fall_s (f_X2_fall n) t p
theorem k_X2_fall_n {l : Launch} (hst : l.stackTraces = false) : ∀ (n t0 : Nat) (p1 : Option Nat), gh_Ct l yX2_fall (n * 6) (n * 130) (f_X2_fall n t0 p1) gh_rI [va_rf (some t0), va_rf p1]
  | 0, t0, p1 => fun D g g1 r h => by cases h
  | n + 1, t0, p1 => gh_intro2 (L1 := n * 130 + 115) hst (by decide +kernel) q1368 q76 (by omega) ⟨gh_cat _, gh_cat _, trivial⟩ (Nat.le_of_ble_eq_true rfl) fun x o ls hl C h hk => w_X2_fall (F1 := n * 6) (L1 := n * 130) (by rw [show (n + 1) * 6 = n * 6 + 6 by omega] at C; exact C) (f_X2_fall n) (fun t p => k_X2_fall_n C.tr n t p) t0 p1 hl h hk
theorem k_X2_fall {l : Launch} (hst : l.stackTraces = false) (t0 : Nat) (p1 : Option Nat) : gh_Ct l yX2_fall 48 1040 (f_X2_fall 8 t0 p1) gh_rI [va_rf (some t0), va_rf p1] := k_X2_fall_n hst 8 t0 p1
-- GargoyleTower$World.cutBlock(IZ)I
noncomputable def f_X2_cutBlock_27 (t0 : Nat) (p1 : Int32) (p2 : Int32) (s0 : Int32) : gh_M Int32 :=
  gh_bd (f_X1_refuse s0 (1 : Int32) (16 : Int32)) fun _ =>
  gh_bd (gh_getr t0 1 6) fun v2 =>
  gh_bd (gh_new 5 8 gh_nX6) fun a3 =>
  gh_bd (gh_getr t0 1 6) fun v4 =>
  gh_nn v4 fun a5 =>
  gh_bd (gh_is a5 11) fun _ =>
  gh_bd (f_J2_size a5) fun v6 =>
  gh_bd (f_X6_init_2 a3 v6 p1 p2) fun _ =>
  gh_nn v2 fun a8 =>
  gh_bd (gh_is a8 11) fun _ =>
  gh_bd (f_J2_add a8 (some a3)) fun v9 =>
  gh_bd (gh_getr t0 1 6) fun v10 =>
  gh_nn v10 fun a11 =>
  gh_bd (gh_is a11 11) fun _ =>
  gh_bd (f_J2_size a11) fun v12 =>
  gh_ret (v12 - (1 : Int32))
theorem w_X2_cutBlock_27 {x : gh_C} {g : gh_G} {o : (Int32 ⊕ gh_X) × gh_G} {ls : Array Slot} (C : gh_K x cX2_cutBlock "GargoyleTower$World" 4 (some .int) "cutBlock" 8 191 []) (t0 : Nat) (p1 : Int32) (p2 : Int32) (s0 : Int32) (hl : gh_lv ls 4 [(0, va_rf (some t0)), (1, .int p1), (2, .int p2)]) (h : gh_run (f_X2_cutBlock_27 t0 p1 p2 s0) g = some o) (hk : (gh_K0 x gh_rI) o) : gh_Wd x g (F0 (gh_cm x) 27 ls [.int s0]) := by
  unfold f_X2_cutBlock_27 at h
  refine gr_iconst (pc := 27) (v := (1 : Int32)) C rfl dX2_cutBlock_27 ?_
  refine gr_bipush (pc := 28) (v := (16 : Int32)) C rfl dX2_cutBlock_28 ?_
  refine gh_callV (pc := 30) (rest := []) C (k_X1_refuse C.tr s0 (1 : Int32) (16 : Int32)) (Nat.le_of_ble_eq_true rfl) (Nat.le_of_ble_eq_true rfl) (gh_r4 (Nat.le_of_ble_eq_true rfl)) (fun H9 L9 hp9 => gi_SN C q1248 q1249 q75 q1250 mh_X1 np57 rfl hl.1.1 dX2_cutBlock_30 rfl) h (gh_K0_b _ hk) (fun g h => ?_) (fun e g h => ?_)
  rotate_left
  ·
    exact gh_out C (fun _ h => nomatch h) h hk
  refine gr_aload_n (pc := 33) (i := 0) C rfl (gl_at hl 0 rfl) dX2_cutBlock_33 ?_
  refine gr_getr (pc := 34) C gh_bX2 (k := 6) (Nat.le_of_ble_eq_true rfl) q195 (fun _ h => h) dX2_cutBlock_34 h fun v2 h => ?_
  refine gr_newo (pc := 37) C gh_bX6 q956 q967 q104 gh_dX6 dX2_cutBlock_37 h (gh_K0_b _ hk) fun a3 g h => ?_
  refine gr_dup (pc := 40) C (gh_cat _) dX2_cutBlock_40 ?_
  refine gr_aload_n (pc := 41) (i := 0) C rfl (gl_at hl 0 rfl) dX2_cutBlock_41 ?_
  refine gr_getr (pc := 42) C gh_bX2 (k := 6) (Nat.le_of_ble_eq_true rfl) q195 (fun _ h => h) dX2_cutBlock_42 h fun v4 h => ?_
  rcases v4 with _ | a5
  · exact gh_stk_inv h
  replace h := gh_nn_ss h
  obtain ⟨⟨fs9, hg9⟩, h⟩ := gh_is_inv h
  refine gh_callI (pc := 45) (rest := [va_rf (some a3), va_rf (some a3), va_rf v2]) C (k_J2_size C.tr a5) (Nat.le_of_ble_eq_true rfl) (Nat.le_of_ble_eq_true rfl) (gh_r4 (Nat.le_of_ble_eq_true rfl)) (fun H9 L9 hp9 => gi_V C hp9 hg9 gh_cJ2 q1226 q347 q2726 q348 mh_J2 np0 rfl hl.1.1 dX2_cutBlock_45 rfl) h (gh_K0_b _ hk) (fun v6 g h => ?_) (fun e g h => ?_)
  rotate_left
  ·
    exact gh_out C (fun _ h => nomatch h) h hk
  refine gr_iload_n (pc := 48) (i := 1) C rfl (gl_at hl 1 rfl) dX2_cutBlock_48 ?_
  refine gr_iload_n (pc := 49) (i := 2) C rfl (gl_at hl 2 rfl) dX2_cutBlock_49 ?_
  refine gh_callV (pc := 50) (rest := [va_rf (some a3), va_rf v2]) C (k_X6_init_2 C.tr a3 v6 p1 p2) (Nat.le_of_ble_eq_true rfl) (Nat.le_of_ble_eq_true rfl) (gh_r4 (Nat.le_of_ble_eq_true rfl)) (fun H9 L9 hp9 => gi_I C q1381 rfl q972 q973 mh_X6 np3 rfl hl.1.1 dX2_cutBlock_50 rfl) h (gh_K0_b _ hk) (fun g h => ?_) (fun e g h => ?_)
  rotate_left
  ·
    exact gh_out C (fun _ h => nomatch h) h hk
  rcases v2 with _ | a8
  · exact gh_stk_inv h
  replace h := gh_nn_ss h
  obtain ⟨⟨fs9, hg9⟩, h⟩ := gh_is_inv h
  refine gh_callI (pc := 53) (rest := []) C (k_J2_add C.tr a8 (some a3)) (Nat.le_of_ble_eq_true rfl) (Nat.le_of_ble_eq_true rfl) (gh_r4 (Nat.le_of_ble_eq_true rfl)) (fun H9 L9 hp9 => gi_V C hp9 hg9 gh_cJ2 q1014 q1015 q1016 q1017 mh_J2 np48 rfl hl.1.1 dX2_cutBlock_53 rfl) h (gh_K0_b _ hk) (fun v9 g h => ?_) (fun e g h => ?_)
  rotate_left
  ·
    exact gh_out C (fun _ h => nomatch h) h hk
  refine gr_istore_n (pc := 56) (i := 3) (l' := [(3, .int v9), (0, va_rf (some t0)), (1, .int p1), (2, .int p2)]) C rfl hl (Nat.le_of_ble_eq_true rfl) rfl dX2_cutBlock_56 fun ls hl => ?_
  refine gr_aload_n (pc := 57) (i := 0) C rfl (gl_at hl 1 rfl) dX2_cutBlock_57 ?_
  refine gr_getr (pc := 58) C gh_bX2 (k := 6) (Nat.le_of_ble_eq_true rfl) q195 (fun _ h => h) dX2_cutBlock_58 h fun v10 h => ?_
  rcases v10 with _ | a11
  · exact gh_stk_inv h
  replace h := gh_nn_ss h
  obtain ⟨⟨fs9, hg9⟩, h⟩ := gh_is_inv h
  refine gh_callI (pc := 61) (rest := []) C (k_J2_size C.tr a11) (Nat.le_of_ble_eq_true rfl) (Nat.le_of_ble_eq_true rfl) (gh_r4 (Nat.le_of_ble_eq_true rfl)) (fun H9 L9 hp9 => gi_V C hp9 hg9 gh_cJ2 q1226 q347 q2726 q348 mh_J2 np0 rfl hl.1.1 dX2_cutBlock_61 rfl) h (gh_K0_b _ hk) (fun v12 g h => ?_) (fun e g h => ?_)
  rotate_left
  ·
    exact gh_out C (fun _ h => nomatch h) h hk
  refine gr_iconst (pc := 64) (v := (1 : Int32)) C rfl dX2_cutBlock_64 ?_
  refine gr_isub (pc := 65) C dX2_cutBlock_65 ?_
  exact gr_iret (pc := 66) C dX2_cutBlock_66 h hk

noncomputable def f_X2_cutBlock (t0 : Nat) (p1 : Int32) (p2 : Int32) : gh_M Int32 :=
  gh_bd (f_X1_inRange p1 (1 : Int32) (9 : Int32)) fun v1 =>
  gh_bd (f_X1_checkArgument v1) fun _ =>
  gh_bd (gh_getr t0 1 6) fun v3 =>
  gh_nn v3 fun a4 =>
  gh_bd (gh_is a4 11) fun _ =>
  gh_bd (f_J2_size a4) fun v5 =>
  if v5 = (16 : Int32) then
  (f_X2_cutBlock_27 t0 p1 p2 (1 : Int32))
  else
  (f_X2_cutBlock_27 t0 p1 p2 (0 : Int32))
theorem w_X2_cutBlock {x : gh_C} {g : gh_G} {o : (Int32 ⊕ gh_X) × gh_G} {ls : Array Slot} (C : gh_K x cX2_cutBlock "GargoyleTower$World" 4 (some .int) "cutBlock" 8 191 []) (t0 : Nat) (p1 : Int32) (p2 : Int32) (hl : gh_lv ls 4 [(0, va_rf (some t0)), (1, .int p1), (2, .int p2)]) (h : gh_run (f_X2_cutBlock t0 p1 p2) g = some o) (hk : (gh_K0 x gh_rI) o) : gh_Wd x g (F0 (gh_cm x) 0 ls []) := by
  unfold f_X2_cutBlock at h
  refine gr_iload_n (pc := 0) (i := 1) C rfl (gl_at hl 1 rfl) dX2_cutBlock_0 ?_
  refine gr_iconst (pc := 1) (v := (1 : Int32)) C rfl dX2_cutBlock_1 ?_
  refine gr_bipush (pc := 2) (v := (9 : Int32)) C rfl dX2_cutBlock_2 ?_
  refine gh_callI (pc := 4) (rest := []) C (k_X1_inRange C.tr p1 (1 : Int32) (9 : Int32)) (Nat.le_of_ble_eq_true rfl) (Nat.le_of_ble_eq_true rfl) (gh_r4 (Nat.le_of_ble_eq_true rfl)) (fun H9 L9 hp9 => gi_SN C q1239 q1231 q75 q1232 mh_X1 np54 rfl hl.1.1 dX2_cutBlock_4 rfl) h (gh_K0_b _ hk) (fun v1 g h => ?_) (fun e g h => ?_)
  rotate_left
  ·
    exact gh_out C (fun _ h => nomatch h) h hk
  refine gh_callV (pc := 7) (rest := []) C (k_X1_checkArgument C.tr v1) (Nat.le_of_ble_eq_true rfl) (Nat.le_of_ble_eq_true rfl) (gh_r4 (Nat.le_of_ble_eq_true rfl)) (fun H9 L9 hp9 => gi_SN C q1240 q1241 q75 q1242 mh_X1 np55 rfl hl.1.1 dX2_cutBlock_7 rfl) h (gh_K0_b _ hk) (fun g h => ?_) (fun e g h => ?_)
  rotate_left
  ·
    exact gh_out C (fun _ h => nomatch h) h hk
  refine gr_aload_n (pc := 10) (i := 0) C rfl (gl_at hl 0 rfl) dX2_cutBlock_10 ?_
  refine gr_getr (pc := 11) C gh_bX2 (k := 6) (Nat.le_of_ble_eq_true rfl) q195 (fun _ h => h) dX2_cutBlock_11 h fun v3 h => ?_
  rcases v3 with _ | a4
  · exact gh_stk_inv h
  replace h := gh_nn_ss h
  obtain ⟨⟨fs9, hg9⟩, h⟩ := gh_is_inv h
  refine gh_callI (pc := 14) (rest := []) C (k_J2_size C.tr a4) (Nat.le_of_ble_eq_true rfl) (Nat.le_of_ble_eq_true rfl) (gh_r4 (Nat.le_of_ble_eq_true rfl)) (fun H9 L9 hp9 => gi_V C hp9 hg9 gh_cJ2 q1226 q347 q2726 q348 mh_J2 np0 rfl hl.1.1 dX2_cutBlock_14 rfl) h (gh_K0_b _ hk) (fun v5 g h => ?_) (fun e g h => ?_)
  rotate_left
  ·
    exact gh_out C (fun _ h => nomatch h) h hk
  refine gr_bipush (pc := 17) (v := (16 : Int32)) C rfl dX2_cutBlock_17 ?_
  refine gr_icmp_ne (pc := 19) (tgt := 26) C rfl dX2_cutBlock_19 (fun c9 => ?_) (fun c9 => ?_)
  · replace h := gh_iff h c9
    refine gr_iconst (pc := 26) (v := (0 : Int32)) C rfl dX2_cutBlock_26 ?_
    exact w_X2_cutBlock_27 C t0 p1 p2 (0 : Int32) (gl_sub hl [0, 1, 2] rfl) h hk
  · replace h := gh_ift h c9
    refine gr_iconst (pc := 22) (v := (1 : Int32)) C rfl dX2_cutBlock_22 ?_
    refine gr_goto (pc := 23) (tgt := 27) C rfl dX2_cutBlock_23 ?_
    exact w_X2_cutBlock_27 C t0 p1 p2 (1 : Int32) (gl_sub hl [0, 1, 2] rfl) h hk

theorem k_X2_cutBlock {l : Launch} (hst : l.stackTraces = false) (t0 : Nat) (p1 : Int32) (p2 : Int32) : gh_Ct l yX2_cutBlock 8 206 (f_X2_cutBlock t0 p1 p2) gh_rI [va_rf (some t0), .int p1, .int p2] := gh_intro2 (L1 := 191) hst (by decide +kernel) q1380 q76 rfl ⟨gh_cat _, rfl, rfl, trivial⟩ (Nat.le_of_ble_eq_true rfl) fun x o ls hl C h hk => w_X2_cutBlock C t0 p1 p2 hl h hk
-- GargoyleTower$World.buyRope(I)I
noncomputable def f_X2_buyRope_26 (t0 : Nat) (p1 : Int32) (s0 : Int32) : gh_M Int32 :=
  gh_bd (f_X1_refuse s0 (1 : Int32) (4 : Int32)) fun _ =>
  gh_bd (gh_new 6 4 gh_nX7) fun a2 =>
  gh_bd (f_X7_init_2 a2 p1) fun _ =>
  gh_bd (gh_is a2 6) fun _ =>
  gh_bd (f_X7_price a2) fun v4 =>
  gh_bd (gh_is t0 1) fun _ =>
  gh_bd (f_X2_pay t0 v4) fun _ =>
  gh_bd (gh_getr t0 1 7) fun v6 =>
  gh_nn v6 fun a7 =>
  gh_bd (gh_is a7 11) fun _ =>
  gh_bd (f_J2_add a7 (some a2)) fun v8 =>
  gh_bd (gh_getr t0 1 7) fun v9 =>
  gh_nn v9 fun a10 =>
  gh_bd (gh_is a10 11) fun _ =>
  gh_bd (f_J2_size a10) fun v11 =>
  gh_ret (v11 - (1 : Int32))
theorem w_X2_buyRope_26 {x : gh_C} {g : gh_G} {o : (Int32 ⊕ gh_X) × gh_G} {ls : Array Slot} (C : gh_K x cX2_buyRope "GargoyleTower$World" 4 (some .int) "buyRope" 8 191 []) (t0 : Nat) (p1 : Int32) (s0 : Int32) (hl : gh_lv ls 4 [(0, va_rf (some t0)), (1, .int p1)]) (h : gh_run (f_X2_buyRope_26 t0 p1 s0) g = some o) (hk : (gh_K0 x gh_rI) o) : gh_Wd x g (F0 (gh_cm x) 26 ls [.int s0]) := by
  unfold f_X2_buyRope_26 at h
  refine gr_iconst (pc := 26) (v := (1 : Int32)) C rfl dX2_buyRope_26 ?_
  refine gr_iconst (pc := 27) (v := (4 : Int32)) C rfl dX2_buyRope_27 ?_
  refine gh_callV (pc := 28) (rest := []) C (k_X1_refuse C.tr s0 (1 : Int32) (4 : Int32)) (Nat.le_of_ble_eq_true rfl) (Nat.le_of_ble_eq_true rfl) (gh_r4 (Nat.le_of_ble_eq_true rfl)) (fun H9 L9 hp9 => gi_SN C q1248 q1249 q75 q1250 mh_X1 np57 rfl hl.1.1 dX2_buyRope_28 rfl) h (gh_K0_b _ hk) (fun g h => ?_) (fun e g h => ?_)
  rotate_left
  ·
    exact gh_out C (fun _ h => nomatch h) h hk
  refine gr_newo (pc := 31) C gh_bX7 q1042 q1043 q105 gh_dX7 dX2_buyRope_31 h (gh_K0_b _ hk) fun a2 g h => ?_
  refine gr_dup (pc := 34) C (gh_cat _) dX2_buyRope_34 ?_
  refine gr_iload_n (pc := 35) (i := 1) C rfl (gl_at hl 1 rfl) dX2_buyRope_35 ?_
  refine gh_callV (pc := 36) (rest := [va_rf (some a2)]) C (k_X7_init_2 C.tr a2 p1) (Nat.le_of_ble_eq_true rfl) (Nat.le_of_ble_eq_true rfl) (gh_r4 (Nat.le_of_ble_eq_true rfl)) (fun H9 L9 hp9 => gi_I C q1386 rfl q1048 q1049 mh_X7 np4 rfl hl.1.1 dX2_buyRope_36 rfl) h (gh_K0_b _ hk) (fun g h => ?_) (fun e g h => ?_)
  rotate_left
  ·
    exact gh_out C (fun _ h => nomatch h) h hk
  refine gr_astore_n (pc := 39) (i := 2) (l' := [(2, va_rf (some a2)), (0, va_rf (some t0)), (1, .int p1)]) C rfl hl (Nat.le_of_ble_eq_true rfl) rfl dX2_buyRope_39 fun ls hl => ?_
  refine gr_aload_n (pc := 40) (i := 0) C rfl (gl_at hl 1 rfl) dX2_buyRope_40 ?_
  refine gr_aload_n (pc := 41) (i := 2) C rfl (gl_at hl 0 rfl) dX2_buyRope_41 ?_
  obtain ⟨⟨fs9, hg9⟩, h⟩ := gh_is_inv h
  refine gh_callI (pc := 42) (rest := [va_rf (some t0)]) C (k_X7_price C.tr a2) (Nat.le_of_ble_eq_true rfl) (Nat.le_of_ble_eq_true rfl) (gh_r4 (Nat.le_of_ble_eq_true rfl)) (fun H9 L9 hp9 => gi_V C hp9 hg9 gh_cX7 q1387 q869 q870 q871 mh_X7 np0 rfl hl.1.1 dX2_buyRope_42 rfl) h (gh_K0_b _ hk) (fun v4 g h => ?_) (fun e g h => ?_)
  rotate_left
  ·
    exact gh_out C (fun _ h => nomatch h) h hk
  obtain ⟨⟨fs9, hg9⟩, h⟩ := gh_is_inv h
  refine gh_callV (pc := 45) (rest := []) C (k_X2_pay C.tr t0 v4) (Nat.le_of_ble_eq_true rfl) (Nat.le_of_ble_eq_true rfl) (gh_r4 (Nat.le_of_ble_eq_true rfl)) (fun H9 L9 hp9 => gi_V C hp9 hg9 gh_cX2 q1289 q1291 qs10 q1292 mh_X2 np4 rfl hl.1.1 dX2_buyRope_45 rfl) h (gh_K0_b _ hk) (fun g h => ?_) (fun e g h => ?_)
  rotate_left
  ·
    exact gh_out C (fun _ h => nomatch h) h hk
  refine gr_aload_n (pc := 48) (i := 0) C rfl (gl_at hl 1 rfl) dX2_buyRope_48 ?_
  refine gr_getr (pc := 49) C gh_bX2 (k := 7) (Nat.le_of_ble_eq_true rfl) q197 (fun _ h => h) dX2_buyRope_49 h fun v6 h => ?_
  refine gr_aload_n (pc := 52) (i := 2) C rfl (gl_at hl 0 rfl) dX2_buyRope_52 ?_
  rcases v6 with _ | a7
  · exact gh_stk_inv h
  replace h := gh_nn_ss h
  obtain ⟨⟨fs9, hg9⟩, h⟩ := gh_is_inv h
  refine gh_callI (pc := 53) (rest := []) C (k_J2_add C.tr a7 (some a2)) (Nat.le_of_ble_eq_true rfl) (Nat.le_of_ble_eq_true rfl) (gh_r4 (Nat.le_of_ble_eq_true rfl)) (fun H9 L9 hp9 => gi_V C hp9 hg9 gh_cJ2 q1014 q1015 q1016 q1017 mh_J2 np48 rfl hl.1.1 dX2_buyRope_53 rfl) h (gh_K0_b _ hk) (fun v8 g h => ?_) (fun e g h => ?_)
  rotate_left
  ·
    exact gh_out C (fun _ h => nomatch h) h hk
  refine gr_istore_n (pc := 56) (i := 3) (l' := [(3, .int v8), (2, va_rf (some a2)), (0, va_rf (some t0)), (1, .int p1)]) C rfl hl (Nat.le_of_ble_eq_true rfl) rfl dX2_buyRope_56 fun ls hl => ?_
  refine gr_aload_n (pc := 57) (i := 0) C rfl (gl_at hl 2 rfl) dX2_buyRope_57 ?_
  refine gr_getr (pc := 58) C gh_bX2 (k := 7) (Nat.le_of_ble_eq_true rfl) q197 (fun _ h => h) dX2_buyRope_58 h fun v9 h => ?_
  rcases v9 with _ | a10
  · exact gh_stk_inv h
  replace h := gh_nn_ss h
  obtain ⟨⟨fs9, hg9⟩, h⟩ := gh_is_inv h
  refine gh_callI (pc := 61) (rest := []) C (k_J2_size C.tr a10) (Nat.le_of_ble_eq_true rfl) (Nat.le_of_ble_eq_true rfl) (gh_r4 (Nat.le_of_ble_eq_true rfl)) (fun H9 L9 hp9 => gi_V C hp9 hg9 gh_cJ2 q1226 q347 q2726 q348 mh_J2 np0 rfl hl.1.1 dX2_buyRope_61 rfl) h (gh_K0_b _ hk) (fun v11 g h => ?_) (fun e g h => ?_)
  rotate_left
  ·
    exact gh_out C (fun _ h => nomatch h) h hk
  refine gr_iconst (pc := 64) (v := (1 : Int32)) C rfl dX2_buyRope_64 ?_
  refine gr_isub (pc := 65) C dX2_buyRope_65 ?_
  exact gr_iret (pc := 66) C dX2_buyRope_66 h hk

noncomputable def f_X2_buyRope (t0 : Nat) (p1 : Int32) : gh_M Int32 :=
  gh_bd (f_X1_inRange p1 (1 : Int32) (30 : Int32)) fun v1 =>
  gh_bd (f_X1_checkArgument v1) fun _ =>
  gh_bd (gh_getr t0 1 7) fun v3 =>
  gh_nn v3 fun a4 =>
  gh_bd (gh_is a4 11) fun _ =>
  gh_bd (f_J2_size a4) fun v5 =>
  if v5 = (4 : Int32) then
  (f_X2_buyRope_26 t0 p1 (1 : Int32))
  else
  (f_X2_buyRope_26 t0 p1 (0 : Int32))
theorem w_X2_buyRope {x : gh_C} {g : gh_G} {o : (Int32 ⊕ gh_X) × gh_G} {ls : Array Slot} (C : gh_K x cX2_buyRope "GargoyleTower$World" 4 (some .int) "buyRope" 8 191 []) (t0 : Nat) (p1 : Int32) (hl : gh_lv ls 4 [(0, va_rf (some t0)), (1, .int p1)]) (h : gh_run (f_X2_buyRope t0 p1) g = some o) (hk : (gh_K0 x gh_rI) o) : gh_Wd x g (F0 (gh_cm x) 0 ls []) := by
  unfold f_X2_buyRope at h
  refine gr_iload_n (pc := 0) (i := 1) C rfl (gl_at hl 1 rfl) dX2_buyRope_0 ?_
  refine gr_iconst (pc := 1) (v := (1 : Int32)) C rfl dX2_buyRope_1 ?_
  refine gr_bipush (pc := 2) (v := (30 : Int32)) C rfl dX2_buyRope_2 ?_
  refine gh_callI (pc := 4) (rest := []) C (k_X1_inRange C.tr p1 (1 : Int32) (30 : Int32)) (Nat.le_of_ble_eq_true rfl) (Nat.le_of_ble_eq_true rfl) (gh_r4 (Nat.le_of_ble_eq_true rfl)) (fun H9 L9 hp9 => gi_SN C q1239 q1231 q75 q1232 mh_X1 np54 rfl hl.1.1 dX2_buyRope_4 rfl) h (gh_K0_b _ hk) (fun v1 g h => ?_) (fun e g h => ?_)
  rotate_left
  ·
    exact gh_out C (fun _ h => nomatch h) h hk
  refine gh_callV (pc := 7) (rest := []) C (k_X1_checkArgument C.tr v1) (Nat.le_of_ble_eq_true rfl) (Nat.le_of_ble_eq_true rfl) (gh_r4 (Nat.le_of_ble_eq_true rfl)) (fun H9 L9 hp9 => gi_SN C q1240 q1241 q75 q1242 mh_X1 np55 rfl hl.1.1 dX2_buyRope_7 rfl) h (gh_K0_b _ hk) (fun g h => ?_) (fun e g h => ?_)
  rotate_left
  ·
    exact gh_out C (fun _ h => nomatch h) h hk
  refine gr_aload_n (pc := 10) (i := 0) C rfl (gl_at hl 0 rfl) dX2_buyRope_10 ?_
  refine gr_getr (pc := 11) C gh_bX2 (k := 7) (Nat.le_of_ble_eq_true rfl) q197 (fun _ h => h) dX2_buyRope_11 h fun v3 h => ?_
  rcases v3 with _ | a4
  · exact gh_stk_inv h
  replace h := gh_nn_ss h
  obtain ⟨⟨fs9, hg9⟩, h⟩ := gh_is_inv h
  refine gh_callI (pc := 14) (rest := []) C (k_J2_size C.tr a4) (Nat.le_of_ble_eq_true rfl) (Nat.le_of_ble_eq_true rfl) (gh_r4 (Nat.le_of_ble_eq_true rfl)) (fun H9 L9 hp9 => gi_V C hp9 hg9 gh_cJ2 q1226 q347 q2726 q348 mh_J2 np0 rfl hl.1.1 dX2_buyRope_14 rfl) h (gh_K0_b _ hk) (fun v5 g h => ?_) (fun e g h => ?_)
  rotate_left
  ·
    exact gh_out C (fun _ h => nomatch h) h hk
  refine gr_iconst (pc := 17) (v := (4 : Int32)) C rfl dX2_buyRope_17 ?_
  refine gr_icmp_ne (pc := 18) (tgt := 25) C rfl dX2_buyRope_18 (fun c9 => ?_) (fun c9 => ?_)
  · replace h := gh_iff h c9
    refine gr_iconst (pc := 25) (v := (0 : Int32)) C rfl dX2_buyRope_25 ?_
    exact w_X2_buyRope_26 C t0 p1 (0 : Int32) (gl_sub hl [0, 1] rfl) h hk
  · replace h := gh_ift h c9
    refine gr_iconst (pc := 21) (v := (1 : Int32)) C rfl dX2_buyRope_21 ?_
    refine gr_goto (pc := 22) (tgt := 26) C rfl dX2_buyRope_22 ?_
    exact w_X2_buyRope_26 C t0 p1 (1 : Int32) (gl_sub hl [0, 1] rfl) h hk

theorem k_X2_buyRope {l : Launch} (hst : l.stackTraces = false) (t0 : Nat) (p1 : Int32) : gh_Ct l yX2_buyRope 8 206 (f_X2_buyRope t0 p1) gh_rI [va_rf (some t0), .int p1] := gh_intro2 (L1 := 191) hst (by decide +kernel) q1385 q76 rfl ⟨gh_cat _, rfl, trivial⟩ (Nat.le_of_ble_eq_true rfl) fun x o ls hl C h hk => w_X2_buyRope C t0 p1 hl h hk
-- GargoyleTower$World.push(I)I
noncomputable def f_X2_push (t0 : Nat) (p1 : Int32) : gh_M Int32 :=
  gh_bd (f_X1_checkIndex p1 (20 : Int32)) fun _ =>
  gh_bd (gh_is t0 1) fun _ =>
  gh_bd (f_X2_standing t0 p1) fun v2 =>
  gh_bd (gh_is t0 1) fun _ =>
  gh_bd (f_X2_fall 8 t0 v2) fun v3 =>
  gh_ret v3
theorem w_X2_push {x : gh_C} {g : gh_G} {o : (Int32 ⊕ gh_X) × gh_G} {ls : Array Slot} (C : gh_K x cX2_push "GargoyleTower$World" 2 (some .int) "push" 49 1048 []) (t0 : Nat) (p1 : Int32) (hl : gh_lv ls 2 [(0, va_rf (some t0)), (1, .int p1)]) (h : gh_run (f_X2_push t0 p1) g = some o) (hk : (gh_K0 x gh_rI) o) : gh_Wd x g (F0 (gh_cm x) 0 ls []) := by
  unfold f_X2_push at h
  refine gr_iload_n (pc := 0) (i := 1) C rfl (gl_at hl 1 rfl) dX2_push_0 ?_
  refine gr_bipush (pc := 1) (v := (20 : Int32)) C rfl dX2_push_1 ?_
  refine gh_callV (pc := 3) (rest := []) C (k_X1_checkIndex C.tr p1 (20 : Int32)) (Nat.le_of_ble_eq_true rfl) (Nat.le_of_ble_eq_true rfl) (gh_r4 (Nat.le_of_ble_eq_true rfl)) (fun H9 L9 hp9 => gi_SN C q1227 q1228 q75 q1229 mh_X1 np30 rfl hl.1.1 dX2_push_3 rfl) h (gh_K0_b _ hk) (fun g h => ?_) (fun e g h => ?_)
  rotate_left
  ·
    exact gh_out C (fun _ h => nomatch h) h hk
  refine gr_aload_n (pc := 6) (i := 0) C rfl (gl_at hl 0 rfl) dX2_push_6 ?_
  refine gr_aload_n (pc := 7) (i := 0) C rfl (gl_at hl 0 rfl) dX2_push_7 ?_
  refine gr_iload_n (pc := 8) (i := 1) C rfl (gl_at hl 1 rfl) dX2_push_8 ?_
  obtain ⟨⟨fs9, hg9⟩, h⟩ := gh_is_inv h
  refine gh_callQ (pc := 9) (rest := [va_rf (some t0)]) C (k_X2_standing C.tr t0 p1) (Nat.le_of_ble_eq_true rfl) (Nat.le_of_ble_eq_true rfl) (gh_r4 (Nat.le_of_ble_eq_true rfl)) (fun H9 L9 hp9 => gi_V C hp9 hg9 gh_cX2 q1331 q1333 qs12 q1334 mh_X2 np52 rfl hl.1.1 dX2_push_9 rfl) h (gh_K0_b _ hk) (fun v2 g h => ?_) (fun e g h => ?_)
  rotate_left
  ·
    exact gh_out C (fun _ h => nomatch h) h hk
  obtain ⟨⟨fs9, hg9⟩, h⟩ := gh_is_inv h
  refine gh_callI (pc := 12) (rest := []) C (k_X2_fall C.tr t0 v2) (Nat.le_of_ble_eq_true rfl) (Nat.le_of_ble_eq_true rfl) (gh_r4 (Nat.le_of_ble_eq_true rfl)) (fun H9 L9 hp9 => gi_V C hp9 hg9 gh_cX2 q1365 q1366 q1367 q1368 mh_X2 np59 rfl hl.1.1 dX2_push_12 rfl) h (gh_K0_b _ hk) (fun v3 g h => ?_) (fun e g h => ?_)
  rotate_left
  ·
    exact gh_out C (fun _ h => nomatch h) h hk
  exact gr_iret (pc := 15) C dX2_push_15 h hk

theorem k_X2_push {l : Launch} (hst : l.stackTraces = false) (t0 : Nat) (p1 : Int32) : gh_Ct l yX2_push 49 1061 (f_X2_push t0 p1) gh_rI [va_rf (some t0), .int p1] := gh_intro2 (L1 := 1048) hst (by decide +kernel) q1391 q76 rfl ⟨gh_cat _, rfl, trivial⟩ (Nat.le_of_ble_eq_true rfl) fun x o ls hl C h hk => w_X2_push C t0 p1 hl h hk
-- GargoyleTower$World.takeCommission(III)I
noncomputable def f_X2_takeCommission_50 (t0 : Nat) (p1 : Int32) (p2 : Int32) (p3 : Int32) (s0 : Int32) : gh_M Int32 :=
  gh_bd (f_X1_refuse s0 (1 : Int32) (8 : Int32)) fun _ =>
  gh_bd (gh_getr t0 1 8) fun v2 =>
  gh_bd (gh_new 7 4 gh_nX8) fun a3 =>
  gh_bd (f_X8_init_2 a3 p1 p2 p3) fun _ =>
  gh_nn v2 fun a5 =>
  gh_bd (gh_is a5 11) fun _ =>
  gh_bd (f_J2_add a5 (some a3)) fun v6 =>
  gh_bd (gh_getr t0 1 8) fun v7 =>
  gh_nn v7 fun a8 =>
  gh_bd (gh_is a8 11) fun _ =>
  gh_bd (f_J2_size a8) fun v9 =>
  gh_ret (v9 - (1 : Int32))
theorem w_X2_takeCommission_50 {x : gh_C} {g : gh_G} {o : (Int32 ⊕ gh_X) × gh_G} {ls : Array Slot} (C : gh_K x cX2_takeCommission "GargoyleTower$World" 5 (some .int) "takeCommission" 8 191 []) (t0 : Nat) (p1 : Int32) (p2 : Int32) (p3 : Int32) (s0 : Int32) (hl : gh_lv ls 5 [(0, va_rf (some t0)), (1, .int p1), (2, .int p2), (3, .int p3)]) (h : gh_run (f_X2_takeCommission_50 t0 p1 p2 p3 s0) g = some o) (hk : (gh_K0 x gh_rI) o) : gh_Wd x g (F0 (gh_cm x) 50 ls [.int s0]) := by
  unfold f_X2_takeCommission_50 at h
  refine gr_iconst (pc := 50) (v := (1 : Int32)) C rfl dX2_takeCommission_50 ?_
  refine gr_bipush (pc := 51) (v := (8 : Int32)) C rfl dX2_takeCommission_51 ?_
  refine gh_callV (pc := 53) (rest := []) C (k_X1_refuse C.tr s0 (1 : Int32) (8 : Int32)) (Nat.le_of_ble_eq_true rfl) (Nat.le_of_ble_eq_true rfl) (gh_r4 (Nat.le_of_ble_eq_true rfl)) (fun H9 L9 hp9 => gi_SN C q1248 q1249 q75 q1250 mh_X1 np57 rfl hl.1.1 dX2_takeCommission_53 rfl) h (gh_K0_b _ hk) (fun g h => ?_) (fun e g h => ?_)
  rotate_left
  ·
    exact gh_out C (fun _ h => nomatch h) h hk
  refine gr_aload_n (pc := 56) (i := 0) C rfl (gl_at hl 0 rfl) dX2_takeCommission_56 ?_
  refine gr_getr (pc := 57) C gh_bX2 (k := 8) (Nat.le_of_ble_eq_true rfl) q199 (fun _ h => h) dX2_takeCommission_57 h fun v2 h => ?_
  refine gr_newo (pc := 60) C gh_bX8 q1067 q1068 q106 gh_dX8 dX2_takeCommission_60 h (gh_K0_b _ hk) fun a3 g h => ?_
  refine gr_dup (pc := 63) C (gh_cat _) dX2_takeCommission_63 ?_
  refine gr_iload_n (pc := 64) (i := 1) C rfl (gl_at hl 1 rfl) dX2_takeCommission_64 ?_
  refine gr_iload_n (pc := 65) (i := 2) C rfl (gl_at hl 2 rfl) dX2_takeCommission_65 ?_
  refine gr_iload_n (pc := 66) (i := 3) C rfl (gl_at hl 3 rfl) dX2_takeCommission_66 ?_
  refine gh_callV (pc := 67) (rest := [va_rf (some a3), va_rf v2]) C (k_X8_init_2 C.tr a3 p1 p2 p3) (Nat.le_of_ble_eq_true rfl) (Nat.le_of_ble_eq_true rfl) (gh_r4 (Nat.le_of_ble_eq_true rfl)) (fun H9 L9 hp9 => gi_I C q1396 rfl q1073 q1074 mh_X8 np5 rfl hl.1.1 dX2_takeCommission_67 rfl) h (gh_K0_b _ hk) (fun g h => ?_) (fun e g h => ?_)
  rotate_left
  ·
    exact gh_out C (fun _ h => nomatch h) h hk
  rcases v2 with _ | a5
  · exact gh_stk_inv h
  replace h := gh_nn_ss h
  obtain ⟨⟨fs9, hg9⟩, h⟩ := gh_is_inv h
  refine gh_callI (pc := 70) (rest := []) C (k_J2_add C.tr a5 (some a3)) (Nat.le_of_ble_eq_true rfl) (Nat.le_of_ble_eq_true rfl) (gh_r4 (Nat.le_of_ble_eq_true rfl)) (fun H9 L9 hp9 => gi_V C hp9 hg9 gh_cJ2 q1014 q1015 q1016 q1017 mh_J2 np48 rfl hl.1.1 dX2_takeCommission_70 rfl) h (gh_K0_b _ hk) (fun v6 g h => ?_) (fun e g h => ?_)
  rotate_left
  ·
    exact gh_out C (fun _ h => nomatch h) h hk
  refine gr_istore (pc := 73) (i := 4) (l' := [(4, .int v6), (0, va_rf (some t0)), (1, .int p1), (2, .int p2), (3, .int p3)]) C hl (Nat.le_of_ble_eq_true rfl) rfl dX2_takeCommission_73 fun ls hl => ?_
  refine gr_aload_n (pc := 75) (i := 0) C rfl (gl_at hl 1 rfl) dX2_takeCommission_75 ?_
  refine gr_getr (pc := 76) C gh_bX2 (k := 8) (Nat.le_of_ble_eq_true rfl) q199 (fun _ h => h) dX2_takeCommission_76 h fun v7 h => ?_
  rcases v7 with _ | a8
  · exact gh_stk_inv h
  replace h := gh_nn_ss h
  obtain ⟨⟨fs9, hg9⟩, h⟩ := gh_is_inv h
  refine gh_callI (pc := 79) (rest := []) C (k_J2_size C.tr a8) (Nat.le_of_ble_eq_true rfl) (Nat.le_of_ble_eq_true rfl) (gh_r4 (Nat.le_of_ble_eq_true rfl)) (fun H9 L9 hp9 => gi_V C hp9 hg9 gh_cJ2 q1226 q347 q2726 q348 mh_J2 np0 rfl hl.1.1 dX2_takeCommission_79 rfl) h (gh_K0_b _ hk) (fun v9 g h => ?_) (fun e g h => ?_)
  rotate_left
  ·
    exact gh_out C (fun _ h => nomatch h) h hk
  refine gr_iconst (pc := 82) (v := (1 : Int32)) C rfl dX2_takeCommission_82 ?_
  refine gr_isub (pc := 83) C dX2_takeCommission_83 ?_
  exact gr_iret (pc := 84) C dX2_takeCommission_84 h hk

noncomputable def f_X2_takeCommission_30 (t0 : Nat) (p1 : Int32) (p2 : Int32) (p3 : Int32) (s0 : Int32) : gh_M Int32 :=
  gh_bd (f_X1_checkArgument s0) fun _ =>
  gh_bd (gh_getr t0 1 8) fun v2 =>
  gh_nn v2 fun a3 =>
  gh_bd (gh_is a3 11) fun _ =>
  gh_bd (f_J2_size a3) fun v4 =>
  if v4 = (8 : Int32) then
  (f_X2_takeCommission_50 t0 p1 p2 p3 (1 : Int32))
  else
  (f_X2_takeCommission_50 t0 p1 p2 p3 (0 : Int32))
theorem w_X2_takeCommission_30 {x : gh_C} {g : gh_G} {o : (Int32 ⊕ gh_X) × gh_G} {ls : Array Slot} (C : gh_K x cX2_takeCommission "GargoyleTower$World" 5 (some .int) "takeCommission" 8 191 []) (t0 : Nat) (p1 : Int32) (p2 : Int32) (p3 : Int32) (s0 : Int32) (hl : gh_lv ls 5 [(0, va_rf (some t0)), (1, .int p1), (2, .int p2), (3, .int p3)]) (h : gh_run (f_X2_takeCommission_30 t0 p1 p2 p3 s0) g = some o) (hk : (gh_K0 x gh_rI) o) : gh_Wd x g (F0 (gh_cm x) 30 ls [.int s0]) := by
  unfold f_X2_takeCommission_30 at h
  refine gh_callV (pc := 30) (rest := []) C (k_X1_checkArgument C.tr s0) (Nat.le_of_ble_eq_true rfl) (Nat.le_of_ble_eq_true rfl) (gh_r4 (Nat.le_of_ble_eq_true rfl)) (fun H9 L9 hp9 => gi_SN C q1240 q1241 q75 q1242 mh_X1 np55 rfl hl.1.1 dX2_takeCommission_30 rfl) h (gh_K0_b _ hk) (fun g h => ?_) (fun e g h => ?_)
  rotate_left
  ·
    exact gh_out C (fun _ h => nomatch h) h hk
  refine gr_aload_n (pc := 33) (i := 0) C rfl (gl_at hl 0 rfl) dX2_takeCommission_33 ?_
  refine gr_getr (pc := 34) C gh_bX2 (k := 8) (Nat.le_of_ble_eq_true rfl) q199 (fun _ h => h) dX2_takeCommission_34 h fun v2 h => ?_
  rcases v2 with _ | a3
  · exact gh_stk_inv h
  replace h := gh_nn_ss h
  obtain ⟨⟨fs9, hg9⟩, h⟩ := gh_is_inv h
  refine gh_callI (pc := 37) (rest := []) C (k_J2_size C.tr a3) (Nat.le_of_ble_eq_true rfl) (Nat.le_of_ble_eq_true rfl) (gh_r4 (Nat.le_of_ble_eq_true rfl)) (fun H9 L9 hp9 => gi_V C hp9 hg9 gh_cJ2 q1226 q347 q2726 q348 mh_J2 np0 rfl hl.1.1 dX2_takeCommission_37 rfl) h (gh_K0_b _ hk) (fun v4 g h => ?_) (fun e g h => ?_)
  rotate_left
  ·
    exact gh_out C (fun _ h => nomatch h) h hk
  refine gr_bipush (pc := 40) (v := (8 : Int32)) C rfl dX2_takeCommission_40 ?_
  refine gr_icmp_ne (pc := 42) (tgt := 49) C rfl dX2_takeCommission_42 (fun c9 => ?_) (fun c9 => ?_)
  · replace h := gh_iff h c9
    refine gr_iconst (pc := 49) (v := (0 : Int32)) C rfl dX2_takeCommission_49 ?_
    exact w_X2_takeCommission_50 C t0 p1 p2 p3 (0 : Int32) (gl_sub hl [0, 1, 2, 3] rfl) h hk
  · replace h := gh_ift h c9
    refine gr_iconst (pc := 45) (v := (1 : Int32)) C rfl dX2_takeCommission_45 ?_
    refine gr_goto (pc := 46) (tgt := 50) C rfl dX2_takeCommission_46 ?_
    exact w_X2_takeCommission_50 C t0 p1 p2 p3 (1 : Int32) (gl_sub hl [0, 1, 2, 3] rfl) h hk

noncomputable def f_X2_takeCommission_29 (t0 : Nat) (p1 : Int32) (p2 : Int32) (p3 : Int32) : gh_M Int32 :=
  f_X2_takeCommission_30 t0 p1 p2 p3 (0 : Int32)
theorem w_X2_takeCommission_29 {x : gh_C} {g : gh_G} {o : (Int32 ⊕ gh_X) × gh_G} {ls : Array Slot} (C : gh_K x cX2_takeCommission "GargoyleTower$World" 5 (some .int) "takeCommission" 8 191 []) (t0 : Nat) (p1 : Int32) (p2 : Int32) (p3 : Int32) (hl : gh_lv ls 5 [(0, va_rf (some t0)), (1, .int p1), (2, .int p2), (3, .int p3)]) (h : gh_run (f_X2_takeCommission_29 t0 p1 p2 p3) g = some o) (hk : (gh_K0 x gh_rI) o) : gh_Wd x g (F0 (gh_cm x) 29 ls []) := by
  unfold f_X2_takeCommission_29 at h
  refine gr_iconst (pc := 29) (v := (0 : Int32)) C rfl dX2_takeCommission_29 ?_
  exact w_X2_takeCommission_30 C t0 p1 p2 p3 (0 : Int32) (gl_sub hl [0, 1, 2, 3] rfl) h hk

noncomputable def f_X2_takeCommission (t0 : Nat) (p1 : Int32) (p2 : Int32) (p3 : Int32) : gh_M Int32 :=
  gh_bd (f_X1_checkIndex p1 (4 : Int32)) fun _ =>
  gh_bd (f_X1_inRange p2 (1 : Int32) (9 : Int32)) fun v2 =>
  if v2 = 0 then
  (f_X2_takeCommission_29 t0 p1 p2 p3)
  else
  (gh_bd (f_X1_inRange p3 (1 : Int32) (50 : Int32)) fun v3 =>
  if v3 = 0 then
  (f_X2_takeCommission_29 t0 p1 p2 p3)
  else
  (f_X2_takeCommission_30 t0 p1 p2 p3 (1 : Int32)))
theorem w_X2_takeCommission {x : gh_C} {g : gh_G} {o : (Int32 ⊕ gh_X) × gh_G} {ls : Array Slot} (C : gh_K x cX2_takeCommission "GargoyleTower$World" 5 (some .int) "takeCommission" 8 191 []) (t0 : Nat) (p1 : Int32) (p2 : Int32) (p3 : Int32) (hl : gh_lv ls 5 [(0, va_rf (some t0)), (1, .int p1), (2, .int p2), (3, .int p3)]) (h : gh_run (f_X2_takeCommission t0 p1 p2 p3) g = some o) (hk : (gh_K0 x gh_rI) o) : gh_Wd x g (F0 (gh_cm x) 0 ls []) := by
  unfold f_X2_takeCommission at h
  refine gr_iload_n (pc := 0) (i := 1) C rfl (gl_at hl 1 rfl) dX2_takeCommission_0 ?_
  refine gr_iconst (pc := 1) (v := (4 : Int32)) C rfl dX2_takeCommission_1 ?_
  refine gh_callV (pc := 2) (rest := []) C (k_X1_checkIndex C.tr p1 (4 : Int32)) (Nat.le_of_ble_eq_true rfl) (Nat.le_of_ble_eq_true rfl) (gh_r4 (Nat.le_of_ble_eq_true rfl)) (fun H9 L9 hp9 => gi_SN C q1227 q1228 q75 q1229 mh_X1 np30 rfl hl.1.1 dX2_takeCommission_2 rfl) h (gh_K0_b _ hk) (fun g h => ?_) (fun e g h => ?_)
  rotate_left
  ·
    exact gh_out C (fun _ h => nomatch h) h hk
  refine gr_iload_n (pc := 5) (i := 2) C rfl (gl_at hl 2 rfl) dX2_takeCommission_5 ?_
  refine gr_iconst (pc := 6) (v := (1 : Int32)) C rfl dX2_takeCommission_6 ?_
  refine gr_bipush (pc := 7) (v := (9 : Int32)) C rfl dX2_takeCommission_7 ?_
  refine gh_callI (pc := 9) (rest := []) C (k_X1_inRange C.tr p2 (1 : Int32) (9 : Int32)) (Nat.le_of_ble_eq_true rfl) (Nat.le_of_ble_eq_true rfl) (gh_r4 (Nat.le_of_ble_eq_true rfl)) (fun H9 L9 hp9 => gi_SN C q1239 q1231 q75 q1232 mh_X1 np54 rfl hl.1.1 dX2_takeCommission_9 rfl) h (gh_K0_b _ hk) (fun v2 g h => ?_) (fun e g h => ?_)
  rotate_left
  ·
    exact gh_out C (fun _ h => nomatch h) h hk
  refine gr_if_eq (pc := 12) (tgt := 29) C rfl dX2_takeCommission_12 (fun c9 => ?_) (fun c9 => ?_)
  · replace h := gh_ift h c9
    exact w_X2_takeCommission_29 C t0 p1 p2 p3 (gl_sub hl [0, 1, 2, 3] rfl) h hk
  · replace h := gh_iff h c9
    refine gr_iload_n (pc := 15) (i := 3) C rfl (gl_at hl 3 rfl) dX2_takeCommission_15 ?_
    refine gr_iconst (pc := 16) (v := (1 : Int32)) C rfl dX2_takeCommission_16 ?_
    refine gr_bipush (pc := 17) (v := (50 : Int32)) C rfl dX2_takeCommission_17 ?_
    refine gh_callI (pc := 19) (rest := []) C (k_X1_inRange C.tr p3 (1 : Int32) (50 : Int32)) (Nat.le_of_ble_eq_true rfl) (Nat.le_of_ble_eq_true rfl) (gh_r4 (Nat.le_of_ble_eq_true rfl)) (fun H9 L9 hp9 => gi_SN C q1239 q1231 q75 q1232 mh_X1 np54 rfl hl.1.1 dX2_takeCommission_19 rfl) h (gh_K0_b _ hk) (fun v3 g h => ?_) (fun e g h => ?_)
    rotate_left
    ·
      exact gh_out C (fun _ h => nomatch h) h hk
    refine gr_if_eq (pc := 22) (tgt := 29) C rfl dX2_takeCommission_22 (fun c9 => ?_) (fun c9 => ?_)
    · replace h := gh_ift h c9
      exact w_X2_takeCommission_29 C t0 p1 p2 p3 (gl_sub hl [0, 1, 2, 3] rfl) h hk
    · replace h := gh_iff h c9
      refine gr_iconst (pc := 25) (v := (1 : Int32)) C rfl dX2_takeCommission_25 ?_
      refine gr_goto (pc := 26) (tgt := 30) C rfl dX2_takeCommission_26 ?_
      exact w_X2_takeCommission_30 C t0 p1 p2 p3 (1 : Int32) (gl_sub hl [0, 1, 2, 3] rfl) h hk

theorem k_X2_takeCommission {l : Launch} (hst : l.stackTraces = false) (t0 : Nat) (p1 : Int32) (p2 : Int32) (p3 : Int32) : gh_Ct l yX2_takeCommission 8 207 (f_X2_takeCommission t0 p1 p2 p3) gh_rI [va_rf (some t0), .int p1, .int p2, .int p3] := gh_intro2 (L1 := 191) hst (by decide +kernel) q1395 q76 rfl ⟨gh_cat _, rfl, rfl, rfl, trivial⟩ (Nat.le_of_ble_eq_true rfl) fun x o ls hl C h hk => w_X2_takeCommission C t0 p1 p2 p3 hl h hk
-- GargoyleTower$World.nicheFor(LGargoyleTower$Commission;)I
def gp_X2_nicheFor_2 (x : gh_C) (t0 : Nat) (u2_1 : Option Nat) (st : Int32) (g : gh_G) : Prop := ∀ ls : Array Slot, gh_lv ls 4 [(0, va_rf (some t0)), (1, va_rf u2_1), (2, .int st)] → gh_Wd x g (F0 (gh_cm x) 2 ls [])
noncomputable def f_X2_nicheFor_35 (t0 : Nat) (u2_1 : Option Nat) (p2 : Int32) : gh_M ((Int32) ⊕ Int32) :=
  gh_ret (.inl (p2 + (1 : Int32)))
theorem w_X2_nicheFor_35 {x : gh_C} {g : gh_G} {o : (((Int32) ⊕ Int32) ⊕ gh_X) × gh_G} {ls : Array Slot} (C : gh_K x cX2_nicheFor "GargoyleTower$World" 4 (some .int) "nicheFor" 6 134 []) (t0 : Nat) (u2_1 : Option Nat) (p2 : Int32) (hl : gh_lv ls 4 [(0, va_rf (some t0)), (1, va_rf u2_1), (2, .int p2)]) (h : gh_run (f_X2_nicheFor_35 t0 u2_1 p2) g = some o) (hk : (gh_K1 x (gh_K0 x gh_rI) (gp_X2_nicheFor_2 x t0 u2_1)) o) : gh_Wd x g (F0 (gh_cm x) 35 ls []) := by
  unfold f_X2_nicheFor_35 at h
  refine gr_iinc (pc := 35) (i := 2) (z := 2) (v := p2 + (1 : Int32)) (l' := [(2, .int (p2 + (1 : Int32))), (0, va_rf (some t0)), (1, va_rf u2_1)]) C hl rfl rfl (Nat.le_of_ble_eq_true rfl) rfl dX2_nicheFor_35 fun ls hl => ?_
  refine gr_goto (pc := 38) (tgt := 2) C rfl dX2_nicheFor_38 ?_
  exact gh_K1_in h hk ls (gl_sub hl [1, 2, 0] rfl)

noncomputable def f_X2_nicheFor_2_l (t0 : Nat) (u2_1 : Option Nat) (p2 : Int32) : gh_M ((Int32) ⊕ Int32) :=
  if (20 : Int32) ≤ p2 then
  (gh_up (gh_ret (-1 : Int32)))
  else
  (gh_nn u2_1 fun a1 =>
  gh_bd (gh_is a1 7) fun _ =>
  gh_bd (f_X8_isFulfilled a1) fun v2 =>
  if v2 = 0 then
  (gh_bd (gh_is t0 1) fun _ =>
  gh_bd (f_X2_blockIn t0 p2) fun v3 =>
  gh_on v3
  (f_X2_nicheFor_35 t0 (some a1) p2)
  (fun b4 => gh_bd (f_X2_fault (some a1) (some b4)) fun v5 =>
  gh_on v5
  (gh_up (gh_ret p2))
  (fun b6 => f_X2_nicheFor_35 t0 (some a1) p2)))
  else
  (gh_up (gh_ret (-1 : Int32))))
theorem w_X2_nicheFor_2_l {x : gh_C} {g : gh_G} {o : (((Int32) ⊕ Int32) ⊕ gh_X) × gh_G} {ls : Array Slot} (C : gh_K x cX2_nicheFor "GargoyleTower$World" 4 (some .int) "nicheFor" 6 134 []) (t0 : Nat) (u2_1 : Option Nat) (p2 : Int32) (hl : gh_lv ls 4 [(0, va_rf (some t0)), (1, va_rf u2_1), (2, .int p2)]) (h : gh_run (f_X2_nicheFor_2_l t0 u2_1 p2) g = some o) (hk : (gh_K1 x (gh_K0 x gh_rI) (gp_X2_nicheFor_2 x t0 u2_1)) o) : gh_Wd x g (F0 (gh_cm x) 2 ls []) := by
  unfold f_X2_nicheFor_2_l at h
  refine gr_iload_n (pc := 2) (i := 2) C rfl (gl_at hl 2 rfl) dX2_nicheFor_2 ?_
  refine gr_bipush (pc := 3) (v := (20 : Int32)) C rfl dX2_nicheFor_3 ?_
  refine gr_icmp_ge (pc := 5) (tgt := 41) C rfl dX2_nicheFor_5 (fun c9 => ?_) (fun c9 => ?_)
  · replace h := gh_ift h c9
    refine gr_iconst (pc := 41) (v := (-1 : Int32)) C rfl dX2_nicheFor_41 ?_
    obtain ⟨o, h, hk⟩ := gh_K1_up h hk
    exact gr_iret (pc := 42) C dX2_nicheFor_42 h hk
  · replace h := gh_iff h c9
    refine gr_aload_n (pc := 8) (i := 1) C rfl (gl_at hl 1 rfl) dX2_nicheFor_8 ?_
    rcases u2_1 with _ | a1
    · exact gh_stk_inv h
    replace h := gh_nn_ss h
    obtain ⟨⟨fs9, hg9⟩, h⟩ := gh_is_inv h
    refine gh_callI (pc := 9) (rest := []) C (k_X8_isFulfilled C.tr a1) (Nat.le_of_ble_eq_true rfl) (Nat.le_of_ble_eq_true rfl) (gh_r4 (Nat.le_of_ble_eq_true rfl)) (fun H9 L9 hp9 => gi_V C hp9 hg9 gh_cX8 q1330 q864 q865 q866 mh_X8 np7 rfl hl.1.1 dX2_nicheFor_9 rfl) h ((gh_K1_b gh_K0_b) _ hk) (fun v2 g h => ?_) (fun e g h => ?_)
    rotate_left
    ·
      obtain ⟨o, h, hk⟩ := gh_K1_thr h hk
      exact gh_out C (fun _ h => nomatch h) h hk
    refine gr_if_ne (pc := 12) (tgt := 41) C rfl dX2_nicheFor_12 (fun c9 => ?_) (fun c9 => ?_)
    · replace h := gh_iff h c9
      refine gr_iconst (pc := 41) (v := (-1 : Int32)) C rfl dX2_nicheFor_41 ?_
      obtain ⟨o, h, hk⟩ := gh_K1_up h hk
      exact gr_iret (pc := 42) C dX2_nicheFor_42 h hk
    · replace h := gh_ift h c9
      refine gr_aload_n (pc := 15) (i := 0) C rfl (gl_at hl 0 rfl) dX2_nicheFor_15 ?_
      refine gr_iload_n (pc := 16) (i := 2) C rfl (gl_at hl 2 rfl) dX2_nicheFor_16 ?_
      obtain ⟨⟨fs9, hg9⟩, h⟩ := gh_is_inv h
      refine gh_callQ (pc := 17) (rest := []) C (k_X2_blockIn C.tr t0 p2) (Nat.le_of_ble_eq_true rfl) (Nat.le_of_ble_eq_true rfl) (gh_r4 (Nat.le_of_ble_eq_true rfl)) (fun H9 L9 hp9 => gi_V C hp9 hg9 gh_cX2 q1317 q948 q949 q950 mh_X2 np52 rfl hl.1.1 dX2_nicheFor_17 rfl) h ((gh_K1_b gh_K0_b) _ hk) (fun v3 g h => ?_) (fun e g h => ?_)
      rotate_left
      ·
        obtain ⟨o, h, hk⟩ := gh_K1_thr h hk
        exact gh_out C (fun _ h => nomatch h) h hk
      refine gr_astore_n (pc := 20) (i := 3) (l' := [(3, va_rf v3), (0, va_rf (some t0)), (1, va_rf (some a1)), (2, .int p2)]) C rfl hl (Nat.le_of_ble_eq_true rfl) rfl dX2_nicheFor_20 fun ls hl => ?_
      refine gr_aload_n (pc := 21) (i := 3) C rfl (gl_at hl 0 rfl) dX2_nicheFor_21 ?_
      refine gr_ifnull (pc := 22) (tgt := 35) C rfl dX2_nicheFor_22 (fun c9 => ?_) (fun b4 c9 => ?_)
      · subst c9
        replace h := gh_on_n h
        exact w_X2_nicheFor_35 C t0 (some a1) p2 (gl_sub hl [1, 2, 3] rfl) h hk
      · subst c9
        replace h := gh_on_s h
        refine gr_aload_n (pc := 25) (i := 1) C rfl (gl_at hl 2 rfl) dX2_nicheFor_25 ?_
        refine gr_aload_n (pc := 26) (i := 3) C rfl (gl_at hl 0 rfl) dX2_nicheFor_26 ?_
        refine gh_callQ (pc := 27) (rest := []) C (k_X2_fault C.tr (some a1) (some b4)) (Nat.le_of_ble_eq_true rfl) (Nat.le_of_ble_eq_true rfl) (gh_r4 (Nat.le_of_ble_eq_true rfl)) (fun H9 L9 hp9 => gi_S C q1335 q1336 q76 q1337 mh_X2 np60 rfl hl.1.1 dX2_nicheFor_27 rfl) h ((gh_K1_b gh_K0_b) _ hk) (fun v5 g h => ?_) (fun e g h => ?_)
        rotate_left
        ·
          obtain ⟨o, h, hk⟩ := gh_K1_thr h hk
          exact gh_out C (fun _ h => nomatch h) h hk
        refine gr_ifnonnull (pc := 30) (tgt := 35) C rfl dX2_nicheFor_30 (fun b6 c9 => ?_) (fun c9 => ?_)
        · subst c9
          replace h := gh_on_s h
          exact w_X2_nicheFor_35 C t0 (some a1) p2 (gl_sub hl [1, 2, 3] rfl) h hk
        · subst c9
          replace h := gh_on_n h
          refine gr_iload_n (pc := 33) (i := 2) C rfl (gl_at hl 3 rfl) dX2_nicheFor_33 ?_
          obtain ⟨o, h, hk⟩ := gh_K1_up h hk
          exact gr_iret (pc := 34) C dX2_nicheFor_34 h hk

noncomputable def f_X2_nicheFor_2 (t0 : Nat) (p1 : Option Nat) (p2 : Int32) : gh_M Int32 := gh_it (fun st : Int32 => f_X2_nicheFor_2_l t0 p1 st) (p2)
theorem w_X2_nicheFor_2 {x : gh_C} {g : gh_G} {o : (Int32 ⊕ gh_X) × gh_G} {ls : Array Slot} (C : gh_K x cX2_nicheFor "GargoyleTower$World" 4 (some .int) "nicheFor" 6 134 []) (t0 : Nat) (p1 : Option Nat) (p2 : Int32) (hl : gh_lv ls 4 [(0, va_rf (some t0)), (1, va_rf p1), (2, .int p2)]) (h : gh_run (f_X2_nicheFor_2 t0 p1 p2) g = some o) (hk : (gh_K0 x gh_rI) o) : gh_Wd x g (F0 (gh_cm x) 2 ls []) := by
  unfold f_X2_nicheFor_2 at h
  exact gh_loop gh_K0_b (fun st : Int32 => f_X2_nicheFor_2_l t0 p1 st) (gp_X2_nicheFor_2 x t0 p1) (fun st g o h hk ls hl => w_X2_nicheFor_2_l C t0 p1 st hl h hk) _ g o h hk ls hl
noncomputable def f_X2_nicheFor (t0 : Nat) (p1 : Option Nat) : gh_M Int32 :=
  f_X2_nicheFor_2 t0 p1 (0 : Int32)
theorem w_X2_nicheFor {x : gh_C} {g : gh_G} {o : (Int32 ⊕ gh_X) × gh_G} {ls : Array Slot} (C : gh_K x cX2_nicheFor "GargoyleTower$World" 4 (some .int) "nicheFor" 6 134 []) (t0 : Nat) (p1 : Option Nat) (hl : gh_lv ls 4 [(0, va_rf (some t0)), (1, va_rf p1)]) (h : gh_run (f_X2_nicheFor t0 p1) g = some o) (hk : (gh_K0 x gh_rI) o) : gh_Wd x g (F0 (gh_cm x) 0 ls []) := by
  unfold f_X2_nicheFor at h
  refine gr_iconst (pc := 0) (v := (0 : Int32)) C rfl dX2_nicheFor_0 ?_
  refine gr_istore_n (pc := 1) (i := 2) (l' := [(2, .int (0 : Int32)), (0, va_rf (some t0)), (1, va_rf p1)]) C rfl hl (Nat.le_of_ble_eq_true rfl) rfl dX2_nicheFor_1 fun ls hl => ?_
  exact w_X2_nicheFor_2 C t0 p1 (0 : Int32) (gl_sub hl [1, 2, 0] rfl) h hk

theorem k_X2_nicheFor {l : Launch} (hst : l.stackTraces = false) (t0 : Nat) (p1 : Option Nat) : gh_Ct l yX2_nicheFor 6 149 (f_X2_nicheFor t0 p1) gh_rI [va_rf (some t0), va_rf p1] := gh_intro2 (L1 := 134) hst (by decide +kernel) q1711 q76 rfl ⟨gh_cat _, gh_cat _, trivial⟩ (Nat.le_of_ble_eq_true rfl) fun x o ls hl C h hk => w_X2_nicheFor C t0 p1 hl h hk
-- GargoyleTower$World.carve(II)I
noncomputable def f_X2_carve_83 (t0 : Nat) (p2 : Int32) (p3 : Option Nat) (p4 : Int32) (s0 : Int32) : gh_M Int32 :=
  gh_bd (gh_geti t0 1 2) fun v1 =>
  gh_bd (f_X1_refuse s0 (4 : Int32) (p4 - v1)) fun _ =>
  gh_bd (gh_geti t0 1 2) fun v3 =>
  gh_bd (gh_putv t0 1 2 .int (.int (v3 - p4))) fun _ =>
  gh_nn p3 fun a4 =>
  gh_bd (gh_geti a4 5 3) fun v5 =>
  gh_bd (gh_putv a4 5 3 .int (.int (v5 + p2))) fun _ =>
  gh_bd (gh_geti a4 5 3) fun v6 =>
  gh_ret v6
theorem w_X2_carve_83 {x : gh_C} {g : gh_G} {o : (Int32 ⊕ gh_X) × gh_G} {ls : Array Slot} (C : gh_K x cX2_carve "GargoyleTower$World" 5 (some .int) "carve" 9 152 []) (t0 : Nat) (p2 : Int32) (p3 : Option Nat) (p4 : Int32) (s0 : Int32) (hl : gh_lv ls 5 [(0, va_rf (some t0)), (2, .int p2), (3, va_rf p3), (4, .int p4)]) (h : gh_run (f_X2_carve_83 t0 p2 p3 p4 s0) g = some o) (hk : (gh_K0 x gh_rI) o) : gh_Wd x g (F0 (gh_cm x) 83 ls [.int s0]) := by
  unfold f_X2_carve_83 at h
  refine gr_iconst (pc := 83) (v := (4 : Int32)) C rfl dX2_carve_83 ?_
  refine gr_iload (pc := 84) (i := 4) C (gl_at hl 3 rfl) dX2_carve_84 ?_
  refine gr_aload_n (pc := 86) (i := 0) C rfl (gl_at hl 0 rfl) dX2_carve_86 ?_
  refine gr_geti (pc := 87) C gh_bX2 (k := 2) (Nat.le_of_ble_eq_true rfl) q187 (fun _ h => h) dX2_carve_87 h fun v1 h => ?_
  refine gr_isub (pc := 90) C dX2_carve_90 ?_
  refine gh_callV (pc := 91) (rest := []) C (k_X1_refuse C.tr s0 (4 : Int32) (p4 - v1)) (Nat.le_of_ble_eq_true rfl) (Nat.le_of_ble_eq_true rfl) (gh_r4 (Nat.le_of_ble_eq_true rfl)) (fun H9 L9 hp9 => gi_SN C q1248 q1249 q75 q1250 mh_X1 np57 rfl hl.1.1 dX2_carve_91 rfl) h (gh_K0_b _ hk) (fun g h => ?_) (fun e g h => ?_)
  rotate_left
  ·
    exact gh_out C (fun _ h => nomatch h) h hk
  refine gr_aload_n (pc := 94) (i := 0) C rfl (gl_at hl 0 rfl) dX2_carve_94 ?_
  refine gr_dup (pc := 95) C (gh_cat _) dX2_carve_95 ?_
  refine gr_geti (pc := 96) C gh_bX2 (k := 2) (Nat.le_of_ble_eq_true rfl) q187 (fun _ h => h) dX2_carve_96 h fun v3 h => ?_
  refine gr_iload (pc := 99) (i := 4) C (gl_at hl 3 rfl) dX2_carve_99 ?_
  refine gr_isub (pc := 101) C dX2_carve_101 ?_
  refine gr_putp (pc := 102) C gh_bX2 (k := 2) (Nat.le_of_ble_eq_true rfl) q187 (fun _ h => h) rfl dX2_carve_102 h fun g h => ?_
  refine gr_aload_n (pc := 105) (i := 3) C rfl (gl_at hl 2 rfl) dX2_carve_105 ?_
  refine gr_dup (pc := 106) C (gh_cat _) dX2_carve_106 ?_
  rcases p3 with _ | a4
  · exact gh_stk_inv h
  replace h := gh_nn_ss h
  refine gr_getiN (pc := 107) C gh_bX6 (k := 3) (Nat.le_of_ble_eq_true rfl) q984 (fun _ h => h) dX2_carve_107 h fun v5 h => ?_
  refine gr_iload_n (pc := 110) (i := 2) C rfl (gl_at hl 1 rfl) dX2_carve_110 ?_
  refine gr_iadd (pc := 111) C dX2_carve_111 ?_
  refine gr_putN (pc := 112) C gh_bX6 (k := 3) (Nat.le_of_ble_eq_true rfl) q984 (fun _ h => h) rfl dX2_carve_112 h fun g h => ?_
  refine gr_aload_n (pc := 115) (i := 3) C rfl (gl_at hl 2 rfl) dX2_carve_115 ?_
  refine gr_getiN (pc := 116) C gh_bX6 (k := 3) (Nat.le_of_ble_eq_true rfl) q984 (fun _ h => h) dX2_carve_116 h fun v6 h => ?_
  exact gr_iret (pc := 119) C dX2_carve_119 h hk

noncomputable def f_X2_carve_52 (t0 : Nat) (p2 : Int32) (p3 : Option Nat) (s0 : Int32) : gh_M Int32 :=
  gh_nn p3 fun a1 =>
  gh_bd (gh_geti a1 5 3) fun v2 =>
  gh_bd (f_X1_refuse s0 (5 : Int32) (v2 + p2)) fun _ =>
  gh_bd (gh_is a1 5) fun _ =>
  gh_bd (f_X6_times a1 p2) fun v4 =>
  gh_bd (gh_geti t0 1 2) fun v5 =>
  if v4 ≤ v5 then
  (f_X2_carve_83 t0 p2 (some a1) v4 (0 : Int32))
  else
  (f_X2_carve_83 t0 p2 (some a1) v4 (1 : Int32))
theorem w_X2_carve_52 {x : gh_C} {g : gh_G} {o : (Int32 ⊕ gh_X) × gh_G} {ls : Array Slot} (C : gh_K x cX2_carve "GargoyleTower$World" 5 (some .int) "carve" 9 152 []) (t0 : Nat) (p2 : Int32) (p3 : Option Nat) (s0 : Int32) (hl : gh_lv ls 5 [(0, va_rf (some t0)), (2, .int p2), (3, va_rf p3)]) (h : gh_run (f_X2_carve_52 t0 p2 p3 s0) g = some o) (hk : (gh_K0 x gh_rI) o) : gh_Wd x g (F0 (gh_cm x) 52 ls [.int s0]) := by
  unfold f_X2_carve_52 at h
  refine gr_iconst (pc := 52) (v := (5 : Int32)) C rfl dX2_carve_52 ?_
  refine gr_aload_n (pc := 53) (i := 3) C rfl (gl_at hl 2 rfl) dX2_carve_53 ?_
  rcases p3 with _ | a1
  · exact gh_stk_inv h
  replace h := gh_nn_ss h
  refine gr_getiN (pc := 54) C gh_bX6 (k := 3) (Nat.le_of_ble_eq_true rfl) q984 (fun _ h => h) dX2_carve_54 h fun v2 h => ?_
  refine gr_iload_n (pc := 57) (i := 2) C rfl (gl_at hl 1 rfl) dX2_carve_57 ?_
  refine gr_iadd (pc := 58) C dX2_carve_58 ?_
  refine gh_callV (pc := 59) (rest := []) C (k_X1_refuse C.tr s0 (5 : Int32) (v2 + p2)) (Nat.le_of_ble_eq_true rfl) (Nat.le_of_ble_eq_true rfl) (gh_r4 (Nat.le_of_ble_eq_true rfl)) (fun H9 L9 hp9 => gi_SN C q1248 q1249 q75 q1250 mh_X1 np57 rfl hl.1.1 dX2_carve_59 rfl) h (gh_K0_b _ hk) (fun g h => ?_) (fun e g h => ?_)
  rotate_left
  ·
    exact gh_out C (fun _ h => nomatch h) h hk
  refine gr_aload_n (pc := 62) (i := 3) C rfl (gl_at hl 2 rfl) dX2_carve_62 ?_
  refine gr_iload_n (pc := 63) (i := 2) C rfl (gl_at hl 1 rfl) dX2_carve_63 ?_
  obtain ⟨⟨fs9, hg9⟩, h⟩ := gh_is_inv h
  refine gh_callI (pc := 64) (rest := []) C (k_X6_times C.tr a1 p2) (Nat.le_of_ble_eq_true rfl) (Nat.le_of_ble_eq_true rfl) (gh_r4 (Nat.le_of_ble_eq_true rfl)) (fun H9 L9 hp9 => gi_V C hp9 hg9 gh_cX6 q1281 q1282 q1283 q1284 mh_X6 np6 rfl hl.1.1 dX2_carve_64 rfl) h (gh_K0_b _ hk) (fun v4 g h => ?_) (fun e g h => ?_)
  rotate_left
  ·
    exact gh_out C (fun _ h => nomatch h) h hk
  refine gr_istore (pc := 67) (i := 4) (l' := [(4, .int v4), (0, va_rf (some t0)), (2, .int p2), (3, va_rf (some a1))]) C hl (Nat.le_of_ble_eq_true rfl) rfl dX2_carve_67 fun ls hl => ?_
  refine gr_aload_n (pc := 69) (i := 0) C rfl (gl_at hl 1 rfl) dX2_carve_69 ?_
  refine gr_geti (pc := 70) C gh_bX2 (k := 2) (Nat.le_of_ble_eq_true rfl) q187 (fun _ h => h) dX2_carve_70 h fun v5 h => ?_
  refine gr_iload (pc := 73) (i := 4) C (gl_at hl 0 rfl) dX2_carve_73 ?_
  refine gr_icmp_ge (pc := 75) (tgt := 82) C rfl dX2_carve_75 (fun c9 => ?_) (fun c9 => ?_)
  · replace h := gh_ift h c9
    refine gr_iconst (pc := 82) (v := (0 : Int32)) C rfl dX2_carve_82 ?_
    exact w_X2_carve_83 C t0 p2 (some a1) v4 (0 : Int32) (gl_sub hl [1, 2, 3, 0] rfl) h hk
  · replace h := gh_iff h c9
    refine gr_iconst (pc := 78) (v := (1 : Int32)) C rfl dX2_carve_78 ?_
    refine gr_goto (pc := 79) (tgt := 83) C rfl dX2_carve_79 ?_
    exact w_X2_carve_83 C t0 p2 (some a1) v4 (1 : Int32) (gl_sub hl [1, 2, 3, 0] rfl) h hk

noncomputable def f_X2_carve_28 (t0 : Nat) (p2 : Int32) (p3 : Option Nat) (s0 : Int32) : gh_M Int32 :=
  gh_nn p3 fun a1 =>
  gh_bd (gh_geti a1 5 5) fun v2 =>
  gh_bd (f_X1_refuse s0 (3 : Int32) v2) fun _ =>
  gh_bd (gh_geti a1 5 3) fun v4 =>
  if (v4 + p2) ≤ (9 : Int32) then
  (f_X2_carve_52 t0 p2 (some a1) (0 : Int32))
  else
  (f_X2_carve_52 t0 p2 (some a1) (1 : Int32))
theorem w_X2_carve_28 {x : gh_C} {g : gh_G} {o : (Int32 ⊕ gh_X) × gh_G} {ls : Array Slot} (C : gh_K x cX2_carve "GargoyleTower$World" 5 (some .int) "carve" 9 152 []) (t0 : Nat) (p2 : Int32) (p3 : Option Nat) (s0 : Int32) (hl : gh_lv ls 5 [(0, va_rf (some t0)), (2, .int p2), (3, va_rf p3)]) (h : gh_run (f_X2_carve_28 t0 p2 p3 s0) g = some o) (hk : (gh_K0 x gh_rI) o) : gh_Wd x g (F0 (gh_cm x) 28 ls [.int s0]) := by
  unfold f_X2_carve_28 at h
  refine gr_iconst (pc := 28) (v := (3 : Int32)) C rfl dX2_carve_28 ?_
  refine gr_aload_n (pc := 29) (i := 3) C rfl (gl_at hl 2 rfl) dX2_carve_29 ?_
  rcases p3 with _ | a1
  · exact gh_stk_inv h
  replace h := gh_nn_ss h
  refine gr_getiN (pc := 30) C gh_bX6 (k := 5) (Nat.le_of_ble_eq_true rfl) q990 (fun _ h => h) dX2_carve_30 h fun v2 h => ?_
  refine gh_callV (pc := 33) (rest := []) C (k_X1_refuse C.tr s0 (3 : Int32) v2) (Nat.le_of_ble_eq_true rfl) (Nat.le_of_ble_eq_true rfl) (gh_r4 (Nat.le_of_ble_eq_true rfl)) (fun H9 L9 hp9 => gi_SN C q1248 q1249 q75 q1250 mh_X1 np57 rfl hl.1.1 dX2_carve_33 rfl) h (gh_K0_b _ hk) (fun g h => ?_) (fun e g h => ?_)
  rotate_left
  ·
    exact gh_out C (fun _ h => nomatch h) h hk
  refine gr_aload_n (pc := 36) (i := 3) C rfl (gl_at hl 2 rfl) dX2_carve_36 ?_
  refine gr_getiN (pc := 37) C gh_bX6 (k := 3) (Nat.le_of_ble_eq_true rfl) q984 (fun _ h => h) dX2_carve_37 h fun v4 h => ?_
  refine gr_iload_n (pc := 40) (i := 2) C rfl (gl_at hl 1 rfl) dX2_carve_40 ?_
  refine gr_iadd (pc := 41) C dX2_carve_41 ?_
  refine gr_bipush (pc := 42) (v := (9 : Int32)) C rfl dX2_carve_42 ?_
  refine gr_icmp_le (pc := 44) (tgt := 51) C rfl dX2_carve_44 (fun c9 => ?_) (fun c9 => ?_)
  · replace h := gh_ift h c9
    refine gr_iconst (pc := 51) (v := (0 : Int32)) C rfl dX2_carve_51 ?_
    exact w_X2_carve_52 C t0 p2 (some a1) (0 : Int32) (gl_sub hl [0, 1, 2] rfl) h hk
  · replace h := gh_iff h c9
    refine gr_iconst (pc := 47) (v := (1 : Int32)) C rfl dX2_carve_47 ?_
    refine gr_goto (pc := 48) (tgt := 52) C rfl dX2_carve_48 ?_
    exact w_X2_carve_52 C t0 p2 (some a1) (1 : Int32) (gl_sub hl [0, 1, 2] rfl) h hk

noncomputable def f_X2_carve (t0 : Nat) (p1 : Int32) (p2 : Int32) : gh_M Int32 :=
  gh_bd (gh_is t0 1) fun _ =>
  gh_bd (f_X2_block t0 p1) fun v1 =>
  gh_bd (f_X1_inRange p2 (1 : Int32) (9 : Int32)) fun v2 =>
  gh_bd (f_X1_checkArgument v2) fun _ =>
  gh_nn v1 fun a4 =>
  gh_bd (gh_geti a4 5 5) fun v5 =>
  if v5 = 0 then
  (f_X2_carve_28 t0 p2 (some a4) (0 : Int32))
  else
  (f_X2_carve_28 t0 p2 (some a4) (1 : Int32))
theorem w_X2_carve {x : gh_C} {g : gh_G} {o : (Int32 ⊕ gh_X) × gh_G} {ls : Array Slot} (C : gh_K x cX2_carve "GargoyleTower$World" 5 (some .int) "carve" 9 152 []) (t0 : Nat) (p1 : Int32) (p2 : Int32) (hl : gh_lv ls 5 [(0, va_rf (some t0)), (1, .int p1), (2, .int p2)]) (h : gh_run (f_X2_carve t0 p1 p2) g = some o) (hk : (gh_K0 x gh_rI) o) : gh_Wd x g (F0 (gh_cm x) 0 ls []) := by
  unfold f_X2_carve at h
  refine gr_aload_n (pc := 0) (i := 0) C rfl (gl_at hl 0 rfl) dX2_carve_0 ?_
  refine gr_iload_n (pc := 1) (i := 1) C rfl (gl_at hl 1 rfl) dX2_carve_1 ?_
  obtain ⟨⟨fs9, hg9⟩, h⟩ := gh_is_inv h
  refine gh_callQ (pc := 2) (rest := []) C (k_X2_block C.tr t0 p1) (Nat.le_of_ble_eq_true rfl) (Nat.le_of_ble_eq_true rfl) (gh_r4 (Nat.le_of_ble_eq_true rfl)) (fun H9 L9 hp9 => gi_V C hp9 hg9 gh_cX2 q1222 q1223 q1224 q1225 mh_X2 np52 rfl hl.1.1 dX2_carve_2 rfl) h (gh_K0_b _ hk) (fun v1 g h => ?_) (fun e g h => ?_)
  rotate_left
  ·
    exact gh_out C (fun _ h => nomatch h) h hk
  refine gr_astore_n (pc := 5) (i := 3) (l' := [(3, va_rf v1), (0, va_rf (some t0)), (1, .int p1), (2, .int p2)]) C rfl hl (Nat.le_of_ble_eq_true rfl) rfl dX2_carve_5 fun ls hl => ?_
  refine gr_iload_n (pc := 6) (i := 2) C rfl (gl_at hl 3 rfl) dX2_carve_6 ?_
  refine gr_iconst (pc := 7) (v := (1 : Int32)) C rfl dX2_carve_7 ?_
  refine gr_bipush (pc := 8) (v := (9 : Int32)) C rfl dX2_carve_8 ?_
  refine gh_callI (pc := 10) (rest := []) C (k_X1_inRange C.tr p2 (1 : Int32) (9 : Int32)) (Nat.le_of_ble_eq_true rfl) (Nat.le_of_ble_eq_true rfl) (gh_r4 (Nat.le_of_ble_eq_true rfl)) (fun H9 L9 hp9 => gi_SN C q1239 q1231 q75 q1232 mh_X1 np54 rfl hl.1.1 dX2_carve_10 rfl) h (gh_K0_b _ hk) (fun v2 g h => ?_) (fun e g h => ?_)
  rotate_left
  ·
    exact gh_out C (fun _ h => nomatch h) h hk
  refine gh_callV (pc := 13) (rest := []) C (k_X1_checkArgument C.tr v2) (Nat.le_of_ble_eq_true rfl) (Nat.le_of_ble_eq_true rfl) (gh_r4 (Nat.le_of_ble_eq_true rfl)) (fun H9 L9 hp9 => gi_SN C q1240 q1241 q75 q1242 mh_X1 np55 rfl hl.1.1 dX2_carve_13 rfl) h (gh_K0_b _ hk) (fun g h => ?_) (fun e g h => ?_)
  rotate_left
  ·
    exact gh_out C (fun _ h => nomatch h) h hk
  refine gr_aload_n (pc := 16) (i := 3) C rfl (gl_at hl 0 rfl) dX2_carve_16 ?_
  rcases v1 with _ | a4
  · exact gh_stk_inv h
  replace h := gh_nn_ss h
  refine gr_getiN (pc := 17) C gh_bX6 (k := 5) (Nat.le_of_ble_eq_true rfl) q990 (fun _ h => h) dX2_carve_17 h fun v5 h => ?_
  refine gr_if_eq (pc := 20) (tgt := 27) C rfl dX2_carve_20 (fun c9 => ?_) (fun c9 => ?_)
  · replace h := gh_ift h c9
    refine gr_iconst (pc := 27) (v := (0 : Int32)) C rfl dX2_carve_27 ?_
    exact w_X2_carve_28 C t0 p2 (some a4) (0 : Int32) (gl_sub hl [1, 3, 0] rfl) h hk
  · replace h := gh_iff h c9
    refine gr_iconst (pc := 23) (v := (1 : Int32)) C rfl dX2_carve_23 ?_
    refine gr_goto (pc := 24) (tgt := 28) C rfl dX2_carve_24 ?_
    exact w_X2_carve_28 C t0 p2 (some a4) (1 : Int32) (gl_sub hl [1, 3, 0] rfl) h hk

theorem k_X2_carve {l : Launch} (hst : l.stackTraces = false) (t0 : Nat) (p1 : Int32) (p2 : Int32) : gh_Ct l yX2_carve 9 168 (f_X2_carve t0 p1 p2) gh_rI [va_rf (some t0), .int p1, .int p2] := gh_intro2 (L1 := 152) hst (by decide +kernel) q1221 q76 rfl ⟨gh_cat _, rfl, rfl, trivial⟩ (Nat.le_of_ble_eq_true rfl) fun x o ls hl C h hk => w_X2_carve C t0 p1 p2 hl h hk
-- GargoyleTower$World.whet()I
noncomputable def f_X2_whet_14 (t0 : Nat) (s0 : Int32) : gh_M Int32 :=
  gh_bd (f_X1_refuse s0 (6 : Int32) (9 : Int32)) fun _ =>
  gh_bd (gh_is t0 1) fun _ =>
  gh_bd (f_X2_pay t0 (1 : Int32)) fun _ =>
  gh_bd (gh_geti t0 1 2) fun v3 =>
  gh_bd (gh_putv t0 1 2 .int (.int (9 : Int32))) fun _ =>
  gh_bd (gh_geti t0 1 3) fun v4 =>
  gh_bd (gh_putv t0 1 3 .int (.int (v4 + (1 : Int32)))) fun _ =>
  gh_ret v3
theorem w_X2_whet_14 {x : gh_C} {g : gh_G} {o : (Int32 ⊕ gh_X) × gh_G} {ls : Array Slot} (C : gh_K x cX2_whet "GargoyleTower$World" 2 (some .int) "whet" 7 156 []) (t0 : Nat) (s0 : Int32) (hl : gh_lv ls 2 [(0, va_rf (some t0))]) (h : gh_run (f_X2_whet_14 t0 s0) g = some o) (hk : (gh_K0 x gh_rI) o) : gh_Wd x g (F0 (gh_cm x) 14 ls [.int s0]) := by
  unfold f_X2_whet_14 at h
  refine gr_bipush (pc := 14) (v := (6 : Int32)) C rfl dX2_whet_14 ?_
  refine gr_bipush (pc := 16) (v := (9 : Int32)) C rfl dX2_whet_16 ?_
  refine gh_callV (pc := 18) (rest := []) C (k_X1_refuse C.tr s0 (6 : Int32) (9 : Int32)) (Nat.le_of_ble_eq_true rfl) (Nat.le_of_ble_eq_true rfl) (gh_r4 (Nat.le_of_ble_eq_true rfl)) (fun H9 L9 hp9 => gi_SN C q1248 q1249 q75 q1250 mh_X1 np57 rfl hl.1.1 dX2_whet_18 rfl) h (gh_K0_b _ hk) (fun g h => ?_) (fun e g h => ?_)
  rotate_left
  ·
    exact gh_out C (fun _ h => nomatch h) h hk
  refine gr_aload_n (pc := 21) (i := 0) C rfl (gl_at hl 0 rfl) dX2_whet_21 ?_
  refine gr_iconst (pc := 22) (v := (1 : Int32)) C rfl dX2_whet_22 ?_
  obtain ⟨⟨fs9, hg9⟩, h⟩ := gh_is_inv h
  refine gh_callV (pc := 23) (rest := []) C (k_X2_pay C.tr t0 (1 : Int32)) (Nat.le_of_ble_eq_true rfl) (Nat.le_of_ble_eq_true rfl) (gh_r4 (Nat.le_of_ble_eq_true rfl)) (fun H9 L9 hp9 => gi_V C hp9 hg9 gh_cX2 q1289 q1291 qs10 q1292 mh_X2 np4 rfl hl.1.1 dX2_whet_23 rfl) h (gh_K0_b _ hk) (fun g h => ?_) (fun e g h => ?_)
  rotate_left
  ·
    exact gh_out C (fun _ h => nomatch h) h hk
  refine gr_aload_n (pc := 26) (i := 0) C rfl (gl_at hl 0 rfl) dX2_whet_26 ?_
  refine gr_geti (pc := 27) C gh_bX2 (k := 2) (Nat.le_of_ble_eq_true rfl) q187 (fun _ h => h) dX2_whet_27 h fun v3 h => ?_
  refine gr_istore_n (pc := 30) (i := 1) (l' := [(1, .int v3), (0, va_rf (some t0))]) C rfl hl (Nat.le_of_ble_eq_true rfl) rfl dX2_whet_30 fun ls hl => ?_
  refine gr_aload_n (pc := 31) (i := 0) C rfl (gl_at hl 1 rfl) dX2_whet_31 ?_
  refine gr_bipush (pc := 32) (v := (9 : Int32)) C rfl dX2_whet_32 ?_
  refine gr_putp (pc := 34) C gh_bX2 (k := 2) (Nat.le_of_ble_eq_true rfl) q187 (fun _ h => h) rfl dX2_whet_34 h fun g h => ?_
  refine gr_aload_n (pc := 37) (i := 0) C rfl (gl_at hl 1 rfl) dX2_whet_37 ?_
  refine gr_dup (pc := 38) C (gh_cat _) dX2_whet_38 ?_
  refine gr_geti (pc := 39) C gh_bX2 (k := 3) (Nat.le_of_ble_eq_true rfl) q189 (fun _ h => h) dX2_whet_39 h fun v4 h => ?_
  refine gr_iconst (pc := 42) (v := (1 : Int32)) C rfl dX2_whet_42 ?_
  refine gr_iadd (pc := 43) C dX2_whet_43 ?_
  refine gr_putp (pc := 44) C gh_bX2 (k := 3) (Nat.le_of_ble_eq_true rfl) q189 (fun _ h => h) rfl dX2_whet_44 h fun g h => ?_
  refine gr_iload_n (pc := 47) (i := 1) C rfl (gl_at hl 0 rfl) dX2_whet_47 ?_
  exact gr_iret (pc := 48) C dX2_whet_48 h hk

noncomputable def f_X2_whet (t0 : Nat) : gh_M Int32 :=
  gh_bd (gh_geti t0 1 2) fun v1 =>
  if v1 = (9 : Int32) then
  (f_X2_whet_14 t0 (1 : Int32))
  else
  (f_X2_whet_14 t0 (0 : Int32))
theorem w_X2_whet {x : gh_C} {g : gh_G} {o : (Int32 ⊕ gh_X) × gh_G} {ls : Array Slot} (C : gh_K x cX2_whet "GargoyleTower$World" 2 (some .int) "whet" 7 156 []) (t0 : Nat) (hl : gh_lv ls 2 [(0, va_rf (some t0))]) (h : gh_run (f_X2_whet t0) g = some o) (hk : (gh_K0 x gh_rI) o) : gh_Wd x g (F0 (gh_cm x) 0 ls []) := by
  unfold f_X2_whet at h
  refine gr_aload_n (pc := 0) (i := 0) C rfl (gl_at hl 0 rfl) dX2_whet_0 ?_
  refine gr_geti (pc := 1) C gh_bX2 (k := 2) (Nat.le_of_ble_eq_true rfl) q187 (fun _ h => h) dX2_whet_1 h fun v1 h => ?_
  refine gr_bipush (pc := 4) (v := (9 : Int32)) C rfl dX2_whet_4 ?_
  refine gr_icmp_ne (pc := 6) (tgt := 13) C rfl dX2_whet_6 (fun c9 => ?_) (fun c9 => ?_)
  · replace h := gh_iff h c9
    refine gr_iconst (pc := 13) (v := (0 : Int32)) C rfl dX2_whet_13 ?_
    exact w_X2_whet_14 C t0 (0 : Int32) (gl_sub hl [0] rfl) h hk
  · replace h := gh_ift h c9
    refine gr_iconst (pc := 9) (v := (1 : Int32)) C rfl dX2_whet_9 ?_
    refine gr_goto (pc := 10) (tgt := 14) C rfl dX2_whet_10 ?_
    exact w_X2_whet_14 C t0 (1 : Int32) (gl_sub hl [0] rfl) h hk

theorem k_X2_whet {l : Launch} (hst : l.stackTraces = false) (t0 : Nat) : gh_Ct l yX2_whet 7 169 (f_X2_whet t0) gh_rI [va_rf (some t0)] := gh_intro2 (L1 := 156) hst (by decide +kernel) q1288 q76 rfl ⟨gh_cat _, trivial⟩ (Nat.le_of_ble_eq_true rfl) fun x o ls hl C h hk => w_X2_whet C t0 hl h hk
-- GargoyleTower$World.hoist(II)I
noncomputable def f_X2_hoist_74 (p1 : Int32) (p2 : Int32) (p3 : Option Nat) (p4 : Option Nat) (s0 : Int32) : gh_M Int32 :=
  gh_nn p4 fun a1 =>
  gh_bd (gh_is a1 6) fun _ =>
  gh_bd (f_X10_holds a1) fun v2 =>
  gh_bd (f_X1_refuse s0 (8 : Int32) v2) fun _ =>
  gh_bd (gh_putv a1 6 3 .int (.int p1)) fun _ =>
  gh_nn p3 fun a4 =>
  gh_bd (gh_is a4 5) fun _ =>
  gh_bd (f_X6_go a4 (1 : Int32) p2) fun _ =>
  gh_bd (gh_is a1 6) fun _ =>
  gh_bd (f_X10_holds a1) fun v6 =>
  gh_ret v6
theorem w_X2_hoist_74 {x : gh_C} {g : gh_G} {o : (Int32 ⊕ gh_X) × gh_G} {ls : Array Slot} (C : gh_K x cX2_hoist "GargoyleTower$World" 5 (some .int) "hoist" 9 152 []) (p1 : Int32) (p2 : Int32) (p3 : Option Nat) (p4 : Option Nat) (s0 : Int32) (hl : gh_lv ls 5 [(1, .int p1), (2, .int p2), (3, va_rf p3), (4, va_rf p4)]) (h : gh_run (f_X2_hoist_74 p1 p2 p3 p4 s0) g = some o) (hk : (gh_K0 x gh_rI) o) : gh_Wd x g (F0 (gh_cm x) 74 ls [.int s0]) := by
  unfold f_X2_hoist_74 at h
  refine gr_bipush (pc := 74) (v := (8 : Int32)) C rfl dX2_hoist_74 ?_
  refine gr_aload (pc := 76) (i := 4) C (gl_at hl 3 rfl) dX2_hoist_76 ?_
  rcases p4 with _ | a1
  · exact gh_stk_inv h
  replace h := gh_nn_ss h
  obtain ⟨⟨fs9, hg9⟩, h⟩ := gh_is_inv h
  refine gh_callI (pc := 78) (rest := [.int (8 : Int32), .int s0]) C (k_X10_holds C.tr a1) (Nat.le_of_ble_eq_true rfl) (Nat.le_of_ble_eq_true rfl) (gh_r4 (Nat.le_of_ble_eq_true rfl)) (fun H9 L9 hp9 => gi_VD C hp9 hg9 gh_cX7 (dw_5) (dw_6) q901 mh_X10 (by decide +kernel) q903 np0 rfl hl.1.1 dX2_hoist_78 rfl) h (gh_K0_b _ hk) (fun v2 g h => ?_) (fun e g h => ?_)
  rotate_left
  ·
    exact gh_out C (fun _ h => nomatch h) h hk
  refine gh_callV (pc := 81) (rest := []) C (k_X1_refuse C.tr s0 (8 : Int32) v2) (Nat.le_of_ble_eq_true rfl) (Nat.le_of_ble_eq_true rfl) (gh_r4 (Nat.le_of_ble_eq_true rfl)) (fun H9 L9 hp9 => gi_SN C q1248 q1249 q75 q1250 mh_X1 np57 rfl hl.1.1 dX2_hoist_81 rfl) h (gh_K0_b _ hk) (fun g h => ?_) (fun e g h => ?_)
  rotate_left
  ·
    exact gh_out C (fun _ h => nomatch h) h hk
  refine gr_aload (pc := 84) (i := 4) C (gl_at hl 3 rfl) dX2_hoist_84 ?_
  refine gr_iload_n (pc := 86) (i := 1) C rfl (gl_at hl 0 rfl) dX2_hoist_86 ?_
  refine gr_putN (pc := 87) C gh_bX7 (k := 3) (Nat.le_of_ble_eq_true rfl) q1057 (fun _ h => h) rfl dX2_hoist_87 h fun g h => ?_
  refine gr_aload_n (pc := 90) (i := 3) C rfl (gl_at hl 2 rfl) dX2_hoist_90 ?_
  refine gr_iconst (pc := 91) (v := (1 : Int32)) C rfl dX2_hoist_91 ?_
  refine gr_iload_n (pc := 92) (i := 2) C rfl (gl_at hl 1 rfl) dX2_hoist_92 ?_
  rcases p3 with _ | a4
  · exact gh_stk_inv h
  replace h := gh_nn_ss h
  obtain ⟨⟨fs9, hg9⟩, h⟩ := gh_is_inv h
  refine gh_callV (pc := 93) (rest := []) C (k_X6_go C.tr a4 (1 : Int32) p2) (Nat.le_of_ble_eq_true rfl) (Nat.le_of_ble_eq_true rfl) (gh_r4 (Nat.le_of_ble_eq_true rfl)) (fun H9 L9 hp9 => gi_V C hp9 hg9 gh_cX6 q1301 q1302 q1303 q1304 mh_X6 np30 rfl hl.1.1 dX2_hoist_93 rfl) h (gh_K0_b _ hk) (fun g h => ?_) (fun e g h => ?_)
  rotate_left
  ·
    exact gh_out C (fun _ h => nomatch h) h hk
  refine gr_aload (pc := 96) (i := 4) C (gl_at hl 3 rfl) dX2_hoist_96 ?_
  obtain ⟨⟨fs9, hg9⟩, h⟩ := gh_is_inv h
  refine gh_callI (pc := 98) (rest := []) C (k_X10_holds C.tr a1) (Nat.le_of_ble_eq_true rfl) (Nat.le_of_ble_eq_true rfl) (gh_r4 (Nat.le_of_ble_eq_true rfl)) (fun H9 L9 hp9 => gi_VD C hp9 hg9 gh_cX7 (dw_5) (dw_6) q901 mh_X10 (by decide +kernel) q903 np0 rfl hl.1.1 dX2_hoist_98 rfl) h (gh_K0_b _ hk) (fun v6 g h => ?_) (fun e g h => ?_)
  rotate_left
  ·
    exact gh_out C (fun _ h => nomatch h) h hk
  exact gr_iret (pc := 101) C dX2_hoist_101 h hk

noncomputable def f_X2_hoist_47 (p1 : Int32) (p2 : Int32) (p3 : Option Nat) (p4 : Option Nat) (s0 : Int32) : gh_M Int32 :=
  gh_nn p4 fun a1 =>
  gh_bd (gh_geti a1 6 3) fun v2 =>
  gh_bd (f_X1_refuse s0 (7 : Int32) v2) fun _ =>
  gh_nn p3 fun a4 =>
  gh_bd (gh_geti a4 5 1) fun v5 =>
  gh_bd (gh_is a1 6) fun _ =>
  gh_bd (f_X10_canHold a1 v5) fun v6 =>
  if v6 = 0 then
  (f_X2_hoist_74 p1 p2 (some a4) (some a1) (1 : Int32))
  else
  (f_X2_hoist_74 p1 p2 (some a4) (some a1) (0 : Int32))
theorem w_X2_hoist_47 {x : gh_C} {g : gh_G} {o : (Int32 ⊕ gh_X) × gh_G} {ls : Array Slot} (C : gh_K x cX2_hoist "GargoyleTower$World" 5 (some .int) "hoist" 9 152 []) (p1 : Int32) (p2 : Int32) (p3 : Option Nat) (p4 : Option Nat) (s0 : Int32) (hl : gh_lv ls 5 [(1, .int p1), (2, .int p2), (3, va_rf p3), (4, va_rf p4)]) (h : gh_run (f_X2_hoist_47 p1 p2 p3 p4 s0) g = some o) (hk : (gh_K0 x gh_rI) o) : gh_Wd x g (F0 (gh_cm x) 47 ls [.int s0]) := by
  unfold f_X2_hoist_47 at h
  refine gr_bipush (pc := 47) (v := (7 : Int32)) C rfl dX2_hoist_47 ?_
  refine gr_aload (pc := 49) (i := 4) C (gl_at hl 3 rfl) dX2_hoist_49 ?_
  rcases p4 with _ | a1
  · exact gh_stk_inv h
  replace h := gh_nn_ss h
  refine gr_getiN (pc := 51) C gh_bX7 (k := 3) (Nat.le_of_ble_eq_true rfl) q1057 (fun _ h => h) dX2_hoist_51 h fun v2 h => ?_
  refine gh_callV (pc := 54) (rest := []) C (k_X1_refuse C.tr s0 (7 : Int32) v2) (Nat.le_of_ble_eq_true rfl) (Nat.le_of_ble_eq_true rfl) (gh_r4 (Nat.le_of_ble_eq_true rfl)) (fun H9 L9 hp9 => gi_SN C q1248 q1249 q75 q1250 mh_X1 np57 rfl hl.1.1 dX2_hoist_54 rfl) h (gh_K0_b _ hk) (fun g h => ?_) (fun e g h => ?_)
  rotate_left
  ·
    exact gh_out C (fun _ h => nomatch h) h hk
  refine gr_aload (pc := 57) (i := 4) C (gl_at hl 3 rfl) dX2_hoist_57 ?_
  refine gr_aload_n (pc := 59) (i := 3) C rfl (gl_at hl 2 rfl) dX2_hoist_59 ?_
  rcases p3 with _ | a4
  · exact gh_stk_inv h
  replace h := gh_nn_ss h
  refine gr_getiN (pc := 60) C gh_bX6 (k := 1) (Nat.le_of_ble_eq_true rfl) q979 (fun _ h => h) dX2_hoist_60 h fun v5 h => ?_
  obtain ⟨⟨fs9, hg9⟩, h⟩ := gh_is_inv h
  refine gh_callI (pc := 63) (rest := []) C (k_X10_canHold C.tr a1 v5) (Nat.le_of_ble_eq_true rfl) (Nat.le_of_ble_eq_true rfl) (gh_r4 (Nat.le_of_ble_eq_true rfl)) (fun H9 L9 hp9 => gi_VD C hp9 hg9 gh_cX7 (dw_4) (dw_1) q884 mh_X10 (by decide +kernel) q886 np2 rfl hl.1.1 dX2_hoist_63 rfl) h (gh_K0_b _ hk) (fun v6 g h => ?_) (fun e g h => ?_)
  rotate_left
  ·
    exact gh_out C (fun _ h => nomatch h) h hk
  refine gr_if_ne (pc := 66) (tgt := 73) C rfl dX2_hoist_66 (fun c9 => ?_) (fun c9 => ?_)
  · replace h := gh_iff h c9
    refine gr_iconst (pc := 73) (v := (0 : Int32)) C rfl dX2_hoist_73 ?_
    exact w_X2_hoist_74 C p1 p2 (some a4) (some a1) (0 : Int32) (gl_sub hl [0, 1, 2, 3] rfl) h hk
  · replace h := gh_ift h c9
    refine gr_iconst (pc := 69) (v := (1 : Int32)) C rfl dX2_hoist_69 ?_
    refine gr_goto (pc := 70) (tgt := 74) C rfl dX2_hoist_70 ?_
    exact w_X2_hoist_74 C p1 p2 (some a4) (some a1) (1 : Int32) (gl_sub hl [0, 1, 2, 3] rfl) h hk

noncomputable def f_X2_hoist_25 (p1 : Int32) (p2 : Int32) (p3 : Option Nat) (p4 : Option Nat) (s0 : Int32) : gh_M Int32 :=
  gh_nn p3 fun a1 =>
  gh_bd (gh_geti a1 5 5) fun v2 =>
  gh_bd (f_X1_refuse s0 (3 : Int32) v2) fun _ =>
  gh_nn p4 fun a4 =>
  gh_bd (gh_geti a4 6 3) fun v5 =>
  if v5 = (-1 : Int32) then
  (f_X2_hoist_47 p1 p2 (some a1) (some a4) (0 : Int32))
  else
  (f_X2_hoist_47 p1 p2 (some a1) (some a4) (1 : Int32))
theorem w_X2_hoist_25 {x : gh_C} {g : gh_G} {o : (Int32 ⊕ gh_X) × gh_G} {ls : Array Slot} (C : gh_K x cX2_hoist "GargoyleTower$World" 5 (some .int) "hoist" 9 152 []) (p1 : Int32) (p2 : Int32) (p3 : Option Nat) (p4 : Option Nat) (s0 : Int32) (hl : gh_lv ls 5 [(1, .int p1), (2, .int p2), (3, va_rf p3), (4, va_rf p4)]) (h : gh_run (f_X2_hoist_25 p1 p2 p3 p4 s0) g = some o) (hk : (gh_K0 x gh_rI) o) : gh_Wd x g (F0 (gh_cm x) 25 ls [.int s0]) := by
  unfold f_X2_hoist_25 at h
  refine gr_iconst (pc := 25) (v := (3 : Int32)) C rfl dX2_hoist_25 ?_
  refine gr_aload_n (pc := 26) (i := 3) C rfl (gl_at hl 2 rfl) dX2_hoist_26 ?_
  rcases p3 with _ | a1
  · exact gh_stk_inv h
  replace h := gh_nn_ss h
  refine gr_getiN (pc := 27) C gh_bX6 (k := 5) (Nat.le_of_ble_eq_true rfl) q990 (fun _ h => h) dX2_hoist_27 h fun v2 h => ?_
  refine gh_callV (pc := 30) (rest := []) C (k_X1_refuse C.tr s0 (3 : Int32) v2) (Nat.le_of_ble_eq_true rfl) (Nat.le_of_ble_eq_true rfl) (gh_r4 (Nat.le_of_ble_eq_true rfl)) (fun H9 L9 hp9 => gi_SN C q1248 q1249 q75 q1250 mh_X1 np57 rfl hl.1.1 dX2_hoist_30 rfl) h (gh_K0_b _ hk) (fun g h => ?_) (fun e g h => ?_)
  rotate_left
  ·
    exact gh_out C (fun _ h => nomatch h) h hk
  refine gr_aload (pc := 33) (i := 4) C (gl_at hl 3 rfl) dX2_hoist_33 ?_
  rcases p4 with _ | a4
  · exact gh_stk_inv h
  replace h := gh_nn_ss h
  refine gr_getiN (pc := 35) C gh_bX7 (k := 3) (Nat.le_of_ble_eq_true rfl) q1057 (fun _ h => h) dX2_hoist_35 h fun v5 h => ?_
  refine gr_iconst (pc := 38) (v := (-1 : Int32)) C rfl dX2_hoist_38 ?_
  refine gr_icmp_eq (pc := 39) (tgt := 46) C rfl dX2_hoist_39 (fun c9 => ?_) (fun c9 => ?_)
  · replace h := gh_ift h c9
    refine gr_iconst (pc := 46) (v := (0 : Int32)) C rfl dX2_hoist_46 ?_
    exact w_X2_hoist_47 C p1 p2 (some a1) (some a4) (0 : Int32) (gl_sub hl [0, 1, 2, 3] rfl) h hk
  · replace h := gh_iff h c9
    refine gr_iconst (pc := 42) (v := (1 : Int32)) C rfl dX2_hoist_42 ?_
    refine gr_goto (pc := 43) (tgt := 47) C rfl dX2_hoist_43 ?_
    exact w_X2_hoist_47 C p1 p2 (some a1) (some a4) (1 : Int32) (gl_sub hl [0, 1, 2, 3] rfl) h hk

noncomputable def f_X2_hoist (t0 : Nat) (p1 : Int32) (p2 : Int32) : gh_M Int32 :=
  gh_bd (gh_is t0 1) fun _ =>
  gh_bd (f_X2_block t0 p1) fun v1 =>
  gh_bd (gh_is t0 1) fun _ =>
  gh_bd (f_X2_rope t0 p2) fun v2 =>
  gh_nn v1 fun a3 =>
  gh_bd (gh_geti a3 5 5) fun v4 =>
  if v4 = 0 then
  (f_X2_hoist_25 p1 p2 (some a3) v2 (0 : Int32))
  else
  (f_X2_hoist_25 p1 p2 (some a3) v2 (1 : Int32))
theorem w_X2_hoist {x : gh_C} {g : gh_G} {o : (Int32 ⊕ gh_X) × gh_G} {ls : Array Slot} (C : gh_K x cX2_hoist "GargoyleTower$World" 5 (some .int) "hoist" 9 152 []) (t0 : Nat) (p1 : Int32) (p2 : Int32) (hl : gh_lv ls 5 [(0, va_rf (some t0)), (1, .int p1), (2, .int p2)]) (h : gh_run (f_X2_hoist t0 p1 p2) g = some o) (hk : (gh_K0 x gh_rI) o) : gh_Wd x g (F0 (gh_cm x) 0 ls []) := by
  unfold f_X2_hoist at h
  refine gr_aload_n (pc := 0) (i := 0) C rfl (gl_at hl 0 rfl) dX2_hoist_0 ?_
  refine gr_iload_n (pc := 1) (i := 1) C rfl (gl_at hl 1 rfl) dX2_hoist_1 ?_
  obtain ⟨⟨fs9, hg9⟩, h⟩ := gh_is_inv h
  refine gh_callQ (pc := 2) (rest := []) C (k_X2_block C.tr t0 p1) (Nat.le_of_ble_eq_true rfl) (Nat.le_of_ble_eq_true rfl) (gh_r4 (Nat.le_of_ble_eq_true rfl)) (fun H9 L9 hp9 => gi_V C hp9 hg9 gh_cX2 q1222 q1223 q1224 q1225 mh_X2 np52 rfl hl.1.1 dX2_hoist_2 rfl) h (gh_K0_b _ hk) (fun v1 g h => ?_) (fun e g h => ?_)
  rotate_left
  ·
    exact gh_out C (fun _ h => nomatch h) h hk
  refine gr_astore_n (pc := 5) (i := 3) (l' := [(3, va_rf v1), (0, va_rf (some t0)), (1, .int p1), (2, .int p2)]) C rfl hl (Nat.le_of_ble_eq_true rfl) rfl dX2_hoist_5 fun ls hl => ?_
  refine gr_aload_n (pc := 6) (i := 0) C rfl (gl_at hl 1 rfl) dX2_hoist_6 ?_
  refine gr_iload_n (pc := 7) (i := 2) C rfl (gl_at hl 3 rfl) dX2_hoist_7 ?_
  obtain ⟨⟨fs9, hg9⟩, h⟩ := gh_is_inv h
  refine gh_callQ (pc := 8) (rest := []) C (k_X2_rope C.tr t0 p2) (Nat.le_of_ble_eq_true rfl) (Nat.le_of_ble_eq_true rfl) (gh_r4 (Nat.le_of_ble_eq_true rfl)) (fun H9 L9 hp9 => gi_V C hp9 hg9 gh_cX2 q1297 q1298 q1299 q1300 mh_X2 np58 rfl hl.1.1 dX2_hoist_8 rfl) h (gh_K0_b _ hk) (fun v2 g h => ?_) (fun e g h => ?_)
  rotate_left
  ·
    exact gh_out C (fun _ h => nomatch h) h hk
  refine gr_astore (pc := 11) (i := 4) (l' := [(4, va_rf v2), (3, va_rf v1), (0, va_rf (some t0)), (1, .int p1), (2, .int p2)]) C hl (Nat.le_of_ble_eq_true rfl) rfl dX2_hoist_11 fun ls hl => ?_
  refine gr_aload_n (pc := 13) (i := 3) C rfl (gl_at hl 1 rfl) dX2_hoist_13 ?_
  rcases v1 with _ | a3
  · exact gh_stk_inv h
  replace h := gh_nn_ss h
  refine gr_getiN (pc := 14) C gh_bX6 (k := 5) (Nat.le_of_ble_eq_true rfl) q990 (fun _ h => h) dX2_hoist_14 h fun v4 h => ?_
  refine gr_if_eq (pc := 17) (tgt := 24) C rfl dX2_hoist_17 (fun c9 => ?_) (fun c9 => ?_)
  · replace h := gh_ift h c9
    refine gr_iconst (pc := 24) (v := (0 : Int32)) C rfl dX2_hoist_24 ?_
    exact w_X2_hoist_25 C p1 p2 (some a3) v2 (0 : Int32) (gl_sub hl [3, 4, 1, 0] rfl) h hk
  · replace h := gh_iff h c9
    refine gr_iconst (pc := 20) (v := (1 : Int32)) C rfl dX2_hoist_20 ?_
    refine gr_goto (pc := 21) (tgt := 25) C rfl dX2_hoist_21 ?_
    exact w_X2_hoist_25 C p1 p2 (some a3) v2 (1 : Int32) (gl_sub hl [3, 4, 1, 0] rfl) h hk

theorem k_X2_hoist {l : Launch} (hst : l.stackTraces = false) (t0 : Nat) (p1 : Int32) (p2 : Int32) : gh_Ct l yX2_hoist 9 168 (f_X2_hoist t0 p1 p2) gh_rI [va_rf (some t0), .int p1, .int p2] := gh_intro2 (L1 := 152) hst (by decide +kernel) q1296 q76 rfl ⟨gh_cat _, rfl, rfl, trivial⟩ (Nat.le_of_ble_eq_true rfl) fun x o ls hl C h hk => w_X2_hoist C t0 p1 p2 hl h hk
-- GargoyleTower$World.lower(I)I
noncomputable def f_X2_lower (t0 : Nat) (p1 : Int32) : gh_M Int32 :=
  gh_bd (gh_is t0 1) fun _ =>
  gh_bd (f_X2_hanging t0 p1) fun v1 =>
  gh_bd (gh_getr t0 1 7) fun v2 =>
  gh_nn v2 fun a3 =>
  gh_bd (gh_is a3 11) fun _ =>
  gh_bd (f_J2_get a3 p1) fun v4 =>
  gh_nn v4 fun a5 =>
  gh_bd (gh_is a5 6) fun _ =>
  gh_bd (gh_putv a5 6 3 .int (.int (-1 : Int32))) fun _ =>
  gh_nn v1 fun a6 =>
  gh_bd (gh_is a6 5) fun _ =>
  gh_bd (f_X6_go a6 (0 : Int32) (-1 : Int32)) fun _ =>
  gh_bd (gh_geti a6 5 0) fun v8 =>
  gh_ret v8
theorem w_X2_lower {x : gh_C} {g : gh_G} {o : (Int32 ⊕ gh_X) × gh_G} {ls : Array Slot} (C : gh_K x cX2_lower "GargoyleTower$World" 3 (some .int) "lower" 10 174 []) (t0 : Nat) (p1 : Int32) (hl : gh_lv ls 3 [(0, va_rf (some t0)), (1, .int p1)]) (h : gh_run (f_X2_lower t0 p1) g = some o) (hk : (gh_K0 x gh_rI) o) : gh_Wd x g (F0 (gh_cm x) 0 ls []) := by
  unfold f_X2_lower at h
  refine gr_aload_n (pc := 0) (i := 0) C rfl (gl_at hl 0 rfl) dX2_lower_0 ?_
  refine gr_iload_n (pc := 1) (i := 1) C rfl (gl_at hl 1 rfl) dX2_lower_1 ?_
  obtain ⟨⟨fs9, hg9⟩, h⟩ := gh_is_inv h
  refine gh_callQ (pc := 2) (rest := []) C (k_X2_hanging C.tr t0 p1) (Nat.le_of_ble_eq_true rfl) (Nat.le_of_ble_eq_true rfl) (gh_r4 (Nat.le_of_ble_eq_true rfl)) (fun H9 L9 hp9 => gi_V C hp9 hg9 gh_cX2 q1309 q1311 qs11 q1312 mh_X2 np52 rfl hl.1.1 dX2_lower_2 rfl) h (gh_K0_b _ hk) (fun v1 g h => ?_) (fun e g h => ?_)
  rotate_left
  ·
    exact gh_out C (fun _ h => nomatch h) h hk
  refine gr_astore_n (pc := 5) (i := 2) (l' := [(2, va_rf v1), (0, va_rf (some t0)), (1, .int p1)]) C rfl hl (Nat.le_of_ble_eq_true rfl) rfl dX2_lower_5 fun ls hl => ?_
  refine gr_aload_n (pc := 6) (i := 0) C rfl (gl_at hl 1 rfl) dX2_lower_6 ?_
  refine gr_getr (pc := 7) C gh_bX2 (k := 7) (Nat.le_of_ble_eq_true rfl) q197 (fun _ h => h) dX2_lower_7 h fun v2 h => ?_
  refine gr_iload_n (pc := 10) (i := 1) C rfl (gl_at hl 2 rfl) dX2_lower_10 ?_
  rcases v2 with _ | a3
  · exact gh_stk_inv h
  replace h := gh_nn_ss h
  obtain ⟨⟨fs9, hg9⟩, h⟩ := gh_is_inv h
  refine gh_callQ (pc := 11) (rest := []) C (k_J2_get C.tr a3 p1) (Nat.le_of_ble_eq_true rfl) (Nat.le_of_ble_eq_true rfl) (gh_r4 (Nat.le_of_ble_eq_true rfl)) (fun H9 L9 hp9 => gi_V C hp9 hg9 gh_cJ2 q1238 q385 q2725 q386 mh_J2 np21 rfl hl.1.1 dX2_lower_11 rfl) h (gh_K0_b _ hk) (fun v4 g h => ?_) (fun e g h => ?_)
  rotate_left
  ·
    exact gh_out C (fun _ h => nomatch h) h hk
  rcases v4 with _ | a5
  · exact gh_stk_inv h
  replace h := gh_nn_ss h
  obtain ⟨⟨fs9, hg9⟩, h⟩ := gh_is_inv h
  refine gr_castY (pc := 14) C gh_cX7 q1042 (Or.inl rfl) dX2_lower_14 hg9 ?_
  refine gr_iconst (pc := 17) (v := (-1 : Int32)) C rfl dX2_lower_17 ?_
  refine gr_putN (pc := 18) C gh_bX7 (k := 3) (Nat.le_of_ble_eq_true rfl) q1057 (fun _ h => h) rfl dX2_lower_18 h fun g h => ?_
  refine gr_aload_n (pc := 21) (i := 2) C rfl (gl_at hl 0 rfl) dX2_lower_21 ?_
  refine gr_iconst (pc := 22) (v := (0 : Int32)) C rfl dX2_lower_22 ?_
  refine gr_iconst (pc := 23) (v := (-1 : Int32)) C rfl dX2_lower_23 ?_
  rcases v1 with _ | a6
  · exact gh_stk_inv h
  replace h := gh_nn_ss h
  obtain ⟨⟨fs9, hg9⟩, h⟩ := gh_is_inv h
  refine gh_callV (pc := 24) (rest := []) C (k_X6_go C.tr a6 (0 : Int32) (-1 : Int32)) (Nat.le_of_ble_eq_true rfl) (Nat.le_of_ble_eq_true rfl) (gh_r4 (Nat.le_of_ble_eq_true rfl)) (fun H9 L9 hp9 => gi_V C hp9 hg9 gh_cX6 q1301 q1302 q1303 q1304 mh_X6 np30 rfl hl.1.1 dX2_lower_24 rfl) h (gh_K0_b _ hk) (fun g h => ?_) (fun e g h => ?_)
  rotate_left
  ·
    exact gh_out C (fun _ h => nomatch h) h hk
  refine gr_aload_n (pc := 27) (i := 2) C rfl (gl_at hl 0 rfl) dX2_lower_27 ?_
  refine gr_getiN (pc := 28) C gh_bX6 (k := 0) (Nat.le_of_ble_eq_true rfl) q977 (fun _ h => h) dX2_lower_28 h fun v8 h => ?_
  exact gr_iret (pc := 31) C dX2_lower_31 h hk

theorem k_X2_lower {l : Launch} (hst : l.stackTraces = false) (t0 : Nat) (p1 : Int32) : gh_Ct l yX2_lower 10 188 (f_X2_lower t0 p1) gh_rI [va_rf (some t0), .int p1] := gh_intro2 (L1 := 174) hst (by decide +kernel) q1308 q76 rfl ⟨gh_cat _, rfl, trivial⟩ (Nat.le_of_ble_eq_true rfl) fun x o ls hl C h hk => w_X2_lower C t0 p1 hl h hk
-- GargoyleTower$World.deliver(II)I
noncomputable def f_X2_deliver (t0 : Nat) (p1 : Int32) (p2 : Int32) : gh_M Int32 :=
  gh_bd (gh_is t0 1) fun _ =>
  gh_bd (f_X2_commission t0 p1) fun v1 =>
  gh_bd (f_X1_checkIndex p2 (20 : Int32)) fun _ =>
  gh_nn v1 fun a3 =>
  gh_bd (gh_is a3 7) fun _ =>
  gh_bd (f_X8_isFulfilled a3) fun v4 =>
  gh_bd (gh_geti a3 7 3) fun v5 =>
  gh_bd (f_X1_refuse v4 (12 : Int32) v5) fun _ =>
  gh_bd (gh_is t0 1) fun _ =>
  gh_bd (f_X2_standing t0 p2) fun v7 =>
  gh_bd (f_X2_fault (some a3) v7) fun v8 =>
  gh_on v8
  (gh_nn v7 fun a10 =>
  gh_bd (gh_geti a10 5 0) fun v11 =>
  gh_bd (gh_putv a3 7 3 .int (.int v11)) fun _ =>
  gh_bd (gh_putv a10 5 7 .int (.int p1)) fun _ =>
  gh_bd (gh_geti t0 1 0) fun v12 =>
  gh_bd (gh_geti a3 7 2) fun v13 =>
  gh_bd (gh_putv t0 1 0 .int (.int (v12 + v13))) fun _ =>
  gh_bd (gh_geti t0 1 0) fun v14 =>
  gh_ret v14)
  (fun b9 => gh_bd (gh_new 8 8 gh_nX9) fun a15 =>
  gh_nn v7 fun a16 =>
  gh_bd (gh_geti a16 5 0) fun v17 =>
  gh_bd (f_X9_init_2 a15 (13 : Int32) v17 (some b9)) fun _ =>
  gh_ath a15 gh_thr)
theorem w_X2_deliver {x : gh_C} {g : gh_G} {o : (Int32 ⊕ gh_X) × gh_G} {ls : Array Slot} (C : gh_K x cX2_deliver "GargoyleTower$World" 6 (some .int) "deliver" 9 157 []) (t0 : Nat) (p1 : Int32) (p2 : Int32) (hl : gh_lv ls 6 [(0, va_rf (some t0)), (1, .int p1), (2, .int p2)]) (h : gh_run (f_X2_deliver t0 p1 p2) g = some o) (hk : (gh_K0 x gh_rI) o) : gh_Wd x g (F0 (gh_cm x) 0 ls []) := by
  unfold f_X2_deliver at h
  refine gr_aload_n (pc := 0) (i := 0) C rfl (gl_at hl 0 rfl) dX2_deliver_0 ?_
  refine gr_iload_n (pc := 1) (i := 1) C rfl (gl_at hl 1 rfl) dX2_deliver_1 ?_
  obtain ⟨⟨fs9, hg9⟩, h⟩ := gh_is_inv h
  refine gh_callQ (pc := 2) (rest := []) C (k_X2_commission C.tr t0 p1) (Nat.le_of_ble_eq_true rfl) (Nat.le_of_ble_eq_true rfl) (gh_r4 (Nat.le_of_ble_eq_true rfl)) (fun H9 L9 hp9 => gi_V C hp9 hg9 gh_cX2 q1326 q1327 q1328 q1329 mh_X2 np61 rfl hl.1.1 dX2_deliver_2 rfl) h (gh_K0_b _ hk) (fun v1 g h => ?_) (fun e g h => ?_)
  rotate_left
  ·
    exact gh_out C (fun _ h => nomatch h) h hk
  refine gr_astore_n (pc := 5) (i := 3) (l' := [(3, va_rf v1), (0, va_rf (some t0)), (1, .int p1), (2, .int p2)]) C rfl hl (Nat.le_of_ble_eq_true rfl) rfl dX2_deliver_5 fun ls hl => ?_
  refine gr_iload_n (pc := 6) (i := 2) C rfl (gl_at hl 3 rfl) dX2_deliver_6 ?_
  refine gr_bipush (pc := 7) (v := (20 : Int32)) C rfl dX2_deliver_7 ?_
  refine gh_callV (pc := 9) (rest := []) C (k_X1_checkIndex C.tr p2 (20 : Int32)) (Nat.le_of_ble_eq_true rfl) (Nat.le_of_ble_eq_true rfl) (gh_r4 (Nat.le_of_ble_eq_true rfl)) (fun H9 L9 hp9 => gi_SN C q1227 q1228 q75 q1229 mh_X1 np30 rfl hl.1.1 dX2_deliver_9 rfl) h (gh_K0_b _ hk) (fun g h => ?_) (fun e g h => ?_)
  rotate_left
  ·
    exact gh_out C (fun _ h => nomatch h) h hk
  refine gr_aload_n (pc := 12) (i := 3) C rfl (gl_at hl 0 rfl) dX2_deliver_12 ?_
  rcases v1 with _ | a3
  · exact gh_stk_inv h
  replace h := gh_nn_ss h
  obtain ⟨⟨fs9, hg9⟩, h⟩ := gh_is_inv h
  refine gh_callI (pc := 13) (rest := []) C (k_X8_isFulfilled C.tr a3) (Nat.le_of_ble_eq_true rfl) (Nat.le_of_ble_eq_true rfl) (gh_r4 (Nat.le_of_ble_eq_true rfl)) (fun H9 L9 hp9 => gi_V C hp9 hg9 gh_cX8 q1330 q864 q865 q866 mh_X8 np7 rfl hl.1.1 dX2_deliver_13 rfl) h (gh_K0_b _ hk) (fun v4 g h => ?_) (fun e g h => ?_)
  rotate_left
  ·
    exact gh_out C (fun _ h => nomatch h) h hk
  refine gr_bipush (pc := 16) (v := (12 : Int32)) C rfl dX2_deliver_16 ?_
  refine gr_aload_n (pc := 18) (i := 3) C rfl (gl_at hl 0 rfl) dX2_deliver_18 ?_
  refine gr_getiN (pc := 19) C gh_bX8 (k := 3) (Nat.le_of_ble_eq_true rfl) q1086 (fun _ h => h) dX2_deliver_19 h fun v5 h => ?_
  refine gh_callV (pc := 22) (rest := []) C (k_X1_refuse C.tr v4 (12 : Int32) v5) (Nat.le_of_ble_eq_true rfl) (Nat.le_of_ble_eq_true rfl) (gh_r4 (Nat.le_of_ble_eq_true rfl)) (fun H9 L9 hp9 => gi_SN C q1248 q1249 q75 q1250 mh_X1 np57 rfl hl.1.1 dX2_deliver_22 rfl) h (gh_K0_b _ hk) (fun g h => ?_) (fun e g h => ?_)
  rotate_left
  ·
    exact gh_out C (fun _ h => nomatch h) h hk
  refine gr_aload_n (pc := 25) (i := 0) C rfl (gl_at hl 1 rfl) dX2_deliver_25 ?_
  refine gr_iload_n (pc := 26) (i := 2) C rfl (gl_at hl 3 rfl) dX2_deliver_26 ?_
  obtain ⟨⟨fs9, hg9⟩, h⟩ := gh_is_inv h
  refine gh_callQ (pc := 27) (rest := []) C (k_X2_standing C.tr t0 p2) (Nat.le_of_ble_eq_true rfl) (Nat.le_of_ble_eq_true rfl) (gh_r4 (Nat.le_of_ble_eq_true rfl)) (fun H9 L9 hp9 => gi_V C hp9 hg9 gh_cX2 q1331 q1333 qs12 q1334 mh_X2 np52 rfl hl.1.1 dX2_deliver_27 rfl) h (gh_K0_b _ hk) (fun v7 g h => ?_) (fun e g h => ?_)
  rotate_left
  ·
    exact gh_out C (fun _ h => nomatch h) h hk
  refine gr_astore (pc := 30) (i := 4) (l' := [(4, va_rf v7), (3, va_rf (some a3)), (0, va_rf (some t0)), (1, .int p1), (2, .int p2)]) C hl (Nat.le_of_ble_eq_true rfl) rfl dX2_deliver_30 fun ls hl => ?_
  refine gr_aload_n (pc := 32) (i := 3) C rfl (gl_at hl 1 rfl) dX2_deliver_32 ?_
  refine gr_aload (pc := 33) (i := 4) C (gl_at hl 0 rfl) dX2_deliver_33 ?_
  refine gh_callQ (pc := 35) (rest := []) C (k_X2_fault C.tr (some a3) v7) (Nat.le_of_ble_eq_true rfl) (Nat.le_of_ble_eq_true rfl) (gh_r4 (Nat.le_of_ble_eq_true rfl)) (fun H9 L9 hp9 => gi_S C q1335 q1336 q76 q1337 mh_X2 np60 rfl hl.1.1 dX2_deliver_35 rfl) h (gh_K0_b _ hk) (fun v8 g h => ?_) (fun e g h => ?_)
  rotate_left
  ·
    exact gh_out C (fun _ h => nomatch h) h hk
  refine gr_astore (pc := 38) (i := 5) (l' := [(5, va_rf v8), (4, va_rf v7), (3, va_rf (some a3)), (0, va_rf (some t0)), (1, .int p1), (2, .int p2)]) C hl (Nat.le_of_ble_eq_true rfl) rfl dX2_deliver_38 fun ls hl => ?_
  refine gr_aload (pc := 40) (i := 5) C (gl_at hl 0 rfl) dX2_deliver_40 ?_
  refine gr_ifnull (pc := 42) (tgt := 62) C rfl dX2_deliver_42 (fun c9 => ?_) (fun b9 c9 => ?_)
  · subst c9
    replace h := gh_on_n h
    refine gr_aload_n (pc := 62) (i := 3) C rfl (gl_at hl 2 rfl) dX2_deliver_62 ?_
    refine gr_aload (pc := 63) (i := 4) C (gl_at hl 1 rfl) dX2_deliver_63 ?_
    rcases v7 with _ | a10
    · exact gh_stk_inv h
    replace h := gh_nn_ss h
    refine gr_getiN (pc := 65) C gh_bX6 (k := 0) (Nat.le_of_ble_eq_true rfl) q977 (fun _ h => h) dX2_deliver_65 h fun v11 h => ?_
    refine gr_putN (pc := 68) C gh_bX8 (k := 3) (Nat.le_of_ble_eq_true rfl) q1086 (fun _ h => h) rfl dX2_deliver_68 h fun g h => ?_
    refine gr_aload (pc := 71) (i := 4) C (gl_at hl 1 rfl) dX2_deliver_71 ?_
    refine gr_iload_n (pc := 73) (i := 1) C rfl (gl_at hl 4 rfl) dX2_deliver_73 ?_
    refine gr_putN (pc := 74) C gh_bX6 (k := 7) (Nat.le_of_ble_eq_true rfl) q997 (fun _ h => h) rfl dX2_deliver_74 h fun g h => ?_
    refine gr_aload_n (pc := 77) (i := 0) C rfl (gl_at hl 3 rfl) dX2_deliver_77 ?_
    refine gr_dup (pc := 78) C (gh_cat _) dX2_deliver_78 ?_
    refine gr_geti (pc := 79) C gh_bX2 (k := 0) (Nat.le_of_ble_eq_true rfl) q183 (fun _ h => h) dX2_deliver_79 h fun v12 h => ?_
    refine gr_aload_n (pc := 82) (i := 3) C rfl (gl_at hl 2 rfl) dX2_deliver_82 ?_
    refine gr_getiN (pc := 83) C gh_bX8 (k := 2) (Nat.le_of_ble_eq_true rfl) q1083 (fun _ h => h) dX2_deliver_83 h fun v13 h => ?_
    refine gr_iadd (pc := 86) C dX2_deliver_86 ?_
    refine gr_putp (pc := 87) C gh_bX2 (k := 0) (Nat.le_of_ble_eq_true rfl) q183 (fun _ h => h) rfl dX2_deliver_87 h fun g h => ?_
    refine gr_aload_n (pc := 90) (i := 0) C rfl (gl_at hl 3 rfl) dX2_deliver_90 ?_
    refine gr_geti (pc := 91) C gh_bX2 (k := 0) (Nat.le_of_ble_eq_true rfl) q183 (fun _ h => h) dX2_deliver_91 h fun v14 h => ?_
    exact gr_iret (pc := 94) C dX2_deliver_94 h hk
  · subst c9
    replace h := gh_on_s h
    refine gr_newo (pc := 45) C gh_bX9 q1338 q1251 q107 gh_dX9 dX2_deliver_45 h (gh_K0_b _ hk) fun a15 g h => ?_
    refine gr_dup (pc := 48) C (gh_cat _) dX2_deliver_48 ?_
    refine gr_bipush (pc := 49) (v := (13 : Int32)) C rfl dX2_deliver_49 ?_
    refine gr_aload (pc := 51) (i := 4) C (gl_at hl 1 rfl) dX2_deliver_51 ?_
    rcases v7 with _ | a16
    · exact gh_stk_inv h
    replace h := gh_nn_ss h
    refine gr_getiN (pc := 53) C gh_bX6 (k := 0) (Nat.le_of_ble_eq_true rfl) q977 (fun _ h => h) dX2_deliver_53 h fun v17 h => ?_
    refine gr_aload (pc := 56) (i := 5) C (gl_at hl 0 rfl) dX2_deliver_56 ?_
    refine gh_callV (pc := 58) (rest := [va_rf (some a15)]) C (k_X9_init_2 C.tr a15 (13 : Int32) v17 (some b9)) (Nat.le_of_ble_eq_true rfl) (Nat.le_of_ble_eq_true rfl) (gh_r4 (Nat.le_of_ble_eq_true rfl)) (fun H9 L9 hp9 => gi_I C q1340 rfl q1263 q1264 mh_X9 np56 rfl hl.1.1 dX2_deliver_58 rfl) h (gh_K0_b _ hk) (fun g h => ?_) (fun e g h => ?_)
    rotate_left
    ·
      exact gh_out C (fun _ h => nomatch h) h hk
    refine gr_ath (pc := 61) C dX2_deliver_61 h fun c8 h => ?_
    obtain ⟨e, he⟩ : ∃ e : gh_X, e = (c8, a15) := ⟨_, rfl⟩
    rw [← he] at h ⊢
    clear he
    exact gh_out C (fun _ h => nomatch h) h hk

theorem k_X2_deliver {l : Launch} (hst : l.stackTraces = false) (t0 : Nat) (p1 : Int32) (p2 : Int32) : gh_Ct l yX2_deliver 9 174 (f_X2_deliver t0 p1 p2) gh_rI [va_rf (some t0), .int p1, .int p2] := gh_intro2 (L1 := 157) hst (by decide +kernel) q1325 q76 rfl ⟨gh_cat _, rfl, rfl, trivial⟩ (Nat.le_of_ble_eq_true rfl) fun x o ls hl C h hk => w_X2_deliver C t0 p1 p2 hl h hk
-- GargoyleTower$World.rain()I
def gp_X2_rain_32 (x : gh_C) (t0 : Nat) (u32_1 : Int32) (u32_2 : Int32) (u32_3 : Option Nat) (st : Unit) (g : gh_G) : Prop := ∀ ls : Array Slot, gh_lv ls 6 [(0, va_rf (some t0)), (1, .int u32_1), (2, .int u32_2), (3, va_rf u32_3)] → gh_Wd x g (F0 (gh_cm x) 32 ls [])
def gp_X2_rain_96 (x : gh_C) (t0 : Nat) (u96_1 : Int32) (st : Int32 × Int32) (g : gh_G) : Prop := ∀ ls : Array Slot, gh_lv ls 6 [(0, va_rf (some t0)), (1, .int u96_1), (3, .int st.1), (4, .int st.2)] → gh_Wd x g (F0 (gh_cm x) 96 ls [])
noncomputable def f_X2_rain_137 (t0 : Nat) (u96_1 : Int32) (p4 : Int32) (s0 : Int32) (s1 : Int32) : gh_M ((Int32 × Int32) ⊕ Int32) :=
  gh_ret (.inl (s0 + s1, p4 + (-1 : Int32)))
theorem w_X2_rain_137 {x : gh_C} {g : gh_G} {o : (((Int32 × Int32) ⊕ Int32) ⊕ gh_X) × gh_G} {ls : Array Slot} (C : gh_K x cX2_rain "GargoyleTower$World" 6 (some .int) "rain" 49 1048 []) (t0 : Nat) (u96_1 : Int32) (p4 : Int32) (s0 : Int32) (s1 : Int32) (hl : gh_lv ls 6 [(0, va_rf (some t0)), (1, .int u96_1), (4, .int p4)]) (h : gh_run (f_X2_rain_137 t0 u96_1 p4 s0 s1) g = some o) (hk : (gh_K1 x (gh_K0 x gh_rI) (gp_X2_rain_96 x t0 u96_1)) o) : gh_Wd x g (F0 (gh_cm x) 137 ls [.int s1, .int s0]) := by
  unfold f_X2_rain_137 at h
  refine gr_iadd (pc := 137) C dX2_rain_137 ?_
  refine gr_istore_n (pc := 138) (i := 3) (l' := [(3, .int (s0 + s1)), (0, va_rf (some t0)), (1, .int u96_1), (4, .int p4)]) C rfl hl (Nat.le_of_ble_eq_true rfl) rfl dX2_rain_138 fun ls hl => ?_
  refine gr_iinc (pc := 139) (i := 4) (z := 3) (v := p4 + (-1 : Int32)) (l' := [(4, .int (p4 + (-1 : Int32))), (3, .int (s0 + s1)), (0, va_rf (some t0)), (1, .int u96_1)]) C hl rfl (congrArg (fun z9 => p4 + z9) (rfl : Int32.ofInt (-1) = (-1 : Int32))) (Nat.le_of_ble_eq_true rfl) rfl dX2_rain_139 fun ls hl => ?_
  refine gr_goto (pc := 142) (tgt := 96) C rfl dX2_rain_142 ?_
  exact gh_K1_in h hk ls (gl_sub hl [2, 3, 1, 0] rfl)

noncomputable def f_X2_rain_136 (t0 : Nat) (u96_1 : Int32) (p4 : Int32) (s0 : Int32) : gh_M ((Int32 × Int32) ⊕ Int32) :=
  f_X2_rain_137 t0 u96_1 p4 s0 (0 : Int32)
theorem w_X2_rain_136 {x : gh_C} {g : gh_G} {o : (((Int32 × Int32) ⊕ Int32) ⊕ gh_X) × gh_G} {ls : Array Slot} (C : gh_K x cX2_rain "GargoyleTower$World" 6 (some .int) "rain" 49 1048 []) (t0 : Nat) (u96_1 : Int32) (p4 : Int32) (s0 : Int32) (hl : gh_lv ls 6 [(0, va_rf (some t0)), (1, .int u96_1), (4, .int p4)]) (h : gh_run (f_X2_rain_136 t0 u96_1 p4 s0) g = some o) (hk : (gh_K1 x (gh_K0 x gh_rI) (gp_X2_rain_96 x t0 u96_1)) o) : gh_Wd x g (F0 (gh_cm x) 136 ls [.int s0]) := by
  unfold f_X2_rain_136 at h
  refine gr_iconst (pc := 136) (v := (0 : Int32)) C rfl dX2_rain_136 ?_
  exact w_X2_rain_137 C t0 u96_1 p4 s0 (0 : Int32) (gl_sub hl [0, 1, 2] rfl) h hk

noncomputable def f_X2_rain_96_l (t0 : Nat) (u96_1 : Int32) (p3 : Int32) (p4 : Int32) : gh_M ((Int32 × Int32) ⊕ Int32) :=
  if p4 < 0 then
  (gh_up (gh_ret p3))
  else
  (gh_bd (gh_is t0 1) fun _ =>
  gh_bd (f_X2_blockIn t0 (((5 : Int32) * u96_1) + p4)) fun v1 =>
  gh_on v1
  (f_X2_rain_136 t0 u96_1 p4 p3)
  (fun b2 => gh_bd (gh_is b2 5) fun _ =>
  gh_bd (f_X11_isLoose b2) fun v3 =>
  if v3 = 0 then
  (f_X2_rain_136 t0 u96_1 p4 p3)
  else
  (gh_bd (gh_is t0 1) fun _ =>
  gh_bd (f_X2_fall 8 t0 (some b2)) fun v4 =>
  f_X2_rain_137 t0 u96_1 p4 p3 v4)))
theorem w_X2_rain_96_l {x : gh_C} {g : gh_G} {o : (((Int32 × Int32) ⊕ Int32) ⊕ gh_X) × gh_G} {ls : Array Slot} (C : gh_K x cX2_rain "GargoyleTower$World" 6 (some .int) "rain" 49 1048 []) (t0 : Nat) (u96_1 : Int32) (p3 : Int32) (p4 : Int32) (hl : gh_lv ls 6 [(0, va_rf (some t0)), (1, .int u96_1), (3, .int p3), (4, .int p4)]) (h : gh_run (f_X2_rain_96_l t0 u96_1 p3 p4) g = some o) (hk : (gh_K1 x (gh_K0 x gh_rI) (gp_X2_rain_96 x t0 u96_1)) o) : gh_Wd x g (F0 (gh_cm x) 96 ls []) := by
  unfold f_X2_rain_96_l at h
  refine gr_iload (pc := 96) (i := 4) C (gl_at hl 3 rfl) dX2_rain_96 ?_
  refine gr_if_lt (pc := 98) (tgt := 145) C rfl dX2_rain_98 (fun c9 => ?_) (fun c9 => ?_)
  · replace h := gh_ift h c9
    refine gr_iload_n (pc := 145) (i := 3) C rfl (gl_at hl 2 rfl) dX2_rain_145 ?_
    obtain ⟨o, h, hk⟩ := gh_K1_up h hk
    exact gr_iret (pc := 146) C dX2_rain_146 h hk
  · replace h := gh_iff h c9
    refine gr_aload_n (pc := 101) (i := 0) C rfl (gl_at hl 0 rfl) dX2_rain_101 ?_
    refine gr_iconst (pc := 102) (v := (5 : Int32)) C rfl dX2_rain_102 ?_
    refine gr_iload_n (pc := 103) (i := 1) C rfl (gl_at hl 1 rfl) dX2_rain_103 ?_
    refine gr_imul (pc := 104) C dX2_rain_104 ?_
    refine gr_iload (pc := 105) (i := 4) C (gl_at hl 3 rfl) dX2_rain_105 ?_
    refine gr_iadd (pc := 107) C dX2_rain_107 ?_
    obtain ⟨⟨fs9, hg9⟩, h⟩ := gh_is_inv h
    refine gh_callQ (pc := 108) (rest := []) C (k_X2_blockIn C.tr t0 (((5 : Int32) * u96_1) + p4)) (Nat.le_of_ble_eq_true rfl) (Nat.le_of_ble_eq_true rfl) (gh_r4 (Nat.le_of_ble_eq_true rfl)) (fun H9 L9 hp9 => gi_V C hp9 hg9 gh_cX2 q1317 q948 q949 q950 mh_X2 np52 rfl hl.1.1 dX2_rain_108 rfl) h ((gh_K1_b gh_K0_b) _ hk) (fun v1 g h => ?_) (fun e g h => ?_)
    rotate_left
    ·
      obtain ⟨o, h, hk⟩ := gh_K1_thr h hk
      exact gh_out C (fun _ h => nomatch h) h hk
    refine gr_astore (pc := 111) (i := 5) (l' := [(5, va_rf v1), (0, va_rf (some t0)), (1, .int u96_1), (3, .int p3), (4, .int p4)]) C hl (Nat.le_of_ble_eq_true rfl) rfl dX2_rain_111 fun ls hl => ?_
    refine gr_iload_n (pc := 113) (i := 3) C rfl (gl_at hl 3 rfl) dX2_rain_113 ?_
    refine gr_aload (pc := 114) (i := 5) C (gl_at hl 0 rfl) dX2_rain_114 ?_
    refine gr_ifnull (pc := 116) (tgt := 136) C rfl dX2_rain_116 (fun c9 => ?_) (fun b2 c9 => ?_)
    · subst c9
      replace h := gh_on_n h
      exact w_X2_rain_136 C t0 u96_1 p4 p3 (gl_sub hl [1, 2, 4] rfl) h hk
    · subst c9
      replace h := gh_on_s h
      refine gr_aload (pc := 119) (i := 5) C (gl_at hl 0 rfl) dX2_rain_119 ?_
      obtain ⟨⟨fs9, hg9⟩, h⟩ := gh_is_inv h
      refine gh_callI (pc := 121) (rest := [.int p3]) C (k_X11_isLoose C.tr b2) (Nat.le_of_ble_eq_true rfl) (Nat.le_of_ble_eq_true rfl) (gh_r4 (Nat.le_of_ble_eq_true rfl)) (fun H9 L9 hp9 => gi_VD C hp9 hg9 gh_cX6 (dw_9) (dw_3) q929 mh_X11 (by decide +kernel) q931 np7 rfl hl.1.1 dX2_rain_121 rfl) h ((gh_K1_b gh_K0_b) _ hk) (fun v3 g h => ?_) (fun e g h => ?_)
      rotate_left
      ·
        obtain ⟨o, h, hk⟩ := gh_K1_thr h hk
        exact gh_out C (fun _ h => nomatch h) h hk
      refine gr_if_eq (pc := 124) (tgt := 136) C rfl dX2_rain_124 (fun c9 => ?_) (fun c9 => ?_)
      · replace h := gh_ift h c9
        exact w_X2_rain_136 C t0 u96_1 p4 p3 (gl_sub hl [1, 2, 4] rfl) h hk
      · replace h := gh_iff h c9
        refine gr_aload_n (pc := 127) (i := 0) C rfl (gl_at hl 1 rfl) dX2_rain_127 ?_
        refine gr_aload (pc := 128) (i := 5) C (gl_at hl 0 rfl) dX2_rain_128 ?_
        obtain ⟨⟨fs9, hg9⟩, h⟩ := gh_is_inv h
        refine gh_callI (pc := 130) (rest := [.int p3]) C (k_X2_fall C.tr t0 (some b2)) (Nat.le_of_ble_eq_true rfl) (Nat.le_of_ble_eq_true rfl) (gh_r4 (Nat.le_of_ble_eq_true rfl)) (fun H9 L9 hp9 => gi_V C hp9 hg9 gh_cX2 q1365 q1366 q1367 q1368 mh_X2 np59 rfl hl.1.1 dX2_rain_130 rfl) h ((gh_K1_b gh_K0_b) _ hk) (fun v4 g h => ?_) (fun e g h => ?_)
        rotate_left
        ·
          obtain ⟨o, h, hk⟩ := gh_K1_thr h hk
          exact gh_out C (fun _ h => nomatch h) h hk
        refine gr_goto (pc := 133) (tgt := 137) C rfl dX2_rain_133 ?_
        exact w_X2_rain_137 C t0 u96_1 p4 p3 v4 (gl_sub hl [1, 2, 4] rfl) h hk

noncomputable def f_X2_rain_96 (t0 : Nat) (p1 : Int32) (p3 : Int32) (p4 : Int32) : gh_M Int32 := gh_it (fun st : Int32 × Int32 => f_X2_rain_96_l t0 p1 st.1 st.2) (p3, p4)
theorem w_X2_rain_96 {x : gh_C} {g : gh_G} {o : (Int32 ⊕ gh_X) × gh_G} {ls : Array Slot} (C : gh_K x cX2_rain "GargoyleTower$World" 6 (some .int) "rain" 49 1048 []) (t0 : Nat) (p1 : Int32) (p3 : Int32) (p4 : Int32) (hl : gh_lv ls 6 [(0, va_rf (some t0)), (1, .int p1), (3, .int p3), (4, .int p4)]) (h : gh_run (f_X2_rain_96 t0 p1 p3 p4) g = some o) (hk : (gh_K0 x gh_rI) o) : gh_Wd x g (F0 (gh_cm x) 96 ls []) := by
  unfold f_X2_rain_96 at h
  exact gh_loop gh_K0_b (fun st : Int32 × Int32 => f_X2_rain_96_l t0 p1 st.1 st.2) (gp_X2_rain_96 x t0 p1) (fun st g o h hk ls hl => w_X2_rain_96_l C t0 p1 st.1 st.2 hl h hk) _ g o h hk ls hl
noncomputable def f_X2_rain_88 (t0 : Nat) (u32_1 : Int32) (u32_2 : Int32) (u32_3 : Option Nat) : gh_M ((Unit) ⊕ Int32) :=
  gh_ret (.inl ())
theorem w_X2_rain_88 {x : gh_C} {g : gh_G} {o : (((Unit) ⊕ Int32) ⊕ gh_X) × gh_G} {ls : Array Slot} (C : gh_K x cX2_rain "GargoyleTower$World" 6 (some .int) "rain" 49 1048 []) (t0 : Nat) (u32_1 : Int32) (u32_2 : Int32) (u32_3 : Option Nat) (hl : gh_lv ls 6 [(0, va_rf (some t0)), (1, .int u32_1), (2, .int u32_2), (3, va_rf u32_3)]) (h : gh_run (f_X2_rain_88 t0 u32_1 u32_2 u32_3) g = some o) (hk : (gh_K1 x (gh_K0 x gh_rI) (gp_X2_rain_32 x t0 u32_1 u32_2 u32_3)) o) : gh_Wd x g (F0 (gh_cm x) 88 ls []) := by
  unfold f_X2_rain_88 at h
  refine gr_goto (pc := 88) (tgt := 32) C rfl dX2_rain_88 ?_
  exact gh_K1_in h hk ls (gl_sub hl [0, 1, 2, 3] rfl)

noncomputable def f_X2_rain_32_l (t0 : Nat) (u32_1 : Int32) (u32_2 : Int32) (u32_3 : Option Nat) : gh_M ((Unit) ⊕ Int32) :=
  gh_nn u32_3 fun a1 =>
  gh_bd (gh_is a1 15) fun _ =>
  gh_bd (f_J8_hasNext a1) fun v2 =>
  if v2 = 0 then
  (gh_up (f_X2_rain_96 t0 u32_1 (0 : Int32) (4 : Int32)))
  else
  (gh_bd (gh_is a1 15) fun _ =>
  gh_bd (f_J8_next a1) fun v3 =>
  gh_nn v3 fun a4 =>
  gh_bd (gh_is a4 5) fun _ =>
  gh_bd (gh_geti a4 5 5) fun v5 =>
  if v5 = (2 : Int32) then
  (gh_bd (gh_geti a4 5 6) fun v6 =>
  if (v6 / (5 : Int32)) = u32_1 then
  (gh_bd (gh_geti a4 5 4) fun v7 =>
  gh_bd (gh_is a4 5) fun _ =>
  gh_bd (f_X6_times a4 u32_2) fun v8 =>
  gh_bd (gh_putv a4 5 4 .int (.int (v7 + v8))) fun _ =>
  f_X2_rain_88 t0 u32_1 u32_2 (some a1))
  else
  (f_X2_rain_88 t0 u32_1 u32_2 (some a1)))
  else
  (f_X2_rain_88 t0 u32_1 u32_2 (some a1)))
theorem w_X2_rain_32_l {x : gh_C} {g : gh_G} {o : (((Unit) ⊕ Int32) ⊕ gh_X) × gh_G} {ls : Array Slot} (C : gh_K x cX2_rain "GargoyleTower$World" 6 (some .int) "rain" 49 1048 []) (t0 : Nat) (u32_1 : Int32) (u32_2 : Int32) (u32_3 : Option Nat) (hl : gh_lv ls 6 [(0, va_rf (some t0)), (1, .int u32_1), (2, .int u32_2), (3, va_rf u32_3)]) (h : gh_run (f_X2_rain_32_l t0 u32_1 u32_2 u32_3) g = some o) (hk : (gh_K1 x (gh_K0 x gh_rI) (gp_X2_rain_32 x t0 u32_1 u32_2 u32_3)) o) : gh_Wd x g (F0 (gh_cm x) 32 ls []) := by
  unfold f_X2_rain_32_l at h
  refine gr_aload_n (pc := 32) (i := 3) C rfl (gl_at hl 3 rfl) dX2_rain_32 ?_
  rcases u32_3 with _ | a1
  · exact gh_stk_inv h
  replace h := gh_nn_ss h
  obtain ⟨⟨fs9, hg9⟩, h⟩ := gh_is_inv h
  refine gh_callI (pc := 33) (rest := []) C (k_J8_hasNext C.tr a1) (Nat.le_of_ble_eq_true rfl) (Nat.le_of_ble_eq_true rfl) (gh_r4 (Nat.le_of_ble_eq_true rfl)) (fun H9 L9 hp9 => gi_F C hp9 hg9 gh_cJ8 q953 q336 (by decide +kernel) q353 q355 q356 q354 q352 q357 mh_java_util_Iterator np7 rfl hl.1.1 dX2_rain_33 rfl) h ((gh_K1_b gh_K0_b) _ hk) (fun v2 g h => ?_) (fun e g h => ?_)
  rotate_left
  ·
    obtain ⟨o, h, hk⟩ := gh_K1_thr h hk
    exact gh_out C (fun _ h => nomatch h) h hk
  refine gr_if_eq (pc := 38) (tgt := 91) C rfl dX2_rain_38 (fun c9 => ?_) (fun c9 => ?_)
  · replace h := gh_ift h c9
    refine gr_iconst (pc := 91) (v := (0 : Int32)) C rfl dX2_rain_91 ?_
    refine gr_istore_n (pc := 92) (i := 3) (l' := [(3, .int (0 : Int32)), (0, va_rf (some t0)), (1, .int u32_1), (2, .int u32_2)]) C rfl hl (Nat.le_of_ble_eq_true rfl) rfl dX2_rain_92 fun ls hl => ?_
    refine gr_iconst (pc := 93) (v := (4 : Int32)) C rfl dX2_rain_93 ?_
    refine gr_istore (pc := 94) (i := 4) (l' := [(4, .int (4 : Int32)), (3, .int (0 : Int32)), (0, va_rf (some t0)), (1, .int u32_1), (2, .int u32_2)]) C hl (Nat.le_of_ble_eq_true rfl) rfl dX2_rain_94 fun ls hl => ?_
    obtain ⟨o, h, hk⟩ := gh_K1_up h hk
    exact w_X2_rain_96 C t0 u32_1 (0 : Int32) (4 : Int32) (gl_sub hl [2, 3, 1, 0] rfl) h hk
  · replace h := gh_iff h c9
    refine gr_aload_n (pc := 41) (i := 3) C rfl (gl_at hl 3 rfl) dX2_rain_41 ?_
    obtain ⟨⟨fs9, hg9⟩, h⟩ := gh_is_inv h
    refine gh_callQ (pc := 42) (rest := []) C (k_J8_next C.tr a1) (Nat.le_of_ble_eq_true rfl) (Nat.le_of_ble_eq_true rfl) (gh_r4 (Nat.le_of_ble_eq_true rfl)) (fun H9 L9 hp9 => gi_F C hp9 hg9 gh_cJ8 q955 q370 (by decide +kernel) q826 q828 q829 q827 q352 q830 mh_java_util_Iterator np23 rfl hl.1.1 dX2_rain_42 rfl) h ((gh_K1_b gh_K0_b) _ hk) (fun v3 g h => ?_) (fun e g h => ?_)
    rotate_left
    ·
      obtain ⟨o, h, hk⟩ := gh_K1_thr h hk
      exact gh_out C (fun _ h => nomatch h) h hk
    rcases v3 with _ | a4
    · exact gh_stk_inv h
    replace h := gh_nn_ss h
    obtain ⟨⟨fs9, hg9⟩, h⟩ := gh_is_inv h
    refine gr_castY (pc := 47) C gh_cX6 q956 (Or.inl rfl) dX2_rain_47 hg9 ?_
    refine gr_astore (pc := 50) (i := 4) (l' := [(4, va_rf (some a4)), (0, va_rf (some t0)), (1, .int u32_1), (2, .int u32_2), (3, va_rf (some a1))]) C hl (Nat.le_of_ble_eq_true rfl) rfl dX2_rain_50 fun ls hl => ?_
    refine gr_aload (pc := 52) (i := 4) C (gl_at hl 0 rfl) dX2_rain_52 ?_
    refine gr_getiN (pc := 54) C gh_bX6 (k := 5) (Nat.le_of_ble_eq_true rfl) q990 (fun _ h => h) dX2_rain_54 h fun v5 h => ?_
    refine gr_iconst (pc := 57) (v := (2 : Int32)) C rfl dX2_rain_57 ?_
    refine gr_icmp_ne (pc := 58) (tgt := 88) C rfl dX2_rain_58 (fun c9 => ?_) (fun c9 => ?_)
    · replace h := gh_iff h c9
      exact w_X2_rain_88 C t0 u32_1 u32_2 (some a1) (gl_sub hl [1, 2, 3, 4] rfl) h hk
    · replace h := gh_ift h c9
      refine gr_aload (pc := 61) (i := 4) C (gl_at hl 0 rfl) dX2_rain_61 ?_
      refine gr_getiN (pc := 63) C gh_bX6 (k := 6) (Nat.le_of_ble_eq_true rfl) q993 (fun _ h => h) dX2_rain_63 h fun v6 h => ?_
      refine gr_iconst (pc := 66) (v := (5 : Int32)) C rfl dX2_rain_66 ?_
      refine gr_idiv (pc := 67) C (by decide) dX2_rain_67 ?_
      refine gr_iload_n (pc := 68) (i := 1) C rfl (gl_at hl 2 rfl) dX2_rain_68 ?_
      refine gr_icmp_ne (pc := 69) (tgt := 88) C rfl dX2_rain_69 (fun c9 => ?_) (fun c9 => ?_)
      · replace h := gh_iff h c9
        exact w_X2_rain_88 C t0 u32_1 u32_2 (some a1) (gl_sub hl [1, 2, 3, 4] rfl) h hk
      · replace h := gh_ift h c9
        refine gr_aload (pc := 72) (i := 4) C (gl_at hl 0 rfl) dX2_rain_72 ?_
        refine gr_dup (pc := 74) C (gh_cat _) dX2_rain_74 ?_
        refine gr_getiN (pc := 75) C gh_bX6 (k := 4) (Nat.le_of_ble_eq_true rfl) q987 (fun _ h => h) dX2_rain_75 h fun v7 h => ?_
        refine gr_aload (pc := 78) (i := 4) C (gl_at hl 0 rfl) dX2_rain_78 ?_
        refine gr_iload_n (pc := 80) (i := 2) C rfl (gl_at hl 3 rfl) dX2_rain_80 ?_
        obtain ⟨⟨fs9, hg9⟩, h⟩ := gh_is_inv h
        refine gh_callI (pc := 81) (rest := [.int v7, va_rf (some a4)]) C (k_X6_times C.tr a4 u32_2) (Nat.le_of_ble_eq_true rfl) (Nat.le_of_ble_eq_true rfl) (gh_r4 (Nat.le_of_ble_eq_true rfl)) (fun H9 L9 hp9 => gi_V C hp9 hg9 gh_cX6 q1281 q1282 q1283 q1284 mh_X6 np6 rfl hl.1.1 dX2_rain_81 rfl) h ((gh_K1_b gh_K0_b) _ hk) (fun v8 g h => ?_) (fun e g h => ?_)
        rotate_left
        ·
          obtain ⟨o, h, hk⟩ := gh_K1_thr h hk
          exact gh_out C (fun _ h => nomatch h) h hk
        refine gr_iadd (pc := 84) C dX2_rain_84 ?_
        refine gr_putN (pc := 85) C gh_bX6 (k := 4) (Nat.le_of_ble_eq_true rfl) q987 (fun _ h => h) rfl dX2_rain_85 h fun g h => ?_
        exact w_X2_rain_88 C t0 u32_1 u32_2 (some a1) (gl_sub hl [1, 2, 3, 4] rfl) h hk

noncomputable def f_X2_rain_32 (t0 : Nat) (p1 : Int32) (p2 : Int32) (p3 : Option Nat) : gh_M Int32 := gh_it (fun st : Unit => f_X2_rain_32_l t0 p1 p2 p3) ()
theorem w_X2_rain_32 {x : gh_C} {g : gh_G} {o : (Int32 ⊕ gh_X) × gh_G} {ls : Array Slot} (C : gh_K x cX2_rain "GargoyleTower$World" 6 (some .int) "rain" 49 1048 []) (t0 : Nat) (p1 : Int32) (p2 : Int32) (p3 : Option Nat) (hl : gh_lv ls 6 [(0, va_rf (some t0)), (1, .int p1), (2, .int p2), (3, va_rf p3)]) (h : gh_run (f_X2_rain_32 t0 p1 p2 p3) g = some o) (hk : (gh_K0 x gh_rI) o) : gh_Wd x g (F0 (gh_cm x) 32 ls []) := by
  unfold f_X2_rain_32 at h
  exact gh_loop gh_K0_b (fun st : Unit => f_X2_rain_32_l t0 p1 p2 p3) (gp_X2_rain_32 x t0 p1 p2 p3) (fun st g o h hk ls hl => w_X2_rain_32_l C t0 p1 p2 p3 hl h hk) _ g o h hk ls hl
noncomputable def f_X2_rain_23 (t0 : Nat) (p1 : Int32) (s0 : Int32) : gh_M Int32 :=
  gh_bd (gh_getr t0 1 6) fun v1 =>
  gh_nn v1 fun a2 =>
  gh_bd (gh_is a2 11) fun _ =>
  gh_bd (f_J2_iterator a2) fun v3 =>
  f_X2_rain_32 t0 p1 s0 v3
theorem w_X2_rain_23 {x : gh_C} {g : gh_G} {o : (Int32 ⊕ gh_X) × gh_G} {ls : Array Slot} (C : gh_K x cX2_rain "GargoyleTower$World" 6 (some .int) "rain" 49 1048 []) (t0 : Nat) (p1 : Int32) (s0 : Int32) (hl : gh_lv ls 6 [(0, va_rf (some t0)), (1, .int p1)]) (h : gh_run (f_X2_rain_23 t0 p1 s0) g = some o) (hk : (gh_K0 x gh_rI) o) : gh_Wd x g (F0 (gh_cm x) 23 ls [.int s0]) := by
  unfold f_X2_rain_23 at h
  refine gr_istore_n (pc := 23) (i := 2) (l' := [(2, .int s0), (0, va_rf (some t0)), (1, .int p1)]) C rfl hl (Nat.le_of_ble_eq_true rfl) rfl dX2_rain_23 fun ls hl => ?_
  refine gr_aload_n (pc := 24) (i := 0) C rfl (gl_at hl 1 rfl) dX2_rain_24 ?_
  refine gr_getr (pc := 25) C gh_bX2 (k := 6) (Nat.le_of_ble_eq_true rfl) q195 (fun _ h => h) dX2_rain_25 h fun v1 h => ?_
  rcases v1 with _ | a2
  · exact gh_stk_inv h
  replace h := gh_nn_ss h
  obtain ⟨⟨fs9, hg9⟩, h⟩ := gh_is_inv h
  refine gh_callQ (pc := 28) (rest := []) C (k_J2_iterator C.tr a2) (Nat.le_of_ble_eq_true rfl) (Nat.le_of_ble_eq_true rfl) (gh_r4 (Nat.le_of_ble_eq_true rfl)) (fun H9 L9 hp9 => gi_V C hp9 hg9 gh_cJ2 q951 q309 q310 q311 mh_J2 np46 rfl hl.1.1 dX2_rain_28 rfl) h (gh_K0_b _ hk) (fun v3 g h => ?_) (fun e g h => ?_)
  rotate_left
  ·
    exact gh_out C (fun _ h => nomatch h) h hk
  refine gr_astore_n (pc := 31) (i := 3) (l' := [(3, va_rf v3), (2, .int s0), (0, va_rf (some t0)), (1, .int p1)]) C rfl hl (Nat.le_of_ble_eq_true rfl) rfl dX2_rain_31 fun ls hl => ?_
  exact w_X2_rain_32 C t0 p1 s0 v3 (gl_sub hl [2, 3, 1, 0] rfl) h hk

noncomputable def f_X2_rain (t0 : Nat) : gh_M Int32 :=
  gh_bd (gh_getr t0 1 5) fun v1 =>
  gh_nn v1 fun a2 =>
  gh_bd (gh_is a2 2) fun _ =>
  gh_bd (f_X3_face a2) fun v3 =>
  gh_bd (gh_getr t0 1 5) fun v4 =>
  gh_nn v4 fun a5 =>
  gh_bd (gh_is a5 2) fun _ =>
  gh_bd (f_X3_isStorm a5) fun v6 =>
  if v6 = 0 then
  (f_X2_rain_23 t0 v3 (1 : Int32))
  else
  (f_X2_rain_23 t0 v3 (2 : Int32))
theorem w_X2_rain {x : gh_C} {g : gh_G} {o : (Int32 ⊕ gh_X) × gh_G} {ls : Array Slot} (C : gh_K x cX2_rain "GargoyleTower$World" 6 (some .int) "rain" 49 1048 []) (t0 : Nat) (hl : gh_lv ls 6 [(0, va_rf (some t0))]) (h : gh_run (f_X2_rain t0) g = some o) (hk : (gh_K0 x gh_rI) o) : gh_Wd x g (F0 (gh_cm x) 0 ls []) := by
  unfold f_X2_rain at h
  refine gr_aload_n (pc := 0) (i := 0) C rfl (gl_at hl 0 rfl) dX2_rain_0 ?_
  refine gr_getr (pc := 1) C gh_bX2 (k := 5) (Nat.le_of_ble_eq_true rfl) q193 (fun _ h => h) dX2_rain_1 h fun v1 h => ?_
  rcases v1 with _ | a2
  · exact gh_stk_inv h
  replace h := gh_nn_ss h
  obtain ⟨⟨fs9, hg9⟩, h⟩ := gh_is_inv h
  refine gh_callI (pc := 4) (rest := []) C (k_X3_face C.tr a2) (Nat.le_of_ble_eq_true rfl) (Nat.le_of_ble_eq_true rfl) (gh_r4 (Nat.le_of_ble_eq_true rfl)) (fun H9 L9 hp9 => gi_V C hp9 hg9 gh_cX3 q1361 q1362 q1363 q1364 mh_X3 np0 rfl hl.1.1 dX2_rain_4 rfl) h (gh_K0_b _ hk) (fun v3 g h => ?_) (fun e g h => ?_)
  rotate_left
  ·
    exact gh_out C (fun _ h => nomatch h) h hk
  refine gr_istore_n (pc := 7) (i := 1) (l' := [(1, .int v3), (0, va_rf (some t0))]) C rfl hl (Nat.le_of_ble_eq_true rfl) rfl dX2_rain_7 fun ls hl => ?_
  refine gr_aload_n (pc := 8) (i := 0) C rfl (gl_at hl 1 rfl) dX2_rain_8 ?_
  refine gr_getr (pc := 9) C gh_bX2 (k := 5) (Nat.le_of_ble_eq_true rfl) q193 (fun _ h => h) dX2_rain_9 h fun v4 h => ?_
  rcases v4 with _ | a5
  · exact gh_stk_inv h
  replace h := gh_nn_ss h
  obtain ⟨⟨fs9, hg9⟩, h⟩ := gh_is_inv h
  refine gh_callI (pc := 12) (rest := []) C (k_X3_isStorm C.tr a5) (Nat.le_of_ble_eq_true rfl) (Nat.le_of_ble_eq_true rfl) (gh_r4 (Nat.le_of_ble_eq_true rfl)) (fun H9 L9 hp9 => gi_V C hp9 hg9 gh_cX3 q1353 q1354 q1355 q1356 mh_X3 np7 rfl hl.1.1 dX2_rain_12 rfl) h (gh_K0_b _ hk) (fun v6 g h => ?_) (fun e g h => ?_)
  rotate_left
  ·
    exact gh_out C (fun _ h => nomatch h) h hk
  refine gr_if_eq (pc := 15) (tgt := 22) C rfl dX2_rain_15 (fun c9 => ?_) (fun c9 => ?_)
  · replace h := gh_ift h c9
    refine gr_iconst (pc := 22) (v := (1 : Int32)) C rfl dX2_rain_22 ?_
    exact w_X2_rain_23 C t0 v3 (1 : Int32) (gl_sub hl [1, 0] rfl) h hk
  · replace h := gh_iff h c9
    refine gr_iconst (pc := 18) (v := (2 : Int32)) C rfl dX2_rain_18 ?_
    refine gr_goto (pc := 19) (tgt := 23) C rfl dX2_rain_19 ?_
    exact w_X2_rain_23 C t0 v3 (2 : Int32) (gl_sub hl [1, 0] rfl) h hk

theorem k_X2_rain {l : Launch} (hst : l.stackTraces = false) (t0 : Nat) : gh_Ct l yX2_rain 49 1065 (f_X2_rain t0) gh_rI [va_rf (some t0)] := gh_intro2 (L1 := 1048) hst (by decide +kernel) q1360 q76 rfl ⟨gh_cat _, trivial⟩ (Nat.le_of_ble_eq_true rfl) fun x o ls hl C h hk => w_X2_rain C t0 hl h hk
-- GargoyleTower$World.endDay()I
noncomputable def f_X2_endDay_27 (t0 : Nat) (s0 : Option Nat) (s1 : Int32) (s2 : Int32) : gh_M Int32 :=
  gh_nn s0 fun a1 =>
  gh_bd (gh_putv a1 1 4 .int (.int (s1 + s2))) fun _ =>
  gh_bd (gh_is t0 1) fun _ =>
  gh_bd (f_X2_rain t0) fun v2 =>
  gh_bd (gh_is t0 1) fun _ =>
  gh_bd (f_X2_wearRopes t0) fun v3 =>
  gh_bd (gh_geti t0 1 1) fun v4 =>
  gh_bd (gh_putv t0 1 1 .int (.int (v4 + (1 : Int32)))) fun _ =>
  gh_ret (v2 + v3)
theorem w_X2_endDay_27 {x : gh_C} {g : gh_G} {o : (Int32 ⊕ gh_X) × gh_G} {ls : Array Slot} (C : gh_K x cX2_endDay "GargoyleTower$World" 2 (some .int) "endDay" 50 1073 []) (t0 : Nat) (s0 : Option Nat) (s1 : Int32) (s2 : Int32) (hl : gh_lv ls 2 [(0, va_rf (some t0))]) (h : gh_run (f_X2_endDay_27 t0 s0 s1 s2) g = some o) (hk : (gh_K0 x gh_rI) o) : gh_Wd x g (F0 (gh_cm x) 27 ls [.int s2, .int s1, va_rf s0]) := by
  unfold f_X2_endDay_27 at h
  refine gr_iadd (pc := 27) C dX2_endDay_27 ?_
  rcases s0 with _ | a1
  · exact gh_stk_inv h
  replace h := gh_nn_ss h
  refine gr_putp (pc := 28) C gh_bX2 (k := 4) (Nat.le_of_ble_eq_true rfl) q191 (fun _ h => h) rfl dX2_endDay_28 h fun g h => ?_
  refine gr_aload_n (pc := 31) (i := 0) C rfl (gl_at hl 0 rfl) dX2_endDay_31 ?_
  obtain ⟨⟨fs9, hg9⟩, h⟩ := gh_is_inv h
  refine gh_callI (pc := 32) (rest := []) C (k_X2_rain C.tr t0) (Nat.le_of_ble_eq_true rfl) (Nat.le_of_ble_eq_true rfl) (gh_r4 (Nat.le_of_ble_eq_true rfl)) (fun H9 L9 hp9 => gi_V C hp9 hg9 gh_cX2 q1357 q1359 qs13 q1360 mh_X2 np0 rfl hl.1.1 dX2_endDay_32 rfl) h (gh_K0_b _ hk) (fun v2 g h => ?_) (fun e g h => ?_)
  rotate_left
  ·
    exact gh_out C (fun _ h => nomatch h) h hk
  refine gr_istore_n (pc := 35) (i := 1) (l' := [(1, .int v2), (0, va_rf (some t0))]) C rfl hl (Nat.le_of_ble_eq_true rfl) rfl dX2_endDay_35 fun ls hl => ?_
  refine gr_iload_n (pc := 36) (i := 1) C rfl (gl_at hl 0 rfl) dX2_endDay_36 ?_
  refine gr_aload_n (pc := 37) (i := 0) C rfl (gl_at hl 1 rfl) dX2_endDay_37 ?_
  obtain ⟨⟨fs9, hg9⟩, h⟩ := gh_is_inv h
  refine gh_callI (pc := 38) (rest := [.int v2]) C (k_X2_wearRopes C.tr t0) (Nat.le_of_ble_eq_true rfl) (Nat.le_of_ble_eq_true rfl) (gh_r4 (Nat.le_of_ble_eq_true rfl)) (fun H9 L9 hp9 => gi_V C hp9 hg9 gh_cX2 q1373 q1375 qs14 q1376 mh_X2 np0 rfl hl.1.1 dX2_endDay_38 rfl) h (gh_K0_b _ hk) (fun v3 g h => ?_) (fun e g h => ?_)
  rotate_left
  ·
    exact gh_out C (fun _ h => nomatch h) h hk
  refine gr_iadd (pc := 41) C dX2_endDay_41 ?_
  refine gr_istore_n (pc := 42) (i := 1) (l' := [(1, .int (v2 + v3)), (0, va_rf (some t0))]) C rfl hl (Nat.le_of_ble_eq_true rfl) rfl dX2_endDay_42 fun ls hl => ?_
  refine gr_aload_n (pc := 43) (i := 0) C rfl (gl_at hl 1 rfl) dX2_endDay_43 ?_
  refine gr_dup (pc := 44) C (gh_cat _) dX2_endDay_44 ?_
  refine gr_geti (pc := 45) C gh_bX2 (k := 1) (Nat.le_of_ble_eq_true rfl) q185 (fun _ h => h) dX2_endDay_45 h fun v4 h => ?_
  refine gr_iconst (pc := 48) (v := (1 : Int32)) C rfl dX2_endDay_48 ?_
  refine gr_iadd (pc := 49) C dX2_endDay_49 ?_
  refine gr_putp (pc := 50) C gh_bX2 (k := 1) (Nat.le_of_ble_eq_true rfl) q185 (fun _ h => h) rfl dX2_endDay_50 h fun g h => ?_
  refine gr_iload_n (pc := 53) (i := 1) C rfl (gl_at hl 0 rfl) dX2_endDay_53 ?_
  exact gr_iret (pc := 54) C dX2_endDay_54 h hk

noncomputable def f_X2_endDay (t0 : Nat) : gh_M Int32 :=
  gh_bd (gh_getr t0 1 5) fun v1 =>
  gh_nn v1 fun a2 =>
  gh_bd (gh_is a2 2) fun _ =>
  gh_bd (f_X3_draw a2) fun _ =>
  gh_bd (gh_geti t0 1 4) fun v4 =>
  gh_bd (gh_getr t0 1 5) fun v5 =>
  gh_nn v5 fun a6 =>
  gh_bd (gh_is a6 2) fun _ =>
  gh_bd (f_X3_isStorm a6) fun v7 =>
  if v7 = 0 then
  (f_X2_endDay_27 t0 (some t0) v4 (0 : Int32))
  else
  (f_X2_endDay_27 t0 (some t0) v4 (1 : Int32))
theorem w_X2_endDay {x : gh_C} {g : gh_G} {o : (Int32 ⊕ gh_X) × gh_G} {ls : Array Slot} (C : gh_K x cX2_endDay "GargoyleTower$World" 2 (some .int) "endDay" 50 1073 []) (t0 : Nat) (hl : gh_lv ls 2 [(0, va_rf (some t0))]) (h : gh_run (f_X2_endDay t0) g = some o) (hk : (gh_K0 x gh_rI) o) : gh_Wd x g (F0 (gh_cm x) 0 ls []) := by
  unfold f_X2_endDay at h
  refine gr_aload_n (pc := 0) (i := 0) C rfl (gl_at hl 0 rfl) dX2_endDay_0 ?_
  refine gr_getr (pc := 1) C gh_bX2 (k := 5) (Nat.le_of_ble_eq_true rfl) q193 (fun _ h => h) dX2_endDay_1 h fun v1 h => ?_
  rcases v1 with _ | a2
  · exact gh_stk_inv h
  replace h := gh_nn_ss h
  obtain ⟨⟨fs9, hg9⟩, h⟩ := gh_is_inv h
  refine gh_callV (pc := 4) (rest := []) C (k_X3_draw C.tr a2) (Nat.le_of_ble_eq_true rfl) (Nat.le_of_ble_eq_true rfl) (gh_r4 (Nat.le_of_ble_eq_true rfl)) (fun H9 L9 hp9 => gi_V C hp9 hg9 gh_cX3 q1349 q1350 q1351 q1352 mh_X3 np8 rfl hl.1.1 dX2_endDay_4 rfl) h (gh_K0_b _ hk) (fun g h => ?_) (fun e g h => ?_)
  rotate_left
  ·
    exact gh_out C (fun _ h => nomatch h) h hk
  refine gr_aload_n (pc := 7) (i := 0) C rfl (gl_at hl 0 rfl) dX2_endDay_7 ?_
  refine gr_dup (pc := 8) C (gh_cat _) dX2_endDay_8 ?_
  refine gr_geti (pc := 9) C gh_bX2 (k := 4) (Nat.le_of_ble_eq_true rfl) q191 (fun _ h => h) dX2_endDay_9 h fun v4 h => ?_
  refine gr_aload_n (pc := 12) (i := 0) C rfl (gl_at hl 0 rfl) dX2_endDay_12 ?_
  refine gr_getr (pc := 13) C gh_bX2 (k := 5) (Nat.le_of_ble_eq_true rfl) q193 (fun _ h => h) dX2_endDay_13 h fun v5 h => ?_
  rcases v5 with _ | a6
  · exact gh_stk_inv h
  replace h := gh_nn_ss h
  obtain ⟨⟨fs9, hg9⟩, h⟩ := gh_is_inv h
  refine gh_callI (pc := 16) (rest := [.int v4, va_rf (some t0)]) C (k_X3_isStorm C.tr a6) (Nat.le_of_ble_eq_true rfl) (Nat.le_of_ble_eq_true rfl) (gh_r4 (Nat.le_of_ble_eq_true rfl)) (fun H9 L9 hp9 => gi_V C hp9 hg9 gh_cX3 q1353 q1354 q1355 q1356 mh_X3 np7 rfl hl.1.1 dX2_endDay_16 rfl) h (gh_K0_b _ hk) (fun v7 g h => ?_) (fun e g h => ?_)
  rotate_left
  ·
    exact gh_out C (fun _ h => nomatch h) h hk
  refine gr_if_eq (pc := 19) (tgt := 26) C rfl dX2_endDay_19 (fun c9 => ?_) (fun c9 => ?_)
  · replace h := gh_ift h c9
    refine gr_iconst (pc := 26) (v := (0 : Int32)) C rfl dX2_endDay_26 ?_
    exact w_X2_endDay_27 C t0 (some t0) v4 (0 : Int32) (gl_sub hl [0] rfl) h hk
  · replace h := gh_iff h c9
    refine gr_iconst (pc := 22) (v := (1 : Int32)) C rfl dX2_endDay_22 ?_
    refine gr_goto (pc := 23) (tgt := 27) C rfl dX2_endDay_23 ?_
    exact w_X2_endDay_27 C t0 (some t0) v4 (1 : Int32) (gl_sub hl [0] rfl) h hk

theorem k_X2_endDay {l : Launch} (hst : l.stackTraces = false) (t0 : Nat) : gh_Ct l yX2_endDay 50 1086 (f_X2_endDay t0) gh_rI [va_rf (some t0)] := gh_intro2 (L1 := 1073) hst (by decide +kernel) q1348 q76 rfl ⟨gh_cat _, trivial⟩ (Nat.le_of_ble_eq_true rfl) fun x o ls hl C h hk => w_X2_endDay C t0 hl h hk
-- GargoyleTower$World.pass(I)I
def gp_X2_pass_14 (x : gh_C) (t0 : Nat) (u14_1 : Int32) (st : Int32 × Int32) (g : gh_G) : Prop := ∀ ls : Array Slot, gh_lv ls 4 [(0, va_rf (some t0)), (1, .int u14_1), (2, .int st.1), (3, .int st.2)] → gh_Wd x g (F0 (gh_cm x) 14 ls [])
noncomputable def f_X2_pass_14_l (t0 : Nat) (u14_1 : Int32) (p2 : Int32) (p3 : Int32) : gh_M ((Int32 × Int32) ⊕ Int32) :=
  if u14_1 ≤ p3 then
  (gh_up (gh_ret p2))
  else
  (gh_bd (gh_is t0 1) fun _ =>
  gh_bd (f_X2_endDay t0) fun v1 =>
  gh_ret (.inl (p2 + v1, p3 + (1 : Int32))))
theorem w_X2_pass_14_l {x : gh_C} {g : gh_G} {o : (((Int32 × Int32) ⊕ Int32) ⊕ gh_X) × gh_G} {ls : Array Slot} (C : gh_K x cX2_pass "GargoyleTower$World" 4 (some .int) "pass" 51 1094 []) (t0 : Nat) (u14_1 : Int32) (p2 : Int32) (p3 : Int32) (hl : gh_lv ls 4 [(0, va_rf (some t0)), (1, .int u14_1), (2, .int p2), (3, .int p3)]) (h : gh_run (f_X2_pass_14_l t0 u14_1 p2 p3) g = some o) (hk : (gh_K1 x (gh_K0 x gh_rI) (gp_X2_pass_14 x t0 u14_1)) o) : gh_Wd x g (F0 (gh_cm x) 14 ls []) := by
  unfold f_X2_pass_14_l at h
  refine gr_iload_n (pc := 14) (i := 3) C rfl (gl_at hl 3 rfl) dX2_pass_14 ?_
  refine gr_iload_n (pc := 15) (i := 1) C rfl (gl_at hl 1 rfl) dX2_pass_15 ?_
  refine gr_icmp_ge (pc := 16) (tgt := 32) C rfl dX2_pass_16 (fun c9 => ?_) (fun c9 => ?_)
  · replace h := gh_ift h c9
    refine gr_iload_n (pc := 32) (i := 2) C rfl (gl_at hl 2 rfl) dX2_pass_32 ?_
    obtain ⟨o, h, hk⟩ := gh_K1_up h hk
    exact gr_iret (pc := 33) C dX2_pass_33 h hk
  · replace h := gh_iff h c9
    refine gr_iload_n (pc := 19) (i := 2) C rfl (gl_at hl 2 rfl) dX2_pass_19 ?_
    refine gr_aload_n (pc := 20) (i := 0) C rfl (gl_at hl 0 rfl) dX2_pass_20 ?_
    obtain ⟨⟨fs9, hg9⟩, h⟩ := gh_is_inv h
    refine gh_callI (pc := 21) (rest := [.int p2]) C (k_X2_endDay C.tr t0) (Nat.le_of_ble_eq_true rfl) (Nat.le_of_ble_eq_true rfl) (gh_r4 (Nat.le_of_ble_eq_true rfl)) (fun H9 L9 hp9 => gi_V C hp9 hg9 gh_cX2 q1345 q1346 q1347 q1348 mh_X2 np0 rfl hl.1.1 dX2_pass_21 rfl) h ((gh_K1_b gh_K0_b) _ hk) (fun v1 g h => ?_) (fun e g h => ?_)
    rotate_left
    ·
      obtain ⟨o, h, hk⟩ := gh_K1_thr h hk
      exact gh_out C (fun _ h => nomatch h) h hk
    refine gr_iadd (pc := 24) C dX2_pass_24 ?_
    refine gr_istore_n (pc := 25) (i := 2) (l' := [(2, .int (p2 + v1)), (0, va_rf (some t0)), (1, .int u14_1), (3, .int p3)]) C rfl hl (Nat.le_of_ble_eq_true rfl) rfl dX2_pass_25 fun ls hl => ?_
    refine gr_iinc (pc := 26) (i := 3) (z := 3) (v := p3 + (1 : Int32)) (l' := [(3, .int (p3 + (1 : Int32))), (2, .int (p2 + v1)), (0, va_rf (some t0)), (1, .int u14_1)]) C hl rfl rfl (Nat.le_of_ble_eq_true rfl) rfl dX2_pass_26 fun ls hl => ?_
    refine gr_goto (pc := 29) (tgt := 14) C rfl dX2_pass_29 ?_
    exact gh_K1_in h hk ls (gl_sub hl [2, 3, 1, 0] rfl)

noncomputable def f_X2_pass_14 (t0 : Nat) (p1 : Int32) (p2 : Int32) (p3 : Int32) : gh_M Int32 := gh_it (fun st : Int32 × Int32 => f_X2_pass_14_l t0 p1 st.1 st.2) (p2, p3)
theorem w_X2_pass_14 {x : gh_C} {g : gh_G} {o : (Int32 ⊕ gh_X) × gh_G} {ls : Array Slot} (C : gh_K x cX2_pass "GargoyleTower$World" 4 (some .int) "pass" 51 1094 []) (t0 : Nat) (p1 : Int32) (p2 : Int32) (p3 : Int32) (hl : gh_lv ls 4 [(0, va_rf (some t0)), (1, .int p1), (2, .int p2), (3, .int p3)]) (h : gh_run (f_X2_pass_14 t0 p1 p2 p3) g = some o) (hk : (gh_K0 x gh_rI) o) : gh_Wd x g (F0 (gh_cm x) 14 ls []) := by
  unfold f_X2_pass_14 at h
  exact gh_loop gh_K0_b (fun st : Int32 × Int32 => f_X2_pass_14_l t0 p1 st.1 st.2) (gp_X2_pass_14 x t0 p1) (fun st g o h hk ls hl => w_X2_pass_14_l C t0 p1 st.1 st.2 hl h hk) _ g o h hk ls hl
noncomputable def f_X2_pass (t0 : Nat) (p1 : Int32) : gh_M Int32 :=
  gh_bd (f_X1_inRange p1 (1 : Int32) (40 : Int32)) fun v1 =>
  gh_bd (f_X1_checkArgument v1) fun _ =>
  f_X2_pass_14 t0 p1 (0 : Int32) (0 : Int32)
theorem w_X2_pass {x : gh_C} {g : gh_G} {o : (Int32 ⊕ gh_X) × gh_G} {ls : Array Slot} (C : gh_K x cX2_pass "GargoyleTower$World" 4 (some .int) "pass" 51 1094 []) (t0 : Nat) (p1 : Int32) (hl : gh_lv ls 4 [(0, va_rf (some t0)), (1, .int p1)]) (h : gh_run (f_X2_pass t0 p1) g = some o) (hk : (gh_K0 x gh_rI) o) : gh_Wd x g (F0 (gh_cm x) 0 ls []) := by
  unfold f_X2_pass at h
  refine gr_iload_n (pc := 0) (i := 1) C rfl (gl_at hl 1 rfl) dX2_pass_0 ?_
  refine gr_iconst (pc := 1) (v := (1 : Int32)) C rfl dX2_pass_1 ?_
  refine gr_bipush (pc := 2) (v := (40 : Int32)) C rfl dX2_pass_2 ?_
  refine gh_callI (pc := 4) (rest := []) C (k_X1_inRange C.tr p1 (1 : Int32) (40 : Int32)) (Nat.le_of_ble_eq_true rfl) (Nat.le_of_ble_eq_true rfl) (gh_r4 (Nat.le_of_ble_eq_true rfl)) (fun H9 L9 hp9 => gi_SN C q1239 q1231 q75 q1232 mh_X1 np54 rfl hl.1.1 dX2_pass_4 rfl) h (gh_K0_b _ hk) (fun v1 g h => ?_) (fun e g h => ?_)
  rotate_left
  ·
    exact gh_out C (fun _ h => nomatch h) h hk
  refine gh_callV (pc := 7) (rest := []) C (k_X1_checkArgument C.tr v1) (Nat.le_of_ble_eq_true rfl) (Nat.le_of_ble_eq_true rfl) (gh_r4 (Nat.le_of_ble_eq_true rfl)) (fun H9 L9 hp9 => gi_SN C q1240 q1241 q75 q1242 mh_X1 np55 rfl hl.1.1 dX2_pass_7 rfl) h (gh_K0_b _ hk) (fun g h => ?_) (fun e g h => ?_)
  rotate_left
  ·
    exact gh_out C (fun _ h => nomatch h) h hk
  refine gr_iconst (pc := 10) (v := (0 : Int32)) C rfl dX2_pass_10 ?_
  refine gr_istore_n (pc := 11) (i := 2) (l' := [(2, .int (0 : Int32)), (0, va_rf (some t0)), (1, .int p1)]) C rfl hl (Nat.le_of_ble_eq_true rfl) rfl dX2_pass_11 fun ls hl => ?_
  refine gr_iconst (pc := 12) (v := (0 : Int32)) C rfl dX2_pass_12 ?_
  refine gr_istore_n (pc := 13) (i := 3) (l' := [(3, .int (0 : Int32)), (2, .int (0 : Int32)), (0, va_rf (some t0)), (1, .int p1)]) C rfl hl (Nat.le_of_ble_eq_true rfl) rfl dX2_pass_13 fun ls hl => ?_
  exact w_X2_pass_14 C t0 p1 (0 : Int32) (0 : Int32) (gl_sub hl [2, 3, 1, 0] rfl) h hk

theorem k_X2_pass {l : Launch} (hst : l.stackTraces = false) (t0 : Nat) (p1 : Int32) : gh_Ct l yX2_pass 51 1109 (f_X2_pass t0 p1) gh_rI [va_rf (some t0), .int p1] := gh_intro2 (L1 := 1094) hst (by decide +kernel) q1344 q76 rfl ⟨gh_cat _, rfl, trivial⟩ (Nat.le_of_ble_eq_true rfl) fun x o ls hl C h hk => w_X2_pass C t0 p1 hl h hk
