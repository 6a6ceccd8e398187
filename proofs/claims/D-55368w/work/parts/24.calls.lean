/-! the calls of the law: rows of the code, functions, walks, contracts (printed) -/
set_option maxRecDepth 100000
abbrev cX1_reason : ByteArray := prog_1_method_45_code
def yX1_reason : MethodName := ⟨RX1, "reason", "(IZ)I"⟩
def dkwX1_reason_3 : List UInt8 := [180, 1, 95, 172, 187, 0, 19, 89, 183, 0, 21, 191]
abbrev dktX1_reason_3 : List UInt8 := dkwX1_reason_3 ++ []
def dkwX1_reason_2 : List UInt8 := [153, 0, 27, 45, 192, 0, 22, 58, 4, 28, 153, 0, 11, 25, 4, 180, 1, 94, 167, 0, 8, 25, 4]
abbrev dktX1_reason_2 : List UInt8 := dkwX1_reason_2 ++ dktX1_reason_3
def dkwX1_reason_1 : List UInt8 := [162, 0, 18, 45, 198, 0, 14, 45, 182, 1, 88, 78, 132, 4, 1, 167, 255, 238, 45, 193, 0, 22]
abbrev dktX1_reason_1 : List UInt8 := dkwX1_reason_1 ++ dktX1_reason_2
def dkwX1_reason_0 : List UInt8 := [27, 155, 0, 7, 4, 167, 0, 4, 3, 184, 0, 105, 42, 180, 0, 67, 78, 3, 54, 4, 21, 4, 27]
abbrev dktX1_reason_0 : List UInt8 := dkwX1_reason_0 ++ dktX1_reason_1
theorem dksX1_reason_0 : cX1_reason.data.toList.drop 0 = dktX1_reason_0 := by decide +kernel
theorem dksX1_reason_1 : cX1_reason.data.toList.drop 23 = dktX1_reason_1 := dk_seg dksX1_reason_0 23 rfl rfl
theorem dksX1_reason_2 : cX1_reason.data.toList.drop 45 = dktX1_reason_2 := dk_seg dksX1_reason_1 22 rfl rfl
theorem dksX1_reason_3 : cX1_reason.data.toList.drop 68 = dktX1_reason_3 := dk_seg dksX1_reason_2 23 rfl rfl
theorem dX1_reason_0 : decode cX1_reason 0 = .ok (.iload_n 1, 1) := dk_27 (dk_at dksX1_reason_0 0 rfl rfl)
theorem dX1_reason_1 : decode cX1_reason 1 = .ok (.ifCond .lt 7, 3) := dk_155 0 7 (dk_at dksX1_reason_0 1 rfl rfl)
theorem dX1_reason_4 : decode cX1_reason 4 = .ok (.iconst 1, 1) := dk_4 (dk_at dksX1_reason_0 4 rfl rfl)
theorem dX1_reason_5 : decode cX1_reason 5 = .ok (.goto 4, 3) := dk_167 0 4 (dk_at dksX1_reason_0 5 rfl rfl)
theorem dX1_reason_8 : decode cX1_reason 8 = .ok (.iconst 0, 1) := dk_3 (dk_at dksX1_reason_0 8 rfl rfl)
theorem dX1_reason_9 : decode cX1_reason 9 = .ok (.invokestatic 105, 3) := dk_184 0 105 (dk_at dksX1_reason_0 9 rfl rfl)
theorem dX1_reason_12 : decode cX1_reason 12 = .ok (.aload_n 0, 1) := dk_42 (dk_at dksX1_reason_0 12 rfl rfl)
theorem dX1_reason_13 : decode cX1_reason 13 = .ok (.getfield 67, 3) := dk_180 0 67 (dk_at dksX1_reason_0 13 rfl rfl)
theorem dX1_reason_16 : decode cX1_reason 16 = .ok (.astore_n 3, 1) := dk_78 (dk_at dksX1_reason_0 16 rfl rfl)
theorem dX1_reason_17 : decode cX1_reason 17 = .ok (.iconst 0, 1) := dk_3 (dk_at dksX1_reason_0 17 rfl rfl)
theorem dX1_reason_18 : decode cX1_reason 18 = .ok (.istore 4, 2) := dk_54 4 (dk_at dksX1_reason_0 18 rfl rfl)
theorem dX1_reason_20 : decode cX1_reason 20 = .ok (.iload 4, 2) := dk_21 4 (dk_at dksX1_reason_0 20 rfl rfl)
theorem dX1_reason_22 : decode cX1_reason 22 = .ok (.iload_n 1, 1) := dk_27 (dk_at dksX1_reason_0 22 rfl rfl)
theorem dX1_reason_23 : decode cX1_reason 23 = .ok (.if_icmp .ge 18, 3) := dk_162 0 18 (dk_at dksX1_reason_1 0 rfl rfl)
theorem dX1_reason_26 : decode cX1_reason 26 = .ok (.aload_n 3, 1) := dk_45 (dk_at dksX1_reason_1 3 rfl rfl)
theorem dX1_reason_27 : decode cX1_reason 27 = .ok (.ifnull 14, 3) := dk_198 0 14 (dk_at dksX1_reason_1 4 rfl rfl)
theorem dX1_reason_30 : decode cX1_reason 30 = .ok (.aload_n 3, 1) := dk_45 (dk_at dksX1_reason_1 7 rfl rfl)
theorem dX1_reason_31 : decode cX1_reason 31 = .ok (.invokevirtual 344, 3) := dk_182 1 88 (dk_at dksX1_reason_1 8 rfl rfl)
theorem dX1_reason_34 : decode cX1_reason 34 = .ok (.astore_n 3, 1) := dk_78 (dk_at dksX1_reason_1 11 rfl rfl)
theorem dX1_reason_35 : decode cX1_reason 35 = .ok (.iinc 4 1, 3) := dk_132 4 1 (dk_at dksX1_reason_1 12 rfl rfl)
theorem dX1_reason_38 : decode cX1_reason 38 = .ok (.goto (-18), 3) := dk_167 255 238 (dk_at dksX1_reason_1 15 rfl rfl)
theorem dX1_reason_41 : decode cX1_reason 41 = .ok (.aload_n 3, 1) := dk_45 (dk_at dksX1_reason_1 18 rfl rfl)
theorem dX1_reason_42 : decode cX1_reason 42 = .ok (.instanceof 22, 3) := dk_193 0 22 (dk_at dksX1_reason_1 19 rfl rfl)
theorem dX1_reason_45 : decode cX1_reason 45 = .ok (.ifCond .eq 27, 3) := dk_153 0 27 (dk_at dksX1_reason_2 0 rfl rfl)
theorem dX1_reason_48 : decode cX1_reason 48 = .ok (.aload_n 3, 1) := dk_45 (dk_at dksX1_reason_2 3 rfl rfl)
theorem dX1_reason_49 : decode cX1_reason 49 = .ok (.checkcast 22, 3) := dk_192 0 22 (dk_at dksX1_reason_2 4 rfl rfl)
theorem dX1_reason_52 : decode cX1_reason 52 = .ok (.astore 4, 2) := dk_58 4 (dk_at dksX1_reason_2 7 rfl rfl)
theorem dX1_reason_54 : decode cX1_reason 54 = .ok (.iload_n 2, 1) := dk_28 (dk_at dksX1_reason_2 9 rfl rfl)
theorem dX1_reason_55 : decode cX1_reason 55 = .ok (.ifCond .eq 11, 3) := dk_153 0 11 (dk_at dksX1_reason_2 10 rfl rfl)
theorem dX1_reason_58 : decode cX1_reason 58 = .ok (.aload 4, 2) := dk_25 4 (dk_at dksX1_reason_2 13 rfl rfl)
theorem dX1_reason_60 : decode cX1_reason 60 = .ok (.getfield 350, 3) := dk_180 1 94 (dk_at dksX1_reason_2 15 rfl rfl)
theorem dX1_reason_63 : decode cX1_reason 63 = .ok (.goto 8, 3) := dk_167 0 8 (dk_at dksX1_reason_2 18 rfl rfl)
theorem dX1_reason_66 : decode cX1_reason 66 = .ok (.aload 4, 2) := dk_25 4 (dk_at dksX1_reason_2 21 rfl rfl)
theorem dX1_reason_68 : decode cX1_reason 68 = .ok (.getfield 351, 3) := dk_180 1 95 (dk_at dksX1_reason_3 0 rfl rfl)
theorem dX1_reason_71 : decode cX1_reason 71 = .ok (.ireturn, 1) := dk_172 (dk_at dksX1_reason_3 3 rfl rfl)
theorem dX1_reason_72 : decode cX1_reason 72 = .ok (.new 19, 3) := dk_187 0 19 (dk_at dksX1_reason_3 4 rfl rfl)
theorem dX1_reason_75 : decode cX1_reason 75 = .ok (.dup, 1) := dk_89 (dk_at dksX1_reason_3 7 rfl rfl)
theorem dX1_reason_76 : decode cX1_reason 76 = .ok (.invokespecial 21, 3) := dk_183 0 21 (dk_at dksX1_reason_3 8 rfl rfl)
theorem dX1_reason_79 : decode cX1_reason 79 = .ok (.athrow, 1) := dk_191 (dk_at dksX1_reason_3 11 rfl rfl)
abbrev cX0_block : ByteArray := method_3_code
def yX0_block : MethodName := ⟨RX0, "block", "(LGargoyleTower;IZ[J)I"⟩
def dkwX0_block_0 : List UInt8 := [45, 3, 42, 27, 28, 182, 0, 7, 133, 80, 167, 0, 11, 58, 4, 4, 172, 58, 4, 5, 172, 3, 172]
abbrev dktX0_block_0 : List UInt8 := dkwX0_block_0 ++ []
theorem dksX0_block_0 : cX0_block.data.toList.drop 0 = dktX0_block_0 := by decide +kernel
theorem dX0_block_0 : decode cX0_block 0 = .ok (.aload_n 3, 1) := dk_45 (dk_at dksX0_block_0 0 rfl rfl)
theorem dX0_block_1 : decode cX0_block 1 = .ok (.iconst 0, 1) := dk_3 (dk_at dksX0_block_0 1 rfl rfl)
theorem dX0_block_2 : decode cX0_block 2 = .ok (.aload_n 0, 1) := dk_42 (dk_at dksX0_block_0 2 rfl rfl)
theorem dX0_block_3 : decode cX0_block 3 = .ok (.iload_n 1, 1) := dk_27 (dk_at dksX0_block_0 3 rfl rfl)
theorem dX0_block_4 : decode cX0_block 4 = .ok (.iload_n 2, 1) := dk_28 (dk_at dksX0_block_0 4 rfl rfl)
theorem dX0_block_5 : decode cX0_block 5 = .ok (.invokevirtual 7, 3) := dk_182 0 7 (dk_at dksX0_block_0 5 rfl rfl)
theorem dX0_block_8 : decode cX0_block 8 = .ok (.i2l, 1) := dk_133 (dk_at dksX0_block_0 8 rfl rfl)
theorem dX0_block_9 : decode cX0_block 9 = .ok (.lastore, 1) := dk_80 (dk_at dksX0_block_0 9 rfl rfl)
theorem dX0_block_10 : decode cX0_block 10 = .ok (.goto 11, 3) := dk_167 0 11 (dk_at dksX0_block_0 10 rfl rfl)
theorem dX0_block_13 : decode cX0_block 13 = .ok (.astore 4, 2) := dk_58 4 (dk_at dksX0_block_0 13 rfl rfl)
theorem dX0_block_15 : decode cX0_block 15 = .ok (.iconst 1, 1) := dk_4 (dk_at dksX0_block_0 15 rfl rfl)
theorem dX0_block_16 : decode cX0_block 16 = .ok (.ireturn, 1) := dk_172 (dk_at dksX0_block_0 16 rfl rfl)
theorem dX0_block_17 : decode cX0_block 17 = .ok (.astore 4, 2) := dk_58 4 (dk_at dksX0_block_0 17 rfl rfl)
theorem dX0_block_19 : decode cX0_block 19 = .ok (.iconst 2, 1) := dk_5 (dk_at dksX0_block_0 19 rfl rfl)
theorem dX0_block_20 : decode cX0_block 20 = .ok (.ireturn, 1) := dk_172 (dk_at dksX0_block_0 20 rfl rfl)
theorem dX0_block_21 : decode cX0_block 21 = .ok (.iconst 0, 1) := dk_3 (dk_at dksX0_block_0 21 rfl rfl)
theorem dX0_block_22 : decode cX0_block 22 = .ok (.ireturn, 1) := dk_172 (dk_at dksX0_block_0 22 rfl rfl)
abbrev cX0_carve : ByteArray := method_4_code
def yX0_carve : MethodName := ⟨RX0, "carve", "(LGargoyleTower;II[J)I"⟩
def dkwX0_carve_1 : List UInt8 := [172, 3, 172]
abbrev dktX0_carve_1 : List UInt8 := dkwX0_carve_1 ++ []
def dkwX0_carve_0 : List UInt8 := [45, 3, 42, 27, 28, 182, 0, 17, 133, 80, 167, 0, 15, 58, 4, 4, 172, 58, 4, 5, 172, 58, 4, 6]
abbrev dktX0_carve_0 : List UInt8 := dkwX0_carve_0 ++ dktX0_carve_1
theorem dksX0_carve_0 : cX0_carve.data.toList.drop 0 = dktX0_carve_0 := by decide +kernel
theorem dksX0_carve_1 : cX0_carve.data.toList.drop 24 = dktX0_carve_1 := dk_seg dksX0_carve_0 24 rfl rfl
theorem dX0_carve_0 : decode cX0_carve 0 = .ok (.aload_n 3, 1) := dk_45 (dk_at dksX0_carve_0 0 rfl rfl)
theorem dX0_carve_1 : decode cX0_carve 1 = .ok (.iconst 0, 1) := dk_3 (dk_at dksX0_carve_0 1 rfl rfl)
theorem dX0_carve_2 : decode cX0_carve 2 = .ok (.aload_n 0, 1) := dk_42 (dk_at dksX0_carve_0 2 rfl rfl)
theorem dX0_carve_3 : decode cX0_carve 3 = .ok (.iload_n 1, 1) := dk_27 (dk_at dksX0_carve_0 3 rfl rfl)
theorem dX0_carve_4 : decode cX0_carve 4 = .ok (.iload_n 2, 1) := dk_28 (dk_at dksX0_carve_0 4 rfl rfl)
theorem dX0_carve_5 : decode cX0_carve 5 = .ok (.invokevirtual 17, 3) := dk_182 0 17 (dk_at dksX0_carve_0 5 rfl rfl)
theorem dX0_carve_8 : decode cX0_carve 8 = .ok (.i2l, 1) := dk_133 (dk_at dksX0_carve_0 8 rfl rfl)
theorem dX0_carve_9 : decode cX0_carve 9 = .ok (.lastore, 1) := dk_80 (dk_at dksX0_carve_0 9 rfl rfl)
theorem dX0_carve_10 : decode cX0_carve 10 = .ok (.goto 15, 3) := dk_167 0 15 (dk_at dksX0_carve_0 10 rfl rfl)
theorem dX0_carve_13 : decode cX0_carve 13 = .ok (.astore 4, 2) := dk_58 4 (dk_at dksX0_carve_0 13 rfl rfl)
theorem dX0_carve_15 : decode cX0_carve 15 = .ok (.iconst 1, 1) := dk_4 (dk_at dksX0_carve_0 15 rfl rfl)
theorem dX0_carve_16 : decode cX0_carve 16 = .ok (.ireturn, 1) := dk_172 (dk_at dksX0_carve_0 16 rfl rfl)
theorem dX0_carve_17 : decode cX0_carve 17 = .ok (.astore 4, 2) := dk_58 4 (dk_at dksX0_carve_0 17 rfl rfl)
theorem dX0_carve_19 : decode cX0_carve 19 = .ok (.iconst 2, 1) := dk_5 (dk_at dksX0_carve_0 19 rfl rfl)
theorem dX0_carve_20 : decode cX0_carve 20 = .ok (.ireturn, 1) := dk_172 (dk_at dksX0_carve_0 20 rfl rfl)
theorem dX0_carve_21 : decode cX0_carve 21 = .ok (.astore 4, 2) := dk_58 4 (dk_at dksX0_carve_0 21 rfl rfl)
theorem dX0_carve_23 : decode cX0_carve 23 = .ok (.iconst 3, 1) := dk_6 (dk_at dksX0_carve_0 23 rfl rfl)
theorem dX0_carve_24 : decode cX0_carve 24 = .ok (.ireturn, 1) := dk_172 (dk_at dksX0_carve_1 0 rfl rfl)
theorem dX0_carve_25 : decode cX0_carve 25 = .ok (.iconst 0, 1) := dk_3 (dk_at dksX0_carve_1 1 rfl rfl)
theorem dX0_carve_26 : decode cX0_carve 26 = .ok (.ireturn, 1) := dk_172 (dk_at dksX0_carve_1 2 rfl rfl)
abbrev cX0_whet : ByteArray := method_5_code
def yX0_whet : MethodName := ⟨RX0, "whet", "(LGargoyleTower;[J)I"⟩
def dkwX0_whet_0 : List UInt8 := [43, 3, 42, 182, 0, 23, 133, 80, 167, 0, 6, 77, 4, 172, 3, 172]
abbrev dktX0_whet_0 : List UInt8 := dkwX0_whet_0 ++ []
theorem dksX0_whet_0 : cX0_whet.data.toList.drop 0 = dktX0_whet_0 := by decide +kernel
theorem dX0_whet_0 : decode cX0_whet 0 = .ok (.aload_n 1, 1) := dk_43 (dk_at dksX0_whet_0 0 rfl rfl)
theorem dX0_whet_1 : decode cX0_whet 1 = .ok (.iconst 0, 1) := dk_3 (dk_at dksX0_whet_0 1 rfl rfl)
theorem dX0_whet_2 : decode cX0_whet 2 = .ok (.aload_n 0, 1) := dk_42 (dk_at dksX0_whet_0 2 rfl rfl)
theorem dX0_whet_3 : decode cX0_whet 3 = .ok (.invokevirtual 23, 3) := dk_182 0 23 (dk_at dksX0_whet_0 3 rfl rfl)
theorem dX0_whet_6 : decode cX0_whet 6 = .ok (.i2l, 1) := dk_133 (dk_at dksX0_whet_0 6 rfl rfl)
theorem dX0_whet_7 : decode cX0_whet 7 = .ok (.lastore, 1) := dk_80 (dk_at dksX0_whet_0 7 rfl rfl)
theorem dX0_whet_8 : decode cX0_whet 8 = .ok (.goto 6, 3) := dk_167 0 6 (dk_at dksX0_whet_0 8 rfl rfl)
theorem dX0_whet_11 : decode cX0_whet 11 = .ok (.astore_n 2, 1) := dk_77 (dk_at dksX0_whet_0 11 rfl rfl)
theorem dX0_whet_12 : decode cX0_whet 12 = .ok (.iconst 1, 1) := dk_4 (dk_at dksX0_whet_0 12 rfl rfl)
theorem dX0_whet_13 : decode cX0_whet 13 = .ok (.ireturn, 1) := dk_172 (dk_at dksX0_whet_0 13 rfl rfl)
theorem dX0_whet_14 : decode cX0_whet 14 = .ok (.iconst 0, 1) := dk_3 (dk_at dksX0_whet_0 14 rfl rfl)
theorem dX0_whet_15 : decode cX0_whet 15 = .ok (.ireturn, 1) := dk_172 (dk_at dksX0_whet_0 15 rfl rfl)
abbrev cX0_blockOf : ByteArray := method_6_code
def yX0_blockOf : MethodName := ⟨RX0, "blockOf", "(LGargoyleTower;II[J)I"⟩
def dkwX0_blockOf_0 : List UInt8 := [45, 3, 42, 27, 28, 182, 0, 27, 133, 80, 167, 0, 11, 58, 4, 4, 172, 58, 4, 5, 172, 3, 172]
abbrev dktX0_blockOf_0 : List UInt8 := dkwX0_blockOf_0 ++ []
theorem dksX0_blockOf_0 : cX0_blockOf.data.toList.drop 0 = dktX0_blockOf_0 := by decide +kernel
theorem dX0_blockOf_0 : decode cX0_blockOf 0 = .ok (.aload_n 3, 1) := dk_45 (dk_at dksX0_blockOf_0 0 rfl rfl)
theorem dX0_blockOf_1 : decode cX0_blockOf 1 = .ok (.iconst 0, 1) := dk_3 (dk_at dksX0_blockOf_0 1 rfl rfl)
theorem dX0_blockOf_2 : decode cX0_blockOf 2 = .ok (.aload_n 0, 1) := dk_42 (dk_at dksX0_blockOf_0 2 rfl rfl)
theorem dX0_blockOf_3 : decode cX0_blockOf 3 = .ok (.iload_n 1, 1) := dk_27 (dk_at dksX0_blockOf_0 3 rfl rfl)
theorem dX0_blockOf_4 : decode cX0_blockOf 4 = .ok (.iload_n 2, 1) := dk_28 (dk_at dksX0_blockOf_0 4 rfl rfl)
theorem dX0_blockOf_5 : decode cX0_blockOf 5 = .ok (.invokevirtual 27, 3) := dk_182 0 27 (dk_at dksX0_blockOf_0 5 rfl rfl)
theorem dX0_blockOf_8 : decode cX0_blockOf 8 = .ok (.i2l, 1) := dk_133 (dk_at dksX0_blockOf_0 8 rfl rfl)
theorem dX0_blockOf_9 : decode cX0_blockOf 9 = .ok (.lastore, 1) := dk_80 (dk_at dksX0_blockOf_0 9 rfl rfl)
theorem dX0_blockOf_10 : decode cX0_blockOf 10 = .ok (.goto 11, 3) := dk_167 0 11 (dk_at dksX0_blockOf_0 10 rfl rfl)
theorem dX0_blockOf_13 : decode cX0_blockOf 13 = .ok (.astore 4, 2) := dk_58 4 (dk_at dksX0_blockOf_0 13 rfl rfl)
theorem dX0_blockOf_15 : decode cX0_blockOf 15 = .ok (.iconst 1, 1) := dk_4 (dk_at dksX0_blockOf_0 15 rfl rfl)
theorem dX0_blockOf_16 : decode cX0_blockOf 16 = .ok (.ireturn, 1) := dk_172 (dk_at dksX0_blockOf_0 16 rfl rfl)
theorem dX0_blockOf_17 : decode cX0_blockOf 17 = .ok (.astore 4, 2) := dk_58 4 (dk_at dksX0_blockOf_0 17 rfl rfl)
theorem dX0_blockOf_19 : decode cX0_blockOf 19 = .ok (.iconst 2, 1) := dk_5 (dk_at dksX0_blockOf_0 19 rfl rfl)
theorem dX0_blockOf_20 : decode cX0_blockOf 20 = .ok (.ireturn, 1) := dk_172 (dk_at dksX0_blockOf_0 20 rfl rfl)
theorem dX0_blockOf_21 : decode cX0_blockOf 21 = .ok (.iconst 0, 1) := dk_3 (dk_at dksX0_blockOf_0 21 rfl rfl)
theorem dX0_blockOf_22 : decode cX0_blockOf 22 = .ok (.ireturn, 1) := dk_172 (dk_at dksX0_blockOf_0 22 rfl rfl)
abbrev cX0_ranked : ByteArray := method_7_code
def yX0_ranked : MethodName := ⟨RX0, "ranked", "(LGargoyleTower;I[J)I"⟩
def dkwX0_ranked_0 : List UInt8 := [44, 3, 42, 27, 182, 0, 30, 133, 80, 167, 0, 6, 78, 4, 172, 3, 172]
abbrev dktX0_ranked_0 : List UInt8 := dkwX0_ranked_0 ++ []
theorem dksX0_ranked_0 : cX0_ranked.data.toList.drop 0 = dktX0_ranked_0 := by decide +kernel
theorem dX0_ranked_0 : decode cX0_ranked 0 = .ok (.aload_n 2, 1) := dk_44 (dk_at dksX0_ranked_0 0 rfl rfl)
theorem dX0_ranked_1 : decode cX0_ranked 1 = .ok (.iconst 0, 1) := dk_3 (dk_at dksX0_ranked_0 1 rfl rfl)
theorem dX0_ranked_2 : decode cX0_ranked 2 = .ok (.aload_n 0, 1) := dk_42 (dk_at dksX0_ranked_0 2 rfl rfl)
theorem dX0_ranked_3 : decode cX0_ranked 3 = .ok (.iload_n 1, 1) := dk_27 (dk_at dksX0_ranked_0 3 rfl rfl)
theorem dX0_ranked_4 : decode cX0_ranked 4 = .ok (.invokevirtual 30, 3) := dk_182 0 30 (dk_at dksX0_ranked_0 4 rfl rfl)
theorem dX0_ranked_7 : decode cX0_ranked 7 = .ok (.i2l, 1) := dk_133 (dk_at dksX0_ranked_0 7 rfl rfl)
theorem dX0_ranked_8 : decode cX0_ranked 8 = .ok (.lastore, 1) := dk_80 (dk_at dksX0_ranked_0 8 rfl rfl)
theorem dX0_ranked_9 : decode cX0_ranked 9 = .ok (.goto 6, 3) := dk_167 0 6 (dk_at dksX0_ranked_0 9 rfl rfl)
theorem dX0_ranked_12 : decode cX0_ranked 12 = .ok (.astore_n 3, 1) := dk_78 (dk_at dksX0_ranked_0 12 rfl rfl)
theorem dX0_ranked_13 : decode cX0_ranked 13 = .ok (.iconst 1, 1) := dk_4 (dk_at dksX0_ranked_0 13 rfl rfl)
theorem dX0_ranked_14 : decode cX0_ranked 14 = .ok (.ireturn, 1) := dk_172 (dk_at dksX0_ranked_0 14 rfl rfl)
theorem dX0_ranked_15 : decode cX0_ranked 15 = .ok (.iconst 0, 1) := dk_3 (dk_at dksX0_ranked_0 15 rfl rfl)
theorem dX0_ranked_16 : decode cX0_ranked 16 = .ok (.ireturn, 1) := dk_172 (dk_at dksX0_ranked_0 16 rfl rfl)
abbrev cX0_rope : ByteArray := method_8_code
def yX0_rope : MethodName := ⟨RX0, "rope", "(LGargoyleTower;I[J)I"⟩
def dkwX0_rope_0 : List UInt8 := [44, 3, 42, 27, 182, 0, 36, 133, 80, 167, 0, 9, 78, 4, 172, 78, 5, 172, 3, 172]
abbrev dktX0_rope_0 : List UInt8 := dkwX0_rope_0 ++ []
theorem dksX0_rope_0 : cX0_rope.data.toList.drop 0 = dktX0_rope_0 := by decide +kernel
theorem dX0_rope_0 : decode cX0_rope 0 = .ok (.aload_n 2, 1) := dk_44 (dk_at dksX0_rope_0 0 rfl rfl)
theorem dX0_rope_1 : decode cX0_rope 1 = .ok (.iconst 0, 1) := dk_3 (dk_at dksX0_rope_0 1 rfl rfl)
theorem dX0_rope_2 : decode cX0_rope 2 = .ok (.aload_n 0, 1) := dk_42 (dk_at dksX0_rope_0 2 rfl rfl)
theorem dX0_rope_3 : decode cX0_rope 3 = .ok (.iload_n 1, 1) := dk_27 (dk_at dksX0_rope_0 3 rfl rfl)
theorem dX0_rope_4 : decode cX0_rope 4 = .ok (.invokevirtual 36, 3) := dk_182 0 36 (dk_at dksX0_rope_0 4 rfl rfl)
theorem dX0_rope_7 : decode cX0_rope 7 = .ok (.i2l, 1) := dk_133 (dk_at dksX0_rope_0 7 rfl rfl)
theorem dX0_rope_8 : decode cX0_rope 8 = .ok (.lastore, 1) := dk_80 (dk_at dksX0_rope_0 8 rfl rfl)
theorem dX0_rope_9 : decode cX0_rope 9 = .ok (.goto 9, 3) := dk_167 0 9 (dk_at dksX0_rope_0 9 rfl rfl)
theorem dX0_rope_12 : decode cX0_rope 12 = .ok (.astore_n 3, 1) := dk_78 (dk_at dksX0_rope_0 12 rfl rfl)
theorem dX0_rope_13 : decode cX0_rope 13 = .ok (.iconst 1, 1) := dk_4 (dk_at dksX0_rope_0 13 rfl rfl)
theorem dX0_rope_14 : decode cX0_rope 14 = .ok (.ireturn, 1) := dk_172 (dk_at dksX0_rope_0 14 rfl rfl)
theorem dX0_rope_15 : decode cX0_rope 15 = .ok (.astore_n 3, 1) := dk_78 (dk_at dksX0_rope_0 15 rfl rfl)
theorem dX0_rope_16 : decode cX0_rope 16 = .ok (.iconst 2, 1) := dk_5 (dk_at dksX0_rope_0 16 rfl rfl)
theorem dX0_rope_17 : decode cX0_rope 17 = .ok (.ireturn, 1) := dk_172 (dk_at dksX0_rope_0 17 rfl rfl)
theorem dX0_rope_18 : decode cX0_rope 18 = .ok (.iconst 0, 1) := dk_3 (dk_at dksX0_rope_0 18 rfl rfl)
theorem dX0_rope_19 : decode cX0_rope 19 = .ok (.ireturn, 1) := dk_172 (dk_at dksX0_rope_0 19 rfl rfl)
abbrev cX0_ropeOf : ByteArray := method_9_code
def yX0_ropeOf : MethodName := ⟨RX0, "ropeOf", "(LGargoyleTower;II[J)I"⟩
def dkwX0_ropeOf_0 : List UInt8 := [45, 3, 42, 27, 28, 182, 0, 39, 133, 80, 167, 0, 11, 58, 4, 4, 172, 58, 4, 5, 172, 3, 172]
abbrev dktX0_ropeOf_0 : List UInt8 := dkwX0_ropeOf_0 ++ []
theorem dksX0_ropeOf_0 : cX0_ropeOf.data.toList.drop 0 = dktX0_ropeOf_0 := by decide +kernel
theorem dX0_ropeOf_0 : decode cX0_ropeOf 0 = .ok (.aload_n 3, 1) := dk_45 (dk_at dksX0_ropeOf_0 0 rfl rfl)
theorem dX0_ropeOf_1 : decode cX0_ropeOf 1 = .ok (.iconst 0, 1) := dk_3 (dk_at dksX0_ropeOf_0 1 rfl rfl)
theorem dX0_ropeOf_2 : decode cX0_ropeOf 2 = .ok (.aload_n 0, 1) := dk_42 (dk_at dksX0_ropeOf_0 2 rfl rfl)
theorem dX0_ropeOf_3 : decode cX0_ropeOf 3 = .ok (.iload_n 1, 1) := dk_27 (dk_at dksX0_ropeOf_0 3 rfl rfl)
theorem dX0_ropeOf_4 : decode cX0_ropeOf 4 = .ok (.iload_n 2, 1) := dk_28 (dk_at dksX0_ropeOf_0 4 rfl rfl)
theorem dX0_ropeOf_5 : decode cX0_ropeOf 5 = .ok (.invokevirtual 39, 3) := dk_182 0 39 (dk_at dksX0_ropeOf_0 5 rfl rfl)
theorem dX0_ropeOf_8 : decode cX0_ropeOf 8 = .ok (.i2l, 1) := dk_133 (dk_at dksX0_ropeOf_0 8 rfl rfl)
theorem dX0_ropeOf_9 : decode cX0_ropeOf 9 = .ok (.lastore, 1) := dk_80 (dk_at dksX0_ropeOf_0 9 rfl rfl)
theorem dX0_ropeOf_10 : decode cX0_ropeOf 10 = .ok (.goto 11, 3) := dk_167 0 11 (dk_at dksX0_ropeOf_0 10 rfl rfl)
theorem dX0_ropeOf_13 : decode cX0_ropeOf 13 = .ok (.astore 4, 2) := dk_58 4 (dk_at dksX0_ropeOf_0 13 rfl rfl)
theorem dX0_ropeOf_15 : decode cX0_ropeOf 15 = .ok (.iconst 1, 1) := dk_4 (dk_at dksX0_ropeOf_0 15 rfl rfl)
theorem dX0_ropeOf_16 : decode cX0_ropeOf 16 = .ok (.ireturn, 1) := dk_172 (dk_at dksX0_ropeOf_0 16 rfl rfl)
theorem dX0_ropeOf_17 : decode cX0_ropeOf 17 = .ok (.astore 4, 2) := dk_58 4 (dk_at dksX0_ropeOf_0 17 rfl rfl)
theorem dX0_ropeOf_19 : decode cX0_ropeOf 19 = .ok (.iconst 2, 1) := dk_5 (dk_at dksX0_ropeOf_0 19 rfl rfl)
theorem dX0_ropeOf_20 : decode cX0_ropeOf 20 = .ok (.ireturn, 1) := dk_172 (dk_at dksX0_ropeOf_0 20 rfl rfl)
theorem dX0_ropeOf_21 : decode cX0_ropeOf 21 = .ok (.iconst 0, 1) := dk_3 (dk_at dksX0_ropeOf_0 21 rfl rfl)
theorem dX0_ropeOf_22 : decode cX0_ropeOf 22 = .ok (.ireturn, 1) := dk_172 (dk_at dksX0_ropeOf_0 22 rfl rfl)
abbrev cX0_hoist : ByteArray := method_10_code
def yX0_hoist : MethodName := ⟨RX0, "hoist", "(LGargoyleTower;II[J)I"⟩
def dkwX0_hoist_0 : List UInt8 := [45, 3, 42, 27, 28, 182, 0, 42, 133, 80, 167, 0, 11, 58, 4, 4, 172, 58, 4, 5, 172, 3, 172]
abbrev dktX0_hoist_0 : List UInt8 := dkwX0_hoist_0 ++ []
theorem dksX0_hoist_0 : cX0_hoist.data.toList.drop 0 = dktX0_hoist_0 := by decide +kernel
theorem dX0_hoist_0 : decode cX0_hoist 0 = .ok (.aload_n 3, 1) := dk_45 (dk_at dksX0_hoist_0 0 rfl rfl)
theorem dX0_hoist_1 : decode cX0_hoist 1 = .ok (.iconst 0, 1) := dk_3 (dk_at dksX0_hoist_0 1 rfl rfl)
theorem dX0_hoist_2 : decode cX0_hoist 2 = .ok (.aload_n 0, 1) := dk_42 (dk_at dksX0_hoist_0 2 rfl rfl)
theorem dX0_hoist_3 : decode cX0_hoist 3 = .ok (.iload_n 1, 1) := dk_27 (dk_at dksX0_hoist_0 3 rfl rfl)
theorem dX0_hoist_4 : decode cX0_hoist 4 = .ok (.iload_n 2, 1) := dk_28 (dk_at dksX0_hoist_0 4 rfl rfl)
theorem dX0_hoist_5 : decode cX0_hoist 5 = .ok (.invokevirtual 42, 3) := dk_182 0 42 (dk_at dksX0_hoist_0 5 rfl rfl)
theorem dX0_hoist_8 : decode cX0_hoist 8 = .ok (.i2l, 1) := dk_133 (dk_at dksX0_hoist_0 8 rfl rfl)
theorem dX0_hoist_9 : decode cX0_hoist 9 = .ok (.lastore, 1) := dk_80 (dk_at dksX0_hoist_0 9 rfl rfl)
theorem dX0_hoist_10 : decode cX0_hoist 10 = .ok (.goto 11, 3) := dk_167 0 11 (dk_at dksX0_hoist_0 10 rfl rfl)
theorem dX0_hoist_13 : decode cX0_hoist 13 = .ok (.astore 4, 2) := dk_58 4 (dk_at dksX0_hoist_0 13 rfl rfl)
theorem dX0_hoist_15 : decode cX0_hoist 15 = .ok (.iconst 1, 1) := dk_4 (dk_at dksX0_hoist_0 15 rfl rfl)
theorem dX0_hoist_16 : decode cX0_hoist 16 = .ok (.ireturn, 1) := dk_172 (dk_at dksX0_hoist_0 16 rfl rfl)
theorem dX0_hoist_17 : decode cX0_hoist 17 = .ok (.astore 4, 2) := dk_58 4 (dk_at dksX0_hoist_0 17 rfl rfl)
theorem dX0_hoist_19 : decode cX0_hoist 19 = .ok (.iconst 2, 1) := dk_5 (dk_at dksX0_hoist_0 19 rfl rfl)
theorem dX0_hoist_20 : decode cX0_hoist 20 = .ok (.ireturn, 1) := dk_172 (dk_at dksX0_hoist_0 20 rfl rfl)
theorem dX0_hoist_21 : decode cX0_hoist 21 = .ok (.iconst 0, 1) := dk_3 (dk_at dksX0_hoist_0 21 rfl rfl)
theorem dX0_hoist_22 : decode cX0_hoist 22 = .ok (.ireturn, 1) := dk_172 (dk_at dksX0_hoist_0 22 rfl rfl)
abbrev cX0_lower : ByteArray := method_11_code
def yX0_lower : MethodName := ⟨RX0, "lower", "(LGargoyleTower;I[J)I"⟩
def dkwX0_lower_0 : List UInt8 := [44, 3, 42, 27, 182, 0, 45, 133, 80, 167, 0, 9, 78, 4, 172, 78, 5, 172, 3, 172]
abbrev dktX0_lower_0 : List UInt8 := dkwX0_lower_0 ++ []
theorem dksX0_lower_0 : cX0_lower.data.toList.drop 0 = dktX0_lower_0 := by decide +kernel
theorem dX0_lower_0 : decode cX0_lower 0 = .ok (.aload_n 2, 1) := dk_44 (dk_at dksX0_lower_0 0 rfl rfl)
theorem dX0_lower_1 : decode cX0_lower 1 = .ok (.iconst 0, 1) := dk_3 (dk_at dksX0_lower_0 1 rfl rfl)
theorem dX0_lower_2 : decode cX0_lower 2 = .ok (.aload_n 0, 1) := dk_42 (dk_at dksX0_lower_0 2 rfl rfl)
theorem dX0_lower_3 : decode cX0_lower 3 = .ok (.iload_n 1, 1) := dk_27 (dk_at dksX0_lower_0 3 rfl rfl)
theorem dX0_lower_4 : decode cX0_lower 4 = .ok (.invokevirtual 45, 3) := dk_182 0 45 (dk_at dksX0_lower_0 4 rfl rfl)
theorem dX0_lower_7 : decode cX0_lower 7 = .ok (.i2l, 1) := dk_133 (dk_at dksX0_lower_0 7 rfl rfl)
theorem dX0_lower_8 : decode cX0_lower 8 = .ok (.lastore, 1) := dk_80 (dk_at dksX0_lower_0 8 rfl rfl)
theorem dX0_lower_9 : decode cX0_lower 9 = .ok (.goto 9, 3) := dk_167 0 9 (dk_at dksX0_lower_0 9 rfl rfl)
theorem dX0_lower_12 : decode cX0_lower 12 = .ok (.astore_n 3, 1) := dk_78 (dk_at dksX0_lower_0 12 rfl rfl)
theorem dX0_lower_13 : decode cX0_lower 13 = .ok (.iconst 1, 1) := dk_4 (dk_at dksX0_lower_0 13 rfl rfl)
theorem dX0_lower_14 : decode cX0_lower 14 = .ok (.ireturn, 1) := dk_172 (dk_at dksX0_lower_0 14 rfl rfl)
theorem dX0_lower_15 : decode cX0_lower 15 = .ok (.astore_n 3, 1) := dk_78 (dk_at dksX0_lower_0 15 rfl rfl)
theorem dX0_lower_16 : decode cX0_lower 16 = .ok (.iconst 2, 1) := dk_5 (dk_at dksX0_lower_0 16 rfl rfl)
theorem dX0_lower_17 : decode cX0_lower 17 = .ok (.ireturn, 1) := dk_172 (dk_at dksX0_lower_0 17 rfl rfl)
theorem dX0_lower_18 : decode cX0_lower 18 = .ok (.iconst 0, 1) := dk_3 (dk_at dksX0_lower_0 18 rfl rfl)
theorem dX0_lower_19 : decode cX0_lower 19 = .ok (.ireturn, 1) := dk_172 (dk_at dksX0_lower_0 19 rfl rfl)
abbrev cX0_set : ByteArray := method_12_code
def yX0_set : MethodName := ⟨RX0, "set", "(LGargoyleTower;II[J)I"⟩
def dkwX0_set_0 : List UInt8 := [45, 3, 42, 27, 28, 182, 0, 48, 133, 80, 167, 0, 11, 58, 4, 4, 172, 58, 4, 5, 172, 3, 172]
abbrev dktX0_set_0 : List UInt8 := dkwX0_set_0 ++ []
theorem dksX0_set_0 : cX0_set.data.toList.drop 0 = dktX0_set_0 := by decide +kernel
theorem dX0_set_0 : decode cX0_set 0 = .ok (.aload_n 3, 1) := dk_45 (dk_at dksX0_set_0 0 rfl rfl)
theorem dX0_set_1 : decode cX0_set 1 = .ok (.iconst 0, 1) := dk_3 (dk_at dksX0_set_0 1 rfl rfl)
theorem dX0_set_2 : decode cX0_set 2 = .ok (.aload_n 0, 1) := dk_42 (dk_at dksX0_set_0 2 rfl rfl)
theorem dX0_set_3 : decode cX0_set 3 = .ok (.iload_n 1, 1) := dk_27 (dk_at dksX0_set_0 3 rfl rfl)
theorem dX0_set_4 : decode cX0_set 4 = .ok (.iload_n 2, 1) := dk_28 (dk_at dksX0_set_0 4 rfl rfl)
theorem dX0_set_5 : decode cX0_set 5 = .ok (.invokevirtual 48, 3) := dk_182 0 48 (dk_at dksX0_set_0 5 rfl rfl)
theorem dX0_set_8 : decode cX0_set 8 = .ok (.i2l, 1) := dk_133 (dk_at dksX0_set_0 8 rfl rfl)
theorem dX0_set_9 : decode cX0_set 9 = .ok (.lastore, 1) := dk_80 (dk_at dksX0_set_0 9 rfl rfl)
theorem dX0_set_10 : decode cX0_set 10 = .ok (.goto 11, 3) := dk_167 0 11 (dk_at dksX0_set_0 10 rfl rfl)
theorem dX0_set_13 : decode cX0_set 13 = .ok (.astore 4, 2) := dk_58 4 (dk_at dksX0_set_0 13 rfl rfl)
theorem dX0_set_15 : decode cX0_set 15 = .ok (.iconst 1, 1) := dk_4 (dk_at dksX0_set_0 15 rfl rfl)
theorem dX0_set_16 : decode cX0_set 16 = .ok (.ireturn, 1) := dk_172 (dk_at dksX0_set_0 16 rfl rfl)
theorem dX0_set_17 : decode cX0_set 17 = .ok (.astore 4, 2) := dk_58 4 (dk_at dksX0_set_0 17 rfl rfl)
theorem dX0_set_19 : decode cX0_set 19 = .ok (.iconst 2, 1) := dk_5 (dk_at dksX0_set_0 19 rfl rfl)
theorem dX0_set_20 : decode cX0_set 20 = .ok (.ireturn, 1) := dk_172 (dk_at dksX0_set_0 20 rfl rfl)
theorem dX0_set_21 : decode cX0_set 21 = .ok (.iconst 0, 1) := dk_3 (dk_at dksX0_set_0 21 rfl rfl)
theorem dX0_set_22 : decode cX0_set 22 = .ok (.ireturn, 1) := dk_172 (dk_at dksX0_set_0 22 rfl rfl)
abbrev cX0_blockIn : ByteArray := method_13_code
def yX0_blockIn : MethodName := ⟨RX0, "blockIn", "(LGargoyleTower;I[J)I"⟩
def dkwX0_blockIn_0 : List UInt8 := [44, 3, 42, 27, 182, 0, 51, 133, 80, 167, 0, 6, 78, 4, 172, 3, 172]
abbrev dktX0_blockIn_0 : List UInt8 := dkwX0_blockIn_0 ++ []
theorem dksX0_blockIn_0 : cX0_blockIn.data.toList.drop 0 = dktX0_blockIn_0 := by decide +kernel
theorem dX0_blockIn_0 : decode cX0_blockIn 0 = .ok (.aload_n 2, 1) := dk_44 (dk_at dksX0_blockIn_0 0 rfl rfl)
theorem dX0_blockIn_1 : decode cX0_blockIn 1 = .ok (.iconst 0, 1) := dk_3 (dk_at dksX0_blockIn_0 1 rfl rfl)
theorem dX0_blockIn_2 : decode cX0_blockIn 2 = .ok (.aload_n 0, 1) := dk_42 (dk_at dksX0_blockIn_0 2 rfl rfl)
theorem dX0_blockIn_3 : decode cX0_blockIn 3 = .ok (.iload_n 1, 1) := dk_27 (dk_at dksX0_blockIn_0 3 rfl rfl)
theorem dX0_blockIn_4 : decode cX0_blockIn 4 = .ok (.invokevirtual 51, 3) := dk_182 0 51 (dk_at dksX0_blockIn_0 4 rfl rfl)
theorem dX0_blockIn_7 : decode cX0_blockIn 7 = .ok (.i2l, 1) := dk_133 (dk_at dksX0_blockIn_0 7 rfl rfl)
theorem dX0_blockIn_8 : decode cX0_blockIn 8 = .ok (.lastore, 1) := dk_80 (dk_at dksX0_blockIn_0 8 rfl rfl)
theorem dX0_blockIn_9 : decode cX0_blockIn 9 = .ok (.goto 6, 3) := dk_167 0 6 (dk_at dksX0_blockIn_0 9 rfl rfl)
theorem dX0_blockIn_12 : decode cX0_blockIn 12 = .ok (.astore_n 3, 1) := dk_78 (dk_at dksX0_blockIn_0 12 rfl rfl)
theorem dX0_blockIn_13 : decode cX0_blockIn 13 = .ok (.iconst 1, 1) := dk_4 (dk_at dksX0_blockIn_0 13 rfl rfl)
theorem dX0_blockIn_14 : decode cX0_blockIn 14 = .ok (.ireturn, 1) := dk_172 (dk_at dksX0_blockIn_0 14 rfl rfl)
theorem dX0_blockIn_15 : decode cX0_blockIn 15 = .ok (.iconst 0, 1) := dk_3 (dk_at dksX0_blockIn_0 15 rfl rfl)
theorem dX0_blockIn_16 : decode cX0_blockIn 16 = .ok (.ireturn, 1) := dk_172 (dk_at dksX0_blockIn_0 16 rfl rfl)
abbrev cX0_weightOn : ByteArray := method_14_code
def yX0_weightOn : MethodName := ⟨RX0, "weightOn", "(LGargoyleTower;I[J)I"⟩
def dkwX0_weightOn_0 : List UInt8 := [44, 3, 42, 27, 182, 0, 54, 133, 80, 167, 0, 6, 78, 4, 172, 3, 172]
abbrev dktX0_weightOn_0 : List UInt8 := dkwX0_weightOn_0 ++ []
theorem dksX0_weightOn_0 : cX0_weightOn.data.toList.drop 0 = dktX0_weightOn_0 := by decide +kernel
theorem dX0_weightOn_0 : decode cX0_weightOn 0 = .ok (.aload_n 2, 1) := dk_44 (dk_at dksX0_weightOn_0 0 rfl rfl)
theorem dX0_weightOn_1 : decode cX0_weightOn 1 = .ok (.iconst 0, 1) := dk_3 (dk_at dksX0_weightOn_0 1 rfl rfl)
theorem dX0_weightOn_2 : decode cX0_weightOn 2 = .ok (.aload_n 0, 1) := dk_42 (dk_at dksX0_weightOn_0 2 rfl rfl)
theorem dX0_weightOn_3 : decode cX0_weightOn 3 = .ok (.iload_n 1, 1) := dk_27 (dk_at dksX0_weightOn_0 3 rfl rfl)
theorem dX0_weightOn_4 : decode cX0_weightOn 4 = .ok (.invokevirtual 54, 3) := dk_182 0 54 (dk_at dksX0_weightOn_0 4 rfl rfl)
theorem dX0_weightOn_7 : decode cX0_weightOn 7 = .ok (.i2l, 1) := dk_133 (dk_at dksX0_weightOn_0 7 rfl rfl)
theorem dX0_weightOn_8 : decode cX0_weightOn 8 = .ok (.lastore, 1) := dk_80 (dk_at dksX0_weightOn_0 8 rfl rfl)
theorem dX0_weightOn_9 : decode cX0_weightOn 9 = .ok (.goto 6, 3) := dk_167 0 6 (dk_at dksX0_weightOn_0 9 rfl rfl)
theorem dX0_weightOn_12 : decode cX0_weightOn 12 = .ok (.astore_n 3, 1) := dk_78 (dk_at dksX0_weightOn_0 12 rfl rfl)
theorem dX0_weightOn_13 : decode cX0_weightOn 13 = .ok (.iconst 1, 1) := dk_4 (dk_at dksX0_weightOn_0 13 rfl rfl)
theorem dX0_weightOn_14 : decode cX0_weightOn 14 = .ok (.ireturn, 1) := dk_172 (dk_at dksX0_weightOn_0 14 rfl rfl)
theorem dX0_weightOn_15 : decode cX0_weightOn 15 = .ok (.iconst 0, 1) := dk_3 (dk_at dksX0_weightOn_0 15 rfl rfl)
theorem dX0_weightOn_16 : decode cX0_weightOn 16 = .ok (.ireturn, 1) := dk_172 (dk_at dksX0_weightOn_0 16 rfl rfl)
abbrev cX0_wouldFall : ByteArray := method_15_code
def yX0_wouldFall : MethodName := ⟨RX0, "wouldFall", "(LGargoyleTower;I[J)I"⟩
def dkwX0_wouldFall_0 : List UInt8 := [44, 3, 42, 27, 182, 0, 57, 133, 80, 167, 0, 6, 78, 4, 172, 3, 172]
abbrev dktX0_wouldFall_0 : List UInt8 := dkwX0_wouldFall_0 ++ []
theorem dksX0_wouldFall_0 : cX0_wouldFall.data.toList.drop 0 = dktX0_wouldFall_0 := by decide +kernel
theorem dX0_wouldFall_0 : decode cX0_wouldFall 0 = .ok (.aload_n 2, 1) := dk_44 (dk_at dksX0_wouldFall_0 0 rfl rfl)
theorem dX0_wouldFall_1 : decode cX0_wouldFall 1 = .ok (.iconst 0, 1) := dk_3 (dk_at dksX0_wouldFall_0 1 rfl rfl)
theorem dX0_wouldFall_2 : decode cX0_wouldFall 2 = .ok (.aload_n 0, 1) := dk_42 (dk_at dksX0_wouldFall_0 2 rfl rfl)
theorem dX0_wouldFall_3 : decode cX0_wouldFall 3 = .ok (.iload_n 1, 1) := dk_27 (dk_at dksX0_wouldFall_0 3 rfl rfl)
theorem dX0_wouldFall_4 : decode cX0_wouldFall 4 = .ok (.invokevirtual 57, 3) := dk_182 0 57 (dk_at dksX0_wouldFall_0 4 rfl rfl)
theorem dX0_wouldFall_7 : decode cX0_wouldFall 7 = .ok (.i2l, 1) := dk_133 (dk_at dksX0_wouldFall_0 7 rfl rfl)
theorem dX0_wouldFall_8 : decode cX0_wouldFall 8 = .ok (.lastore, 1) := dk_80 (dk_at dksX0_wouldFall_0 8 rfl rfl)
theorem dX0_wouldFall_9 : decode cX0_wouldFall 9 = .ok (.goto 6, 3) := dk_167 0 6 (dk_at dksX0_wouldFall_0 9 rfl rfl)
theorem dX0_wouldFall_12 : decode cX0_wouldFall 12 = .ok (.astore_n 3, 1) := dk_78 (dk_at dksX0_wouldFall_0 12 rfl rfl)
theorem dX0_wouldFall_13 : decode cX0_wouldFall 13 = .ok (.iconst 1, 1) := dk_4 (dk_at dksX0_wouldFall_0 13 rfl rfl)
theorem dX0_wouldFall_14 : decode cX0_wouldFall 14 = .ok (.ireturn, 1) := dk_172 (dk_at dksX0_wouldFall_0 14 rfl rfl)
theorem dX0_wouldFall_15 : decode cX0_wouldFall 15 = .ok (.iconst 0, 1) := dk_3 (dk_at dksX0_wouldFall_0 15 rfl rfl)
theorem dX0_wouldFall_16 : decode cX0_wouldFall 16 = .ok (.ireturn, 1) := dk_172 (dk_at dksX0_wouldFall_0 16 rfl rfl)
abbrev cX0_wouldFallAgain : ByteArray := method_16_code
def yX0_wouldFallAgain : MethodName := ⟨RX0, "wouldFallAgain", "(LGargoyleTower;I[J)I"⟩
def dkwX0_wouldFallAgain_0 : List UInt8 := [44, 3, 42, 27, 182, 0, 60, 133, 80, 167, 0, 6, 78, 4, 172, 3, 172]
abbrev dktX0_wouldFallAgain_0 : List UInt8 := dkwX0_wouldFallAgain_0 ++ []
theorem dksX0_wouldFallAgain_0 : cX0_wouldFallAgain.data.toList.drop 0 = dktX0_wouldFallAgain_0 := by decide +kernel
theorem dX0_wouldFallAgain_0 : decode cX0_wouldFallAgain 0 = .ok (.aload_n 2, 1) := dk_44 (dk_at dksX0_wouldFallAgain_0 0 rfl rfl)
theorem dX0_wouldFallAgain_1 : decode cX0_wouldFallAgain 1 = .ok (.iconst 0, 1) := dk_3 (dk_at dksX0_wouldFallAgain_0 1 rfl rfl)
theorem dX0_wouldFallAgain_2 : decode cX0_wouldFallAgain 2 = .ok (.aload_n 0, 1) := dk_42 (dk_at dksX0_wouldFallAgain_0 2 rfl rfl)
theorem dX0_wouldFallAgain_3 : decode cX0_wouldFallAgain 3 = .ok (.iload_n 1, 1) := dk_27 (dk_at dksX0_wouldFallAgain_0 3 rfl rfl)
theorem dX0_wouldFallAgain_4 : decode cX0_wouldFallAgain 4 = .ok (.invokevirtual 60, 3) := dk_182 0 60 (dk_at dksX0_wouldFallAgain_0 4 rfl rfl)
theorem dX0_wouldFallAgain_7 : decode cX0_wouldFallAgain 7 = .ok (.i2l, 1) := dk_133 (dk_at dksX0_wouldFallAgain_0 7 rfl rfl)
theorem dX0_wouldFallAgain_8 : decode cX0_wouldFallAgain 8 = .ok (.lastore, 1) := dk_80 (dk_at dksX0_wouldFallAgain_0 8 rfl rfl)
theorem dX0_wouldFallAgain_9 : decode cX0_wouldFallAgain 9 = .ok (.goto 6, 3) := dk_167 0 6 (dk_at dksX0_wouldFallAgain_0 9 rfl rfl)
theorem dX0_wouldFallAgain_12 : decode cX0_wouldFallAgain 12 = .ok (.astore_n 3, 1) := dk_78 (dk_at dksX0_wouldFallAgain_0 12 rfl rfl)
theorem dX0_wouldFallAgain_13 : decode cX0_wouldFallAgain 13 = .ok (.iconst 1, 1) := dk_4 (dk_at dksX0_wouldFallAgain_0 13 rfl rfl)
theorem dX0_wouldFallAgain_14 : decode cX0_wouldFallAgain 14 = .ok (.ireturn, 1) := dk_172 (dk_at dksX0_wouldFallAgain_0 14 rfl rfl)
theorem dX0_wouldFallAgain_15 : decode cX0_wouldFallAgain 15 = .ok (.iconst 0, 1) := dk_3 (dk_at dksX0_wouldFallAgain_0 15 rfl rfl)
theorem dX0_wouldFallAgain_16 : decode cX0_wouldFallAgain 16 = .ok (.ireturn, 1) := dk_172 (dk_at dksX0_wouldFallAgain_0 16 rfl rfl)
abbrev cX0_push : ByteArray := method_17_code
def yX0_push : MethodName := ⟨RX0, "push", "(LGargoyleTower;I[J)I"⟩
def dkwX0_push_0 : List UInt8 := [44, 3, 42, 27, 182, 0, 63, 133, 80, 167, 0, 9, 78, 4, 172, 78, 5, 172, 3, 172]
abbrev dktX0_push_0 : List UInt8 := dkwX0_push_0 ++ []
theorem dksX0_push_0 : cX0_push.data.toList.drop 0 = dktX0_push_0 := by decide +kernel
theorem dX0_push_0 : decode cX0_push 0 = .ok (.aload_n 2, 1) := dk_44 (dk_at dksX0_push_0 0 rfl rfl)
theorem dX0_push_1 : decode cX0_push 1 = .ok (.iconst 0, 1) := dk_3 (dk_at dksX0_push_0 1 rfl rfl)
theorem dX0_push_2 : decode cX0_push 2 = .ok (.aload_n 0, 1) := dk_42 (dk_at dksX0_push_0 2 rfl rfl)
theorem dX0_push_3 : decode cX0_push 3 = .ok (.iload_n 1, 1) := dk_27 (dk_at dksX0_push_0 3 rfl rfl)
theorem dX0_push_4 : decode cX0_push 4 = .ok (.invokevirtual 63, 3) := dk_182 0 63 (dk_at dksX0_push_0 4 rfl rfl)
theorem dX0_push_7 : decode cX0_push 7 = .ok (.i2l, 1) := dk_133 (dk_at dksX0_push_0 7 rfl rfl)
theorem dX0_push_8 : decode cX0_push 8 = .ok (.lastore, 1) := dk_80 (dk_at dksX0_push_0 8 rfl rfl)
theorem dX0_push_9 : decode cX0_push 9 = .ok (.goto 9, 3) := dk_167 0 9 (dk_at dksX0_push_0 9 rfl rfl)
theorem dX0_push_12 : decode cX0_push 12 = .ok (.astore_n 3, 1) := dk_78 (dk_at dksX0_push_0 12 rfl rfl)
theorem dX0_push_13 : decode cX0_push 13 = .ok (.iconst 1, 1) := dk_4 (dk_at dksX0_push_0 13 rfl rfl)
theorem dX0_push_14 : decode cX0_push 14 = .ok (.ireturn, 1) := dk_172 (dk_at dksX0_push_0 14 rfl rfl)
theorem dX0_push_15 : decode cX0_push 15 = .ok (.astore_n 3, 1) := dk_78 (dk_at dksX0_push_0 15 rfl rfl)
theorem dX0_push_16 : decode cX0_push 16 = .ok (.iconst 2, 1) := dk_5 (dk_at dksX0_push_0 16 rfl rfl)
theorem dX0_push_17 : decode cX0_push 17 = .ok (.ireturn, 1) := dk_172 (dk_at dksX0_push_0 17 rfl rfl)
theorem dX0_push_18 : decode cX0_push 18 = .ok (.iconst 0, 1) := dk_3 (dk_at dksX0_push_0 18 rfl rfl)
theorem dX0_push_19 : decode cX0_push 19 = .ok (.ireturn, 1) := dk_172 (dk_at dksX0_push_0 19 rfl rfl)
abbrev cX0_commission : ByteArray := method_18_code
def yX0_commission : MethodName := ⟨RX0, "commission", "(LGargoyleTower;III[J)I"⟩
def dkwX0_commission_1 : List UInt8 := [58, 5, 6, 172, 3, 172]
abbrev dktX0_commission_1 : List UInt8 := dkwX0_commission_1 ++ []
def dkwX0_commission_0 : List UInt8 := [25, 4, 3, 42, 27, 28, 29, 182, 0, 66, 133, 80, 167, 0, 15, 58, 5, 4, 172, 58, 5, 5, 172]
abbrev dktX0_commission_0 : List UInt8 := dkwX0_commission_0 ++ dktX0_commission_1
theorem dksX0_commission_0 : cX0_commission.data.toList.drop 0 = dktX0_commission_0 := by decide +kernel
theorem dksX0_commission_1 : cX0_commission.data.toList.drop 23 = dktX0_commission_1 := dk_seg dksX0_commission_0 23 rfl rfl
theorem dX0_commission_0 : decode cX0_commission 0 = .ok (.aload 4, 2) := dk_25 4 (dk_at dksX0_commission_0 0 rfl rfl)
theorem dX0_commission_2 : decode cX0_commission 2 = .ok (.iconst 0, 1) := dk_3 (dk_at dksX0_commission_0 2 rfl rfl)
theorem dX0_commission_3 : decode cX0_commission 3 = .ok (.aload_n 0, 1) := dk_42 (dk_at dksX0_commission_0 3 rfl rfl)
theorem dX0_commission_4 : decode cX0_commission 4 = .ok (.iload_n 1, 1) := dk_27 (dk_at dksX0_commission_0 4 rfl rfl)
theorem dX0_commission_5 : decode cX0_commission 5 = .ok (.iload_n 2, 1) := dk_28 (dk_at dksX0_commission_0 5 rfl rfl)
theorem dX0_commission_6 : decode cX0_commission 6 = .ok (.iload_n 3, 1) := dk_29 (dk_at dksX0_commission_0 6 rfl rfl)
theorem dX0_commission_7 : decode cX0_commission 7 = .ok (.invokevirtual 66, 3) := dk_182 0 66 (dk_at dksX0_commission_0 7 rfl rfl)
theorem dX0_commission_10 : decode cX0_commission 10 = .ok (.i2l, 1) := dk_133 (dk_at dksX0_commission_0 10 rfl rfl)
theorem dX0_commission_11 : decode cX0_commission 11 = .ok (.lastore, 1) := dk_80 (dk_at dksX0_commission_0 11 rfl rfl)
theorem dX0_commission_12 : decode cX0_commission 12 = .ok (.goto 15, 3) := dk_167 0 15 (dk_at dksX0_commission_0 12 rfl rfl)
theorem dX0_commission_15 : decode cX0_commission 15 = .ok (.astore 5, 2) := dk_58 5 (dk_at dksX0_commission_0 15 rfl rfl)
theorem dX0_commission_17 : decode cX0_commission 17 = .ok (.iconst 1, 1) := dk_4 (dk_at dksX0_commission_0 17 rfl rfl)
theorem dX0_commission_18 : decode cX0_commission 18 = .ok (.ireturn, 1) := dk_172 (dk_at dksX0_commission_0 18 rfl rfl)
theorem dX0_commission_19 : decode cX0_commission 19 = .ok (.astore 5, 2) := dk_58 5 (dk_at dksX0_commission_0 19 rfl rfl)
theorem dX0_commission_21 : decode cX0_commission 21 = .ok (.iconst 2, 1) := dk_5 (dk_at dksX0_commission_0 21 rfl rfl)
theorem dX0_commission_22 : decode cX0_commission 22 = .ok (.ireturn, 1) := dk_172 (dk_at dksX0_commission_0 22 rfl rfl)
theorem dX0_commission_23 : decode cX0_commission 23 = .ok (.astore 5, 2) := dk_58 5 (dk_at dksX0_commission_1 0 rfl rfl)
theorem dX0_commission_25 : decode cX0_commission 25 = .ok (.iconst 3, 1) := dk_6 (dk_at dksX0_commission_1 2 rfl rfl)
theorem dX0_commission_26 : decode cX0_commission 26 = .ok (.ireturn, 1) := dk_172 (dk_at dksX0_commission_1 3 rfl rfl)
theorem dX0_commission_27 : decode cX0_commission 27 = .ok (.iconst 0, 1) := dk_3 (dk_at dksX0_commission_1 4 rfl rfl)
theorem dX0_commission_28 : decode cX0_commission 28 = .ok (.ireturn, 1) := dk_172 (dk_at dksX0_commission_1 5 rfl rfl)
abbrev cX0_deliver : ByteArray := method_19_code
def yX0_deliver : MethodName := ⟨RX0, "deliver", "(LGargoyleTower;II[J)I"⟩
def dkwX0_deliver_0 : List UInt8 := [45, 3, 42, 27, 28, 182, 0, 70, 133, 80, 167, 0, 11, 58, 4, 4, 172, 58, 4, 5, 172, 3, 172]
abbrev dktX0_deliver_0 : List UInt8 := dkwX0_deliver_0 ++ []
theorem dksX0_deliver_0 : cX0_deliver.data.toList.drop 0 = dktX0_deliver_0 := by decide +kernel
theorem dX0_deliver_0 : decode cX0_deliver 0 = .ok (.aload_n 3, 1) := dk_45 (dk_at dksX0_deliver_0 0 rfl rfl)
theorem dX0_deliver_1 : decode cX0_deliver 1 = .ok (.iconst 0, 1) := dk_3 (dk_at dksX0_deliver_0 1 rfl rfl)
theorem dX0_deliver_2 : decode cX0_deliver 2 = .ok (.aload_n 0, 1) := dk_42 (dk_at dksX0_deliver_0 2 rfl rfl)
theorem dX0_deliver_3 : decode cX0_deliver 3 = .ok (.iload_n 1, 1) := dk_27 (dk_at dksX0_deliver_0 3 rfl rfl)
theorem dX0_deliver_4 : decode cX0_deliver 4 = .ok (.iload_n 2, 1) := dk_28 (dk_at dksX0_deliver_0 4 rfl rfl)
theorem dX0_deliver_5 : decode cX0_deliver 5 = .ok (.invokevirtual 70, 3) := dk_182 0 70 (dk_at dksX0_deliver_0 5 rfl rfl)
theorem dX0_deliver_8 : decode cX0_deliver 8 = .ok (.i2l, 1) := dk_133 (dk_at dksX0_deliver_0 8 rfl rfl)
theorem dX0_deliver_9 : decode cX0_deliver 9 = .ok (.lastore, 1) := dk_80 (dk_at dksX0_deliver_0 9 rfl rfl)
theorem dX0_deliver_10 : decode cX0_deliver 10 = .ok (.goto 11, 3) := dk_167 0 11 (dk_at dksX0_deliver_0 10 rfl rfl)
theorem dX0_deliver_13 : decode cX0_deliver 13 = .ok (.astore 4, 2) := dk_58 4 (dk_at dksX0_deliver_0 13 rfl rfl)
theorem dX0_deliver_15 : decode cX0_deliver 15 = .ok (.iconst 1, 1) := dk_4 (dk_at dksX0_deliver_0 15 rfl rfl)
theorem dX0_deliver_16 : decode cX0_deliver 16 = .ok (.ireturn, 1) := dk_172 (dk_at dksX0_deliver_0 16 rfl rfl)
theorem dX0_deliver_17 : decode cX0_deliver 17 = .ok (.astore 4, 2) := dk_58 4 (dk_at dksX0_deliver_0 17 rfl rfl)
theorem dX0_deliver_19 : decode cX0_deliver 19 = .ok (.iconst 2, 1) := dk_5 (dk_at dksX0_deliver_0 19 rfl rfl)
theorem dX0_deliver_20 : decode cX0_deliver 20 = .ok (.ireturn, 1) := dk_172 (dk_at dksX0_deliver_0 20 rfl rfl)
theorem dX0_deliver_21 : decode cX0_deliver 21 = .ok (.iconst 0, 1) := dk_3 (dk_at dksX0_deliver_0 21 rfl rfl)
theorem dX0_deliver_22 : decode cX0_deliver 22 = .ok (.ireturn, 1) := dk_172 (dk_at dksX0_deliver_0 22 rfl rfl)
abbrev cX0_commissionOf : ByteArray := method_20_code
def yX0_commissionOf : MethodName := ⟨RX0, "commissionOf", "(LGargoyleTower;II[J)I"⟩
def dkwX0_commissionOf_0 : List UInt8 := [45, 3, 42, 27, 28, 182, 0, 73, 133, 80, 167, 0, 11, 58, 4, 4, 172, 58, 4, 5, 172, 3, 172]
abbrev dktX0_commissionOf_0 : List UInt8 := dkwX0_commissionOf_0 ++ []
theorem dksX0_commissionOf_0 : cX0_commissionOf.data.toList.drop 0 = dktX0_commissionOf_0 := by decide +kernel
theorem dX0_commissionOf_0 : decode cX0_commissionOf 0 = .ok (.aload_n 3, 1) := dk_45 (dk_at dksX0_commissionOf_0 0 rfl rfl)
theorem dX0_commissionOf_1 : decode cX0_commissionOf 1 = .ok (.iconst 0, 1) := dk_3 (dk_at dksX0_commissionOf_0 1 rfl rfl)
theorem dX0_commissionOf_2 : decode cX0_commissionOf 2 = .ok (.aload_n 0, 1) := dk_42 (dk_at dksX0_commissionOf_0 2 rfl rfl)
theorem dX0_commissionOf_3 : decode cX0_commissionOf 3 = .ok (.iload_n 1, 1) := dk_27 (dk_at dksX0_commissionOf_0 3 rfl rfl)
theorem dX0_commissionOf_4 : decode cX0_commissionOf 4 = .ok (.iload_n 2, 1) := dk_28 (dk_at dksX0_commissionOf_0 4 rfl rfl)
theorem dX0_commissionOf_5 : decode cX0_commissionOf 5 = .ok (.invokevirtual 73, 3) := dk_182 0 73 (dk_at dksX0_commissionOf_0 5 rfl rfl)
theorem dX0_commissionOf_8 : decode cX0_commissionOf 8 = .ok (.i2l, 1) := dk_133 (dk_at dksX0_commissionOf_0 8 rfl rfl)
theorem dX0_commissionOf_9 : decode cX0_commissionOf 9 = .ok (.lastore, 1) := dk_80 (dk_at dksX0_commissionOf_0 9 rfl rfl)
theorem dX0_commissionOf_10 : decode cX0_commissionOf 10 = .ok (.goto 11, 3) := dk_167 0 11 (dk_at dksX0_commissionOf_0 10 rfl rfl)
theorem dX0_commissionOf_13 : decode cX0_commissionOf 13 = .ok (.astore 4, 2) := dk_58 4 (dk_at dksX0_commissionOf_0 13 rfl rfl)
theorem dX0_commissionOf_15 : decode cX0_commissionOf 15 = .ok (.iconst 1, 1) := dk_4 (dk_at dksX0_commissionOf_0 15 rfl rfl)
theorem dX0_commissionOf_16 : decode cX0_commissionOf 16 = .ok (.ireturn, 1) := dk_172 (dk_at dksX0_commissionOf_0 16 rfl rfl)
theorem dX0_commissionOf_17 : decode cX0_commissionOf 17 = .ok (.astore 4, 2) := dk_58 4 (dk_at dksX0_commissionOf_0 17 rfl rfl)
theorem dX0_commissionOf_19 : decode cX0_commissionOf 19 = .ok (.iconst 2, 1) := dk_5 (dk_at dksX0_commissionOf_0 19 rfl rfl)
theorem dX0_commissionOf_20 : decode cX0_commissionOf 20 = .ok (.ireturn, 1) := dk_172 (dk_at dksX0_commissionOf_0 20 rfl rfl)
theorem dX0_commissionOf_21 : decode cX0_commissionOf 21 = .ok (.iconst 0, 1) := dk_3 (dk_at dksX0_commissionOf_0 21 rfl rfl)
theorem dX0_commissionOf_22 : decode cX0_commissionOf 22 = .ok (.ireturn, 1) := dk_172 (dk_at dksX0_commissionOf_0 22 rfl rfl)
abbrev cX0_paidFor : ByteArray := method_21_code
def yX0_paidFor : MethodName := ⟨RX0, "paidFor", "(LGargoyleTower;I[J)I"⟩
def dkwX0_paidFor_0 : List UInt8 := [44, 3, 42, 27, 182, 0, 76, 133, 80, 167, 0, 6, 78, 4, 172, 3, 172]
abbrev dktX0_paidFor_0 : List UInt8 := dkwX0_paidFor_0 ++ []
theorem dksX0_paidFor_0 : cX0_paidFor.data.toList.drop 0 = dktX0_paidFor_0 := by decide +kernel
theorem dX0_paidFor_0 : decode cX0_paidFor 0 = .ok (.aload_n 2, 1) := dk_44 (dk_at dksX0_paidFor_0 0 rfl rfl)
theorem dX0_paidFor_1 : decode cX0_paidFor 1 = .ok (.iconst 0, 1) := dk_3 (dk_at dksX0_paidFor_0 1 rfl rfl)
theorem dX0_paidFor_2 : decode cX0_paidFor 2 = .ok (.aload_n 0, 1) := dk_42 (dk_at dksX0_paidFor_0 2 rfl rfl)
theorem dX0_paidFor_3 : decode cX0_paidFor 3 = .ok (.iload_n 1, 1) := dk_27 (dk_at dksX0_paidFor_0 3 rfl rfl)
theorem dX0_paidFor_4 : decode cX0_paidFor 4 = .ok (.invokevirtual 76, 3) := dk_182 0 76 (dk_at dksX0_paidFor_0 4 rfl rfl)
theorem dX0_paidFor_7 : decode cX0_paidFor 7 = .ok (.i2l, 1) := dk_133 (dk_at dksX0_paidFor_0 7 rfl rfl)
theorem dX0_paidFor_8 : decode cX0_paidFor 8 = .ok (.lastore, 1) := dk_80 (dk_at dksX0_paidFor_0 8 rfl rfl)
theorem dX0_paidFor_9 : decode cX0_paidFor 9 = .ok (.goto 6, 3) := dk_167 0 6 (dk_at dksX0_paidFor_0 9 rfl rfl)
theorem dX0_paidFor_12 : decode cX0_paidFor 12 = .ok (.astore_n 3, 1) := dk_78 (dk_at dksX0_paidFor_0 12 rfl rfl)
theorem dX0_paidFor_13 : decode cX0_paidFor 13 = .ok (.iconst 1, 1) := dk_4 (dk_at dksX0_paidFor_0 13 rfl rfl)
theorem dX0_paidFor_14 : decode cX0_paidFor 14 = .ok (.ireturn, 1) := dk_172 (dk_at dksX0_paidFor_0 14 rfl rfl)
theorem dX0_paidFor_15 : decode cX0_paidFor 15 = .ok (.iconst 0, 1) := dk_3 (dk_at dksX0_paidFor_0 15 rfl rfl)
theorem dX0_paidFor_16 : decode cX0_paidFor 16 = .ok (.ireturn, 1) := dk_172 (dk_at dksX0_paidFor_0 16 rfl rfl)
abbrev cX0_seed : ByteArray := method_22_code
def yX0_seed : MethodName := ⟨RX0, "seed", "(LGargoyleTower;I[J)I"⟩
def dkwX0_seed_0 : List UInt8 := [44, 3, 42, 27, 182, 0, 79, 133, 80, 167, 0, 6, 78, 4, 172, 3, 172]
abbrev dktX0_seed_0 : List UInt8 := dkwX0_seed_0 ++ []
theorem dksX0_seed_0 : cX0_seed.data.toList.drop 0 = dktX0_seed_0 := by decide +kernel
theorem dX0_seed_0 : decode cX0_seed 0 = .ok (.aload_n 2, 1) := dk_44 (dk_at dksX0_seed_0 0 rfl rfl)
theorem dX0_seed_1 : decode cX0_seed 1 = .ok (.iconst 0, 1) := dk_3 (dk_at dksX0_seed_0 1 rfl rfl)
theorem dX0_seed_2 : decode cX0_seed 2 = .ok (.aload_n 0, 1) := dk_42 (dk_at dksX0_seed_0 2 rfl rfl)
theorem dX0_seed_3 : decode cX0_seed 3 = .ok (.iload_n 1, 1) := dk_27 (dk_at dksX0_seed_0 3 rfl rfl)
theorem dX0_seed_4 : decode cX0_seed 4 = .ok (.invokevirtual 79, 3) := dk_182 0 79 (dk_at dksX0_seed_0 4 rfl rfl)
theorem dX0_seed_7 : decode cX0_seed 7 = .ok (.i2l, 1) := dk_133 (dk_at dksX0_seed_0 7 rfl rfl)
theorem dX0_seed_8 : decode cX0_seed 8 = .ok (.lastore, 1) := dk_80 (dk_at dksX0_seed_0 8 rfl rfl)
theorem dX0_seed_9 : decode cX0_seed 9 = .ok (.goto 6, 3) := dk_167 0 6 (dk_at dksX0_seed_0 9 rfl rfl)
theorem dX0_seed_12 : decode cX0_seed 12 = .ok (.astore_n 3, 1) := dk_78 (dk_at dksX0_seed_0 12 rfl rfl)
theorem dX0_seed_13 : decode cX0_seed 13 = .ok (.iconst 1, 1) := dk_4 (dk_at dksX0_seed_0 13 rfl rfl)
theorem dX0_seed_14 : decode cX0_seed 14 = .ok (.ireturn, 1) := dk_172 (dk_at dksX0_seed_0 14 rfl rfl)
theorem dX0_seed_15 : decode cX0_seed 15 = .ok (.iconst 0, 1) := dk_3 (dk_at dksX0_seed_0 15 rfl rfl)
theorem dX0_seed_16 : decode cX0_seed 16 = .ok (.ireturn, 1) := dk_172 (dk_at dksX0_seed_0 16 rfl rfl)
abbrev cX0_weather : ByteArray := method_23_code
def yX0_weather : MethodName := ⟨RX0, "weather", "(LGargoyleTower;I[J)I"⟩
def dkwX0_weather_0 : List UInt8 := [44, 3, 42, 27, 182, 0, 82, 133, 80, 167, 0, 6, 78, 4, 172, 3, 172]
abbrev dktX0_weather_0 : List UInt8 := dkwX0_weather_0 ++ []
theorem dksX0_weather_0 : cX0_weather.data.toList.drop 0 = dktX0_weather_0 := by decide +kernel
theorem dX0_weather_0 : decode cX0_weather 0 = .ok (.aload_n 2, 1) := dk_44 (dk_at dksX0_weather_0 0 rfl rfl)
theorem dX0_weather_1 : decode cX0_weather 1 = .ok (.iconst 0, 1) := dk_3 (dk_at dksX0_weather_0 1 rfl rfl)
theorem dX0_weather_2 : decode cX0_weather 2 = .ok (.aload_n 0, 1) := dk_42 (dk_at dksX0_weather_0 2 rfl rfl)
theorem dX0_weather_3 : decode cX0_weather 3 = .ok (.iload_n 1, 1) := dk_27 (dk_at dksX0_weather_0 3 rfl rfl)
theorem dX0_weather_4 : decode cX0_weather 4 = .ok (.invokevirtual 82, 3) := dk_182 0 82 (dk_at dksX0_weather_0 4 rfl rfl)
theorem dX0_weather_7 : decode cX0_weather 7 = .ok (.i2l, 1) := dk_133 (dk_at dksX0_weather_0 7 rfl rfl)
theorem dX0_weather_8 : decode cX0_weather 8 = .ok (.lastore, 1) := dk_80 (dk_at dksX0_weather_0 8 rfl rfl)
theorem dX0_weather_9 : decode cX0_weather 9 = .ok (.goto 6, 3) := dk_167 0 6 (dk_at dksX0_weather_0 9 rfl rfl)
theorem dX0_weather_12 : decode cX0_weather 12 = .ok (.astore_n 3, 1) := dk_78 (dk_at dksX0_weather_0 12 rfl rfl)
theorem dX0_weather_13 : decode cX0_weather 13 = .ok (.iconst 1, 1) := dk_4 (dk_at dksX0_weather_0 13 rfl rfl)
theorem dX0_weather_14 : decode cX0_weather 14 = .ok (.ireturn, 1) := dk_172 (dk_at dksX0_weather_0 14 rfl rfl)
theorem dX0_weather_15 : decode cX0_weather 15 = .ok (.iconst 0, 1) := dk_3 (dk_at dksX0_weather_0 15 rfl rfl)
theorem dX0_weather_16 : decode cX0_weather 16 = .ok (.ireturn, 1) := dk_172 (dk_at dksX0_weather_0 16 rfl rfl)
abbrev cX0_pass : ByteArray := method_24_code
def yX0_pass : MethodName := ⟨RX0, "pass", "(LGargoyleTower;I[J)I"⟩
def dkwX0_pass_0 : List UInt8 := [44, 3, 42, 27, 182, 0, 85, 133, 80, 167, 0, 6, 78, 4, 172, 3, 172]
abbrev dktX0_pass_0 : List UInt8 := dkwX0_pass_0 ++ []
theorem dksX0_pass_0 : cX0_pass.data.toList.drop 0 = dktX0_pass_0 := by decide +kernel
theorem dX0_pass_0 : decode cX0_pass 0 = .ok (.aload_n 2, 1) := dk_44 (dk_at dksX0_pass_0 0 rfl rfl)
theorem dX0_pass_1 : decode cX0_pass 1 = .ok (.iconst 0, 1) := dk_3 (dk_at dksX0_pass_0 1 rfl rfl)
theorem dX0_pass_2 : decode cX0_pass 2 = .ok (.aload_n 0, 1) := dk_42 (dk_at dksX0_pass_0 2 rfl rfl)
theorem dX0_pass_3 : decode cX0_pass 3 = .ok (.iload_n 1, 1) := dk_27 (dk_at dksX0_pass_0 3 rfl rfl)
theorem dX0_pass_4 : decode cX0_pass 4 = .ok (.invokevirtual 85, 3) := dk_182 0 85 (dk_at dksX0_pass_0 4 rfl rfl)
theorem dX0_pass_7 : decode cX0_pass 7 = .ok (.i2l, 1) := dk_133 (dk_at dksX0_pass_0 7 rfl rfl)
theorem dX0_pass_8 : decode cX0_pass 8 = .ok (.lastore, 1) := dk_80 (dk_at dksX0_pass_0 8 rfl rfl)
theorem dX0_pass_9 : decode cX0_pass 9 = .ok (.goto 6, 3) := dk_167 0 6 (dk_at dksX0_pass_0 9 rfl rfl)
theorem dX0_pass_12 : decode cX0_pass 12 = .ok (.astore_n 3, 1) := dk_78 (dk_at dksX0_pass_0 12 rfl rfl)
theorem dX0_pass_13 : decode cX0_pass 13 = .ok (.iconst 1, 1) := dk_4 (dk_at dksX0_pass_0 13 rfl rfl)
theorem dX0_pass_14 : decode cX0_pass 14 = .ok (.ireturn, 1) := dk_172 (dk_at dksX0_pass_0 14 rfl rfl)
theorem dX0_pass_15 : decode cX0_pass 15 = .ok (.iconst 0, 1) := dk_3 (dk_at dksX0_pass_0 15 rfl rfl)
theorem dX0_pass_16 : decode cX0_pass 16 = .ok (.ireturn, 1) := dk_172 (dk_at dksX0_pass_0 16 rfl rfl)
abbrev cX0_brokenIn : ByteArray := method_25_code
def yX0_brokenIn : MethodName := ⟨RX0, "brokenIn", "(LGargoyleTower;I[J)I"⟩
def dkwX0_brokenIn_0 : List UInt8 := [44, 3, 42, 27, 182, 0, 88, 133, 80, 167, 0, 9, 78, 4, 172, 78, 5, 172, 3, 172]
abbrev dktX0_brokenIn_0 : List UInt8 := dkwX0_brokenIn_0 ++ []
theorem dksX0_brokenIn_0 : cX0_brokenIn.data.toList.drop 0 = dktX0_brokenIn_0 := by decide +kernel
theorem dX0_brokenIn_0 : decode cX0_brokenIn 0 = .ok (.aload_n 2, 1) := dk_44 (dk_at dksX0_brokenIn_0 0 rfl rfl)
theorem dX0_brokenIn_1 : decode cX0_brokenIn 1 = .ok (.iconst 0, 1) := dk_3 (dk_at dksX0_brokenIn_0 1 rfl rfl)
theorem dX0_brokenIn_2 : decode cX0_brokenIn 2 = .ok (.aload_n 0, 1) := dk_42 (dk_at dksX0_brokenIn_0 2 rfl rfl)
theorem dX0_brokenIn_3 : decode cX0_brokenIn 3 = .ok (.iload_n 1, 1) := dk_27 (dk_at dksX0_brokenIn_0 3 rfl rfl)
theorem dX0_brokenIn_4 : decode cX0_brokenIn 4 = .ok (.invokevirtual 88, 3) := dk_182 0 88 (dk_at dksX0_brokenIn_0 4 rfl rfl)
theorem dX0_brokenIn_7 : decode cX0_brokenIn 7 = .ok (.i2l, 1) := dk_133 (dk_at dksX0_brokenIn_0 7 rfl rfl)
theorem dX0_brokenIn_8 : decode cX0_brokenIn 8 = .ok (.lastore, 1) := dk_80 (dk_at dksX0_brokenIn_0 8 rfl rfl)
theorem dX0_brokenIn_9 : decode cX0_brokenIn 9 = .ok (.goto 9, 3) := dk_167 0 9 (dk_at dksX0_brokenIn_0 9 rfl rfl)
theorem dX0_brokenIn_12 : decode cX0_brokenIn 12 = .ok (.astore_n 3, 1) := dk_78 (dk_at dksX0_brokenIn_0 12 rfl rfl)
theorem dX0_brokenIn_13 : decode cX0_brokenIn 13 = .ok (.iconst 1, 1) := dk_4 (dk_at dksX0_brokenIn_0 13 rfl rfl)
theorem dX0_brokenIn_14 : decode cX0_brokenIn 14 = .ok (.ireturn, 1) := dk_172 (dk_at dksX0_brokenIn_0 14 rfl rfl)
theorem dX0_brokenIn_15 : decode cX0_brokenIn 15 = .ok (.astore_n 3, 1) := dk_78 (dk_at dksX0_brokenIn_0 15 rfl rfl)
theorem dX0_brokenIn_16 : decode cX0_brokenIn 16 = .ok (.iconst 2, 1) := dk_5 (dk_at dksX0_brokenIn_0 16 rfl rfl)
theorem dX0_brokenIn_17 : decode cX0_brokenIn 17 = .ok (.ireturn, 1) := dk_172 (dk_at dksX0_brokenIn_0 17 rfl rfl)
theorem dX0_brokenIn_18 : decode cX0_brokenIn 18 = .ok (.iconst 0, 1) := dk_3 (dk_at dksX0_brokenIn_0 18 rfl rfl)
theorem dX0_brokenIn_19 : decode cX0_brokenIn 19 = .ok (.ireturn, 1) := dk_172 (dk_at dksX0_brokenIn_0 19 rfl rfl)
abbrev cX0_line : ByteArray := method_26_code
def yX0_line : MethodName := ⟨RX0, "line", "(LGargoyleTower;I[J)I"⟩
def dkwX0_line_0 : List UInt8 := [44, 3, 42, 27, 182, 0, 91, 133, 80, 167, 0, 6, 78, 4, 172, 3, 172]
abbrev dktX0_line_0 : List UInt8 := dkwX0_line_0 ++ []
theorem dksX0_line_0 : cX0_line.data.toList.drop 0 = dktX0_line_0 := by decide +kernel
theorem dX0_line_0 : decode cX0_line 0 = .ok (.aload_n 2, 1) := dk_44 (dk_at dksX0_line_0 0 rfl rfl)
theorem dX0_line_1 : decode cX0_line 1 = .ok (.iconst 0, 1) := dk_3 (dk_at dksX0_line_0 1 rfl rfl)
theorem dX0_line_2 : decode cX0_line 2 = .ok (.aload_n 0, 1) := dk_42 (dk_at dksX0_line_0 2 rfl rfl)
theorem dX0_line_3 : decode cX0_line 3 = .ok (.iload_n 1, 1) := dk_27 (dk_at dksX0_line_0 3 rfl rfl)
theorem dX0_line_4 : decode cX0_line 4 = .ok (.invokevirtual 91, 3) := dk_182 0 91 (dk_at dksX0_line_0 4 rfl rfl)
theorem dX0_line_7 : decode cX0_line 7 = .ok (.i2l, 1) := dk_133 (dk_at dksX0_line_0 7 rfl rfl)
theorem dX0_line_8 : decode cX0_line 8 = .ok (.lastore, 1) := dk_80 (dk_at dksX0_line_0 8 rfl rfl)
theorem dX0_line_9 : decode cX0_line 9 = .ok (.goto 6, 3) := dk_167 0 6 (dk_at dksX0_line_0 9 rfl rfl)
theorem dX0_line_12 : decode cX0_line 12 = .ok (.astore_n 3, 1) := dk_78 (dk_at dksX0_line_0 12 rfl rfl)
theorem dX0_line_13 : decode cX0_line 13 = .ok (.iconst 1, 1) := dk_4 (dk_at dksX0_line_0 13 rfl rfl)
theorem dX0_line_14 : decode cX0_line 14 = .ok (.ireturn, 1) := dk_172 (dk_at dksX0_line_0 14 rfl rfl)
theorem dX0_line_15 : decode cX0_line 15 = .ok (.iconst 0, 1) := dk_3 (dk_at dksX0_line_0 15 rfl rfl)
theorem dX0_line_16 : decode cX0_line 16 = .ok (.ireturn, 1) := dk_172 (dk_at dksX0_line_0 16 rfl rfl)
abbrev cX0_character : ByteArray := method_27_code
def yX0_character : MethodName := ⟨RX0, "character", "(LGargoyleTower;I[J)I"⟩
def dkwX0_character_0 : List UInt8 := [44, 3, 42, 27, 182, 0, 94, 133, 80, 167, 0, 6, 78, 4, 172, 3, 172]
abbrev dktX0_character_0 : List UInt8 := dkwX0_character_0 ++ []
theorem dksX0_character_0 : cX0_character.data.toList.drop 0 = dktX0_character_0 := by decide +kernel
theorem dX0_character_0 : decode cX0_character 0 = .ok (.aload_n 2, 1) := dk_44 (dk_at dksX0_character_0 0 rfl rfl)
theorem dX0_character_1 : decode cX0_character 1 = .ok (.iconst 0, 1) := dk_3 (dk_at dksX0_character_0 1 rfl rfl)
theorem dX0_character_2 : decode cX0_character 2 = .ok (.aload_n 0, 1) := dk_42 (dk_at dksX0_character_0 2 rfl rfl)
theorem dX0_character_3 : decode cX0_character 3 = .ok (.iload_n 1, 1) := dk_27 (dk_at dksX0_character_0 3 rfl rfl)
theorem dX0_character_4 : decode cX0_character 4 = .ok (.invokevirtual 94, 3) := dk_182 0 94 (dk_at dksX0_character_0 4 rfl rfl)
theorem dX0_character_7 : decode cX0_character 7 = .ok (.i2l, 1) := dk_133 (dk_at dksX0_character_0 7 rfl rfl)
theorem dX0_character_8 : decode cX0_character 8 = .ok (.lastore, 1) := dk_80 (dk_at dksX0_character_0 8 rfl rfl)
theorem dX0_character_9 : decode cX0_character 9 = .ok (.goto 6, 3) := dk_167 0 6 (dk_at dksX0_character_0 9 rfl rfl)
theorem dX0_character_12 : decode cX0_character 12 = .ok (.astore_n 3, 1) := dk_78 (dk_at dksX0_character_0 12 rfl rfl)
theorem dX0_character_13 : decode cX0_character 13 = .ok (.iconst 1, 1) := dk_4 (dk_at dksX0_character_0 13 rfl rfl)
theorem dX0_character_14 : decode cX0_character 14 = .ok (.ireturn, 1) := dk_172 (dk_at dksX0_character_0 14 rfl rfl)
theorem dX0_character_15 : decode cX0_character 15 = .ok (.iconst 0, 1) := dk_3 (dk_at dksX0_character_0 15 rfl rfl)
theorem dX0_character_16 : decode cX0_character 16 = .ok (.ireturn, 1) := dk_172 (dk_at dksX0_character_0 16 rfl rfl)
abbrev cX0_meanDetail : ByteArray := method_28_code
def yX0_meanDetail : MethodName := ⟨RX0, "meanDetail", "(LGargoyleTower;[D)I"⟩
def dkwX0_meanDetail_0 : List UInt8 := [43, 3, 42, 182, 0, 98, 82, 167, 0, 6, 77, 4, 172, 3, 172]
abbrev dktX0_meanDetail_0 : List UInt8 := dkwX0_meanDetail_0 ++ []
theorem dksX0_meanDetail_0 : cX0_meanDetail.data.toList.drop 0 = dktX0_meanDetail_0 := by decide +kernel
theorem dX0_meanDetail_0 : decode cX0_meanDetail 0 = .ok (.aload_n 1, 1) := dk_43 (dk_at dksX0_meanDetail_0 0 rfl rfl)
theorem dX0_meanDetail_1 : decode cX0_meanDetail 1 = .ok (.iconst 0, 1) := dk_3 (dk_at dksX0_meanDetail_0 1 rfl rfl)
theorem dX0_meanDetail_2 : decode cX0_meanDetail 2 = .ok (.aload_n 0, 1) := dk_42 (dk_at dksX0_meanDetail_0 2 rfl rfl)
theorem dX0_meanDetail_3 : decode cX0_meanDetail 3 = .ok (.invokevirtual 98, 3) := dk_182 0 98 (dk_at dksX0_meanDetail_0 3 rfl rfl)
theorem dX0_meanDetail_6 : decode cX0_meanDetail 6 = .ok (.dastore, 1) := dk_82 (dk_at dksX0_meanDetail_0 6 rfl rfl)
theorem dX0_meanDetail_7 : decode cX0_meanDetail 7 = .ok (.goto 6, 3) := dk_167 0 6 (dk_at dksX0_meanDetail_0 7 rfl rfl)
theorem dX0_meanDetail_10 : decode cX0_meanDetail 10 = .ok (.astore_n 2, 1) := dk_77 (dk_at dksX0_meanDetail_0 10 rfl rfl)
theorem dX0_meanDetail_11 : decode cX0_meanDetail 11 = .ok (.iconst 1, 1) := dk_4 (dk_at dksX0_meanDetail_0 11 rfl rfl)
theorem dX0_meanDetail_12 : decode cX0_meanDetail 12 = .ok (.ireturn, 1) := dk_172 (dk_at dksX0_meanDetail_0 12 rfl rfl)
theorem dX0_meanDetail_13 : decode cX0_meanDetail 13 = .ok (.iconst 0, 1) := dk_3 (dk_at dksX0_meanDetail_0 13 rfl rfl)
theorem dX0_meanDetail_14 : decode cX0_meanDetail 14 = .ok (.ireturn, 1) := dk_172 (dk_at dksX0_meanDetail_0 14 rfl rfl)
abbrev cX0_brokenShare : ByteArray := method_29_code
def yX0_brokenShare : MethodName := ⟨RX0, "brokenShare", "(LGargoyleTower;[D)I"⟩
def dkwX0_brokenShare_0 : List UInt8 := [43, 3, 42, 182, 0, 104, 141, 82, 167, 0, 6, 77, 4, 172, 3, 172]
abbrev dktX0_brokenShare_0 : List UInt8 := dkwX0_brokenShare_0 ++ []
theorem dksX0_brokenShare_0 : cX0_brokenShare.data.toList.drop 0 = dktX0_brokenShare_0 := by decide +kernel
theorem dX0_brokenShare_0 : decode cX0_brokenShare 0 = .ok (.aload_n 1, 1) := dk_43 (dk_at dksX0_brokenShare_0 0 rfl rfl)
theorem dX0_brokenShare_1 : decode cX0_brokenShare 1 = .ok (.iconst 0, 1) := dk_3 (dk_at dksX0_brokenShare_0 1 rfl rfl)
theorem dX0_brokenShare_2 : decode cX0_brokenShare 2 = .ok (.aload_n 0, 1) := dk_42 (dk_at dksX0_brokenShare_0 2 rfl rfl)
theorem dX0_brokenShare_3 : decode cX0_brokenShare 3 = .ok (.invokevirtual 104, 3) := dk_182 0 104 (dk_at dksX0_brokenShare_0 3 rfl rfl)
theorem dX0_brokenShare_6 : decode cX0_brokenShare 6 = .ok (.f2d, 1) := dk_141 (dk_at dksX0_brokenShare_0 6 rfl rfl)
theorem dX0_brokenShare_7 : decode cX0_brokenShare 7 = .ok (.dastore, 1) := dk_82 (dk_at dksX0_brokenShare_0 7 rfl rfl)
theorem dX0_brokenShare_8 : decode cX0_brokenShare 8 = .ok (.goto 6, 3) := dk_167 0 6 (dk_at dksX0_brokenShare_0 8 rfl rfl)
theorem dX0_brokenShare_11 : decode cX0_brokenShare 11 = .ok (.astore_n 2, 1) := dk_77 (dk_at dksX0_brokenShare_0 11 rfl rfl)
theorem dX0_brokenShare_12 : decode cX0_brokenShare 12 = .ok (.iconst 1, 1) := dk_4 (dk_at dksX0_brokenShare_0 12 rfl rfl)
theorem dX0_brokenShare_13 : decode cX0_brokenShare 13 = .ok (.ireturn, 1) := dk_172 (dk_at dksX0_brokenShare_0 13 rfl rfl)
theorem dX0_brokenShare_14 : decode cX0_brokenShare 14 = .ok (.iconst 0, 1) := dk_3 (dk_at dksX0_brokenShare_0 14 rfl rfl)
theorem dX0_brokenShare_15 : decode cX0_brokenShare 15 = .ok (.ireturn, 1) := dk_172 (dk_at dksX0_brokenShare_0 15 rfl rfl)
abbrev cX0_reason : ByteArray := method_30_code
def yX0_reason : MethodName := ⟨RX0, "reason", "(LGargoyleTower;IZ[J)I"⟩
def dkwX0_reason_0 : List UInt8 := [45, 3, 42, 27, 28, 182, 0, 108, 133, 80, 167, 0, 11, 58, 4, 4, 172, 58, 4, 5, 172, 3, 172]
abbrev dktX0_reason_0 : List UInt8 := dkwX0_reason_0 ++ []
theorem dksX0_reason_0 : cX0_reason.data.toList.drop 0 = dktX0_reason_0 := by decide +kernel
theorem dX0_reason_0 : decode cX0_reason 0 = .ok (.aload_n 3, 1) := dk_45 (dk_at dksX0_reason_0 0 rfl rfl)
theorem dX0_reason_1 : decode cX0_reason 1 = .ok (.iconst 0, 1) := dk_3 (dk_at dksX0_reason_0 1 rfl rfl)
theorem dX0_reason_2 : decode cX0_reason 2 = .ok (.aload_n 0, 1) := dk_42 (dk_at dksX0_reason_0 2 rfl rfl)
theorem dX0_reason_3 : decode cX0_reason 3 = .ok (.iload_n 1, 1) := dk_27 (dk_at dksX0_reason_0 3 rfl rfl)
theorem dX0_reason_4 : decode cX0_reason 4 = .ok (.iload_n 2, 1) := dk_28 (dk_at dksX0_reason_0 4 rfl rfl)
theorem dX0_reason_5 : decode cX0_reason 5 = .ok (.invokevirtual 108, 3) := dk_182 0 108 (dk_at dksX0_reason_0 5 rfl rfl)
theorem dX0_reason_8 : decode cX0_reason 8 = .ok (.i2l, 1) := dk_133 (dk_at dksX0_reason_0 8 rfl rfl)
theorem dX0_reason_9 : decode cX0_reason 9 = .ok (.lastore, 1) := dk_80 (dk_at dksX0_reason_0 9 rfl rfl)
theorem dX0_reason_10 : decode cX0_reason 10 = .ok (.goto 11, 3) := dk_167 0 11 (dk_at dksX0_reason_0 10 rfl rfl)
theorem dX0_reason_13 : decode cX0_reason 13 = .ok (.astore 4, 2) := dk_58 4 (dk_at dksX0_reason_0 13 rfl rfl)
theorem dX0_reason_15 : decode cX0_reason 15 = .ok (.iconst 1, 1) := dk_4 (dk_at dksX0_reason_0 15 rfl rfl)
theorem dX0_reason_16 : decode cX0_reason 16 = .ok (.ireturn, 1) := dk_172 (dk_at dksX0_reason_0 16 rfl rfl)
theorem dX0_reason_17 : decode cX0_reason 17 = .ok (.astore 4, 2) := dk_58 4 (dk_at dksX0_reason_0 17 rfl rfl)
theorem dX0_reason_19 : decode cX0_reason 19 = .ok (.iconst 2, 1) := dk_5 (dk_at dksX0_reason_0 19 rfl rfl)
theorem dX0_reason_20 : decode cX0_reason 20 = .ok (.ireturn, 1) := dk_172 (dk_at dksX0_reason_0 20 rfl rfl)
theorem dX0_reason_21 : decode cX0_reason 21 = .ok (.iconst 0, 1) := dk_3 (dk_at dksX0_reason_0 21 rfl rfl)
theorem dX0_reason_22 : decode cX0_reason 22 = .ok (.ireturn, 1) := dk_172 (dk_at dksX0_reason_0 22 rfl rfl)
abbrev cX0_account : ByteArray := method_31_code
def yX0_account : MethodName := ⟨RX0, "account", "(LGargoyleTower;I[J)I"⟩
def dkwX0_account_0 : List UInt8 := [44, 3, 42, 27, 182, 0, 111, 133, 80, 167, 0, 6, 78, 4, 172, 3, 172]
abbrev dktX0_account_0 : List UInt8 := dkwX0_account_0 ++ []
theorem dksX0_account_0 : cX0_account.data.toList.drop 0 = dktX0_account_0 := by decide +kernel
theorem dX0_account_0 : decode cX0_account 0 = .ok (.aload_n 2, 1) := dk_44 (dk_at dksX0_account_0 0 rfl rfl)
theorem dX0_account_1 : decode cX0_account 1 = .ok (.iconst 0, 1) := dk_3 (dk_at dksX0_account_0 1 rfl rfl)
theorem dX0_account_2 : decode cX0_account 2 = .ok (.aload_n 0, 1) := dk_42 (dk_at dksX0_account_0 2 rfl rfl)
theorem dX0_account_3 : decode cX0_account 3 = .ok (.iload_n 1, 1) := dk_27 (dk_at dksX0_account_0 3 rfl rfl)
theorem dX0_account_4 : decode cX0_account 4 = .ok (.invokevirtual 111, 3) := dk_182 0 111 (dk_at dksX0_account_0 4 rfl rfl)
theorem dX0_account_7 : decode cX0_account 7 = .ok (.i2l, 1) := dk_133 (dk_at dksX0_account_0 7 rfl rfl)
theorem dX0_account_8 : decode cX0_account 8 = .ok (.lastore, 1) := dk_80 (dk_at dksX0_account_0 8 rfl rfl)
theorem dX0_account_9 : decode cX0_account 9 = .ok (.goto 6, 3) := dk_167 0 6 (dk_at dksX0_account_0 9 rfl rfl)
theorem dX0_account_12 : decode cX0_account 12 = .ok (.astore_n 3, 1) := dk_78 (dk_at dksX0_account_0 12 rfl rfl)
theorem dX0_account_13 : decode cX0_account 13 = .ok (.iconst 1, 1) := dk_4 (dk_at dksX0_account_0 13 rfl rfl)
theorem dX0_account_14 : decode cX0_account 14 = .ok (.ireturn, 1) := dk_172 (dk_at dksX0_account_0 14 rfl rfl)
theorem dX0_account_15 : decode cX0_account 15 = .ok (.iconst 0, 1) := dk_3 (dk_at dksX0_account_0 15 rfl rfl)
theorem dX0_account_16 : decode cX0_account 16 = .ok (.ireturn, 1) := dk_172 (dk_at dksX0_account_0 16 rfl rfl)
abbrev cX0_feed : ByteArray := method_32_code
def yX0_feed : MethodName := ⟨RX0, "feed", "(LGargoyleTower;C[J)I"⟩
def dkwX0_feed_0 : List UInt8 := [44, 3, 42, 27, 182, 0, 114, 133, 80, 167, 0, 6, 78, 4, 172, 3, 172]
abbrev dktX0_feed_0 : List UInt8 := dkwX0_feed_0 ++ []
theorem dksX0_feed_0 : cX0_feed.data.toList.drop 0 = dktX0_feed_0 := by decide +kernel
theorem dX0_feed_0 : decode cX0_feed 0 = .ok (.aload_n 2, 1) := dk_44 (dk_at dksX0_feed_0 0 rfl rfl)
theorem dX0_feed_1 : decode cX0_feed 1 = .ok (.iconst 0, 1) := dk_3 (dk_at dksX0_feed_0 1 rfl rfl)
theorem dX0_feed_2 : decode cX0_feed 2 = .ok (.aload_n 0, 1) := dk_42 (dk_at dksX0_feed_0 2 rfl rfl)
theorem dX0_feed_3 : decode cX0_feed 3 = .ok (.iload_n 1, 1) := dk_27 (dk_at dksX0_feed_0 3 rfl rfl)
theorem dX0_feed_4 : decode cX0_feed 4 = .ok (.invokevirtual 114, 3) := dk_182 0 114 (dk_at dksX0_feed_0 4 rfl rfl)
theorem dX0_feed_7 : decode cX0_feed 7 = .ok (.i2l, 1) := dk_133 (dk_at dksX0_feed_0 7 rfl rfl)
theorem dX0_feed_8 : decode cX0_feed 8 = .ok (.lastore, 1) := dk_80 (dk_at dksX0_feed_0 8 rfl rfl)
theorem dX0_feed_9 : decode cX0_feed 9 = .ok (.goto 6, 3) := dk_167 0 6 (dk_at dksX0_feed_0 9 rfl rfl)
theorem dX0_feed_12 : decode cX0_feed 12 = .ok (.astore_n 3, 1) := dk_78 (dk_at dksX0_feed_0 12 rfl rfl)
theorem dX0_feed_13 : decode cX0_feed 13 = .ok (.iconst 1, 1) := dk_4 (dk_at dksX0_feed_0 13 rfl rfl)
theorem dX0_feed_14 : decode cX0_feed 14 = .ok (.ireturn, 1) := dk_172 (dk_at dksX0_feed_0 14 rfl rfl)
theorem dX0_feed_15 : decode cX0_feed 15 = .ok (.iconst 0, 1) := dk_3 (dk_at dksX0_feed_0 15 rfl rfl)
theorem dX0_feed_16 : decode cX0_feed 16 = .ok (.ireturn, 1) := dk_172 (dk_at dksX0_feed_0 16 rfl rfl)
abbrev cX0_perform : ByteArray := method_33_code
def yX0_perform : MethodName := ⟨RX0, "perform", "(LGargoyleTower;[J)I"⟩
def dkwX0_perform_0 : List UInt8 := [43, 3, 42, 182, 0, 120, 133, 80, 167, 0, 6, 77, 4, 172, 3, 172]
abbrev dktX0_perform_0 : List UInt8 := dkwX0_perform_0 ++ []
theorem dksX0_perform_0 : cX0_perform.data.toList.drop 0 = dktX0_perform_0 := by decide +kernel
theorem dX0_perform_0 : decode cX0_perform 0 = .ok (.aload_n 1, 1) := dk_43 (dk_at dksX0_perform_0 0 rfl rfl)
theorem dX0_perform_1 : decode cX0_perform 1 = .ok (.iconst 0, 1) := dk_3 (dk_at dksX0_perform_0 1 rfl rfl)
theorem dX0_perform_2 : decode cX0_perform 2 = .ok (.aload_n 0, 1) := dk_42 (dk_at dksX0_perform_0 2 rfl rfl)
theorem dX0_perform_3 : decode cX0_perform 3 = .ok (.invokevirtual 120, 3) := dk_182 0 120 (dk_at dksX0_perform_0 3 rfl rfl)
theorem dX0_perform_6 : decode cX0_perform 6 = .ok (.i2l, 1) := dk_133 (dk_at dksX0_perform_0 6 rfl rfl)
theorem dX0_perform_7 : decode cX0_perform 7 = .ok (.lastore, 1) := dk_80 (dk_at dksX0_perform_0 7 rfl rfl)
theorem dX0_perform_8 : decode cX0_perform 8 = .ok (.goto 6, 3) := dk_167 0 6 (dk_at dksX0_perform_0 8 rfl rfl)
theorem dX0_perform_11 : decode cX0_perform 11 = .ok (.astore_n 2, 1) := dk_77 (dk_at dksX0_perform_0 11 rfl rfl)
theorem dX0_perform_12 : decode cX0_perform 12 = .ok (.iconst 1, 1) := dk_4 (dk_at dksX0_perform_0 12 rfl rfl)
theorem dX0_perform_13 : decode cX0_perform 13 = .ok (.ireturn, 1) := dk_172 (dk_at dksX0_perform_0 13 rfl rfl)
theorem dX0_perform_14 : decode cX0_perform 14 = .ok (.iconst 0, 1) := dk_3 (dk_at dksX0_perform_0 14 rfl rfl)
theorem dX0_perform_15 : decode cX0_perform 15 = .ok (.ireturn, 1) := dk_172 (dk_at dksX0_perform_0 15 rfl rfl)
abbrev cX0_undo : ByteArray := method_34_code
def yX0_undo : MethodName := ⟨RX0, "undo", "(LGargoyleTower;[J)I"⟩
def dkwX0_undo_0 : List UInt8 := [43, 3, 42, 182, 0, 123, 133, 80, 167, 0, 6, 77, 4, 172, 3, 172]
abbrev dktX0_undo_0 : List UInt8 := dkwX0_undo_0 ++ []
theorem dksX0_undo_0 : cX0_undo.data.toList.drop 0 = dktX0_undo_0 := by decide +kernel
theorem dX0_undo_0 : decode cX0_undo 0 = .ok (.aload_n 1, 1) := dk_43 (dk_at dksX0_undo_0 0 rfl rfl)
theorem dX0_undo_1 : decode cX0_undo 1 = .ok (.iconst 0, 1) := dk_3 (dk_at dksX0_undo_0 1 rfl rfl)
theorem dX0_undo_2 : decode cX0_undo 2 = .ok (.aload_n 0, 1) := dk_42 (dk_at dksX0_undo_0 2 rfl rfl)
theorem dX0_undo_3 : decode cX0_undo 3 = .ok (.invokevirtual 123, 3) := dk_182 0 123 (dk_at dksX0_undo_0 3 rfl rfl)
theorem dX0_undo_6 : decode cX0_undo 6 = .ok (.i2l, 1) := dk_133 (dk_at dksX0_undo_0 6 rfl rfl)
theorem dX0_undo_7 : decode cX0_undo 7 = .ok (.lastore, 1) := dk_80 (dk_at dksX0_undo_0 7 rfl rfl)
theorem dX0_undo_8 : decode cX0_undo 8 = .ok (.goto 6, 3) := dk_167 0 6 (dk_at dksX0_undo_0 8 rfl rfl)
theorem dX0_undo_11 : decode cX0_undo 11 = .ok (.astore_n 2, 1) := dk_77 (dk_at dksX0_undo_0 11 rfl rfl)
theorem dX0_undo_12 : decode cX0_undo 12 = .ok (.iconst 1, 1) := dk_4 (dk_at dksX0_undo_0 12 rfl rfl)
theorem dX0_undo_13 : decode cX0_undo 13 = .ok (.ireturn, 1) := dk_172 (dk_at dksX0_undo_0 13 rfl rfl)
theorem dX0_undo_14 : decode cX0_undo 14 = .ok (.iconst 0, 1) := dk_3 (dk_at dksX0_undo_0 14 rfl rfl)
theorem dX0_undo_15 : decode cX0_undo 15 = .ok (.ireturn, 1) := dk_172 (dk_at dksX0_undo_0 15 rfl rfl)
abbrev cX0_restore : ByteArray := method_35_code
def yX0_restore : MethodName := ⟨RX0, "restore", "(LGargoyleTower;[J)I"⟩
def dkwX0_restore_0 : List UInt8 := [43, 3, 42, 182, 0, 126, 133, 80, 167, 0, 6, 77, 4, 172, 3, 172]
abbrev dktX0_restore_0 : List UInt8 := dkwX0_restore_0 ++ []
theorem dksX0_restore_0 : cX0_restore.data.toList.drop 0 = dktX0_restore_0 := by decide +kernel
theorem dX0_restore_0 : decode cX0_restore 0 = .ok (.aload_n 1, 1) := dk_43 (dk_at dksX0_restore_0 0 rfl rfl)
theorem dX0_restore_1 : decode cX0_restore 1 = .ok (.iconst 0, 1) := dk_3 (dk_at dksX0_restore_0 1 rfl rfl)
theorem dX0_restore_2 : decode cX0_restore 2 = .ok (.aload_n 0, 1) := dk_42 (dk_at dksX0_restore_0 2 rfl rfl)
theorem dX0_restore_3 : decode cX0_restore 3 = .ok (.invokevirtual 126, 3) := dk_182 0 126 (dk_at dksX0_restore_0 3 rfl rfl)
theorem dX0_restore_6 : decode cX0_restore 6 = .ok (.i2l, 1) := dk_133 (dk_at dksX0_restore_0 6 rfl rfl)
theorem dX0_restore_7 : decode cX0_restore 7 = .ok (.lastore, 1) := dk_80 (dk_at dksX0_restore_0 7 rfl rfl)
theorem dX0_restore_8 : decode cX0_restore 8 = .ok (.goto 6, 3) := dk_167 0 6 (dk_at dksX0_restore_0 8 rfl rfl)
theorem dX0_restore_11 : decode cX0_restore 11 = .ok (.astore_n 2, 1) := dk_77 (dk_at dksX0_restore_0 11 rfl rfl)
theorem dX0_restore_12 : decode cX0_restore 12 = .ok (.iconst 1, 1) := dk_4 (dk_at dksX0_restore_0 12 rfl rfl)
theorem dX0_restore_13 : decode cX0_restore 13 = .ok (.ireturn, 1) := dk_172 (dk_at dksX0_restore_0 13 rfl rfl)
theorem dX0_restore_14 : decode cX0_restore 14 = .ok (.iconst 0, 1) := dk_3 (dk_at dksX0_restore_0 14 rfl rfl)
theorem dX0_restore_15 : decode cX0_restore 15 = .ok (.ireturn, 1) := dk_172 (dk_at dksX0_restore_0 15 rfl rfl)
theorem q74 : (Jvm.Cond.initialized "GargoyleTowerLaw") ∈ lw_all := lw_g (lw_at lw_m1 0 rfl) rfl
theorem q724 : (Jvm.Cond.castable "java/util/NoSuchElementException" "java/util/NoSuchElementException") ∈ lw_tbl := lw_at lw_m3 170 rfl
theorem q1099 : (Jvm.Cond.codeWith ({ cls := "GargoyleTowerLaw", name := "block", desc := "(LGargoyleTower;IZ[J)I" } : Jvm.MethodName) method_3_code (5 : Nat) (Option.some Jvm.ClassFile.FieldType.int) [((0 : Nat), (10 : Nat), (13 : Nat), (13 : Nat)), ((0 : Nat), (10 : Nat), (17 : Nat), (15 : Nat))]) ∈ lw_all := lw_g (lw_at lw_m5 65 rfl) rfl
theorem q1100 : (Jvm.Cond.classLink "GargoyleTowerLaw" (13 : Nat) "java/lang/IllegalArgumentException") ∈ lw_all := lw_g (lw_at lw_m5 66 rfl) rfl
theorem q1101 : (Jvm.Cond.classLink "GargoyleTowerLaw" (15 : Nat) "java/lang/UnsupportedOperationException") ∈ lw_all := lw_g (lw_at lw_m5 67 rfl) rfl
theorem q1102 : (Jvm.Cond.methodLink "GargoyleTowerLaw" (7 : Nat) ({ cls := "GargoyleTower", name := "block", desc := "(IZ)I" } : Jvm.MethodName)) ∈ lw_all := lw_g (lw_at lw_m5 68 rfl) rfl
theorem q1103 : (Jvm.Cond.instanceMethod ({ cls := "GargoyleTower", name := "block", desc := "(IZ)I" } : Jvm.MethodName)) ∈ lw_all := lw_g (lw_at lw_m5 69 rfl) rfl
theorem q1104 : (Jvm.Cond.selects "GargoyleTower" ({ cls := "GargoyleTower", name := "block", desc := "(IZ)I" } : Jvm.MethodName) ({ cls := "GargoyleTower", name := "block", desc := "(IZ)I" } : Jvm.MethodName)) ∈ lw_all := lw_g (lw_at lw_m5 70 rfl) rfl
theorem q1272 : (Jvm.Cond.fieldLinkNest "GargoyleTower" (351 : Nat) "GargoyleTower$RefusedException" "reason" "I" "GargoyleTower") ∈ lw_tbl := lw_at lw_m5 238 rfl
theorem q1274 : (Jvm.Cond.fieldLinkNest "GargoyleTower" (350 : Nat) "GargoyleTower$RefusedException" "detail" "I" "GargoyleTower") ∈ lw_tbl := lw_at lw_m6 0 rfl
theorem q1443 : (Jvm.Cond.castable "java/lang/IllegalStateException" "java/lang/IllegalStateException") ∈ lw_tbl := lw_at lw_m6 169 rfl
theorem q1466 : (Jvm.Cond.castable "java/lang/UnsupportedOperationException" "java/lang/UnsupportedOperationException") ∈ lw_tbl := lw_at lw_m6 192 rfl
theorem q1481 : (Jvm.Cond.codeWith ({ cls := "GargoyleTowerLaw", name := "carve", desc := "(LGargoyleTower;II[J)I" } : Jvm.MethodName) method_4_code (5 : Nat) (Option.some Jvm.ClassFile.FieldType.int) [((0 : Nat), (10 : Nat), (13 : Nat), (21 : Nat)), ((0 : Nat), (10 : Nat), (17 : Nat), (13 : Nat)), ((0 : Nat), (10 : Nat), (21 : Nat), (15 : Nat))]) ∈ lw_all := lw_g (lw_at lw_m6 207 rfl) rfl
theorem q1482 : (Jvm.Cond.classLink "GargoyleTowerLaw" (21 : Nat) "java/lang/IndexOutOfBoundsException") ∈ lw_all := lw_g (lw_at lw_m6 208 rfl) rfl
theorem q1498 : (Jvm.Cond.methodLink "GargoyleTowerLaw" (17 : Nat) ({ cls := "GargoyleTower", name := "carve", desc := "(II)I" } : Jvm.MethodName)) ∈ lw_all := lw_g (lw_at lw_m6 224 rfl) rfl
theorem q1499 : (Jvm.Cond.instanceMethod ({ cls := "GargoyleTower", name := "carve", desc := "(II)I" } : Jvm.MethodName)) ∈ lw_all := lw_g (lw_at lw_m6 225 rfl) rfl
theorem q1500 : (Jvm.Cond.selects "GargoyleTower" ({ cls := "GargoyleTower", name := "carve", desc := "(II)I" } : Jvm.MethodName) ({ cls := "GargoyleTower", name := "carve", desc := "(II)I" } : Jvm.MethodName)) ∈ lw_all := lw_g (lw_at lw_m6 226 rfl) rfl
theorem q1505 : (Jvm.Cond.codeWith ({ cls := "GargoyleTowerLaw", name := "whet", desc := "(LGargoyleTower;[J)I" } : Jvm.MethodName) method_5_code (3 : Nat) (Option.some Jvm.ClassFile.FieldType.int) [((0 : Nat), (8 : Nat), (11 : Nat), (15 : Nat))]) ∈ lw_all := lw_g (lw_at lw_m6 231 rfl) rfl
theorem q1506 : (Jvm.Cond.methodLink "GargoyleTowerLaw" (23 : Nat) ({ cls := "GargoyleTower", name := "whet", desc := "()I" } : Jvm.MethodName)) ∈ lw_all := lw_g (lw_at lw_m6 232 rfl) rfl
theorem q1507 : (Jvm.Cond.instanceMethod ({ cls := "GargoyleTower", name := "whet", desc := "()I" } : Jvm.MethodName)) ∈ lw_all := lw_g (lw_at lw_m6 233 rfl) rfl
theorem q1508 : (Jvm.Cond.selects "GargoyleTower" ({ cls := "GargoyleTower", name := "whet", desc := "()I" } : Jvm.MethodName) ({ cls := "GargoyleTower", name := "whet", desc := "()I" } : Jvm.MethodName)) ∈ lw_all := lw_g (lw_at lw_m6 234 rfl) rfl
theorem q1513 : (Jvm.Cond.codeWith ({ cls := "GargoyleTowerLaw", name := "blockOf", desc := "(LGargoyleTower;II[J)I" } : Jvm.MethodName) method_6_code (5 : Nat) (Option.some Jvm.ClassFile.FieldType.int) [((0 : Nat), (10 : Nat), (13 : Nat), (21 : Nat)), ((0 : Nat), (10 : Nat), (17 : Nat), (13 : Nat))]) ∈ lw_all := lw_g (lw_at lw_m6 239 rfl) rfl
theorem q1514 : (Jvm.Cond.methodLink "GargoyleTowerLaw" (27 : Nat) ({ cls := "GargoyleTower", name := "blockOf", desc := "(II)I" } : Jvm.MethodName)) ∈ lw_all := lw_g (lw_at lw_m7 0 rfl) rfl
theorem q1515 : (Jvm.Cond.instanceMethod ({ cls := "GargoyleTower", name := "blockOf", desc := "(II)I" } : Jvm.MethodName)) ∈ lw_all := lw_g (lw_at lw_m7 1 rfl) rfl
theorem q1516 : (Jvm.Cond.selects "GargoyleTower" ({ cls := "GargoyleTower", name := "blockOf", desc := "(II)I" } : Jvm.MethodName) ({ cls := "GargoyleTower", name := "blockOf", desc := "(II)I" } : Jvm.MethodName)) ∈ lw_all := lw_g (lw_at lw_m7 2 rfl) rfl
theorem q1522 : (Jvm.Cond.codeWith ({ cls := "GargoyleTowerLaw", name := "ranked", desc := "(LGargoyleTower;I[J)I" } : Jvm.MethodName) method_7_code (4 : Nat) (Option.some Jvm.ClassFile.FieldType.int) [((0 : Nat), (9 : Nat), (12 : Nat), (34 : Nat))]) ∈ lw_all := lw_g (lw_at lw_m7 8 rfl) rfl
theorem q1523 : (Jvm.Cond.classLink "GargoyleTowerLaw" (34 : Nat) "java/util/NoSuchElementException") ∈ lw_all := lw_g (lw_at lw_m7 9 rfl) rfl
theorem q1524 : (Jvm.Cond.methodLink "GargoyleTowerLaw" (30 : Nat) ({ cls := "GargoyleTower", name := "ranked", desc := "(I)I" } : Jvm.MethodName)) ∈ lw_all := lw_g (lw_at lw_m7 10 rfl) rfl
theorem q1525 : (Jvm.Cond.instanceMethod ({ cls := "GargoyleTower", name := "ranked", desc := "(I)I" } : Jvm.MethodName)) ∈ lw_all := lw_g (lw_at lw_m7 11 rfl) rfl
theorem q1526 : (Jvm.Cond.selects "GargoyleTower" ({ cls := "GargoyleTower", name := "ranked", desc := "(I)I" } : Jvm.MethodName) ({ cls := "GargoyleTower", name := "ranked", desc := "(I)I" } : Jvm.MethodName)) ∈ lw_all := lw_g (lw_at lw_m7 12 rfl) rfl
theorem q1601 : (Jvm.Cond.codeWith ({ cls := "GargoyleTowerLaw", name := "rope", desc := "(LGargoyleTower;I[J)I" } : Jvm.MethodName) method_8_code (4 : Nat) (Option.some Jvm.ClassFile.FieldType.int) [((0 : Nat), (9 : Nat), (12 : Nat), (13 : Nat)), ((0 : Nat), (9 : Nat), (15 : Nat), (15 : Nat))]) ∈ lw_all := lw_g (lw_at lw_m7 87 rfl) rfl
theorem q1602 : (Jvm.Cond.methodLink "GargoyleTowerLaw" (36 : Nat) ({ cls := "GargoyleTower", name := "rope", desc := "(I)I" } : Jvm.MethodName)) ∈ lw_all := lw_g (lw_at lw_m7 88 rfl) rfl
theorem q1603 : (Jvm.Cond.instanceMethod ({ cls := "GargoyleTower", name := "rope", desc := "(I)I" } : Jvm.MethodName)) ∈ lw_all := lw_g (lw_at lw_m7 89 rfl) rfl
theorem q1604 : (Jvm.Cond.selects "GargoyleTower" ({ cls := "GargoyleTower", name := "rope", desc := "(I)I" } : Jvm.MethodName) ({ cls := "GargoyleTower", name := "rope", desc := "(I)I" } : Jvm.MethodName)) ∈ lw_all := lw_g (lw_at lw_m7 90 rfl) rfl
theorem q1609 : (Jvm.Cond.codeWith ({ cls := "GargoyleTowerLaw", name := "ropeOf", desc := "(LGargoyleTower;II[J)I" } : Jvm.MethodName) method_9_code (5 : Nat) (Option.some Jvm.ClassFile.FieldType.int) [((0 : Nat), (10 : Nat), (13 : Nat), (21 : Nat)), ((0 : Nat), (10 : Nat), (17 : Nat), (13 : Nat))]) ∈ lw_all := lw_g (lw_at lw_m7 95 rfl) rfl
theorem q1610 : (Jvm.Cond.methodLink "GargoyleTowerLaw" (39 : Nat) ({ cls := "GargoyleTower", name := "ropeOf", desc := "(II)I" } : Jvm.MethodName)) ∈ lw_all := lw_g (lw_at lw_m7 96 rfl) rfl
theorem q1611 : (Jvm.Cond.instanceMethod ({ cls := "GargoyleTower", name := "ropeOf", desc := "(II)I" } : Jvm.MethodName)) ∈ lw_all := lw_g (lw_at lw_m7 97 rfl) rfl
theorem q1612 : (Jvm.Cond.selects "GargoyleTower" ({ cls := "GargoyleTower", name := "ropeOf", desc := "(II)I" } : Jvm.MethodName) ({ cls := "GargoyleTower", name := "ropeOf", desc := "(II)I" } : Jvm.MethodName)) ∈ lw_all := lw_g (lw_at lw_m7 98 rfl) rfl
theorem q1617 : (Jvm.Cond.codeWith ({ cls := "GargoyleTowerLaw", name := "hoist", desc := "(LGargoyleTower;II[J)I" } : Jvm.MethodName) method_10_code (5 : Nat) (Option.some Jvm.ClassFile.FieldType.int) [((0 : Nat), (10 : Nat), (13 : Nat), (21 : Nat)), ((0 : Nat), (10 : Nat), (17 : Nat), (15 : Nat))]) ∈ lw_all := lw_g (lw_at lw_m7 103 rfl) rfl
theorem q1618 : (Jvm.Cond.methodLink "GargoyleTowerLaw" (42 : Nat) ({ cls := "GargoyleTower", name := "hoist", desc := "(II)I" } : Jvm.MethodName)) ∈ lw_all := lw_g (lw_at lw_m7 104 rfl) rfl
theorem q1619 : (Jvm.Cond.instanceMethod ({ cls := "GargoyleTower", name := "hoist", desc := "(II)I" } : Jvm.MethodName)) ∈ lw_all := lw_g (lw_at lw_m7 105 rfl) rfl
theorem q1620 : (Jvm.Cond.selects "GargoyleTower" ({ cls := "GargoyleTower", name := "hoist", desc := "(II)I" } : Jvm.MethodName) ({ cls := "GargoyleTower", name := "hoist", desc := "(II)I" } : Jvm.MethodName)) ∈ lw_all := lw_g (lw_at lw_m7 106 rfl) rfl
theorem q1625 : (Jvm.Cond.codeWith ({ cls := "GargoyleTowerLaw", name := "lower", desc := "(LGargoyleTower;I[J)I" } : Jvm.MethodName) method_11_code (4 : Nat) (Option.some Jvm.ClassFile.FieldType.int) [((0 : Nat), (9 : Nat), (12 : Nat), (21 : Nat)), ((0 : Nat), (9 : Nat), (15 : Nat), (15 : Nat))]) ∈ lw_all := lw_g (lw_at lw_m7 111 rfl) rfl
theorem q1626 : (Jvm.Cond.methodLink "GargoyleTowerLaw" (45 : Nat) ({ cls := "GargoyleTower", name := "lower", desc := "(I)I" } : Jvm.MethodName)) ∈ lw_all := lw_g (lw_at lw_m7 112 rfl) rfl
theorem q1627 : (Jvm.Cond.instanceMethod ({ cls := "GargoyleTower", name := "lower", desc := "(I)I" } : Jvm.MethodName)) ∈ lw_all := lw_g (lw_at lw_m7 113 rfl) rfl
theorem q1628 : (Jvm.Cond.selects "GargoyleTower" ({ cls := "GargoyleTower", name := "lower", desc := "(I)I" } : Jvm.MethodName) ({ cls := "GargoyleTower", name := "lower", desc := "(I)I" } : Jvm.MethodName)) ∈ lw_all := lw_g (lw_at lw_m7 114 rfl) rfl
theorem q1633 : (Jvm.Cond.codeWith ({ cls := "GargoyleTowerLaw", name := "set", desc := "(LGargoyleTower;II[J)I" } : Jvm.MethodName) method_12_code (5 : Nat) (Option.some Jvm.ClassFile.FieldType.int) [((0 : Nat), (10 : Nat), (13 : Nat), (21 : Nat)), ((0 : Nat), (10 : Nat), (17 : Nat), (15 : Nat))]) ∈ lw_all := lw_g (lw_at lw_m7 119 rfl) rfl
theorem q1634 : (Jvm.Cond.methodLink "GargoyleTowerLaw" (48 : Nat) ({ cls := "GargoyleTower", name := "set", desc := "(II)I" } : Jvm.MethodName)) ∈ lw_all := lw_g (lw_at lw_m7 120 rfl) rfl
theorem q1635 : (Jvm.Cond.instanceMethod ({ cls := "GargoyleTower", name := "set", desc := "(II)I" } : Jvm.MethodName)) ∈ lw_all := lw_g (lw_at lw_m7 121 rfl) rfl
theorem q1636 : (Jvm.Cond.selects "GargoyleTower" ({ cls := "GargoyleTower", name := "set", desc := "(II)I" } : Jvm.MethodName) ({ cls := "GargoyleTower", name := "set", desc := "(II)I" } : Jvm.MethodName)) ∈ lw_all := lw_g (lw_at lw_m7 122 rfl) rfl
theorem q1641 : (Jvm.Cond.codeWith ({ cls := "GargoyleTowerLaw", name := "blockIn", desc := "(LGargoyleTower;I[J)I" } : Jvm.MethodName) method_13_code (4 : Nat) (Option.some Jvm.ClassFile.FieldType.int) [((0 : Nat), (9 : Nat), (12 : Nat), (21 : Nat))]) ∈ lw_all := lw_g (lw_at lw_m7 127 rfl) rfl
theorem q1642 : (Jvm.Cond.methodLink "GargoyleTowerLaw" (51 : Nat) ({ cls := "GargoyleTower", name := "blockIn", desc := "(I)I" } : Jvm.MethodName)) ∈ lw_all := lw_g (lw_at lw_m7 128 rfl) rfl
theorem q1643 : (Jvm.Cond.instanceMethod ({ cls := "GargoyleTower", name := "blockIn", desc := "(I)I" } : Jvm.MethodName)) ∈ lw_all := lw_g (lw_at lw_m7 129 rfl) rfl
theorem q1644 : (Jvm.Cond.selects "GargoyleTower" ({ cls := "GargoyleTower", name := "blockIn", desc := "(I)I" } : Jvm.MethodName) ({ cls := "GargoyleTower", name := "blockIn", desc := "(I)I" } : Jvm.MethodName)) ∈ lw_all := lw_g (lw_at lw_m7 130 rfl) rfl
theorem q1649 : (Jvm.Cond.codeWith ({ cls := "GargoyleTowerLaw", name := "weightOn", desc := "(LGargoyleTower;I[J)I" } : Jvm.MethodName) method_14_code (4 : Nat) (Option.some Jvm.ClassFile.FieldType.int) [((0 : Nat), (9 : Nat), (12 : Nat), (21 : Nat))]) ∈ lw_all := lw_g (lw_at lw_m7 135 rfl) rfl
theorem q1650 : (Jvm.Cond.methodLink "GargoyleTowerLaw" (54 : Nat) ({ cls := "GargoyleTower", name := "weightOn", desc := "(I)I" } : Jvm.MethodName)) ∈ lw_all := lw_g (lw_at lw_m7 136 rfl) rfl
theorem q1651 : (Jvm.Cond.instanceMethod ({ cls := "GargoyleTower", name := "weightOn", desc := "(I)I" } : Jvm.MethodName)) ∈ lw_all := lw_g (lw_at lw_m7 137 rfl) rfl
theorem q1652 : (Jvm.Cond.selects "GargoyleTower" ({ cls := "GargoyleTower", name := "weightOn", desc := "(I)I" } : Jvm.MethodName) ({ cls := "GargoyleTower", name := "weightOn", desc := "(I)I" } : Jvm.MethodName)) ∈ lw_all := lw_g (lw_at lw_m7 138 rfl) rfl
theorem q1656 : (Jvm.Cond.codeWith ({ cls := "GargoyleTowerLaw", name := "wouldFall", desc := "(LGargoyleTower;I[J)I" } : Jvm.MethodName) method_15_code (4 : Nat) (Option.some Jvm.ClassFile.FieldType.int) [((0 : Nat), (9 : Nat), (12 : Nat), (21 : Nat))]) ∈ lw_all := lw_g (lw_at lw_m7 142 rfl) rfl
theorem q1657 : (Jvm.Cond.methodLink "GargoyleTowerLaw" (57 : Nat) ({ cls := "GargoyleTower", name := "wouldFall", desc := "(I)I" } : Jvm.MethodName)) ∈ lw_all := lw_g (lw_at lw_m7 143 rfl) rfl
theorem q1658 : (Jvm.Cond.instanceMethod ({ cls := "GargoyleTower", name := "wouldFall", desc := "(I)I" } : Jvm.MethodName)) ∈ lw_all := lw_g (lw_at lw_m7 144 rfl) rfl
theorem q1659 : (Jvm.Cond.selects "GargoyleTower" ({ cls := "GargoyleTower", name := "wouldFall", desc := "(I)I" } : Jvm.MethodName) ({ cls := "GargoyleTower", name := "wouldFall", desc := "(I)I" } : Jvm.MethodName)) ∈ lw_all := lw_g (lw_at lw_m7 145 rfl) rfl
theorem q1664 : (Jvm.Cond.codeWith ({ cls := "GargoyleTowerLaw", name := "wouldFallAgain", desc := "(LGargoyleTower;I[J)I" } : Jvm.MethodName) method_16_code (4 : Nat) (Option.some Jvm.ClassFile.FieldType.int) [((0 : Nat), (9 : Nat), (12 : Nat), (21 : Nat))]) ∈ lw_all := lw_g (lw_at lw_m7 150 rfl) rfl
theorem q1665 : (Jvm.Cond.methodLink "GargoyleTowerLaw" (60 : Nat) ({ cls := "GargoyleTower", name := "wouldFallAgain", desc := "(I)I" } : Jvm.MethodName)) ∈ lw_all := lw_g (lw_at lw_m7 151 rfl) rfl
theorem q1666 : (Jvm.Cond.instanceMethod ({ cls := "GargoyleTower", name := "wouldFallAgain", desc := "(I)I" } : Jvm.MethodName)) ∈ lw_all := lw_g (lw_at lw_m7 152 rfl) rfl
theorem q1667 : (Jvm.Cond.selects "GargoyleTower" ({ cls := "GargoyleTower", name := "wouldFallAgain", desc := "(I)I" } : Jvm.MethodName) ({ cls := "GargoyleTower", name := "wouldFallAgain", desc := "(I)I" } : Jvm.MethodName)) ∈ lw_all := lw_g (lw_at lw_m7 153 rfl) rfl
theorem q1677 : (Jvm.Cond.codeWith ({ cls := "GargoyleTowerLaw", name := "push", desc := "(LGargoyleTower;I[J)I" } : Jvm.MethodName) method_17_code (4 : Nat) (Option.some Jvm.ClassFile.FieldType.int) [((0 : Nat), (9 : Nat), (12 : Nat), (21 : Nat)), ((0 : Nat), (9 : Nat), (15 : Nat), (15 : Nat))]) ∈ lw_all := lw_g (lw_at lw_m7 163 rfl) rfl
theorem q1678 : (Jvm.Cond.methodLink "GargoyleTowerLaw" (63 : Nat) ({ cls := "GargoyleTower", name := "push", desc := "(I)I" } : Jvm.MethodName)) ∈ lw_all := lw_g (lw_at lw_m7 164 rfl) rfl
theorem q1679 : (Jvm.Cond.instanceMethod ({ cls := "GargoyleTower", name := "push", desc := "(I)I" } : Jvm.MethodName)) ∈ lw_all := lw_g (lw_at lw_m7 165 rfl) rfl
theorem q1680 : (Jvm.Cond.selects "GargoyleTower" ({ cls := "GargoyleTower", name := "push", desc := "(I)I" } : Jvm.MethodName) ({ cls := "GargoyleTower", name := "push", desc := "(I)I" } : Jvm.MethodName)) ∈ lw_all := lw_g (lw_at lw_m7 166 rfl) rfl
theorem q1685 : (Jvm.Cond.codeWith ({ cls := "GargoyleTowerLaw", name := "commission", desc := "(LGargoyleTower;III[J)I" } : Jvm.MethodName) method_18_code (6 : Nat) (Option.some Jvm.ClassFile.FieldType.int) [((0 : Nat), (12 : Nat), (15 : Nat), (21 : Nat)), ((0 : Nat), (12 : Nat), (19 : Nat), (13 : Nat)), ((0 : Nat), (12 : Nat), (23 : Nat), (15 : Nat))]) ∈ lw_all := lw_g (lw_at lw_m7 171 rfl) rfl
theorem q1686 : (Jvm.Cond.methodLink "GargoyleTowerLaw" (66 : Nat) ({ cls := "GargoyleTower", name := "commission", desc := "(III)I" } : Jvm.MethodName)) ∈ lw_all := lw_g (lw_at lw_m7 172 rfl) rfl
theorem q1687 : (Jvm.Cond.instanceMethod ({ cls := "GargoyleTower", name := "commission", desc := "(III)I" } : Jvm.MethodName)) ∈ lw_all := lw_g (lw_at lw_m7 173 rfl) rfl
theorem q1688 : (Jvm.Cond.selects "GargoyleTower" ({ cls := "GargoyleTower", name := "commission", desc := "(III)I" } : Jvm.MethodName) ({ cls := "GargoyleTower", name := "commission", desc := "(III)I" } : Jvm.MethodName)) ∈ lw_all := lw_g (lw_at lw_m7 174 rfl) rfl
theorem q1694 : (Jvm.Cond.codeWith ({ cls := "GargoyleTowerLaw", name := "deliver", desc := "(LGargoyleTower;II[J)I" } : Jvm.MethodName) method_19_code (5 : Nat) (Option.some Jvm.ClassFile.FieldType.int) [((0 : Nat), (10 : Nat), (13 : Nat), (21 : Nat)), ((0 : Nat), (10 : Nat), (17 : Nat), (15 : Nat))]) ∈ lw_all := lw_g (lw_at lw_m7 180 rfl) rfl
theorem q1695 : (Jvm.Cond.methodLink "GargoyleTowerLaw" (70 : Nat) ({ cls := "GargoyleTower", name := "deliver", desc := "(II)I" } : Jvm.MethodName)) ∈ lw_all := lw_g (lw_at lw_m7 181 rfl) rfl
theorem q1696 : (Jvm.Cond.instanceMethod ({ cls := "GargoyleTower", name := "deliver", desc := "(II)I" } : Jvm.MethodName)) ∈ lw_all := lw_g (lw_at lw_m7 182 rfl) rfl
theorem q1697 : (Jvm.Cond.selects "GargoyleTower" ({ cls := "GargoyleTower", name := "deliver", desc := "(II)I" } : Jvm.MethodName) ({ cls := "GargoyleTower", name := "deliver", desc := "(II)I" } : Jvm.MethodName)) ∈ lw_all := lw_g (lw_at lw_m7 183 rfl) rfl
theorem q1702 : (Jvm.Cond.codeWith ({ cls := "GargoyleTowerLaw", name := "commissionOf", desc := "(LGargoyleTower;II[J)I" } : Jvm.MethodName) method_20_code (5 : Nat) (Option.some Jvm.ClassFile.FieldType.int) [((0 : Nat), (10 : Nat), (13 : Nat), (21 : Nat)), ((0 : Nat), (10 : Nat), (17 : Nat), (13 : Nat))]) ∈ lw_all := lw_g (lw_at lw_m7 188 rfl) rfl
theorem q1703 : (Jvm.Cond.methodLink "GargoyleTowerLaw" (73 : Nat) ({ cls := "GargoyleTower", name := "commissionOf", desc := "(II)I" } : Jvm.MethodName)) ∈ lw_all := lw_g (lw_at lw_m7 189 rfl) rfl
theorem q1704 : (Jvm.Cond.instanceMethod ({ cls := "GargoyleTower", name := "commissionOf", desc := "(II)I" } : Jvm.MethodName)) ∈ lw_all := lw_g (lw_at lw_m7 190 rfl) rfl
theorem q1705 : (Jvm.Cond.selects "GargoyleTower" ({ cls := "GargoyleTower", name := "commissionOf", desc := "(II)I" } : Jvm.MethodName) ({ cls := "GargoyleTower", name := "commissionOf", desc := "(II)I" } : Jvm.MethodName)) ∈ lw_all := lw_g (lw_at lw_m7 191 rfl) rfl
theorem q1714 : (Jvm.Cond.codeWith ({ cls := "GargoyleTowerLaw", name := "paidFor", desc := "(LGargoyleTower;I[J)I" } : Jvm.MethodName) method_21_code (4 : Nat) (Option.some Jvm.ClassFile.FieldType.int) [((0 : Nat), (9 : Nat), (12 : Nat), (21 : Nat))]) ∈ lw_all := lw_g (lw_at lw_m7 200 rfl) rfl
theorem q1715 : (Jvm.Cond.methodLink "GargoyleTowerLaw" (76 : Nat) ({ cls := "GargoyleTower", name := "paidFor", desc := "(I)I" } : Jvm.MethodName)) ∈ lw_all := lw_g (lw_at lw_m7 201 rfl) rfl
theorem q1716 : (Jvm.Cond.instanceMethod ({ cls := "GargoyleTower", name := "paidFor", desc := "(I)I" } : Jvm.MethodName)) ∈ lw_all := lw_g (lw_at lw_m7 202 rfl) rfl
theorem q1717 : (Jvm.Cond.selects "GargoyleTower" ({ cls := "GargoyleTower", name := "paidFor", desc := "(I)I" } : Jvm.MethodName) ({ cls := "GargoyleTower", name := "paidFor", desc := "(I)I" } : Jvm.MethodName)) ∈ lw_all := lw_g (lw_at lw_m7 203 rfl) rfl
theorem q1721 : (Jvm.Cond.codeWith ({ cls := "GargoyleTowerLaw", name := "seed", desc := "(LGargoyleTower;I[J)I" } : Jvm.MethodName) method_22_code (4 : Nat) (Option.some Jvm.ClassFile.FieldType.int) [((0 : Nat), (9 : Nat), (12 : Nat), (13 : Nat))]) ∈ lw_all := lw_g (lw_at lw_m7 207 rfl) rfl
theorem q1722 : (Jvm.Cond.methodLink "GargoyleTowerLaw" (79 : Nat) ({ cls := "GargoyleTower", name := "seed", desc := "(I)I" } : Jvm.MethodName)) ∈ lw_all := lw_g (lw_at lw_m7 208 rfl) rfl
theorem q1723 : (Jvm.Cond.instanceMethod ({ cls := "GargoyleTower", name := "seed", desc := "(I)I" } : Jvm.MethodName)) ∈ lw_all := lw_g (lw_at lw_m7 209 rfl) rfl
theorem q1724 : (Jvm.Cond.selects "GargoyleTower" ({ cls := "GargoyleTower", name := "seed", desc := "(I)I" } : Jvm.MethodName) ({ cls := "GargoyleTower", name := "seed", desc := "(I)I" } : Jvm.MethodName)) ∈ lw_all := lw_g (lw_at lw_m7 210 rfl) rfl
theorem q1729 : (Jvm.Cond.codeWith ({ cls := "GargoyleTowerLaw", name := "weather", desc := "(LGargoyleTower;I[J)I" } : Jvm.MethodName) method_23_code (4 : Nat) (Option.some Jvm.ClassFile.FieldType.int) [((0 : Nat), (9 : Nat), (12 : Nat), (13 : Nat))]) ∈ lw_all := lw_g (lw_at lw_m7 215 rfl) rfl
theorem q1730 : (Jvm.Cond.methodLink "GargoyleTowerLaw" (82 : Nat) ({ cls := "GargoyleTower", name := "weather", desc := "(I)I" } : Jvm.MethodName)) ∈ lw_all := lw_g (lw_at lw_m7 216 rfl) rfl
theorem q1731 : (Jvm.Cond.instanceMethod ({ cls := "GargoyleTower", name := "weather", desc := "(I)I" } : Jvm.MethodName)) ∈ lw_all := lw_g (lw_at lw_m7 217 rfl) rfl
theorem q1732 : (Jvm.Cond.selects "GargoyleTower" ({ cls := "GargoyleTower", name := "weather", desc := "(I)I" } : Jvm.MethodName) ({ cls := "GargoyleTower", name := "weather", desc := "(I)I" } : Jvm.MethodName)) ∈ lw_all := lw_g (lw_at lw_m7 218 rfl) rfl
theorem q1741 : (Jvm.Cond.codeWith ({ cls := "GargoyleTowerLaw", name := "pass", desc := "(LGargoyleTower;I[J)I" } : Jvm.MethodName) method_24_code (4 : Nat) (Option.some Jvm.ClassFile.FieldType.int) [((0 : Nat), (9 : Nat), (12 : Nat), (13 : Nat))]) ∈ lw_all := lw_g (lw_at lw_m7 227 rfl) rfl
theorem q1742 : (Jvm.Cond.methodLink "GargoyleTowerLaw" (85 : Nat) ({ cls := "GargoyleTower", name := "pass", desc := "(I)I" } : Jvm.MethodName)) ∈ lw_all := lw_g (lw_at lw_m7 228 rfl) rfl
theorem q1743 : (Jvm.Cond.instanceMethod ({ cls := "GargoyleTower", name := "pass", desc := "(I)I" } : Jvm.MethodName)) ∈ lw_all := lw_g (lw_at lw_m7 229 rfl) rfl
theorem q1744 : (Jvm.Cond.selects "GargoyleTower" ({ cls := "GargoyleTower", name := "pass", desc := "(I)I" } : Jvm.MethodName) ({ cls := "GargoyleTower", name := "pass", desc := "(I)I" } : Jvm.MethodName)) ∈ lw_all := lw_g (lw_at lw_m7 230 rfl) rfl
theorem q1749 : (Jvm.Cond.codeWith ({ cls := "GargoyleTowerLaw", name := "brokenIn", desc := "(LGargoyleTower;I[J)I" } : Jvm.MethodName) method_25_code (4 : Nat) (Option.some Jvm.ClassFile.FieldType.int) [((0 : Nat), (9 : Nat), (12 : Nat), (21 : Nat)), ((0 : Nat), (9 : Nat), (15 : Nat), (34 : Nat))]) ∈ lw_all := lw_g (lw_at lw_m7 235 rfl) rfl
theorem q1750 : (Jvm.Cond.methodLink "GargoyleTowerLaw" (88 : Nat) ({ cls := "GargoyleTower", name := "brokenIn", desc := "(I)I" } : Jvm.MethodName)) ∈ lw_all := lw_g (lw_at lw_m7 236 rfl) rfl
theorem q1751 : (Jvm.Cond.instanceMethod ({ cls := "GargoyleTower", name := "brokenIn", desc := "(I)I" } : Jvm.MethodName)) ∈ lw_all := lw_g (lw_at lw_m7 237 rfl) rfl
theorem q1752 : (Jvm.Cond.selects "GargoyleTower" ({ cls := "GargoyleTower", name := "brokenIn", desc := "(I)I" } : Jvm.MethodName) ({ cls := "GargoyleTower", name := "brokenIn", desc := "(I)I" } : Jvm.MethodName)) ∈ lw_all := lw_g (lw_at lw_m7 238 rfl) rfl
theorem q1757 : (Jvm.Cond.codeWith ({ cls := "GargoyleTowerLaw", name := "line", desc := "(LGargoyleTower;I[J)I" } : Jvm.MethodName) method_26_code (4 : Nat) (Option.some Jvm.ClassFile.FieldType.int) [((0 : Nat), (9 : Nat), (12 : Nat), (21 : Nat))]) ∈ lw_all := lw_g (lw_at lw_m8 3 rfl) rfl
theorem q1758 : (Jvm.Cond.methodLink "GargoyleTowerLaw" (91 : Nat) ({ cls := "GargoyleTower", name := "line", desc := "(I)I" } : Jvm.MethodName)) ∈ lw_all := lw_g (lw_at lw_m8 4 rfl) rfl
theorem q1759 : (Jvm.Cond.instanceMethod ({ cls := "GargoyleTower", name := "line", desc := "(I)I" } : Jvm.MethodName)) ∈ lw_all := lw_g (lw_at lw_m8 5 rfl) rfl
theorem q1760 : (Jvm.Cond.selects "GargoyleTower" ({ cls := "GargoyleTower", name := "line", desc := "(I)I" } : Jvm.MethodName) ({ cls := "GargoyleTower", name := "line", desc := "(I)I" } : Jvm.MethodName)) ∈ lw_all := lw_g (lw_at lw_m8 6 rfl) rfl
theorem q1958 : (Jvm.Cond.codeWith ({ cls := "GargoyleTowerLaw", name := "character", desc := "(LGargoyleTower;I[J)I" } : Jvm.MethodName) method_27_code (4 : Nat) (Option.some Jvm.ClassFile.FieldType.int) [((0 : Nat), (9 : Nat), (12 : Nat), (21 : Nat))]) ∈ lw_all := lw_g (lw_at lw_m8 204 rfl) rfl
theorem q1959 : (Jvm.Cond.methodLink "GargoyleTowerLaw" (94 : Nat) ({ cls := "GargoyleTower", name := "character", desc := "(I)C" } : Jvm.MethodName)) ∈ lw_all := lw_g (lw_at lw_m8 205 rfl) rfl
theorem q1960 : (Jvm.Cond.instanceMethod ({ cls := "GargoyleTower", name := "character", desc := "(I)C" } : Jvm.MethodName)) ∈ lw_all := lw_g (lw_at lw_m8 206 rfl) rfl
theorem q1961 : (Jvm.Cond.selects "GargoyleTower" ({ cls := "GargoyleTower", name := "character", desc := "(I)C" } : Jvm.MethodName) ({ cls := "GargoyleTower", name := "character", desc := "(I)C" } : Jvm.MethodName)) ∈ lw_all := lw_g (lw_at lw_m8 207 rfl) rfl
theorem q1966 : (Jvm.Cond.codeWith ({ cls := "GargoyleTowerLaw", name := "meanDetail", desc := "(LGargoyleTower;[D)I" } : Jvm.MethodName) method_28_code (3 : Nat) (Option.some Jvm.ClassFile.FieldType.int) [((0 : Nat), (7 : Nat), (10 : Nat), (102 : Nat))]) ∈ lw_all := lw_g (lw_at lw_m8 212 rfl) rfl
theorem q1967 : (Jvm.Cond.classLink "GargoyleTowerLaw" (102 : Nat) "java/lang/ArithmeticException") ∈ lw_all := lw_g (lw_at lw_m8 213 rfl) rfl
theorem q1979 : (Jvm.Cond.castable "java/lang/ArithmeticException" "java/lang/ArithmeticException") ∈ lw_tbl := lw_at lw_m8 225 rfl
theorem q1981 : (Jvm.Cond.methodLink "GargoyleTowerLaw" (98 : Nat) ({ cls := "GargoyleTower", name := "meanDetail", desc := "()D" } : Jvm.MethodName)) ∈ lw_all := lw_g (lw_at lw_m8 227 rfl) rfl
theorem q1982 : (Jvm.Cond.instanceMethod ({ cls := "GargoyleTower", name := "meanDetail", desc := "()D" } : Jvm.MethodName)) ∈ lw_all := lw_g (lw_at lw_m8 228 rfl) rfl
theorem q1983 : (Jvm.Cond.selects "GargoyleTower" ({ cls := "GargoyleTower", name := "meanDetail", desc := "()D" } : Jvm.MethodName) ({ cls := "GargoyleTower", name := "meanDetail", desc := "()D" } : Jvm.MethodName)) ∈ lw_all := lw_g (lw_at lw_m8 229 rfl) rfl
theorem q1996 : (Jvm.Cond.codeWith ({ cls := "GargoyleTowerLaw", name := "brokenShare", desc := "(LGargoyleTower;[D)I" } : Jvm.MethodName) method_29_code (3 : Nat) (Option.some Jvm.ClassFile.FieldType.int) [((0 : Nat), (8 : Nat), (11 : Nat), (102 : Nat))]) ∈ lw_all := lw_g (lw_at lw_m9 2 rfl) rfl
theorem q1997 : (Jvm.Cond.methodLink "GargoyleTowerLaw" (104 : Nat) ({ cls := "GargoyleTower", name := "brokenShare", desc := "()F" } : Jvm.MethodName)) ∈ lw_all := lw_g (lw_at lw_m9 3 rfl) rfl
theorem q1998 : (Jvm.Cond.instanceMethod ({ cls := "GargoyleTower", name := "brokenShare", desc := "()F" } : Jvm.MethodName)) ∈ lw_all := lw_g (lw_at lw_m9 4 rfl) rfl
theorem q1999 : (Jvm.Cond.selects "GargoyleTower" ({ cls := "GargoyleTower", name := "brokenShare", desc := "()F" } : Jvm.MethodName) ({ cls := "GargoyleTower", name := "brokenShare", desc := "()F" } : Jvm.MethodName)) ∈ lw_all := lw_g (lw_at lw_m9 5 rfl) rfl
theorem q2008 : (Jvm.Cond.codeWith ({ cls := "GargoyleTowerLaw", name := "reason", desc := "(LGargoyleTower;IZ[J)I" } : Jvm.MethodName) method_30_code (5 : Nat) (Option.some Jvm.ClassFile.FieldType.int) [((0 : Nat), (10 : Nat), (13 : Nat), (13 : Nat)), ((0 : Nat), (10 : Nat), (17 : Nat), (34 : Nat))]) ∈ lw_all := lw_g (lw_at lw_m9 14 rfl) rfl
theorem q2009 : (Jvm.Cond.methodLink "GargoyleTowerLaw" (108 : Nat) ({ cls := "GargoyleTower", name := "reason", desc := "(IZ)I" } : Jvm.MethodName)) ∈ lw_all := lw_g (lw_at lw_m9 15 rfl) rfl
theorem q2010 : (Jvm.Cond.instanceMethod ({ cls := "GargoyleTower", name := "reason", desc := "(IZ)I" } : Jvm.MethodName)) ∈ lw_all := lw_g (lw_at lw_m9 16 rfl) rfl
theorem q2011 : (Jvm.Cond.selects "GargoyleTower" ({ cls := "GargoyleTower", name := "reason", desc := "(IZ)I" } : Jvm.MethodName) ({ cls := "GargoyleTower", name := "reason", desc := "(IZ)I" } : Jvm.MethodName)) ∈ lw_all := lw_g (lw_at lw_m9 17 rfl) rfl
theorem q2012 : (Jvm.Cond.code ({ cls := "GargoyleTower", name := "reason", desc := "(IZ)I" } : Jvm.MethodName) prog_1_method_45_code (5 : Nat) (Option.some Jvm.ClassFile.FieldType.int)) ∈ lw_all := lw_g (lw_at lw_m9 18 rfl) rfl
theorem q2013 : (Jvm.Cond.methodLink "GargoyleTower" (344 : Nat) ({ cls := "java/lang/Throwable", name := "getCause", desc := "()Ljava/lang/Throwable;" } : Jvm.MethodName)) ∈ lw_all := lw_g (lw_at lw_m9 19 rfl) rfl
theorem q2014 : (Jvm.Cond.instanceMethod ({ cls := "java/lang/Throwable", name := "getCause", desc := "()Ljava/lang/Throwable;" } : Jvm.MethodName)) ∈ lw_all := lw_g (lw_at lw_m9 20 rfl) rfl
theorem q2016 : (Jvm.Cond.selects "GargoyleTower$RefusedException" ({ cls := "java/lang/Throwable", name := "getCause", desc := "()Ljava/lang/Throwable;" } : Jvm.MethodName) ({ cls := "java/lang/Throwable", name := "getCause", desc := "()Ljava/lang/Throwable;" } : Jvm.MethodName)) ∈ lw_all := lw_g (lw_at lw_m9 22 rfl) rfl
theorem q2026 : (Jvm.Cond.codeSync ({ cls := "java/lang/Throwable", name := "getCause", desc := "()Ljava/lang/Throwable;" } : Jvm.MethodName) prog_39_method_8_code (1 : Nat) (Option.some (Jvm.ClassFile.FieldType.object "java/lang/Throwable"))) ∈ lw_all := lw_g (lw_at lw_m9 32 rfl) rfl
theorem q2029 : (Jvm.Cond.codeWith ({ cls := "GargoyleTowerLaw", name := "account", desc := "(LGargoyleTower;I[J)I" } : Jvm.MethodName) method_31_code (4 : Nat) (Option.some Jvm.ClassFile.FieldType.int) [((0 : Nat), (9 : Nat), (12 : Nat), (13 : Nat))]) ∈ lw_all := lw_g (lw_at lw_m9 35 rfl) rfl
theorem q2030 : (Jvm.Cond.methodLink "GargoyleTowerLaw" (111 : Nat) ({ cls := "GargoyleTower", name := "account", desc := "(I)I" } : Jvm.MethodName)) ∈ lw_all := lw_g (lw_at lw_m9 36 rfl) rfl
theorem q2031 : (Jvm.Cond.instanceMethod ({ cls := "GargoyleTower", name := "account", desc := "(I)I" } : Jvm.MethodName)) ∈ lw_all := lw_g (lw_at lw_m9 37 rfl) rfl
theorem q2032 : (Jvm.Cond.selects "GargoyleTower" ({ cls := "GargoyleTower", name := "account", desc := "(I)I" } : Jvm.MethodName) ({ cls := "GargoyleTower", name := "account", desc := "(I)I" } : Jvm.MethodName)) ∈ lw_all := lw_g (lw_at lw_m9 38 rfl) rfl
theorem q2044 : (Jvm.Cond.codeWith ({ cls := "GargoyleTowerLaw", name := "feed", desc := "(LGargoyleTower;C[J)I" } : Jvm.MethodName) method_32_code (4 : Nat) (Option.some Jvm.ClassFile.FieldType.int) [((0 : Nat), (9 : Nat), (12 : Nat), (118 : Nat))]) ∈ lw_all := lw_g (lw_at lw_m9 50 rfl) rfl
theorem q2045 : (Jvm.Cond.classLink "GargoyleTowerLaw" (118 : Nat) "java/lang/IllegalStateException") ∈ lw_all := lw_g (lw_at lw_m9 51 rfl) rfl
theorem q2046 : (Jvm.Cond.methodLink "GargoyleTowerLaw" (114 : Nat) ({ cls := "GargoyleTower", name := "feed", desc := "(C)I" } : Jvm.MethodName)) ∈ lw_all := lw_g (lw_at lw_m9 52 rfl) rfl
theorem q2047 : (Jvm.Cond.instanceMethod ({ cls := "GargoyleTower", name := "feed", desc := "(C)I" } : Jvm.MethodName)) ∈ lw_all := lw_g (lw_at lw_m9 53 rfl) rfl
theorem q2048 : (Jvm.Cond.selects "GargoyleTower" ({ cls := "GargoyleTower", name := "feed", desc := "(C)I" } : Jvm.MethodName) ({ cls := "GargoyleTower", name := "feed", desc := "(C)I" } : Jvm.MethodName)) ∈ lw_all := lw_g (lw_at lw_m9 54 rfl) rfl
theorem q2060 : (Jvm.Cond.codeWith ({ cls := "GargoyleTowerLaw", name := "perform", desc := "(LGargoyleTower;[J)I" } : Jvm.MethodName) method_33_code (3 : Nat) (Option.some Jvm.ClassFile.FieldType.int) [((0 : Nat), (8 : Nat), (11 : Nat), (15 : Nat))]) ∈ lw_all := lw_g (lw_at lw_m9 66 rfl) rfl
theorem q2061 : (Jvm.Cond.methodLink "GargoyleTowerLaw" (120 : Nat) ({ cls := "GargoyleTower", name := "perform", desc := "()I" } : Jvm.MethodName)) ∈ lw_all := lw_g (lw_at lw_m9 67 rfl) rfl
theorem q2062 : (Jvm.Cond.instanceMethod ({ cls := "GargoyleTower", name := "perform", desc := "()I" } : Jvm.MethodName)) ∈ lw_all := lw_g (lw_at lw_m9 68 rfl) rfl
theorem q2063 : (Jvm.Cond.selects "GargoyleTower" ({ cls := "GargoyleTower", name := "perform", desc := "()I" } : Jvm.MethodName) ({ cls := "GargoyleTower", name := "perform", desc := "()I" } : Jvm.MethodName)) ∈ lw_all := lw_g (lw_at lw_m9 69 rfl) rfl
theorem q2263 : (Jvm.Cond.codeWith ({ cls := "GargoyleTowerLaw", name := "undo", desc := "(LGargoyleTower;[J)I" } : Jvm.MethodName) method_34_code (3 : Nat) (Option.some Jvm.ClassFile.FieldType.int) [((0 : Nat), (8 : Nat), (11 : Nat), (118 : Nat))]) ∈ lw_all := lw_g (lw_at lw_m10 29 rfl) rfl
theorem q2264 : (Jvm.Cond.methodLink "GargoyleTowerLaw" (123 : Nat) ({ cls := "GargoyleTower", name := "undo", desc := "()I" } : Jvm.MethodName)) ∈ lw_all := lw_g (lw_at lw_m10 30 rfl) rfl
theorem q2265 : (Jvm.Cond.instanceMethod ({ cls := "GargoyleTower", name := "undo", desc := "()I" } : Jvm.MethodName)) ∈ lw_all := lw_g (lw_at lw_m10 31 rfl) rfl
theorem q2266 : (Jvm.Cond.selects "GargoyleTower" ({ cls := "GargoyleTower", name := "undo", desc := "()I" } : Jvm.MethodName) ({ cls := "GargoyleTower", name := "undo", desc := "()I" } : Jvm.MethodName)) ∈ lw_all := lw_g (lw_at lw_m10 32 rfl) rfl
theorem q2285 : (Jvm.Cond.codeWith ({ cls := "GargoyleTowerLaw", name := "restore", desc := "(LGargoyleTower;[J)I" } : Jvm.MethodName) method_35_code (3 : Nat) (Option.some Jvm.ClassFile.FieldType.int) [((0 : Nat), (8 : Nat), (11 : Nat), (118 : Nat))]) ∈ lw_all := lw_g (lw_at lw_m10 51 rfl) rfl
theorem q2286 : (Jvm.Cond.methodLink "GargoyleTowerLaw" (126 : Nat) ({ cls := "GargoyleTower", name := "restore", desc := "()I" } : Jvm.MethodName)) ∈ lw_all := lw_g (lw_at lw_m10 52 rfl) rfl
theorem q2287 : (Jvm.Cond.instanceMethod ({ cls := "GargoyleTower", name := "restore", desc := "()I" } : Jvm.MethodName)) ∈ lw_all := lw_g (lw_at lw_m10 53 rfl) rfl
theorem q2288 : (Jvm.Cond.selects "GargoyleTower" ({ cls := "GargoyleTower", name := "restore", desc := "()I" } : Jvm.MethodName) ({ cls := "GargoyleTower", name := "restore", desc := "()I" } : Jvm.MethodName)) ∈ lw_all := lw_g (lw_at lw_m10 54 rfl) rfl
theorem np87 : gh_np "()Ljava/lang/Throwable;" 0 := by unfold gh_np; decide +kernel
theorem np88 : gh_np "()D" 0 := by unfold gh_np; decide +kernel
theorem np89 : gh_np "()F" 0 := by unfold gh_np; decide +kernel
theorem np90 : gh_np "(C)I" 1 := by unfold gh_np; decide +kernel
-- GargoyleTower.reason(IZ)I
def gp_X1_reason_20 (x : gh_C) (u20_1 : Int32) (u20_2 : Int32) (st : (Option Nat) × Int32) (g : gh_G) : Prop := ∀ ls : Array Slot, gh_lv ls 5 [(1, .int u20_1), (2, .int u20_2), (3, va_rf st.1), (4, .int st.2)] → gh_Wd x g (F0 (gh_cm x) 20 ls [])
noncomputable def f_X1_reason_41 (p2 : Int32) (p3 : Option Nat) : gh_M Int32 :=
  gh_nn p3 fun a1 =>
  gh_bd (gh_cls a1) fun k2 =>
  if k2 = 8 then (gh_bd (gh_is a1 8) fun _ =>
  if p2 = 0 then
  (gh_bd (gh_geti a1 8 6) fun v3 =>
  gh_ret v3)
  else
  (gh_bd (gh_geti a1 8 7) fun v4 =>
  gh_ret v4)) else gh_stk
theorem w_X1_reason_41 {x : gh_C} {g : gh_G} {o : (Int32 ⊕ gh_X) × gh_G} {ls : Array Slot} (C : gh_K x cX1_reason "GargoyleTower" 5 (some .int) "reason" 8 130 []) (p2 : Int32) (p3 : Option Nat) (hl : gh_lv ls 5 [(2, .int p2), (3, va_rf p3)]) (h : gh_run (f_X1_reason_41 p2 p3) g = some o) (hk : (gh_K0 x gh_rI) o) : gh_Wd x g (F0 (gh_cm x) 41 ls []) := by
  unfold f_X1_reason_41 at h
  refine gr_aload_n (pc := 41) (i := 3) C rfl (gl_at hl 1 rfl) dX1_reason_41 ?_
  rcases p3 with _ | a1
  · exact gh_stk_inv h
  replace h := gh_nn_ss h
  obtain ⟨k2, fs9, hg9, h⟩ := gh_cls_inv h
  by_cases c7 : k2 = 8
  · replace h := gh_ift h c7
    subst c7
    refine gr_instY (pc := 42) C gh_cX9 q1133 (Or.inl rfl) dX1_reason_42 hg9 ?_
    refine gr_if_eq (pc := 45) (tgt := 72) C rfl dX1_reason_45 (fun c9 => absurd c9 (by decide)) (fun c9 => ?_)
    refine gr_aload_n (pc := 48) (i := 3) C rfl (gl_at hl 1 rfl) dX1_reason_48 ?_
    obtain ⟨⟨fs9, hg9⟩, h⟩ := gh_is_inv h
    refine gr_castY (pc := 49) C gh_cX9 q1133 (Or.inl rfl) dX1_reason_49 hg9 ?_
    refine gr_astore (pc := 52) (i := 4) (l' := [(4, va_rf (some a1)), (2, .int p2), (3, va_rf (some a1))]) C hl (Nat.le_of_ble_eq_true rfl) rfl dX1_reason_52 fun ls hl => ?_
    refine gr_iload_n (pc := 54) (i := 2) C rfl (gl_at hl 1 rfl) dX1_reason_54 ?_
    refine gr_if_eq (pc := 55) (tgt := 66) C rfl dX1_reason_55 (fun c9 => ?_) (fun c9 => ?_)
    · replace h := gh_ift h c9
      refine gr_aload (pc := 66) (i := 4) C (gl_at hl 0 rfl) dX1_reason_66 ?_
      refine gr_getiN (pc := 68) C gh_bX9 (k := 6) (Nat.le_of_ble_eq_true rfl) q1272 (fun _ h => h) dX1_reason_68 h fun v3 h => ?_
      exact gr_iret (pc := 71) C dX1_reason_71 h hk
    · replace h := gh_iff h c9
      refine gr_aload (pc := 58) (i := 4) C (gl_at hl 0 rfl) dX1_reason_58 ?_
      refine gr_getiN (pc := 60) C gh_bX9 (k := 7) (Nat.le_of_ble_eq_true rfl) q1274 (fun _ h => h) dX1_reason_60 h fun v4 h => ?_
      refine gr_goto (pc := 63) (tgt := 71) C rfl dX1_reason_63 ?_
      exact gr_iret (pc := 71) C dX1_reason_71 h hk
  replace h := gh_iff h c7
  exact gh_stk_inv h

noncomputable def f_X1_reason_20_l (u20_1 : Int32) (u20_2 : Int32) (p3 : Option Nat) (p4 : Int32) : gh_M (((Option Nat) × Int32) ⊕ Int32) :=
  if u20_1 ≤ p4 then
  (gh_up (f_X1_reason_41 u20_2 p3))
  else
  (gh_on p3
  (gh_up (f_X1_reason_41 u20_2 none))
  (fun b1 => gh_bd (gh_is b1 8) fun _ =>
  gh_bd (f_J11_getCause b1) fun v2 =>
  gh_ret (.inl (v2, p4 + (1 : Int32)))))
theorem w_X1_reason_20_l {x : gh_C} {g : gh_G} {o : ((((Option Nat) × Int32) ⊕ Int32) ⊕ gh_X) × gh_G} {ls : Array Slot} (C : gh_K x cX1_reason "GargoyleTower" 5 (some .int) "reason" 8 130 []) (u20_1 : Int32) (u20_2 : Int32) (p3 : Option Nat) (p4 : Int32) (hl : gh_lv ls 5 [(1, .int u20_1), (2, .int u20_2), (3, va_rf p3), (4, .int p4)]) (h : gh_run (f_X1_reason_20_l u20_1 u20_2 p3 p4) g = some o) (hk : (gh_K1 x (gh_K0 x gh_rI) (gp_X1_reason_20 x u20_1 u20_2)) o) : gh_Wd x g (F0 (gh_cm x) 20 ls []) := by
  unfold f_X1_reason_20_l at h
  refine gr_iload (pc := 20) (i := 4) C (gl_at hl 3 rfl) dX1_reason_20 ?_
  refine gr_iload_n (pc := 22) (i := 1) C rfl (gl_at hl 0 rfl) dX1_reason_22 ?_
  refine gr_icmp_ge (pc := 23) (tgt := 41) C rfl dX1_reason_23 (fun c9 => ?_) (fun c9 => ?_)
  · replace h := gh_ift h c9
    obtain ⟨o, h, hk⟩ := gh_K1_up h hk
    exact w_X1_reason_41 C u20_2 p3 (gl_sub hl [1, 2] rfl) h hk
  · replace h := gh_iff h c9
    refine gr_aload_n (pc := 26) (i := 3) C rfl (gl_at hl 2 rfl) dX1_reason_26 ?_
    refine gr_ifnull (pc := 27) (tgt := 41) C rfl dX1_reason_27 (fun c9 => ?_) (fun b1 c9 => ?_)
    · subst c9
      replace h := gh_on_n h
      obtain ⟨o, h, hk⟩ := gh_K1_up h hk
      exact w_X1_reason_41 C u20_2 none (gl_sub hl [1, 2] rfl) h hk
    · subst c9
      replace h := gh_on_s h
      refine gr_aload_n (pc := 30) (i := 3) C rfl (gl_at hl 2 rfl) dX1_reason_30 ?_
      obtain ⟨⟨fs9, hg9⟩, h⟩ := gh_is_inv h
      refine gh_callQ (pc := 31) (rest := []) C (k_J11_getCause C.tr b1) (Nat.le_of_ble_eq_true rfl) (Nat.le_of_ble_eq_true rfl) (gh_r4 (Nat.le_of_ble_eq_true rfl)) (fun H9 L9 hp9 => gi_Y C hp9 hg9 gh_cX9 q2013 q2014 q2016 q2026 mh_J11 np87 rfl hl.1.1 dX1_reason_31 rfl) h ((gh_K1_b gh_K0_b) _ hk) (fun v2 g h => ?_) (fun e g h => ?_)
      rotate_left
      ·
        obtain ⟨o, h, hk⟩ := gh_K1_thr h hk
        exact gh_out C (fun _ h => nomatch h) h hk
      refine gr_astore_n (pc := 34) (i := 3) (l' := [(3, va_rf v2), (1, .int u20_1), (2, .int u20_2), (4, .int p4)]) C rfl hl (Nat.le_of_ble_eq_true rfl) rfl dX1_reason_34 fun ls hl => ?_
      refine gr_iinc (pc := 35) (i := 4) (z := 3) (v := p4 + (1 : Int32)) (l' := [(4, .int (p4 + (1 : Int32))), (3, va_rf v2), (1, .int u20_1), (2, .int u20_2)]) C hl rfl rfl (Nat.le_of_ble_eq_true rfl) rfl dX1_reason_35 fun ls hl => ?_
      refine gr_goto (pc := 38) (tgt := 20) C rfl dX1_reason_38 ?_
      exact gh_K1_in h hk ls (gl_sub hl [2, 3, 1, 0] rfl)

noncomputable def f_X1_reason_20 (p1 : Int32) (p2 : Int32) (p3 : Option Nat) (p4 : Int32) : gh_M Int32 := gh_it (fun st : (Option Nat) × Int32 => f_X1_reason_20_l p1 p2 st.1 st.2) (p3, p4)
theorem w_X1_reason_20 {x : gh_C} {g : gh_G} {o : (Int32 ⊕ gh_X) × gh_G} {ls : Array Slot} (C : gh_K x cX1_reason "GargoyleTower" 5 (some .int) "reason" 8 130 []) (p1 : Int32) (p2 : Int32) (p3 : Option Nat) (p4 : Int32) (hl : gh_lv ls 5 [(1, .int p1), (2, .int p2), (3, va_rf p3), (4, .int p4)]) (h : gh_run (f_X1_reason_20 p1 p2 p3 p4) g = some o) (hk : (gh_K0 x gh_rI) o) : gh_Wd x g (F0 (gh_cm x) 20 ls []) := by
  unfold f_X1_reason_20 at h
  exact gh_loop gh_K0_b (fun st : (Option Nat) × Int32 => f_X1_reason_20_l p1 p2 st.1 st.2) (gp_X1_reason_20 x p1 p2) (fun st g o h hk ls hl => w_X1_reason_20_l C p1 p2 st.1 st.2 hl h hk) _ g o h hk ls hl
noncomputable def f_X1_reason_9 (t0 : Nat) (p1 : Int32) (p2 : Int32) (s0 : Int32) : gh_M Int32 :=
  gh_bd (f_X1_checkArgument s0) fun _ =>
  gh_bd (gh_getr t0 0 3) fun v2 =>
  f_X1_reason_20 p1 p2 v2 (0 : Int32)
theorem w_X1_reason_9 {x : gh_C} {g : gh_G} {o : (Int32 ⊕ gh_X) × gh_G} {ls : Array Slot} (C : gh_K x cX1_reason "GargoyleTower" 5 (some .int) "reason" 8 130 []) (t0 : Nat) (p1 : Int32) (p2 : Int32) (s0 : Int32) (hl : gh_lv ls 5 [(0, va_rf (some t0)), (1, .int p1), (2, .int p2)]) (h : gh_run (f_X1_reason_9 t0 p1 p2 s0) g = some o) (hk : (gh_K0 x gh_rI) o) : gh_Wd x g (F0 (gh_cm x) 9 ls [.int s0]) := by
  unfold f_X1_reason_9 at h
  refine gh_callV (pc := 9) (rest := []) C (k_X1_checkArgument C.tr s0) (Nat.le_of_ble_eq_true rfl) (Nat.le_of_ble_eq_true rfl) (gh_r4 (Nat.le_of_ble_eq_true rfl)) (fun H9 L9 hp9 => gi_S C q1519 q1241 q75 q1242 mh_X1 np55 rfl hl.1.1 dX1_reason_9 rfl) h (gh_K0_b _ hk) (fun g h => ?_) (fun e g h => ?_)
  rotate_left
  ·
    exact gh_out C (fun _ h => nomatch h) h hk
  refine gr_aload_n (pc := 12) (i := 0) C rfl (gl_at hl 0 rfl) dX1_reason_12 ?_
  refine gr_getr (pc := 13) C gh_bX1 (k := 3) (Nat.le_of_ble_eq_true rfl) q274 (fun _ h => h) dX1_reason_13 h fun v2 h => ?_
  refine gr_astore_n (pc := 16) (i := 3) (l' := [(3, va_rf v2), (0, va_rf (some t0)), (1, .int p1), (2, .int p2)]) C rfl hl (Nat.le_of_ble_eq_true rfl) rfl dX1_reason_16 fun ls hl => ?_
  refine gr_iconst (pc := 17) (v := (0 : Int32)) C rfl dX1_reason_17 ?_
  refine gr_istore (pc := 18) (i := 4) (l' := [(4, .int (0 : Int32)), (3, va_rf v2), (0, va_rf (some t0)), (1, .int p1), (2, .int p2)]) C hl (Nat.le_of_ble_eq_true rfl) rfl dX1_reason_18 fun ls hl => ?_
  exact w_X1_reason_20 C p1 p2 v2 (0 : Int32) (gl_sub hl [3, 4, 1, 0] rfl) h hk

noncomputable def f_X1_reason (t0 : Nat) (p1 : Int32) (p2 : Int32) : gh_M Int32 :=
  if p1 < 0 then
  (f_X1_reason_9 t0 p1 p2 (0 : Int32))
  else
  (f_X1_reason_9 t0 p1 p2 (1 : Int32))
theorem w_X1_reason {x : gh_C} {g : gh_G} {o : (Int32 ⊕ gh_X) × gh_G} {ls : Array Slot} (C : gh_K x cX1_reason "GargoyleTower" 5 (some .int) "reason" 8 130 []) (t0 : Nat) (p1 : Int32) (p2 : Int32) (hl : gh_lv ls 5 [(0, va_rf (some t0)), (1, .int p1), (2, .int p2)]) (h : gh_run (f_X1_reason t0 p1 p2) g = some o) (hk : (gh_K0 x gh_rI) o) : gh_Wd x g (F0 (gh_cm x) 0 ls []) := by
  unfold f_X1_reason at h
  refine gr_iload_n (pc := 0) (i := 1) C rfl (gl_at hl 1 rfl) dX1_reason_0 ?_
  refine gr_if_lt (pc := 1) (tgt := 8) C rfl dX1_reason_1 (fun c9 => ?_) (fun c9 => ?_)
  · replace h := gh_ift h c9
    refine gr_iconst (pc := 8) (v := (0 : Int32)) C rfl dX1_reason_8 ?_
    exact w_X1_reason_9 C t0 p1 p2 (0 : Int32) (gl_sub hl [0, 1, 2] rfl) h hk
  · replace h := gh_iff h c9
    refine gr_iconst (pc := 4) (v := (1 : Int32)) C rfl dX1_reason_4 ?_
    refine gr_goto (pc := 5) (tgt := 9) C rfl dX1_reason_5 ?_
    exact w_X1_reason_9 C t0 p1 p2 (1 : Int32) (gl_sub hl [0, 1, 2] rfl) h hk

theorem k_X1_reason {l : Launch} (hst : l.stackTraces = false) (t0 : Nat) (p1 : Int32) (p2 : Int32) : gh_Ct l yX1_reason 8 146 (f_X1_reason t0 p1 p2) gh_rI [va_rf (some t0), .int p1, .int p2] := gh_intro2 (L1 := 130) hst (by decide +kernel) q2012 q75 rfl ⟨gh_cat _, rfl, rfl, trivial⟩ (Nat.le_of_ble_eq_true rfl) fun x o ls hl C h hk => w_X1_reason C t0 p1 p2 hl h hk
-- GargoyleTowerLaw.block(LGargoyleTower;IZ[J)I
abbrev hh_X0_block : List ExceptionTableEntry := tableOf [(0, 10, 13, 13), (0, 10, 17, 15)]
noncomputable def f_X0_block_17 (s0 : Option Nat) : gh_M Int32 :=
  gh_ret (2 : Int32)
theorem w_X0_block_17 {x : gh_C} {g : gh_G} {o : (Int32 ⊕ gh_X) × gh_G} {ls : Array Slot} (C : gh_K x cX0_block "GargoyleTowerLaw" 5 (some .int) "block" 55 1185 hh_X0_block) (s0 : Option Nat) (hl : gh_lv ls 5 []) (h : gh_run (f_X0_block_17 s0) g = some o) (hk : (gh_K0 x gh_rI) o) : gh_Wd x g (F0 (gh_cm x) 17 ls [va_rf s0]) := by
  unfold f_X0_block_17 at h
  refine gr_astore (pc := 17) (i := 4) (l' := [(4, va_rf s0)]) C hl (Nat.le_of_ble_eq_true rfl) rfl dX0_block_17 fun ls hl => ?_
  refine gr_iconst (pc := 19) (v := (2 : Int32)) C rfl dX0_block_19 ?_
  exact gr_iret (pc := 20) C dX0_block_20 h hk

noncomputable def f_X0_block_13 (s0 : Option Nat) : gh_M Int32 :=
  gh_ret (1 : Int32)
theorem w_X0_block_13 {x : gh_C} {g : gh_G} {o : (Int32 ⊕ gh_X) × gh_G} {ls : Array Slot} (C : gh_K x cX0_block "GargoyleTowerLaw" 5 (some .int) "block" 55 1185 hh_X0_block) (s0 : Option Nat) (hl : gh_lv ls 5 []) (h : gh_run (f_X0_block_13 s0) g = some o) (hk : (gh_K0 x gh_rI) o) : gh_Wd x g (F0 (gh_cm x) 13 ls [va_rf s0]) := by
  unfold f_X0_block_13 at h
  refine gr_astore (pc := 13) (i := 4) (l' := [(4, va_rf s0)]) C hl (Nat.le_of_ble_eq_true rfl) rfl dX0_block_13 fun ls hl => ?_
  refine gr_iconst (pc := 15) (v := (1 : Int32)) C rfl dX0_block_15 ?_
  exact gr_iret (pc := 16) C dX0_block_16 h hk

noncomputable def f_X0_block (p0 : Option Nat) (p1 : Int32) (p2 : Int32) (p3 : Option Nat) : gh_M Int32 :=
  gh_nn p0 fun a1 =>
  gh_bd (gh_is a1 0) fun _ =>
  gh_tc (f_X1_block a1 p1 p2) (fun v2 =>
  gh_nn p3 fun a3 =>
  gh_bd (gh_last a3 (0 : Int32) v2.toInt64) fun _ =>
  gh_ret (0 : Int32))
  (fun e => if e.1 = 17 then (f_X0_block_13 (some e.2)) else if e.1 = 20 then (f_X0_block_17 (some e.2)) else gh_stk)
theorem w_X0_block {x : gh_C} {g : gh_G} {o : (Int32 ⊕ gh_X) × gh_G} {ls : Array Slot} (C : gh_K x cX0_block "GargoyleTowerLaw" 5 (some .int) "block" 55 1185 hh_X0_block) (p0 : Option Nat) (p1 : Int32) (p2 : Int32) (p3 : Option Nat) (hl : gh_lv ls 5 [(0, va_rf p0), (1, .int p1), (2, .int p2), (3, va_rf p3)]) (h : gh_run (f_X0_block p0 p1 p2 p3) g = some o) (hk : (gh_K0 x gh_rI) o) : gh_Wd x g (F0 (gh_cm x) 0 ls []) := by
  unfold f_X0_block at h
  refine gr_aload_n (pc := 0) (i := 3) C rfl (gl_at hl 3 rfl) dX0_block_0 ?_
  refine gr_iconst (pc := 1) (v := (0 : Int32)) C rfl dX0_block_1 ?_
  refine gr_aload_n (pc := 2) (i := 0) C rfl (gl_at hl 0 rfl) dX0_block_2 ?_
  refine gr_iload_n (pc := 3) (i := 1) C rfl (gl_at hl 1 rfl) dX0_block_3 ?_
  refine gr_iload_n (pc := 4) (i := 2) C rfl (gl_at hl 2 rfl) dX0_block_4 ?_
  rcases p0 with _ | a1
  · exact gh_stk_inv h
  replace h := gh_nn_ss h
  obtain ⟨⟨fs9, hg9⟩, h⟩ := gh_is_inv h
  refine gh_callI (pc := 5) (rest := [.int (0 : Int32), va_rf p3]) C (k_X1_block C.tr a1 p1 p2) (Nat.le_of_ble_eq_true rfl) (Nat.le_of_ble_eq_true rfl) (gh_r4 (Nat.le_of_ble_eq_true rfl)) (fun H9 L9 hp9 => gi_V C hp9 hg9 gh_cX1 q1102 q1103 q1104 q1105 mh_X1 np62 rfl hl.1.1 dX0_block_5 rfl) h (gh_K0_b _ hk) (fun v2 g h => ?_) (fun e g h => ?_)
  rotate_left
  ·
    by_cases c7 : e.1 = 17
    · replace h := gh_ift h c7
      refine gh_catch C (q := (RJ20, TJ20, 6)) (by rw [c7]; exact gh_cJ20) [] ⟨0, 10, 13, 13⟩ [⟨0, 10, 17, 15⟩] rfl (fun _ h => nomatch h) rfl (by decide) q1100 q648 ?_
      exact w_X0_block_13 C (some e.2) (gl_sub hl [] rfl) h hk
    replace h := gh_iff h c7
    by_cases c7 : e.1 = 20
    · replace h := gh_ift h c7
      refine gh_catch C (q := (RJ23, TJ23, 6)) (by rw [c7]; exact gh_cJ23) [⟨0, 10, 13, 13⟩] ⟨0, 10, 17, 15⟩ [] rfl (List.forall_mem_cons.mpr ⟨Or.inr ⟨by decide, _, q1100, by decide +kernel⟩, (fun _ h => nomatch h)⟩) rfl (by decide) q1101 q1466 ?_
      exact w_X0_block_17 C (some e.2) (gl_sub hl [] rfl) h hk
    replace h := gh_iff h c7
    exact gh_stk_inv h
  refine gr_i2l (pc := 8) (v := v2.toInt64) C rfl dX0_block_8 ?_
  rcases p3 with _ | a3
  · exact gh_stk_inv h
  replace h := gh_nn_ss h
  refine gr_last (pc := 9) C dX0_block_9 h fun g h => ?_
  refine gr_goto (pc := 10) (tgt := 21) C rfl dX0_block_10 ?_
  refine gr_iconst (pc := 21) (v := (0 : Int32)) C rfl dX0_block_21 ?_
  exact gr_iret (pc := 22) C dX0_block_22 h hk

theorem k_X0_block {l : Launch} (hst : l.stackTraces = false) (p0 : Option Nat) (p1 : Int32) (p2 : Int32) (p3 : Option Nat) : gh_Ct l yX0_block 55 1201 (f_X0_block p0 p1 p2 p3) gh_rI [va_rf p0, .int p1, .int p2, va_rf p3] := gh_introW2 (L1 := 1185) hst (by decide +kernel) q1099 q74 rfl ⟨gh_cat _, rfl, rfl, gh_cat _, trivial⟩ (Nat.le_of_ble_eq_true rfl) fun x o ls hl C h hk => w_X0_block C p0 p1 p2 p3 hl h hk
-- GargoyleTowerLaw.carve(LGargoyleTower;II[J)I
abbrev hh_X0_carve : List ExceptionTableEntry := tableOf [(0, 10, 13, 21), (0, 10, 17, 13), (0, 10, 21, 15)]
noncomputable def f_X0_carve_21 (s0 : Option Nat) : gh_M Int32 :=
  gh_ret (3 : Int32)
theorem w_X0_carve_21 {x : gh_C} {g : gh_G} {o : (Int32 ⊕ gh_X) × gh_G} {ls : Array Slot} (C : gh_K x cX0_carve "GargoyleTowerLaw" 5 (some .int) "carve" 55 1185 hh_X0_carve) (s0 : Option Nat) (hl : gh_lv ls 5 []) (h : gh_run (f_X0_carve_21 s0) g = some o) (hk : (gh_K0 x gh_rI) o) : gh_Wd x g (F0 (gh_cm x) 21 ls [va_rf s0]) := by
  unfold f_X0_carve_21 at h
  refine gr_astore (pc := 21) (i := 4) (l' := [(4, va_rf s0)]) C hl (Nat.le_of_ble_eq_true rfl) rfl dX0_carve_21 fun ls hl => ?_
  refine gr_iconst (pc := 23) (v := (3 : Int32)) C rfl dX0_carve_23 ?_
  exact gr_iret (pc := 24) C dX0_carve_24 h hk

noncomputable def f_X0_carve_17 (s0 : Option Nat) : gh_M Int32 :=
  gh_ret (2 : Int32)
theorem w_X0_carve_17 {x : gh_C} {g : gh_G} {o : (Int32 ⊕ gh_X) × gh_G} {ls : Array Slot} (C : gh_K x cX0_carve "GargoyleTowerLaw" 5 (some .int) "carve" 55 1185 hh_X0_carve) (s0 : Option Nat) (hl : gh_lv ls 5 []) (h : gh_run (f_X0_carve_17 s0) g = some o) (hk : (gh_K0 x gh_rI) o) : gh_Wd x g (F0 (gh_cm x) 17 ls [va_rf s0]) := by
  unfold f_X0_carve_17 at h
  refine gr_astore (pc := 17) (i := 4) (l' := [(4, va_rf s0)]) C hl (Nat.le_of_ble_eq_true rfl) rfl dX0_carve_17 fun ls hl => ?_
  refine gr_iconst (pc := 19) (v := (2 : Int32)) C rfl dX0_carve_19 ?_
  exact gr_iret (pc := 20) C dX0_carve_20 h hk

noncomputable def f_X0_carve_13 (s0 : Option Nat) : gh_M Int32 :=
  gh_ret (1 : Int32)
theorem w_X0_carve_13 {x : gh_C} {g : gh_G} {o : (Int32 ⊕ gh_X) × gh_G} {ls : Array Slot} (C : gh_K x cX0_carve "GargoyleTowerLaw" 5 (some .int) "carve" 55 1185 hh_X0_carve) (s0 : Option Nat) (hl : gh_lv ls 5 []) (h : gh_run (f_X0_carve_13 s0) g = some o) (hk : (gh_K0 x gh_rI) o) : gh_Wd x g (F0 (gh_cm x) 13 ls [va_rf s0]) := by
  unfold f_X0_carve_13 at h
  refine gr_astore (pc := 13) (i := 4) (l' := [(4, va_rf s0)]) C hl (Nat.le_of_ble_eq_true rfl) rfl dX0_carve_13 fun ls hl => ?_
  refine gr_iconst (pc := 15) (v := (1 : Int32)) C rfl dX0_carve_15 ?_
  exact gr_iret (pc := 16) C dX0_carve_16 h hk

noncomputable def f_X0_carve (p0 : Option Nat) (p1 : Int32) (p2 : Int32) (p3 : Option Nat) : gh_M Int32 :=
  gh_nn p0 fun a1 =>
  gh_bd (gh_is a1 0) fun _ =>
  gh_tc (f_X1_carve a1 p1 p2) (fun v2 =>
  gh_nn p3 fun a3 =>
  gh_bd (gh_last a3 (0 : Int32) v2.toInt64) fun _ =>
  gh_ret (0 : Int32))
  (fun e => if e.1 = 16 then (f_X0_carve_13 (some e.2)) else if e.1 = 17 then (f_X0_carve_17 (some e.2)) else if e.1 = 20 then (f_X0_carve_21 (some e.2)) else gh_stk)
theorem w_X0_carve {x : gh_C} {g : gh_G} {o : (Int32 ⊕ gh_X) × gh_G} {ls : Array Slot} (C : gh_K x cX0_carve "GargoyleTowerLaw" 5 (some .int) "carve" 55 1185 hh_X0_carve) (p0 : Option Nat) (p1 : Int32) (p2 : Int32) (p3 : Option Nat) (hl : gh_lv ls 5 [(0, va_rf p0), (1, .int p1), (2, .int p2), (3, va_rf p3)]) (h : gh_run (f_X0_carve p0 p1 p2 p3) g = some o) (hk : (gh_K0 x gh_rI) o) : gh_Wd x g (F0 (gh_cm x) 0 ls []) := by
  unfold f_X0_carve at h
  refine gr_aload_n (pc := 0) (i := 3) C rfl (gl_at hl 3 rfl) dX0_carve_0 ?_
  refine gr_iconst (pc := 1) (v := (0 : Int32)) C rfl dX0_carve_1 ?_
  refine gr_aload_n (pc := 2) (i := 0) C rfl (gl_at hl 0 rfl) dX0_carve_2 ?_
  refine gr_iload_n (pc := 3) (i := 1) C rfl (gl_at hl 1 rfl) dX0_carve_3 ?_
  refine gr_iload_n (pc := 4) (i := 2) C rfl (gl_at hl 2 rfl) dX0_carve_4 ?_
  rcases p0 with _ | a1
  · exact gh_stk_inv h
  replace h := gh_nn_ss h
  obtain ⟨⟨fs9, hg9⟩, h⟩ := gh_is_inv h
  refine gh_callI (pc := 5) (rest := [.int (0 : Int32), va_rf p3]) C (k_X1_carve C.tr a1 p1 p2) (Nat.le_of_ble_eq_true rfl) (Nat.le_of_ble_eq_true rfl) (gh_r4 (Nat.le_of_ble_eq_true rfl)) (fun H9 L9 hp9 => gi_V C hp9 hg9 gh_cX1 q1498 q1499 q1500 q1501 mh_X1 np1 rfl hl.1.1 dX0_carve_5 rfl) h (gh_K0_b _ hk) (fun v2 g h => ?_) (fun e g h => ?_)
  rotate_left
  ·
    by_cases c7 : e.1 = 16
    · replace h := gh_ift h c7
      refine gh_catch C (q := (RJ14, TJ14, 6)) (by rw [c7]; exact gh_cJ14) [] ⟨0, 10, 13, 21⟩ [⟨0, 10, 17, 13⟩, ⟨0, 10, 21, 15⟩] rfl (fun _ h => nomatch h) rfl (by decide) q1482 q411 ?_
      exact w_X0_carve_13 C (some e.2) (gl_sub hl [] rfl) h hk
    replace h := gh_iff h c7
    by_cases c7 : e.1 = 17
    · replace h := gh_ift h c7
      refine gh_catch C (q := (RJ20, TJ20, 6)) (by rw [c7]; exact gh_cJ20) [⟨0, 10, 13, 21⟩] ⟨0, 10, 17, 13⟩ [⟨0, 10, 21, 15⟩] rfl (List.forall_mem_cons.mpr ⟨Or.inr ⟨by decide, _, q1482, by decide +kernel⟩, (fun _ h => nomatch h)⟩) rfl (by decide) q1100 q648 ?_
      exact w_X0_carve_17 C (some e.2) (gl_sub hl [] rfl) h hk
    replace h := gh_iff h c7
    by_cases c7 : e.1 = 20
    · replace h := gh_ift h c7
      refine gh_catch C (q := (RJ23, TJ23, 6)) (by rw [c7]; exact gh_cJ23) [⟨0, 10, 13, 21⟩, ⟨0, 10, 17, 13⟩] ⟨0, 10, 21, 15⟩ [] rfl (List.forall_mem_cons.mpr ⟨Or.inr ⟨by decide, _, q1482, by decide +kernel⟩, (List.forall_mem_cons.mpr ⟨Or.inr ⟨by decide, _, q1100, by decide +kernel⟩, (fun _ h => nomatch h)⟩)⟩) rfl (by decide) q1101 q1466 ?_
      exact w_X0_carve_21 C (some e.2) (gl_sub hl [] rfl) h hk
    replace h := gh_iff h c7
    exact gh_stk_inv h
  refine gr_i2l (pc := 8) (v := v2.toInt64) C rfl dX0_carve_8 ?_
  rcases p3 with _ | a3
  · exact gh_stk_inv h
  replace h := gh_nn_ss h
  refine gr_last (pc := 9) C dX0_carve_9 h fun g h => ?_
  refine gr_goto (pc := 10) (tgt := 25) C rfl dX0_carve_10 ?_
  refine gr_iconst (pc := 25) (v := (0 : Int32)) C rfl dX0_carve_25 ?_
  exact gr_iret (pc := 26) C dX0_carve_26 h hk

theorem k_X0_carve {l : Launch} (hst : l.stackTraces = false) (p0 : Option Nat) (p1 : Int32) (p2 : Int32) (p3 : Option Nat) : gh_Ct l yX0_carve 55 1201 (f_X0_carve p0 p1 p2 p3) gh_rI [va_rf p0, .int p1, .int p2, va_rf p3] := gh_introW2 (L1 := 1185) hst (by decide +kernel) q1481 q74 rfl ⟨gh_cat _, rfl, rfl, gh_cat _, trivial⟩ (Nat.le_of_ble_eq_true rfl) fun x o ls hl C h hk => w_X0_carve C p0 p1 p2 p3 hl h hk
-- GargoyleTowerLaw.whet(LGargoyleTower;[J)I
abbrev hh_X0_whet : List ExceptionTableEntry := tableOf [(0, 8, 11, 15)]
noncomputable def f_X0_whet_11 (s0 : Option Nat) : gh_M Int32 :=
  gh_ret (1 : Int32)
theorem w_X0_whet_11 {x : gh_C} {g : gh_G} {o : (Int32 ⊕ gh_X) × gh_G} {ls : Array Slot} (C : gh_K x cX0_whet "GargoyleTowerLaw" 3 (some .int) "whet" 55 1183 hh_X0_whet) (s0 : Option Nat) (hl : gh_lv ls 3 []) (h : gh_run (f_X0_whet_11 s0) g = some o) (hk : (gh_K0 x gh_rI) o) : gh_Wd x g (F0 (gh_cm x) 11 ls [va_rf s0]) := by
  unfold f_X0_whet_11 at h
  refine gr_astore_n (pc := 11) (i := 2) (l' := [(2, va_rf s0)]) C rfl hl (Nat.le_of_ble_eq_true rfl) rfl dX0_whet_11 fun ls hl => ?_
  refine gr_iconst (pc := 12) (v := (1 : Int32)) C rfl dX0_whet_12 ?_
  exact gr_iret (pc := 13) C dX0_whet_13 h hk

noncomputable def f_X0_whet (p0 : Option Nat) (p1 : Option Nat) : gh_M Int32 :=
  gh_nn p0 fun a1 =>
  gh_bd (gh_is a1 0) fun _ =>
  gh_tc (f_X1_whet a1) (fun v2 =>
  gh_nn p1 fun a3 =>
  gh_bd (gh_last a3 (0 : Int32) v2.toInt64) fun _ =>
  gh_ret (0 : Int32))
  (fun e => if e.1 = 20 then (f_X0_whet_11 (some e.2)) else gh_stk)
theorem w_X0_whet {x : gh_C} {g : gh_G} {o : (Int32 ⊕ gh_X) × gh_G} {ls : Array Slot} (C : gh_K x cX0_whet "GargoyleTowerLaw" 3 (some .int) "whet" 55 1183 hh_X0_whet) (p0 : Option Nat) (p1 : Option Nat) (hl : gh_lv ls 3 [(0, va_rf p0), (1, va_rf p1)]) (h : gh_run (f_X0_whet p0 p1) g = some o) (hk : (gh_K0 x gh_rI) o) : gh_Wd x g (F0 (gh_cm x) 0 ls []) := by
  unfold f_X0_whet at h
  refine gr_aload_n (pc := 0) (i := 1) C rfl (gl_at hl 1 rfl) dX0_whet_0 ?_
  refine gr_iconst (pc := 1) (v := (0 : Int32)) C rfl dX0_whet_1 ?_
  refine gr_aload_n (pc := 2) (i := 0) C rfl (gl_at hl 0 rfl) dX0_whet_2 ?_
  rcases p0 with _ | a1
  · exact gh_stk_inv h
  replace h := gh_nn_ss h
  obtain ⟨⟨fs9, hg9⟩, h⟩ := gh_is_inv h
  refine gh_callI (pc := 3) (rest := [.int (0 : Int32), va_rf p1]) C (k_X1_whet C.tr a1) (Nat.le_of_ble_eq_true rfl) (Nat.le_of_ble_eq_true rfl) (gh_r4 (Nat.le_of_ble_eq_true rfl)) (fun H9 L9 hp9 => gi_V C hp9 hg9 gh_cX1 q1506 q1507 q1508 q1509 mh_X1 np0 rfl hl.1.1 dX0_whet_3 rfl) h (gh_K0_b _ hk) (fun v2 g h => ?_) (fun e g h => ?_)
  rotate_left
  ·
    by_cases c7 : e.1 = 20
    · replace h := gh_ift h c7
      refine gh_catch C (q := (RJ23, TJ23, 6)) (by rw [c7]; exact gh_cJ23) [] ⟨0, 8, 11, 15⟩ [] rfl (fun _ h => nomatch h) rfl (by decide) q1101 q1466 ?_
      exact w_X0_whet_11 C (some e.2) (gl_sub hl [] rfl) h hk
    replace h := gh_iff h c7
    exact gh_stk_inv h
  refine gr_i2l (pc := 6) (v := v2.toInt64) C rfl dX0_whet_6 ?_
  rcases p1 with _ | a3
  · exact gh_stk_inv h
  replace h := gh_nn_ss h
  refine gr_last (pc := 7) C dX0_whet_7 h fun g h => ?_
  refine gr_goto (pc := 8) (tgt := 14) C rfl dX0_whet_8 ?_
  refine gr_iconst (pc := 14) (v := (0 : Int32)) C rfl dX0_whet_14 ?_
  exact gr_iret (pc := 15) C dX0_whet_15 h hk

theorem k_X0_whet {l : Launch} (hst : l.stackTraces = false) (p0 : Option Nat) (p1 : Option Nat) : gh_Ct l yX0_whet 55 1197 (f_X0_whet p0 p1) gh_rI [va_rf p0, va_rf p1] := gh_introW2 (L1 := 1183) hst (by decide +kernel) q1505 q74 rfl ⟨gh_cat _, gh_cat _, trivial⟩ (Nat.le_of_ble_eq_true rfl) fun x o ls hl C h hk => w_X0_whet C p0 p1 hl h hk
-- GargoyleTowerLaw.blockOf(LGargoyleTower;II[J)I
abbrev hh_X0_blockOf : List ExceptionTableEntry := tableOf [(0, 10, 13, 21), (0, 10, 17, 13)]
noncomputable def f_X0_blockOf_17 (s0 : Option Nat) : gh_M Int32 :=
  gh_ret (2 : Int32)
theorem w_X0_blockOf_17 {x : gh_C} {g : gh_G} {o : (Int32 ⊕ gh_X) × gh_G} {ls : Array Slot} (C : gh_K x cX0_blockOf "GargoyleTowerLaw" 5 (some .int) "blockOf" 10 175 hh_X0_blockOf) (s0 : Option Nat) (hl : gh_lv ls 5 []) (h : gh_run (f_X0_blockOf_17 s0) g = some o) (hk : (gh_K0 x gh_rI) o) : gh_Wd x g (F0 (gh_cm x) 17 ls [va_rf s0]) := by
  unfold f_X0_blockOf_17 at h
  refine gr_astore (pc := 17) (i := 4) (l' := [(4, va_rf s0)]) C hl (Nat.le_of_ble_eq_true rfl) rfl dX0_blockOf_17 fun ls hl => ?_
  refine gr_iconst (pc := 19) (v := (2 : Int32)) C rfl dX0_blockOf_19 ?_
  exact gr_iret (pc := 20) C dX0_blockOf_20 h hk

noncomputable def f_X0_blockOf_13 (s0 : Option Nat) : gh_M Int32 :=
  gh_ret (1 : Int32)
theorem w_X0_blockOf_13 {x : gh_C} {g : gh_G} {o : (Int32 ⊕ gh_X) × gh_G} {ls : Array Slot} (C : gh_K x cX0_blockOf "GargoyleTowerLaw" 5 (some .int) "blockOf" 10 175 hh_X0_blockOf) (s0 : Option Nat) (hl : gh_lv ls 5 []) (h : gh_run (f_X0_blockOf_13 s0) g = some o) (hk : (gh_K0 x gh_rI) o) : gh_Wd x g (F0 (gh_cm x) 13 ls [va_rf s0]) := by
  unfold f_X0_blockOf_13 at h
  refine gr_astore (pc := 13) (i := 4) (l' := [(4, va_rf s0)]) C hl (Nat.le_of_ble_eq_true rfl) rfl dX0_blockOf_13 fun ls hl => ?_
  refine gr_iconst (pc := 15) (v := (1 : Int32)) C rfl dX0_blockOf_15 ?_
  exact gr_iret (pc := 16) C dX0_blockOf_16 h hk

noncomputable def f_X0_blockOf (p0 : Option Nat) (p1 : Int32) (p2 : Int32) (p3 : Option Nat) : gh_M Int32 :=
  gh_nn p0 fun a1 =>
  gh_bd (gh_is a1 0) fun _ =>
  gh_tc (f_X1_blockOf a1 p1 p2) (fun v2 =>
  gh_nn p3 fun a3 =>
  gh_bd (gh_last a3 (0 : Int32) v2.toInt64) fun _ =>
  gh_ret (0 : Int32))
  (fun e => if e.1 = 16 then (f_X0_blockOf_13 (some e.2)) else if e.1 = 17 then (f_X0_blockOf_17 (some e.2)) else gh_stk)
theorem w_X0_blockOf {x : gh_C} {g : gh_G} {o : (Int32 ⊕ gh_X) × gh_G} {ls : Array Slot} (C : gh_K x cX0_blockOf "GargoyleTowerLaw" 5 (some .int) "blockOf" 10 175 hh_X0_blockOf) (p0 : Option Nat) (p1 : Int32) (p2 : Int32) (p3 : Option Nat) (hl : gh_lv ls 5 [(0, va_rf p0), (1, .int p1), (2, .int p2), (3, va_rf p3)]) (h : gh_run (f_X0_blockOf p0 p1 p2 p3) g = some o) (hk : (gh_K0 x gh_rI) o) : gh_Wd x g (F0 (gh_cm x) 0 ls []) := by
  unfold f_X0_blockOf at h
  refine gr_aload_n (pc := 0) (i := 3) C rfl (gl_at hl 3 rfl) dX0_blockOf_0 ?_
  refine gr_iconst (pc := 1) (v := (0 : Int32)) C rfl dX0_blockOf_1 ?_
  refine gr_aload_n (pc := 2) (i := 0) C rfl (gl_at hl 0 rfl) dX0_blockOf_2 ?_
  refine gr_iload_n (pc := 3) (i := 1) C rfl (gl_at hl 1 rfl) dX0_blockOf_3 ?_
  refine gr_iload_n (pc := 4) (i := 2) C rfl (gl_at hl 2 rfl) dX0_blockOf_4 ?_
  rcases p0 with _ | a1
  · exact gh_stk_inv h
  replace h := gh_nn_ss h
  obtain ⟨⟨fs9, hg9⟩, h⟩ := gh_is_inv h
  refine gh_callI (pc := 5) (rest := [.int (0 : Int32), va_rf p3]) C (k_X1_blockOf C.tr a1 p1 p2) (Nat.le_of_ble_eq_true rfl) (Nat.le_of_ble_eq_true rfl) (gh_r4 (Nat.le_of_ble_eq_true rfl)) (fun H9 L9 hp9 => gi_V C hp9 hg9 gh_cX1 q1514 q1515 q1516 q1517 mh_X1 np1 rfl hl.1.1 dX0_blockOf_5 rfl) h (gh_K0_b _ hk) (fun v2 g h => ?_) (fun e g h => ?_)
  rotate_left
  ·
    by_cases c7 : e.1 = 16
    · replace h := gh_ift h c7
      refine gh_catch C (q := (RJ14, TJ14, 6)) (by rw [c7]; exact gh_cJ14) [] ⟨0, 10, 13, 21⟩ [⟨0, 10, 17, 13⟩] rfl (fun _ h => nomatch h) rfl (by decide) q1482 q411 ?_
      exact w_X0_blockOf_13 C (some e.2) (gl_sub hl [] rfl) h hk
    replace h := gh_iff h c7
    by_cases c7 : e.1 = 17
    · replace h := gh_ift h c7
      refine gh_catch C (q := (RJ20, TJ20, 6)) (by rw [c7]; exact gh_cJ20) [⟨0, 10, 13, 21⟩] ⟨0, 10, 17, 13⟩ [] rfl (List.forall_mem_cons.mpr ⟨Or.inr ⟨by decide, _, q1482, by decide +kernel⟩, (fun _ h => nomatch h)⟩) rfl (by decide) q1100 q648 ?_
      exact w_X0_blockOf_17 C (some e.2) (gl_sub hl [] rfl) h hk
    replace h := gh_iff h c7
    exact gh_stk_inv h
  refine gr_i2l (pc := 8) (v := v2.toInt64) C rfl dX0_blockOf_8 ?_
  rcases p3 with _ | a3
  · exact gh_stk_inv h
  replace h := gh_nn_ss h
  refine gr_last (pc := 9) C dX0_blockOf_9 h fun g h => ?_
  refine gr_goto (pc := 10) (tgt := 21) C rfl dX0_blockOf_10 ?_
  refine gr_iconst (pc := 21) (v := (0 : Int32)) C rfl dX0_blockOf_21 ?_
  exact gr_iret (pc := 22) C dX0_blockOf_22 h hk

theorem k_X0_blockOf {l : Launch} (hst : l.stackTraces = false) (p0 : Option Nat) (p1 : Int32) (p2 : Int32) (p3 : Option Nat) : gh_Ct l yX0_blockOf 10 191 (f_X0_blockOf p0 p1 p2 p3) gh_rI [va_rf p0, .int p1, .int p2, va_rf p3] := gh_introW2 (L1 := 175) hst (by decide +kernel) q1513 q74 rfl ⟨gh_cat _, rfl, rfl, gh_cat _, trivial⟩ (Nat.le_of_ble_eq_true rfl) fun x o ls hl C h hk => w_X0_blockOf C p0 p1 p2 p3 hl h hk
-- GargoyleTowerLaw.ranked(LGargoyleTower;I[J)I
abbrev hh_X0_ranked : List ExceptionTableEntry := tableOf [(0, 9, 12, 34)]
noncomputable def f_X0_ranked_12 (s0 : Option Nat) : gh_M Int32 :=
  gh_ret (1 : Int32)
theorem w_X0_ranked_12 {x : gh_C} {g : gh_G} {o : (Int32 ⊕ gh_X) × gh_G} {ls : Array Slot} (C : gh_K x cX0_ranked "GargoyleTowerLaw" 4 (some .int) "ranked" 9 155 hh_X0_ranked) (s0 : Option Nat) (hl : gh_lv ls 4 []) (h : gh_run (f_X0_ranked_12 s0) g = some o) (hk : (gh_K0 x gh_rI) o) : gh_Wd x g (F0 (gh_cm x) 12 ls [va_rf s0]) := by
  unfold f_X0_ranked_12 at h
  refine gr_astore_n (pc := 12) (i := 3) (l' := [(3, va_rf s0)]) C rfl hl (Nat.le_of_ble_eq_true rfl) rfl dX0_ranked_12 fun ls hl => ?_
  refine gr_iconst (pc := 13) (v := (1 : Int32)) C rfl dX0_ranked_13 ?_
  exact gr_iret (pc := 14) C dX0_ranked_14 h hk

noncomputable def f_X0_ranked (p0 : Option Nat) (p1 : Int32) (p2 : Option Nat) : gh_M Int32 :=
  gh_nn p0 fun a1 =>
  gh_bd (gh_is a1 0) fun _ =>
  gh_tc (f_X1_ranked a1 p1) (fun v2 =>
  gh_nn p2 fun a3 =>
  gh_bd (gh_last a3 (0 : Int32) v2.toInt64) fun _ =>
  gh_ret (0 : Int32))
  (fun e => if e.1 = 18 then (f_X0_ranked_12 (some e.2)) else gh_stk)
theorem w_X0_ranked {x : gh_C} {g : gh_G} {o : (Int32 ⊕ gh_X) × gh_G} {ls : Array Slot} (C : gh_K x cX0_ranked "GargoyleTowerLaw" 4 (some .int) "ranked" 9 155 hh_X0_ranked) (p0 : Option Nat) (p1 : Int32) (p2 : Option Nat) (hl : gh_lv ls 4 [(0, va_rf p0), (1, .int p1), (2, va_rf p2)]) (h : gh_run (f_X0_ranked p0 p1 p2) g = some o) (hk : (gh_K0 x gh_rI) o) : gh_Wd x g (F0 (gh_cm x) 0 ls []) := by
  unfold f_X0_ranked at h
  refine gr_aload_n (pc := 0) (i := 2) C rfl (gl_at hl 2 rfl) dX0_ranked_0 ?_
  refine gr_iconst (pc := 1) (v := (0 : Int32)) C rfl dX0_ranked_1 ?_
  refine gr_aload_n (pc := 2) (i := 0) C rfl (gl_at hl 0 rfl) dX0_ranked_2 ?_
  refine gr_iload_n (pc := 3) (i := 1) C rfl (gl_at hl 1 rfl) dX0_ranked_3 ?_
  rcases p0 with _ | a1
  · exact gh_stk_inv h
  replace h := gh_nn_ss h
  obtain ⟨⟨fs9, hg9⟩, h⟩ := gh_is_inv h
  refine gh_callI (pc := 4) (rest := [.int (0 : Int32), va_rf p2]) C (k_X1_ranked C.tr a1 p1) (Nat.le_of_ble_eq_true rfl) (Nat.le_of_ble_eq_true rfl) (gh_r4 (Nat.le_of_ble_eq_true rfl)) (fun H9 L9 hp9 => gi_V C hp9 hg9 gh_cX1 q1524 q1525 q1526 q1527 mh_X1 np6 rfl hl.1.1 dX0_ranked_4 rfl) h (gh_K0_b _ hk) (fun v2 g h => ?_) (fun e g h => ?_)
  rotate_left
  ·
    by_cases c7 : e.1 = 18
    · replace h := gh_ift h c7
      refine gh_catch C (q := (RJ21, TJ21, 6)) (by rw [c7]; exact gh_cJ21) [] ⟨0, 9, 12, 34⟩ [] rfl (fun _ h => nomatch h) rfl (by decide) q1523 q724 ?_
      exact w_X0_ranked_12 C (some e.2) (gl_sub hl [] rfl) h hk
    replace h := gh_iff h c7
    exact gh_stk_inv h
  refine gr_i2l (pc := 7) (v := v2.toInt64) C rfl dX0_ranked_7 ?_
  rcases p2 with _ | a3
  · exact gh_stk_inv h
  replace h := gh_nn_ss h
  refine gr_last (pc := 8) C dX0_ranked_8 h fun g h => ?_
  refine gr_goto (pc := 9) (tgt := 15) C rfl dX0_ranked_9 ?_
  refine gr_iconst (pc := 15) (v := (0 : Int32)) C rfl dX0_ranked_15 ?_
  exact gr_iret (pc := 16) C dX0_ranked_16 h hk

theorem k_X0_ranked {l : Launch} (hst : l.stackTraces = false) (p0 : Option Nat) (p1 : Int32) (p2 : Option Nat) : gh_Ct l yX0_ranked 9 170 (f_X0_ranked p0 p1 p2) gh_rI [va_rf p0, .int p1, va_rf p2] := gh_introW2 (L1 := 155) hst (by decide +kernel) q1522 q74 rfl ⟨gh_cat _, rfl, gh_cat _, trivial⟩ (Nat.le_of_ble_eq_true rfl) fun x o ls hl C h hk => w_X0_ranked C p0 p1 p2 hl h hk
-- GargoyleTowerLaw.rope(LGargoyleTower;I[J)I
abbrev hh_X0_rope : List ExceptionTableEntry := tableOf [(0, 9, 12, 13), (0, 9, 15, 15)]
noncomputable def f_X0_rope_15 (s0 : Option Nat) : gh_M Int32 :=
  gh_ret (2 : Int32)
theorem w_X0_rope_15 {x : gh_C} {g : gh_G} {o : (Int32 ⊕ gh_X) × gh_G} {ls : Array Slot} (C : gh_K x cX0_rope "GargoyleTowerLaw" 4 (some .int) "rope" 55 1184 hh_X0_rope) (s0 : Option Nat) (hl : gh_lv ls 4 []) (h : gh_run (f_X0_rope_15 s0) g = some o) (hk : (gh_K0 x gh_rI) o) : gh_Wd x g (F0 (gh_cm x) 15 ls [va_rf s0]) := by
  unfold f_X0_rope_15 at h
  refine gr_astore_n (pc := 15) (i := 3) (l' := [(3, va_rf s0)]) C rfl hl (Nat.le_of_ble_eq_true rfl) rfl dX0_rope_15 fun ls hl => ?_
  refine gr_iconst (pc := 16) (v := (2 : Int32)) C rfl dX0_rope_16 ?_
  exact gr_iret (pc := 17) C dX0_rope_17 h hk

noncomputable def f_X0_rope_12 (s0 : Option Nat) : gh_M Int32 :=
  gh_ret (1 : Int32)
theorem w_X0_rope_12 {x : gh_C} {g : gh_G} {o : (Int32 ⊕ gh_X) × gh_G} {ls : Array Slot} (C : gh_K x cX0_rope "GargoyleTowerLaw" 4 (some .int) "rope" 55 1184 hh_X0_rope) (s0 : Option Nat) (hl : gh_lv ls 4 []) (h : gh_run (f_X0_rope_12 s0) g = some o) (hk : (gh_K0 x gh_rI) o) : gh_Wd x g (F0 (gh_cm x) 12 ls [va_rf s0]) := by
  unfold f_X0_rope_12 at h
  refine gr_astore_n (pc := 12) (i := 3) (l' := [(3, va_rf s0)]) C rfl hl (Nat.le_of_ble_eq_true rfl) rfl dX0_rope_12 fun ls hl => ?_
  refine gr_iconst (pc := 13) (v := (1 : Int32)) C rfl dX0_rope_13 ?_
  exact gr_iret (pc := 14) C dX0_rope_14 h hk

noncomputable def f_X0_rope (p0 : Option Nat) (p1 : Int32) (p2 : Option Nat) : gh_M Int32 :=
  gh_nn p0 fun a1 =>
  gh_bd (gh_is a1 0) fun _ =>
  gh_tc (f_X1_rope a1 p1) (fun v2 =>
  gh_nn p2 fun a3 =>
  gh_bd (gh_last a3 (0 : Int32) v2.toInt64) fun _ =>
  gh_ret (0 : Int32))
  (fun e => if e.1 = 17 then (f_X0_rope_12 (some e.2)) else if e.1 = 20 then (f_X0_rope_15 (some e.2)) else gh_stk)
theorem w_X0_rope {x : gh_C} {g : gh_G} {o : (Int32 ⊕ gh_X) × gh_G} {ls : Array Slot} (C : gh_K x cX0_rope "GargoyleTowerLaw" 4 (some .int) "rope" 55 1184 hh_X0_rope) (p0 : Option Nat) (p1 : Int32) (p2 : Option Nat) (hl : gh_lv ls 4 [(0, va_rf p0), (1, .int p1), (2, va_rf p2)]) (h : gh_run (f_X0_rope p0 p1 p2) g = some o) (hk : (gh_K0 x gh_rI) o) : gh_Wd x g (F0 (gh_cm x) 0 ls []) := by
  unfold f_X0_rope at h
  refine gr_aload_n (pc := 0) (i := 2) C rfl (gl_at hl 2 rfl) dX0_rope_0 ?_
  refine gr_iconst (pc := 1) (v := (0 : Int32)) C rfl dX0_rope_1 ?_
  refine gr_aload_n (pc := 2) (i := 0) C rfl (gl_at hl 0 rfl) dX0_rope_2 ?_
  refine gr_iload_n (pc := 3) (i := 1) C rfl (gl_at hl 1 rfl) dX0_rope_3 ?_
  rcases p0 with _ | a1
  · exact gh_stk_inv h
  replace h := gh_nn_ss h
  obtain ⟨⟨fs9, hg9⟩, h⟩ := gh_is_inv h
  refine gh_callI (pc := 4) (rest := [.int (0 : Int32), va_rf p2]) C (k_X1_rope C.tr a1 p1) (Nat.le_of_ble_eq_true rfl) (Nat.le_of_ble_eq_true rfl) (gh_r4 (Nat.le_of_ble_eq_true rfl)) (fun H9 L9 hp9 => gi_V C hp9 hg9 gh_cX1 q1602 q1603 q1604 q1605 mh_X1 np6 rfl hl.1.1 dX0_rope_4 rfl) h (gh_K0_b _ hk) (fun v2 g h => ?_) (fun e g h => ?_)
  rotate_left
  ·
    by_cases c7 : e.1 = 17
    · replace h := gh_ift h c7
      refine gh_catch C (q := (RJ20, TJ20, 6)) (by rw [c7]; exact gh_cJ20) [] ⟨0, 9, 12, 13⟩ [⟨0, 9, 15, 15⟩] rfl (fun _ h => nomatch h) rfl (by decide) q1100 q648 ?_
      exact w_X0_rope_12 C (some e.2) (gl_sub hl [] rfl) h hk
    replace h := gh_iff h c7
    by_cases c7 : e.1 = 20
    · replace h := gh_ift h c7
      refine gh_catch C (q := (RJ23, TJ23, 6)) (by rw [c7]; exact gh_cJ23) [⟨0, 9, 12, 13⟩] ⟨0, 9, 15, 15⟩ [] rfl (List.forall_mem_cons.mpr ⟨Or.inr ⟨by decide, _, q1100, by decide +kernel⟩, (fun _ h => nomatch h)⟩) rfl (by decide) q1101 q1466 ?_
      exact w_X0_rope_15 C (some e.2) (gl_sub hl [] rfl) h hk
    replace h := gh_iff h c7
    exact gh_stk_inv h
  refine gr_i2l (pc := 7) (v := v2.toInt64) C rfl dX0_rope_7 ?_
  rcases p2 with _ | a3
  · exact gh_stk_inv h
  replace h := gh_nn_ss h
  refine gr_last (pc := 8) C dX0_rope_8 h fun g h => ?_
  refine gr_goto (pc := 9) (tgt := 18) C rfl dX0_rope_9 ?_
  refine gr_iconst (pc := 18) (v := (0 : Int32)) C rfl dX0_rope_18 ?_
  exact gr_iret (pc := 19) C dX0_rope_19 h hk

theorem k_X0_rope {l : Launch} (hst : l.stackTraces = false) (p0 : Option Nat) (p1 : Int32) (p2 : Option Nat) : gh_Ct l yX0_rope 55 1199 (f_X0_rope p0 p1 p2) gh_rI [va_rf p0, .int p1, va_rf p2] := gh_introW2 (L1 := 1184) hst (by decide +kernel) q1601 q74 rfl ⟨gh_cat _, rfl, gh_cat _, trivial⟩ (Nat.le_of_ble_eq_true rfl) fun x o ls hl C h hk => w_X0_rope C p0 p1 p2 hl h hk
-- GargoyleTowerLaw.ropeOf(LGargoyleTower;II[J)I
abbrev hh_X0_ropeOf : List ExceptionTableEntry := tableOf [(0, 10, 13, 21), (0, 10, 17, 13)]
noncomputable def f_X0_ropeOf_17 (s0 : Option Nat) : gh_M Int32 :=
  gh_ret (2 : Int32)
theorem w_X0_ropeOf_17 {x : gh_C} {g : gh_G} {o : (Int32 ⊕ gh_X) × gh_G} {ls : Array Slot} (C : gh_K x cX0_ropeOf "GargoyleTowerLaw" 5 (some .int) "ropeOf" 10 175 hh_X0_ropeOf) (s0 : Option Nat) (hl : gh_lv ls 5 []) (h : gh_run (f_X0_ropeOf_17 s0) g = some o) (hk : (gh_K0 x gh_rI) o) : gh_Wd x g (F0 (gh_cm x) 17 ls [va_rf s0]) := by
  unfold f_X0_ropeOf_17 at h
  refine gr_astore (pc := 17) (i := 4) (l' := [(4, va_rf s0)]) C hl (Nat.le_of_ble_eq_true rfl) rfl dX0_ropeOf_17 fun ls hl => ?_
  refine gr_iconst (pc := 19) (v := (2 : Int32)) C rfl dX0_ropeOf_19 ?_
  exact gr_iret (pc := 20) C dX0_ropeOf_20 h hk

noncomputable def f_X0_ropeOf_13 (s0 : Option Nat) : gh_M Int32 :=
  gh_ret (1 : Int32)
theorem w_X0_ropeOf_13 {x : gh_C} {g : gh_G} {o : (Int32 ⊕ gh_X) × gh_G} {ls : Array Slot} (C : gh_K x cX0_ropeOf "GargoyleTowerLaw" 5 (some .int) "ropeOf" 10 175 hh_X0_ropeOf) (s0 : Option Nat) (hl : gh_lv ls 5 []) (h : gh_run (f_X0_ropeOf_13 s0) g = some o) (hk : (gh_K0 x gh_rI) o) : gh_Wd x g (F0 (gh_cm x) 13 ls [va_rf s0]) := by
  unfold f_X0_ropeOf_13 at h
  refine gr_astore (pc := 13) (i := 4) (l' := [(4, va_rf s0)]) C hl (Nat.le_of_ble_eq_true rfl) rfl dX0_ropeOf_13 fun ls hl => ?_
  refine gr_iconst (pc := 15) (v := (1 : Int32)) C rfl dX0_ropeOf_15 ?_
  exact gr_iret (pc := 16) C dX0_ropeOf_16 h hk

noncomputable def f_X0_ropeOf (p0 : Option Nat) (p1 : Int32) (p2 : Int32) (p3 : Option Nat) : gh_M Int32 :=
  gh_nn p0 fun a1 =>
  gh_bd (gh_is a1 0) fun _ =>
  gh_tc (f_X1_ropeOf a1 p1 p2) (fun v2 =>
  gh_nn p3 fun a3 =>
  gh_bd (gh_last a3 (0 : Int32) v2.toInt64) fun _ =>
  gh_ret (0 : Int32))
  (fun e => if e.1 = 16 then (f_X0_ropeOf_13 (some e.2)) else if e.1 = 17 then (f_X0_ropeOf_17 (some e.2)) else gh_stk)
theorem w_X0_ropeOf {x : gh_C} {g : gh_G} {o : (Int32 ⊕ gh_X) × gh_G} {ls : Array Slot} (C : gh_K x cX0_ropeOf "GargoyleTowerLaw" 5 (some .int) "ropeOf" 10 175 hh_X0_ropeOf) (p0 : Option Nat) (p1 : Int32) (p2 : Int32) (p3 : Option Nat) (hl : gh_lv ls 5 [(0, va_rf p0), (1, .int p1), (2, .int p2), (3, va_rf p3)]) (h : gh_run (f_X0_ropeOf p0 p1 p2 p3) g = some o) (hk : (gh_K0 x gh_rI) o) : gh_Wd x g (F0 (gh_cm x) 0 ls []) := by
  unfold f_X0_ropeOf at h
  refine gr_aload_n (pc := 0) (i := 3) C rfl (gl_at hl 3 rfl) dX0_ropeOf_0 ?_
  refine gr_iconst (pc := 1) (v := (0 : Int32)) C rfl dX0_ropeOf_1 ?_
  refine gr_aload_n (pc := 2) (i := 0) C rfl (gl_at hl 0 rfl) dX0_ropeOf_2 ?_
  refine gr_iload_n (pc := 3) (i := 1) C rfl (gl_at hl 1 rfl) dX0_ropeOf_3 ?_
  refine gr_iload_n (pc := 4) (i := 2) C rfl (gl_at hl 2 rfl) dX0_ropeOf_4 ?_
  rcases p0 with _ | a1
  · exact gh_stk_inv h
  replace h := gh_nn_ss h
  obtain ⟨⟨fs9, hg9⟩, h⟩ := gh_is_inv h
  refine gh_callI (pc := 5) (rest := [.int (0 : Int32), va_rf p3]) C (k_X1_ropeOf C.tr a1 p1 p2) (Nat.le_of_ble_eq_true rfl) (Nat.le_of_ble_eq_true rfl) (gh_r4 (Nat.le_of_ble_eq_true rfl)) (fun H9 L9 hp9 => gi_V C hp9 hg9 gh_cX1 q1610 q1611 q1612 q1613 mh_X1 np1 rfl hl.1.1 dX0_ropeOf_5 rfl) h (gh_K0_b _ hk) (fun v2 g h => ?_) (fun e g h => ?_)
  rotate_left
  ·
    by_cases c7 : e.1 = 16
    · replace h := gh_ift h c7
      refine gh_catch C (q := (RJ14, TJ14, 6)) (by rw [c7]; exact gh_cJ14) [] ⟨0, 10, 13, 21⟩ [⟨0, 10, 17, 13⟩] rfl (fun _ h => nomatch h) rfl (by decide) q1482 q411 ?_
      exact w_X0_ropeOf_13 C (some e.2) (gl_sub hl [] rfl) h hk
    replace h := gh_iff h c7
    by_cases c7 : e.1 = 17
    · replace h := gh_ift h c7
      refine gh_catch C (q := (RJ20, TJ20, 6)) (by rw [c7]; exact gh_cJ20) [⟨0, 10, 13, 21⟩] ⟨0, 10, 17, 13⟩ [] rfl (List.forall_mem_cons.mpr ⟨Or.inr ⟨by decide, _, q1482, by decide +kernel⟩, (fun _ h => nomatch h)⟩) rfl (by decide) q1100 q648 ?_
      exact w_X0_ropeOf_17 C (some e.2) (gl_sub hl [] rfl) h hk
    replace h := gh_iff h c7
    exact gh_stk_inv h
  refine gr_i2l (pc := 8) (v := v2.toInt64) C rfl dX0_ropeOf_8 ?_
  rcases p3 with _ | a3
  · exact gh_stk_inv h
  replace h := gh_nn_ss h
  refine gr_last (pc := 9) C dX0_ropeOf_9 h fun g h => ?_
  refine gr_goto (pc := 10) (tgt := 21) C rfl dX0_ropeOf_10 ?_
  refine gr_iconst (pc := 21) (v := (0 : Int32)) C rfl dX0_ropeOf_21 ?_
  exact gr_iret (pc := 22) C dX0_ropeOf_22 h hk

theorem k_X0_ropeOf {l : Launch} (hst : l.stackTraces = false) (p0 : Option Nat) (p1 : Int32) (p2 : Int32) (p3 : Option Nat) : gh_Ct l yX0_ropeOf 10 191 (f_X0_ropeOf p0 p1 p2 p3) gh_rI [va_rf p0, .int p1, .int p2, va_rf p3] := gh_introW2 (L1 := 175) hst (by decide +kernel) q1609 q74 rfl ⟨gh_cat _, rfl, rfl, gh_cat _, trivial⟩ (Nat.le_of_ble_eq_true rfl) fun x o ls hl C h hk => w_X0_ropeOf C p0 p1 p2 p3 hl h hk
-- GargoyleTowerLaw.hoist(LGargoyleTower;II[J)I
abbrev hh_X0_hoist : List ExceptionTableEntry := tableOf [(0, 10, 13, 21), (0, 10, 17, 15)]
noncomputable def f_X0_hoist_17 (s0 : Option Nat) : gh_M Int32 :=
  gh_ret (2 : Int32)
theorem w_X0_hoist_17 {x : gh_C} {g : gh_G} {o : (Int32 ⊕ gh_X) × gh_G} {ls : Array Slot} (C : gh_K x cX0_hoist "GargoyleTowerLaw" 5 (some .int) "hoist" 55 1185 hh_X0_hoist) (s0 : Option Nat) (hl : gh_lv ls 5 []) (h : gh_run (f_X0_hoist_17 s0) g = some o) (hk : (gh_K0 x gh_rI) o) : gh_Wd x g (F0 (gh_cm x) 17 ls [va_rf s0]) := by
  unfold f_X0_hoist_17 at h
  refine gr_astore (pc := 17) (i := 4) (l' := [(4, va_rf s0)]) C hl (Nat.le_of_ble_eq_true rfl) rfl dX0_hoist_17 fun ls hl => ?_
  refine gr_iconst (pc := 19) (v := (2 : Int32)) C rfl dX0_hoist_19 ?_
  exact gr_iret (pc := 20) C dX0_hoist_20 h hk

noncomputable def f_X0_hoist_13 (s0 : Option Nat) : gh_M Int32 :=
  gh_ret (1 : Int32)
theorem w_X0_hoist_13 {x : gh_C} {g : gh_G} {o : (Int32 ⊕ gh_X) × gh_G} {ls : Array Slot} (C : gh_K x cX0_hoist "GargoyleTowerLaw" 5 (some .int) "hoist" 55 1185 hh_X0_hoist) (s0 : Option Nat) (hl : gh_lv ls 5 []) (h : gh_run (f_X0_hoist_13 s0) g = some o) (hk : (gh_K0 x gh_rI) o) : gh_Wd x g (F0 (gh_cm x) 13 ls [va_rf s0]) := by
  unfold f_X0_hoist_13 at h
  refine gr_astore (pc := 13) (i := 4) (l' := [(4, va_rf s0)]) C hl (Nat.le_of_ble_eq_true rfl) rfl dX0_hoist_13 fun ls hl => ?_
  refine gr_iconst (pc := 15) (v := (1 : Int32)) C rfl dX0_hoist_15 ?_
  exact gr_iret (pc := 16) C dX0_hoist_16 h hk

noncomputable def f_X0_hoist (p0 : Option Nat) (p1 : Int32) (p2 : Int32) (p3 : Option Nat) : gh_M Int32 :=
  gh_nn p0 fun a1 =>
  gh_bd (gh_is a1 0) fun _ =>
  gh_tc (f_X1_hoist a1 p1 p2) (fun v2 =>
  gh_nn p3 fun a3 =>
  gh_bd (gh_last a3 (0 : Int32) v2.toInt64) fun _ =>
  gh_ret (0 : Int32))
  (fun e => if e.1 = 16 then (f_X0_hoist_13 (some e.2)) else if e.1 = 20 then (f_X0_hoist_17 (some e.2)) else gh_stk)
theorem w_X0_hoist {x : gh_C} {g : gh_G} {o : (Int32 ⊕ gh_X) × gh_G} {ls : Array Slot} (C : gh_K x cX0_hoist "GargoyleTowerLaw" 5 (some .int) "hoist" 55 1185 hh_X0_hoist) (p0 : Option Nat) (p1 : Int32) (p2 : Int32) (p3 : Option Nat) (hl : gh_lv ls 5 [(0, va_rf p0), (1, .int p1), (2, .int p2), (3, va_rf p3)]) (h : gh_run (f_X0_hoist p0 p1 p2 p3) g = some o) (hk : (gh_K0 x gh_rI) o) : gh_Wd x g (F0 (gh_cm x) 0 ls []) := by
  unfold f_X0_hoist at h
  refine gr_aload_n (pc := 0) (i := 3) C rfl (gl_at hl 3 rfl) dX0_hoist_0 ?_
  refine gr_iconst (pc := 1) (v := (0 : Int32)) C rfl dX0_hoist_1 ?_
  refine gr_aload_n (pc := 2) (i := 0) C rfl (gl_at hl 0 rfl) dX0_hoist_2 ?_
  refine gr_iload_n (pc := 3) (i := 1) C rfl (gl_at hl 1 rfl) dX0_hoist_3 ?_
  refine gr_iload_n (pc := 4) (i := 2) C rfl (gl_at hl 2 rfl) dX0_hoist_4 ?_
  rcases p0 with _ | a1
  · exact gh_stk_inv h
  replace h := gh_nn_ss h
  obtain ⟨⟨fs9, hg9⟩, h⟩ := gh_is_inv h
  refine gh_callI (pc := 5) (rest := [.int (0 : Int32), va_rf p3]) C (k_X1_hoist C.tr a1 p1 p2) (Nat.le_of_ble_eq_true rfl) (Nat.le_of_ble_eq_true rfl) (gh_r4 (Nat.le_of_ble_eq_true rfl)) (fun H9 L9 hp9 => gi_V C hp9 hg9 gh_cX1 q1618 q1619 q1620 q1621 mh_X1 np1 rfl hl.1.1 dX0_hoist_5 rfl) h (gh_K0_b _ hk) (fun v2 g h => ?_) (fun e g h => ?_)
  rotate_left
  ·
    by_cases c7 : e.1 = 16
    · replace h := gh_ift h c7
      refine gh_catch C (q := (RJ14, TJ14, 6)) (by rw [c7]; exact gh_cJ14) [] ⟨0, 10, 13, 21⟩ [⟨0, 10, 17, 15⟩] rfl (fun _ h => nomatch h) rfl (by decide) q1482 q411 ?_
      exact w_X0_hoist_13 C (some e.2) (gl_sub hl [] rfl) h hk
    replace h := gh_iff h c7
    by_cases c7 : e.1 = 20
    · replace h := gh_ift h c7
      refine gh_catch C (q := (RJ23, TJ23, 6)) (by rw [c7]; exact gh_cJ23) [⟨0, 10, 13, 21⟩] ⟨0, 10, 17, 15⟩ [] rfl (List.forall_mem_cons.mpr ⟨Or.inr ⟨by decide, _, q1482, by decide +kernel⟩, (fun _ h => nomatch h)⟩) rfl (by decide) q1101 q1466 ?_
      exact w_X0_hoist_17 C (some e.2) (gl_sub hl [] rfl) h hk
    replace h := gh_iff h c7
    exact gh_stk_inv h
  refine gr_i2l (pc := 8) (v := v2.toInt64) C rfl dX0_hoist_8 ?_
  rcases p3 with _ | a3
  · exact gh_stk_inv h
  replace h := gh_nn_ss h
  refine gr_last (pc := 9) C dX0_hoist_9 h fun g h => ?_
  refine gr_goto (pc := 10) (tgt := 21) C rfl dX0_hoist_10 ?_
  refine gr_iconst (pc := 21) (v := (0 : Int32)) C rfl dX0_hoist_21 ?_
  exact gr_iret (pc := 22) C dX0_hoist_22 h hk

theorem k_X0_hoist {l : Launch} (hst : l.stackTraces = false) (p0 : Option Nat) (p1 : Int32) (p2 : Int32) (p3 : Option Nat) : gh_Ct l yX0_hoist 55 1201 (f_X0_hoist p0 p1 p2 p3) gh_rI [va_rf p0, .int p1, .int p2, va_rf p3] := gh_introW2 (L1 := 1185) hst (by decide +kernel) q1617 q74 rfl ⟨gh_cat _, rfl, rfl, gh_cat _, trivial⟩ (Nat.le_of_ble_eq_true rfl) fun x o ls hl C h hk => w_X0_hoist C p0 p1 p2 p3 hl h hk
-- GargoyleTowerLaw.lower(LGargoyleTower;I[J)I
abbrev hh_X0_lower : List ExceptionTableEntry := tableOf [(0, 9, 12, 21), (0, 9, 15, 15)]
noncomputable def f_X0_lower_15 (s0 : Option Nat) : gh_M Int32 :=
  gh_ret (2 : Int32)
theorem w_X0_lower_15 {x : gh_C} {g : gh_G} {o : (Int32 ⊕ gh_X) × gh_G} {ls : Array Slot} (C : gh_K x cX0_lower "GargoyleTowerLaw" 4 (some .int) "lower" 55 1184 hh_X0_lower) (s0 : Option Nat) (hl : gh_lv ls 4 []) (h : gh_run (f_X0_lower_15 s0) g = some o) (hk : (gh_K0 x gh_rI) o) : gh_Wd x g (F0 (gh_cm x) 15 ls [va_rf s0]) := by
  unfold f_X0_lower_15 at h
  refine gr_astore_n (pc := 15) (i := 3) (l' := [(3, va_rf s0)]) C rfl hl (Nat.le_of_ble_eq_true rfl) rfl dX0_lower_15 fun ls hl => ?_
  refine gr_iconst (pc := 16) (v := (2 : Int32)) C rfl dX0_lower_16 ?_
  exact gr_iret (pc := 17) C dX0_lower_17 h hk

noncomputable def f_X0_lower_12 (s0 : Option Nat) : gh_M Int32 :=
  gh_ret (1 : Int32)
theorem w_X0_lower_12 {x : gh_C} {g : gh_G} {o : (Int32 ⊕ gh_X) × gh_G} {ls : Array Slot} (C : gh_K x cX0_lower "GargoyleTowerLaw" 4 (some .int) "lower" 55 1184 hh_X0_lower) (s0 : Option Nat) (hl : gh_lv ls 4 []) (h : gh_run (f_X0_lower_12 s0) g = some o) (hk : (gh_K0 x gh_rI) o) : gh_Wd x g (F0 (gh_cm x) 12 ls [va_rf s0]) := by
  unfold f_X0_lower_12 at h
  refine gr_astore_n (pc := 12) (i := 3) (l' := [(3, va_rf s0)]) C rfl hl (Nat.le_of_ble_eq_true rfl) rfl dX0_lower_12 fun ls hl => ?_
  refine gr_iconst (pc := 13) (v := (1 : Int32)) C rfl dX0_lower_13 ?_
  exact gr_iret (pc := 14) C dX0_lower_14 h hk

noncomputable def f_X0_lower (p0 : Option Nat) (p1 : Int32) (p2 : Option Nat) : gh_M Int32 :=
  gh_nn p0 fun a1 =>
  gh_bd (gh_is a1 0) fun _ =>
  gh_tc (f_X1_lower a1 p1) (fun v2 =>
  gh_nn p2 fun a3 =>
  gh_bd (gh_last a3 (0 : Int32) v2.toInt64) fun _ =>
  gh_ret (0 : Int32))
  (fun e => if e.1 = 16 then (f_X0_lower_12 (some e.2)) else if e.1 = 20 then (f_X0_lower_15 (some e.2)) else gh_stk)
theorem w_X0_lower {x : gh_C} {g : gh_G} {o : (Int32 ⊕ gh_X) × gh_G} {ls : Array Slot} (C : gh_K x cX0_lower "GargoyleTowerLaw" 4 (some .int) "lower" 55 1184 hh_X0_lower) (p0 : Option Nat) (p1 : Int32) (p2 : Option Nat) (hl : gh_lv ls 4 [(0, va_rf p0), (1, .int p1), (2, va_rf p2)]) (h : gh_run (f_X0_lower p0 p1 p2) g = some o) (hk : (gh_K0 x gh_rI) o) : gh_Wd x g (F0 (gh_cm x) 0 ls []) := by
  unfold f_X0_lower at h
  refine gr_aload_n (pc := 0) (i := 2) C rfl (gl_at hl 2 rfl) dX0_lower_0 ?_
  refine gr_iconst (pc := 1) (v := (0 : Int32)) C rfl dX0_lower_1 ?_
  refine gr_aload_n (pc := 2) (i := 0) C rfl (gl_at hl 0 rfl) dX0_lower_2 ?_
  refine gr_iload_n (pc := 3) (i := 1) C rfl (gl_at hl 1 rfl) dX0_lower_3 ?_
  rcases p0 with _ | a1
  · exact gh_stk_inv h
  replace h := gh_nn_ss h
  obtain ⟨⟨fs9, hg9⟩, h⟩ := gh_is_inv h
  refine gh_callI (pc := 4) (rest := [.int (0 : Int32), va_rf p2]) C (k_X1_lower C.tr a1 p1) (Nat.le_of_ble_eq_true rfl) (Nat.le_of_ble_eq_true rfl) (gh_r4 (Nat.le_of_ble_eq_true rfl)) (fun H9 L9 hp9 => gi_V C hp9 hg9 gh_cX1 q1626 q1627 q1628 q1629 mh_X1 np6 rfl hl.1.1 dX0_lower_4 rfl) h (gh_K0_b _ hk) (fun v2 g h => ?_) (fun e g h => ?_)
  rotate_left
  ·
    by_cases c7 : e.1 = 16
    · replace h := gh_ift h c7
      refine gh_catch C (q := (RJ14, TJ14, 6)) (by rw [c7]; exact gh_cJ14) [] ⟨0, 9, 12, 21⟩ [⟨0, 9, 15, 15⟩] rfl (fun _ h => nomatch h) rfl (by decide) q1482 q411 ?_
      exact w_X0_lower_12 C (some e.2) (gl_sub hl [] rfl) h hk
    replace h := gh_iff h c7
    by_cases c7 : e.1 = 20
    · replace h := gh_ift h c7
      refine gh_catch C (q := (RJ23, TJ23, 6)) (by rw [c7]; exact gh_cJ23) [⟨0, 9, 12, 21⟩] ⟨0, 9, 15, 15⟩ [] rfl (List.forall_mem_cons.mpr ⟨Or.inr ⟨by decide, _, q1482, by decide +kernel⟩, (fun _ h => nomatch h)⟩) rfl (by decide) q1101 q1466 ?_
      exact w_X0_lower_15 C (some e.2) (gl_sub hl [] rfl) h hk
    replace h := gh_iff h c7
    exact gh_stk_inv h
  refine gr_i2l (pc := 7) (v := v2.toInt64) C rfl dX0_lower_7 ?_
  rcases p2 with _ | a3
  · exact gh_stk_inv h
  replace h := gh_nn_ss h
  refine gr_last (pc := 8) C dX0_lower_8 h fun g h => ?_
  refine gr_goto (pc := 9) (tgt := 18) C rfl dX0_lower_9 ?_
  refine gr_iconst (pc := 18) (v := (0 : Int32)) C rfl dX0_lower_18 ?_
  exact gr_iret (pc := 19) C dX0_lower_19 h hk

theorem k_X0_lower {l : Launch} (hst : l.stackTraces = false) (p0 : Option Nat) (p1 : Int32) (p2 : Option Nat) : gh_Ct l yX0_lower 55 1199 (f_X0_lower p0 p1 p2) gh_rI [va_rf p0, .int p1, va_rf p2] := gh_introW2 (L1 := 1184) hst (by decide +kernel) q1625 q74 rfl ⟨gh_cat _, rfl, gh_cat _, trivial⟩ (Nat.le_of_ble_eq_true rfl) fun x o ls hl C h hk => w_X0_lower C p0 p1 p2 hl h hk
-- GargoyleTowerLaw.set(LGargoyleTower;II[J)I
abbrev hh_X0_set : List ExceptionTableEntry := tableOf [(0, 10, 13, 21), (0, 10, 17, 15)]
noncomputable def f_X0_set_17 (s0 : Option Nat) : gh_M Int32 :=
  gh_ret (2 : Int32)
theorem w_X0_set_17 {x : gh_C} {g : gh_G} {o : (Int32 ⊕ gh_X) × gh_G} {ls : Array Slot} (C : gh_K x cX0_set "GargoyleTowerLaw" 5 (some .int) "set" 55 1185 hh_X0_set) (s0 : Option Nat) (hl : gh_lv ls 5 []) (h : gh_run (f_X0_set_17 s0) g = some o) (hk : (gh_K0 x gh_rI) o) : gh_Wd x g (F0 (gh_cm x) 17 ls [va_rf s0]) := by
  unfold f_X0_set_17 at h
  refine gr_astore (pc := 17) (i := 4) (l' := [(4, va_rf s0)]) C hl (Nat.le_of_ble_eq_true rfl) rfl dX0_set_17 fun ls hl => ?_
  refine gr_iconst (pc := 19) (v := (2 : Int32)) C rfl dX0_set_19 ?_
  exact gr_iret (pc := 20) C dX0_set_20 h hk

noncomputable def f_X0_set_13 (s0 : Option Nat) : gh_M Int32 :=
  gh_ret (1 : Int32)
theorem w_X0_set_13 {x : gh_C} {g : gh_G} {o : (Int32 ⊕ gh_X) × gh_G} {ls : Array Slot} (C : gh_K x cX0_set "GargoyleTowerLaw" 5 (some .int) "set" 55 1185 hh_X0_set) (s0 : Option Nat) (hl : gh_lv ls 5 []) (h : gh_run (f_X0_set_13 s0) g = some o) (hk : (gh_K0 x gh_rI) o) : gh_Wd x g (F0 (gh_cm x) 13 ls [va_rf s0]) := by
  unfold f_X0_set_13 at h
  refine gr_astore (pc := 13) (i := 4) (l' := [(4, va_rf s0)]) C hl (Nat.le_of_ble_eq_true rfl) rfl dX0_set_13 fun ls hl => ?_
  refine gr_iconst (pc := 15) (v := (1 : Int32)) C rfl dX0_set_15 ?_
  exact gr_iret (pc := 16) C dX0_set_16 h hk

noncomputable def f_X0_set (p0 : Option Nat) (p1 : Int32) (p2 : Int32) (p3 : Option Nat) : gh_M Int32 :=
  gh_nn p0 fun a1 =>
  gh_bd (gh_is a1 0) fun _ =>
  gh_tc (f_X1_set a1 p1 p2) (fun v2 =>
  gh_nn p3 fun a3 =>
  gh_bd (gh_last a3 (0 : Int32) v2.toInt64) fun _ =>
  gh_ret (0 : Int32))
  (fun e => if e.1 = 16 then (f_X0_set_13 (some e.2)) else if e.1 = 20 then (f_X0_set_17 (some e.2)) else gh_stk)
theorem w_X0_set {x : gh_C} {g : gh_G} {o : (Int32 ⊕ gh_X) × gh_G} {ls : Array Slot} (C : gh_K x cX0_set "GargoyleTowerLaw" 5 (some .int) "set" 55 1185 hh_X0_set) (p0 : Option Nat) (p1 : Int32) (p2 : Int32) (p3 : Option Nat) (hl : gh_lv ls 5 [(0, va_rf p0), (1, .int p1), (2, .int p2), (3, va_rf p3)]) (h : gh_run (f_X0_set p0 p1 p2 p3) g = some o) (hk : (gh_K0 x gh_rI) o) : gh_Wd x g (F0 (gh_cm x) 0 ls []) := by
  unfold f_X0_set at h
  refine gr_aload_n (pc := 0) (i := 3) C rfl (gl_at hl 3 rfl) dX0_set_0 ?_
  refine gr_iconst (pc := 1) (v := (0 : Int32)) C rfl dX0_set_1 ?_
  refine gr_aload_n (pc := 2) (i := 0) C rfl (gl_at hl 0 rfl) dX0_set_2 ?_
  refine gr_iload_n (pc := 3) (i := 1) C rfl (gl_at hl 1 rfl) dX0_set_3 ?_
  refine gr_iload_n (pc := 4) (i := 2) C rfl (gl_at hl 2 rfl) dX0_set_4 ?_
  rcases p0 with _ | a1
  · exact gh_stk_inv h
  replace h := gh_nn_ss h
  obtain ⟨⟨fs9, hg9⟩, h⟩ := gh_is_inv h
  refine gh_callI (pc := 5) (rest := [.int (0 : Int32), va_rf p3]) C (k_X1_set C.tr a1 p1 p2) (Nat.le_of_ble_eq_true rfl) (Nat.le_of_ble_eq_true rfl) (gh_r4 (Nat.le_of_ble_eq_true rfl)) (fun H9 L9 hp9 => gi_V C hp9 hg9 gh_cX1 q1634 q1635 q1636 q1637 mh_X1 np1 rfl hl.1.1 dX0_set_5 rfl) h (gh_K0_b _ hk) (fun v2 g h => ?_) (fun e g h => ?_)
  rotate_left
  ·
    by_cases c7 : e.1 = 16
    · replace h := gh_ift h c7
      refine gh_catch C (q := (RJ14, TJ14, 6)) (by rw [c7]; exact gh_cJ14) [] ⟨0, 10, 13, 21⟩ [⟨0, 10, 17, 15⟩] rfl (fun _ h => nomatch h) rfl (by decide) q1482 q411 ?_
      exact w_X0_set_13 C (some e.2) (gl_sub hl [] rfl) h hk
    replace h := gh_iff h c7
    by_cases c7 : e.1 = 20
    · replace h := gh_ift h c7
      refine gh_catch C (q := (RJ23, TJ23, 6)) (by rw [c7]; exact gh_cJ23) [⟨0, 10, 13, 21⟩] ⟨0, 10, 17, 15⟩ [] rfl (List.forall_mem_cons.mpr ⟨Or.inr ⟨by decide, _, q1482, by decide +kernel⟩, (fun _ h => nomatch h)⟩) rfl (by decide) q1101 q1466 ?_
      exact w_X0_set_17 C (some e.2) (gl_sub hl [] rfl) h hk
    replace h := gh_iff h c7
    exact gh_stk_inv h
  refine gr_i2l (pc := 8) (v := v2.toInt64) C rfl dX0_set_8 ?_
  rcases p3 with _ | a3
  · exact gh_stk_inv h
  replace h := gh_nn_ss h
  refine gr_last (pc := 9) C dX0_set_9 h fun g h => ?_
  refine gr_goto (pc := 10) (tgt := 21) C rfl dX0_set_10 ?_
  refine gr_iconst (pc := 21) (v := (0 : Int32)) C rfl dX0_set_21 ?_
  exact gr_iret (pc := 22) C dX0_set_22 h hk

theorem k_X0_set {l : Launch} (hst : l.stackTraces = false) (p0 : Option Nat) (p1 : Int32) (p2 : Int32) (p3 : Option Nat) : gh_Ct l yX0_set 55 1201 (f_X0_set p0 p1 p2 p3) gh_rI [va_rf p0, .int p1, .int p2, va_rf p3] := gh_introW2 (L1 := 1185) hst (by decide +kernel) q1633 q74 rfl ⟨gh_cat _, rfl, rfl, gh_cat _, trivial⟩ (Nat.le_of_ble_eq_true rfl) fun x o ls hl C h hk => w_X0_set C p0 p1 p2 p3 hl h hk
-- GargoyleTowerLaw.blockIn(LGargoyleTower;I[J)I
abbrev hh_X0_blockIn : List ExceptionTableEntry := tableOf [(0, 9, 12, 21)]
noncomputable def f_X0_blockIn_12 (s0 : Option Nat) : gh_M Int32 :=
  gh_ret (1 : Int32)
theorem w_X0_blockIn_12 {x : gh_C} {g : gh_G} {o : (Int32 ⊕ gh_X) × gh_G} {ls : Array Slot} (C : gh_K x cX0_blockIn "GargoyleTowerLaw" 4 (some .int) "blockIn" 9 153 hh_X0_blockIn) (s0 : Option Nat) (hl : gh_lv ls 4 []) (h : gh_run (f_X0_blockIn_12 s0) g = some o) (hk : (gh_K0 x gh_rI) o) : gh_Wd x g (F0 (gh_cm x) 12 ls [va_rf s0]) := by
  unfold f_X0_blockIn_12 at h
  refine gr_astore_n (pc := 12) (i := 3) (l' := [(3, va_rf s0)]) C rfl hl (Nat.le_of_ble_eq_true rfl) rfl dX0_blockIn_12 fun ls hl => ?_
  refine gr_iconst (pc := 13) (v := (1 : Int32)) C rfl dX0_blockIn_13 ?_
  exact gr_iret (pc := 14) C dX0_blockIn_14 h hk

noncomputable def f_X0_blockIn (p0 : Option Nat) (p1 : Int32) (p2 : Option Nat) : gh_M Int32 :=
  gh_nn p0 fun a1 =>
  gh_bd (gh_is a1 0) fun _ =>
  gh_tc (f_X1_blockIn a1 p1) (fun v2 =>
  gh_nn p2 fun a3 =>
  gh_bd (gh_last a3 (0 : Int32) v2.toInt64) fun _ =>
  gh_ret (0 : Int32))
  (fun e => if e.1 = 16 then (f_X0_blockIn_12 (some e.2)) else gh_stk)
theorem w_X0_blockIn {x : gh_C} {g : gh_G} {o : (Int32 ⊕ gh_X) × gh_G} {ls : Array Slot} (C : gh_K x cX0_blockIn "GargoyleTowerLaw" 4 (some .int) "blockIn" 9 153 hh_X0_blockIn) (p0 : Option Nat) (p1 : Int32) (p2 : Option Nat) (hl : gh_lv ls 4 [(0, va_rf p0), (1, .int p1), (2, va_rf p2)]) (h : gh_run (f_X0_blockIn p0 p1 p2) g = some o) (hk : (gh_K0 x gh_rI) o) : gh_Wd x g (F0 (gh_cm x) 0 ls []) := by
  unfold f_X0_blockIn at h
  refine gr_aload_n (pc := 0) (i := 2) C rfl (gl_at hl 2 rfl) dX0_blockIn_0 ?_
  refine gr_iconst (pc := 1) (v := (0 : Int32)) C rfl dX0_blockIn_1 ?_
  refine gr_aload_n (pc := 2) (i := 0) C rfl (gl_at hl 0 rfl) dX0_blockIn_2 ?_
  refine gr_iload_n (pc := 3) (i := 1) C rfl (gl_at hl 1 rfl) dX0_blockIn_3 ?_
  rcases p0 with _ | a1
  · exact gh_stk_inv h
  replace h := gh_nn_ss h
  obtain ⟨⟨fs9, hg9⟩, h⟩ := gh_is_inv h
  refine gh_callI (pc := 4) (rest := [.int (0 : Int32), va_rf p2]) C (k_X1_blockIn C.tr a1 p1) (Nat.le_of_ble_eq_true rfl) (Nat.le_of_ble_eq_true rfl) (gh_r4 (Nat.le_of_ble_eq_true rfl)) (fun H9 L9 hp9 => gi_V C hp9 hg9 gh_cX1 q1642 q1643 q1644 q1645 mh_X1 np6 rfl hl.1.1 dX0_blockIn_4 rfl) h (gh_K0_b _ hk) (fun v2 g h => ?_) (fun e g h => ?_)
  rotate_left
  ·
    by_cases c7 : e.1 = 16
    · replace h := gh_ift h c7
      refine gh_catch C (q := (RJ14, TJ14, 6)) (by rw [c7]; exact gh_cJ14) [] ⟨0, 9, 12, 21⟩ [] rfl (fun _ h => nomatch h) rfl (by decide) q1482 q411 ?_
      exact w_X0_blockIn_12 C (some e.2) (gl_sub hl [] rfl) h hk
    replace h := gh_iff h c7
    exact gh_stk_inv h
  refine gr_i2l (pc := 7) (v := v2.toInt64) C rfl dX0_blockIn_7 ?_
  rcases p2 with _ | a3
  · exact gh_stk_inv h
  replace h := gh_nn_ss h
  refine gr_last (pc := 8) C dX0_blockIn_8 h fun g h => ?_
  refine gr_goto (pc := 9) (tgt := 15) C rfl dX0_blockIn_9 ?_
  refine gr_iconst (pc := 15) (v := (0 : Int32)) C rfl dX0_blockIn_15 ?_
  exact gr_iret (pc := 16) C dX0_blockIn_16 h hk

theorem k_X0_blockIn {l : Launch} (hst : l.stackTraces = false) (p0 : Option Nat) (p1 : Int32) (p2 : Option Nat) : gh_Ct l yX0_blockIn 9 168 (f_X0_blockIn p0 p1 p2) gh_rI [va_rf p0, .int p1, va_rf p2] := gh_introW2 (L1 := 153) hst (by decide +kernel) q1641 q74 rfl ⟨gh_cat _, rfl, gh_cat _, trivial⟩ (Nat.le_of_ble_eq_true rfl) fun x o ls hl C h hk => w_X0_blockIn C p0 p1 p2 hl h hk
-- GargoyleTowerLaw.weightOn(LGargoyleTower;I[J)I
abbrev hh_X0_weightOn : List ExceptionTableEntry := tableOf [(0, 9, 12, 21)]
noncomputable def f_X0_weightOn_12 (s0 : Option Nat) : gh_M Int32 :=
  gh_ret (1 : Int32)
theorem w_X0_weightOn_12 {x : gh_C} {g : gh_G} {o : (Int32 ⊕ gh_X) × gh_G} {ls : Array Slot} (C : gh_K x cX0_weightOn "GargoyleTowerLaw" 4 (some .int) "weightOn" 9 155 hh_X0_weightOn) (s0 : Option Nat) (hl : gh_lv ls 4 []) (h : gh_run (f_X0_weightOn_12 s0) g = some o) (hk : (gh_K0 x gh_rI) o) : gh_Wd x g (F0 (gh_cm x) 12 ls [va_rf s0]) := by
  unfold f_X0_weightOn_12 at h
  refine gr_astore_n (pc := 12) (i := 3) (l' := [(3, va_rf s0)]) C rfl hl (Nat.le_of_ble_eq_true rfl) rfl dX0_weightOn_12 fun ls hl => ?_
  refine gr_iconst (pc := 13) (v := (1 : Int32)) C rfl dX0_weightOn_13 ?_
  exact gr_iret (pc := 14) C dX0_weightOn_14 h hk

noncomputable def f_X0_weightOn (p0 : Option Nat) (p1 : Int32) (p2 : Option Nat) : gh_M Int32 :=
  gh_nn p0 fun a1 =>
  gh_bd (gh_is a1 0) fun _ =>
  gh_tc (f_X1_weightOn a1 p1) (fun v2 =>
  gh_nn p2 fun a3 =>
  gh_bd (gh_last a3 (0 : Int32) v2.toInt64) fun _ =>
  gh_ret (0 : Int32))
  (fun e => if e.1 = 16 then (f_X0_weightOn_12 (some e.2)) else gh_stk)
theorem w_X0_weightOn {x : gh_C} {g : gh_G} {o : (Int32 ⊕ gh_X) × gh_G} {ls : Array Slot} (C : gh_K x cX0_weightOn "GargoyleTowerLaw" 4 (some .int) "weightOn" 9 155 hh_X0_weightOn) (p0 : Option Nat) (p1 : Int32) (p2 : Option Nat) (hl : gh_lv ls 4 [(0, va_rf p0), (1, .int p1), (2, va_rf p2)]) (h : gh_run (f_X0_weightOn p0 p1 p2) g = some o) (hk : (gh_K0 x gh_rI) o) : gh_Wd x g (F0 (gh_cm x) 0 ls []) := by
  unfold f_X0_weightOn at h
  refine gr_aload_n (pc := 0) (i := 2) C rfl (gl_at hl 2 rfl) dX0_weightOn_0 ?_
  refine gr_iconst (pc := 1) (v := (0 : Int32)) C rfl dX0_weightOn_1 ?_
  refine gr_aload_n (pc := 2) (i := 0) C rfl (gl_at hl 0 rfl) dX0_weightOn_2 ?_
  refine gr_iload_n (pc := 3) (i := 1) C rfl (gl_at hl 1 rfl) dX0_weightOn_3 ?_
  rcases p0 with _ | a1
  · exact gh_stk_inv h
  replace h := gh_nn_ss h
  obtain ⟨⟨fs9, hg9⟩, h⟩ := gh_is_inv h
  refine gh_callI (pc := 4) (rest := [.int (0 : Int32), va_rf p2]) C (k_X1_weightOn C.tr a1 p1) (Nat.le_of_ble_eq_true rfl) (Nat.le_of_ble_eq_true rfl) (gh_r4 (Nat.le_of_ble_eq_true rfl)) (fun H9 L9 hp9 => gi_V C hp9 hg9 gh_cX1 q1650 q1651 q1652 q1653 mh_X1 np6 rfl hl.1.1 dX0_weightOn_4 rfl) h (gh_K0_b _ hk) (fun v2 g h => ?_) (fun e g h => ?_)
  rotate_left
  ·
    by_cases c7 : e.1 = 16
    · replace h := gh_ift h c7
      refine gh_catch C (q := (RJ14, TJ14, 6)) (by rw [c7]; exact gh_cJ14) [] ⟨0, 9, 12, 21⟩ [] rfl (fun _ h => nomatch h) rfl (by decide) q1482 q411 ?_
      exact w_X0_weightOn_12 C (some e.2) (gl_sub hl [] rfl) h hk
    replace h := gh_iff h c7
    exact gh_stk_inv h
  refine gr_i2l (pc := 7) (v := v2.toInt64) C rfl dX0_weightOn_7 ?_
  rcases p2 with _ | a3
  · exact gh_stk_inv h
  replace h := gh_nn_ss h
  refine gr_last (pc := 8) C dX0_weightOn_8 h fun g h => ?_
  refine gr_goto (pc := 9) (tgt := 15) C rfl dX0_weightOn_9 ?_
  refine gr_iconst (pc := 15) (v := (0 : Int32)) C rfl dX0_weightOn_15 ?_
  exact gr_iret (pc := 16) C dX0_weightOn_16 h hk

theorem k_X0_weightOn {l : Launch} (hst : l.stackTraces = false) (p0 : Option Nat) (p1 : Int32) (p2 : Option Nat) : gh_Ct l yX0_weightOn 9 170 (f_X0_weightOn p0 p1 p2) gh_rI [va_rf p0, .int p1, va_rf p2] := gh_introW2 (L1 := 155) hst (by decide +kernel) q1649 q74 rfl ⟨gh_cat _, rfl, gh_cat _, trivial⟩ (Nat.le_of_ble_eq_true rfl) fun x o ls hl C h hk => w_X0_weightOn C p0 p1 p2 hl h hk
-- GargoyleTowerLaw.wouldFall(LGargoyleTower;I[J)I
abbrev hh_X0_wouldFall : List ExceptionTableEntry := tableOf [(0, 9, 12, 21)]
noncomputable def f_X0_wouldFall_12 (s0 : Option Nat) : gh_M Int32 :=
  gh_ret (1 : Int32)
theorem w_X0_wouldFall_12 {x : gh_C} {g : gh_G} {o : (Int32 ⊕ gh_X) × gh_G} {ls : Array Slot} (C : gh_K x cX0_wouldFall "GargoyleTowerLaw" 4 (some .int) "wouldFall" 50 1075 hh_X0_wouldFall) (s0 : Option Nat) (hl : gh_lv ls 4 []) (h : gh_run (f_X0_wouldFall_12 s0) g = some o) (hk : (gh_K0 x gh_rI) o) : gh_Wd x g (F0 (gh_cm x) 12 ls [va_rf s0]) := by
  unfold f_X0_wouldFall_12 at h
  refine gr_astore_n (pc := 12) (i := 3) (l' := [(3, va_rf s0)]) C rfl hl (Nat.le_of_ble_eq_true rfl) rfl dX0_wouldFall_12 fun ls hl => ?_
  refine gr_iconst (pc := 13) (v := (1 : Int32)) C rfl dX0_wouldFall_13 ?_
  exact gr_iret (pc := 14) C dX0_wouldFall_14 h hk

noncomputable def f_X0_wouldFall (p0 : Option Nat) (p1 : Int32) (p2 : Option Nat) : gh_M Int32 :=
  gh_nn p0 fun a1 =>
  gh_bd (gh_is a1 0) fun _ =>
  gh_tc (f_X1_wouldFall a1 p1) (fun v2 =>
  gh_nn p2 fun a3 =>
  gh_bd (gh_last a3 (0 : Int32) v2.toInt64) fun _ =>
  gh_ret (0 : Int32))
  (fun e => if e.1 = 16 then (f_X0_wouldFall_12 (some e.2)) else gh_stk)
theorem w_X0_wouldFall {x : gh_C} {g : gh_G} {o : (Int32 ⊕ gh_X) × gh_G} {ls : Array Slot} (C : gh_K x cX0_wouldFall "GargoyleTowerLaw" 4 (some .int) "wouldFall" 50 1075 hh_X0_wouldFall) (p0 : Option Nat) (p1 : Int32) (p2 : Option Nat) (hl : gh_lv ls 4 [(0, va_rf p0), (1, .int p1), (2, va_rf p2)]) (h : gh_run (f_X0_wouldFall p0 p1 p2) g = some o) (hk : (gh_K0 x gh_rI) o) : gh_Wd x g (F0 (gh_cm x) 0 ls []) := by
  unfold f_X0_wouldFall at h
  refine gr_aload_n (pc := 0) (i := 2) C rfl (gl_at hl 2 rfl) dX0_wouldFall_0 ?_
  refine gr_iconst (pc := 1) (v := (0 : Int32)) C rfl dX0_wouldFall_1 ?_
  refine gr_aload_n (pc := 2) (i := 0) C rfl (gl_at hl 0 rfl) dX0_wouldFall_2 ?_
  refine gr_iload_n (pc := 3) (i := 1) C rfl (gl_at hl 1 rfl) dX0_wouldFall_3 ?_
  rcases p0 with _ | a1
  · exact gh_stk_inv h
  replace h := gh_nn_ss h
  obtain ⟨⟨fs9, hg9⟩, h⟩ := gh_is_inv h
  refine gh_callI (pc := 4) (rest := [.int (0 : Int32), va_rf p2]) C (k_X1_wouldFall C.tr a1 p1) (Nat.le_of_ble_eq_true rfl) (Nat.le_of_ble_eq_true rfl) (gh_r4 (Nat.le_of_ble_eq_true rfl)) (fun H9 L9 hp9 => gi_V C hp9 hg9 gh_cX1 q1657 q1658 q1659 q1660 mh_X1 np6 rfl hl.1.1 dX0_wouldFall_4 rfl) h (gh_K0_b _ hk) (fun v2 g h => ?_) (fun e g h => ?_)
  rotate_left
  ·
    by_cases c7 : e.1 = 16
    · replace h := gh_ift h c7
      refine gh_catch C (q := (RJ14, TJ14, 6)) (by rw [c7]; exact gh_cJ14) [] ⟨0, 9, 12, 21⟩ [] rfl (fun _ h => nomatch h) rfl (by decide) q1482 q411 ?_
      exact w_X0_wouldFall_12 C (some e.2) (gl_sub hl [] rfl) h hk
    replace h := gh_iff h c7
    exact gh_stk_inv h
  refine gr_i2l (pc := 7) (v := v2.toInt64) C rfl dX0_wouldFall_7 ?_
  rcases p2 with _ | a3
  · exact gh_stk_inv h
  replace h := gh_nn_ss h
  refine gr_last (pc := 8) C dX0_wouldFall_8 h fun g h => ?_
  refine gr_goto (pc := 9) (tgt := 15) C rfl dX0_wouldFall_9 ?_
  refine gr_iconst (pc := 15) (v := (0 : Int32)) C rfl dX0_wouldFall_15 ?_
  exact gr_iret (pc := 16) C dX0_wouldFall_16 h hk

theorem k_X0_wouldFall {l : Launch} (hst : l.stackTraces = false) (p0 : Option Nat) (p1 : Int32) (p2 : Option Nat) : gh_Ct l yX0_wouldFall 50 1090 (f_X0_wouldFall p0 p1 p2) gh_rI [va_rf p0, .int p1, va_rf p2] := gh_introW2 (L1 := 1075) hst (by decide +kernel) q1656 q74 rfl ⟨gh_cat _, rfl, gh_cat _, trivial⟩ (Nat.le_of_ble_eq_true rfl) fun x o ls hl C h hk => w_X0_wouldFall C p0 p1 p2 hl h hk
-- GargoyleTowerLaw.wouldFallAgain(LGargoyleTower;I[J)I
abbrev hh_X0_wouldFallAgain : List ExceptionTableEntry := tableOf [(0, 9, 12, 21)]
noncomputable def f_X0_wouldFallAgain_12 (s0 : Option Nat) : gh_M Int32 :=
  gh_ret (1 : Int32)
theorem w_X0_wouldFallAgain_12 {x : gh_C} {g : gh_G} {o : (Int32 ⊕ gh_X) × gh_G} {ls : Array Slot} (C : gh_K x cX0_wouldFallAgain "GargoyleTowerLaw" 4 (some .int) "wouldFallAgain" 9 155 hh_X0_wouldFallAgain) (s0 : Option Nat) (hl : gh_lv ls 4 []) (h : gh_run (f_X0_wouldFallAgain_12 s0) g = some o) (hk : (gh_K0 x gh_rI) o) : gh_Wd x g (F0 (gh_cm x) 12 ls [va_rf s0]) := by
  unfold f_X0_wouldFallAgain_12 at h
  refine gr_astore_n (pc := 12) (i := 3) (l' := [(3, va_rf s0)]) C rfl hl (Nat.le_of_ble_eq_true rfl) rfl dX0_wouldFallAgain_12 fun ls hl => ?_
  refine gr_iconst (pc := 13) (v := (1 : Int32)) C rfl dX0_wouldFallAgain_13 ?_
  exact gr_iret (pc := 14) C dX0_wouldFallAgain_14 h hk

noncomputable def f_X0_wouldFallAgain (p0 : Option Nat) (p1 : Int32) (p2 : Option Nat) : gh_M Int32 :=
  gh_nn p0 fun a1 =>
  gh_bd (gh_is a1 0) fun _ =>
  gh_tc (f_X1_wouldFallAgain a1 p1) (fun v2 =>
  gh_nn p2 fun a3 =>
  gh_bd (gh_last a3 (0 : Int32) v2.toInt64) fun _ =>
  gh_ret (0 : Int32))
  (fun e => if e.1 = 16 then (f_X0_wouldFallAgain_12 (some e.2)) else gh_stk)
theorem w_X0_wouldFallAgain {x : gh_C} {g : gh_G} {o : (Int32 ⊕ gh_X) × gh_G} {ls : Array Slot} (C : gh_K x cX0_wouldFallAgain "GargoyleTowerLaw" 4 (some .int) "wouldFallAgain" 9 155 hh_X0_wouldFallAgain) (p0 : Option Nat) (p1 : Int32) (p2 : Option Nat) (hl : gh_lv ls 4 [(0, va_rf p0), (1, .int p1), (2, va_rf p2)]) (h : gh_run (f_X0_wouldFallAgain p0 p1 p2) g = some o) (hk : (gh_K0 x gh_rI) o) : gh_Wd x g (F0 (gh_cm x) 0 ls []) := by
  unfold f_X0_wouldFallAgain at h
  refine gr_aload_n (pc := 0) (i := 2) C rfl (gl_at hl 2 rfl) dX0_wouldFallAgain_0 ?_
  refine gr_iconst (pc := 1) (v := (0 : Int32)) C rfl dX0_wouldFallAgain_1 ?_
  refine gr_aload_n (pc := 2) (i := 0) C rfl (gl_at hl 0 rfl) dX0_wouldFallAgain_2 ?_
  refine gr_iload_n (pc := 3) (i := 1) C rfl (gl_at hl 1 rfl) dX0_wouldFallAgain_3 ?_
  rcases p0 with _ | a1
  · exact gh_stk_inv h
  replace h := gh_nn_ss h
  obtain ⟨⟨fs9, hg9⟩, h⟩ := gh_is_inv h
  refine gh_callI (pc := 4) (rest := [.int (0 : Int32), va_rf p2]) C (k_X1_wouldFallAgain C.tr a1 p1) (Nat.le_of_ble_eq_true rfl) (Nat.le_of_ble_eq_true rfl) (gh_r4 (Nat.le_of_ble_eq_true rfl)) (fun H9 L9 hp9 => gi_V C hp9 hg9 gh_cX1 q1665 q1666 q1667 q1668 mh_X1 np6 rfl hl.1.1 dX0_wouldFallAgain_4 rfl) h (gh_K0_b _ hk) (fun v2 g h => ?_) (fun e g h => ?_)
  rotate_left
  ·
    by_cases c7 : e.1 = 16
    · replace h := gh_ift h c7
      refine gh_catch C (q := (RJ14, TJ14, 6)) (by rw [c7]; exact gh_cJ14) [] ⟨0, 9, 12, 21⟩ [] rfl (fun _ h => nomatch h) rfl (by decide) q1482 q411 ?_
      exact w_X0_wouldFallAgain_12 C (some e.2) (gl_sub hl [] rfl) h hk
    replace h := gh_iff h c7
    exact gh_stk_inv h
  refine gr_i2l (pc := 7) (v := v2.toInt64) C rfl dX0_wouldFallAgain_7 ?_
  rcases p2 with _ | a3
  · exact gh_stk_inv h
  replace h := gh_nn_ss h
  refine gr_last (pc := 8) C dX0_wouldFallAgain_8 h fun g h => ?_
  refine gr_goto (pc := 9) (tgt := 15) C rfl dX0_wouldFallAgain_9 ?_
  refine gr_iconst (pc := 15) (v := (0 : Int32)) C rfl dX0_wouldFallAgain_15 ?_
  exact gr_iret (pc := 16) C dX0_wouldFallAgain_16 h hk

theorem k_X0_wouldFallAgain {l : Launch} (hst : l.stackTraces = false) (p0 : Option Nat) (p1 : Int32) (p2 : Option Nat) : gh_Ct l yX0_wouldFallAgain 9 170 (f_X0_wouldFallAgain p0 p1 p2) gh_rI [va_rf p0, .int p1, va_rf p2] := gh_introW2 (L1 := 155) hst (by decide +kernel) q1664 q74 rfl ⟨gh_cat _, rfl, gh_cat _, trivial⟩ (Nat.le_of_ble_eq_true rfl) fun x o ls hl C h hk => w_X0_wouldFallAgain C p0 p1 p2 hl h hk
-- GargoyleTowerLaw.push(LGargoyleTower;I[J)I
abbrev hh_X0_push : List ExceptionTableEntry := tableOf [(0, 9, 12, 21), (0, 9, 15, 15)]
noncomputable def f_X0_push_15 (s0 : Option Nat) : gh_M Int32 :=
  gh_ret (2 : Int32)
theorem w_X0_push_15 {x : gh_C} {g : gh_G} {o : (Int32 ⊕ gh_X) × gh_G} {ls : Array Slot} (C : gh_K x cX0_push "GargoyleTowerLaw" 4 (some .int) "push" 55 1184 hh_X0_push) (s0 : Option Nat) (hl : gh_lv ls 4 []) (h : gh_run (f_X0_push_15 s0) g = some o) (hk : (gh_K0 x gh_rI) o) : gh_Wd x g (F0 (gh_cm x) 15 ls [va_rf s0]) := by
  unfold f_X0_push_15 at h
  refine gr_astore_n (pc := 15) (i := 3) (l' := [(3, va_rf s0)]) C rfl hl (Nat.le_of_ble_eq_true rfl) rfl dX0_push_15 fun ls hl => ?_
  refine gr_iconst (pc := 16) (v := (2 : Int32)) C rfl dX0_push_16 ?_
  exact gr_iret (pc := 17) C dX0_push_17 h hk

noncomputable def f_X0_push_12 (s0 : Option Nat) : gh_M Int32 :=
  gh_ret (1 : Int32)
theorem w_X0_push_12 {x : gh_C} {g : gh_G} {o : (Int32 ⊕ gh_X) × gh_G} {ls : Array Slot} (C : gh_K x cX0_push "GargoyleTowerLaw" 4 (some .int) "push" 55 1184 hh_X0_push) (s0 : Option Nat) (hl : gh_lv ls 4 []) (h : gh_run (f_X0_push_12 s0) g = some o) (hk : (gh_K0 x gh_rI) o) : gh_Wd x g (F0 (gh_cm x) 12 ls [va_rf s0]) := by
  unfold f_X0_push_12 at h
  refine gr_astore_n (pc := 12) (i := 3) (l' := [(3, va_rf s0)]) C rfl hl (Nat.le_of_ble_eq_true rfl) rfl dX0_push_12 fun ls hl => ?_
  refine gr_iconst (pc := 13) (v := (1 : Int32)) C rfl dX0_push_13 ?_
  exact gr_iret (pc := 14) C dX0_push_14 h hk

noncomputable def f_X0_push (p0 : Option Nat) (p1 : Int32) (p2 : Option Nat) : gh_M Int32 :=
  gh_nn p0 fun a1 =>
  gh_bd (gh_is a1 0) fun _ =>
  gh_tc (f_X1_push a1 p1) (fun v2 =>
  gh_nn p2 fun a3 =>
  gh_bd (gh_last a3 (0 : Int32) v2.toInt64) fun _ =>
  gh_ret (0 : Int32))
  (fun e => if e.1 = 16 then (f_X0_push_12 (some e.2)) else if e.1 = 20 then (f_X0_push_15 (some e.2)) else gh_stk)
theorem w_X0_push {x : gh_C} {g : gh_G} {o : (Int32 ⊕ gh_X) × gh_G} {ls : Array Slot} (C : gh_K x cX0_push "GargoyleTowerLaw" 4 (some .int) "push" 55 1184 hh_X0_push) (p0 : Option Nat) (p1 : Int32) (p2 : Option Nat) (hl : gh_lv ls 4 [(0, va_rf p0), (1, .int p1), (2, va_rf p2)]) (h : gh_run (f_X0_push p0 p1 p2) g = some o) (hk : (gh_K0 x gh_rI) o) : gh_Wd x g (F0 (gh_cm x) 0 ls []) := by
  unfold f_X0_push at h
  refine gr_aload_n (pc := 0) (i := 2) C rfl (gl_at hl 2 rfl) dX0_push_0 ?_
  refine gr_iconst (pc := 1) (v := (0 : Int32)) C rfl dX0_push_1 ?_
  refine gr_aload_n (pc := 2) (i := 0) C rfl (gl_at hl 0 rfl) dX0_push_2 ?_
  refine gr_iload_n (pc := 3) (i := 1) C rfl (gl_at hl 1 rfl) dX0_push_3 ?_
  rcases p0 with _ | a1
  · exact gh_stk_inv h
  replace h := gh_nn_ss h
  obtain ⟨⟨fs9, hg9⟩, h⟩ := gh_is_inv h
  refine gh_callI (pc := 4) (rest := [.int (0 : Int32), va_rf p2]) C (k_X1_push C.tr a1 p1) (Nat.le_of_ble_eq_true rfl) (Nat.le_of_ble_eq_true rfl) (gh_r4 (Nat.le_of_ble_eq_true rfl)) (fun H9 L9 hp9 => gi_V C hp9 hg9 gh_cX1 q1678 q1679 q1680 q1681 mh_X1 np6 rfl hl.1.1 dX0_push_4 rfl) h (gh_K0_b _ hk) (fun v2 g h => ?_) (fun e g h => ?_)
  rotate_left
  ·
    by_cases c7 : e.1 = 16
    · replace h := gh_ift h c7
      refine gh_catch C (q := (RJ14, TJ14, 6)) (by rw [c7]; exact gh_cJ14) [] ⟨0, 9, 12, 21⟩ [⟨0, 9, 15, 15⟩] rfl (fun _ h => nomatch h) rfl (by decide) q1482 q411 ?_
      exact w_X0_push_12 C (some e.2) (gl_sub hl [] rfl) h hk
    replace h := gh_iff h c7
    by_cases c7 : e.1 = 20
    · replace h := gh_ift h c7
      refine gh_catch C (q := (RJ23, TJ23, 6)) (by rw [c7]; exact gh_cJ23) [⟨0, 9, 12, 21⟩] ⟨0, 9, 15, 15⟩ [] rfl (List.forall_mem_cons.mpr ⟨Or.inr ⟨by decide, _, q1482, by decide +kernel⟩, (fun _ h => nomatch h)⟩) rfl (by decide) q1101 q1466 ?_
      exact w_X0_push_15 C (some e.2) (gl_sub hl [] rfl) h hk
    replace h := gh_iff h c7
    exact gh_stk_inv h
  refine gr_i2l (pc := 7) (v := v2.toInt64) C rfl dX0_push_7 ?_
  rcases p2 with _ | a3
  · exact gh_stk_inv h
  replace h := gh_nn_ss h
  refine gr_last (pc := 8) C dX0_push_8 h fun g h => ?_
  refine gr_goto (pc := 9) (tgt := 18) C rfl dX0_push_9 ?_
  refine gr_iconst (pc := 18) (v := (0 : Int32)) C rfl dX0_push_18 ?_
  exact gr_iret (pc := 19) C dX0_push_19 h hk

theorem k_X0_push {l : Launch} (hst : l.stackTraces = false) (p0 : Option Nat) (p1 : Int32) (p2 : Option Nat) : gh_Ct l yX0_push 55 1199 (f_X0_push p0 p1 p2) gh_rI [va_rf p0, .int p1, va_rf p2] := gh_introW2 (L1 := 1184) hst (by decide +kernel) q1677 q74 rfl ⟨gh_cat _, rfl, gh_cat _, trivial⟩ (Nat.le_of_ble_eq_true rfl) fun x o ls hl C h hk => w_X0_push C p0 p1 p2 hl h hk
-- GargoyleTowerLaw.commission(LGargoyleTower;III[J)I
abbrev hh_X0_commission : List ExceptionTableEntry := tableOf [(0, 12, 15, 21), (0, 12, 19, 13), (0, 12, 23, 15)]
noncomputable def f_X0_commission_23 (s0 : Option Nat) : gh_M Int32 :=
  gh_ret (3 : Int32)
theorem w_X0_commission_23 {x : gh_C} {g : gh_G} {o : (Int32 ⊕ gh_X) × gh_G} {ls : Array Slot} (C : gh_K x cX0_commission "GargoyleTowerLaw" 6 (some .int) "commission" 55 1186 hh_X0_commission) (s0 : Option Nat) (hl : gh_lv ls 6 []) (h : gh_run (f_X0_commission_23 s0) g = some o) (hk : (gh_K0 x gh_rI) o) : gh_Wd x g (F0 (gh_cm x) 23 ls [va_rf s0]) := by
  unfold f_X0_commission_23 at h
  refine gr_astore (pc := 23) (i := 5) (l' := [(5, va_rf s0)]) C hl (Nat.le_of_ble_eq_true rfl) rfl dX0_commission_23 fun ls hl => ?_
  refine gr_iconst (pc := 25) (v := (3 : Int32)) C rfl dX0_commission_25 ?_
  exact gr_iret (pc := 26) C dX0_commission_26 h hk

noncomputable def f_X0_commission_19 (s0 : Option Nat) : gh_M Int32 :=
  gh_ret (2 : Int32)
theorem w_X0_commission_19 {x : gh_C} {g : gh_G} {o : (Int32 ⊕ gh_X) × gh_G} {ls : Array Slot} (C : gh_K x cX0_commission "GargoyleTowerLaw" 6 (some .int) "commission" 55 1186 hh_X0_commission) (s0 : Option Nat) (hl : gh_lv ls 6 []) (h : gh_run (f_X0_commission_19 s0) g = some o) (hk : (gh_K0 x gh_rI) o) : gh_Wd x g (F0 (gh_cm x) 19 ls [va_rf s0]) := by
  unfold f_X0_commission_19 at h
  refine gr_astore (pc := 19) (i := 5) (l' := [(5, va_rf s0)]) C hl (Nat.le_of_ble_eq_true rfl) rfl dX0_commission_19 fun ls hl => ?_
  refine gr_iconst (pc := 21) (v := (2 : Int32)) C rfl dX0_commission_21 ?_
  exact gr_iret (pc := 22) C dX0_commission_22 h hk

noncomputable def f_X0_commission_15 (s0 : Option Nat) : gh_M Int32 :=
  gh_ret (1 : Int32)
theorem w_X0_commission_15 {x : gh_C} {g : gh_G} {o : (Int32 ⊕ gh_X) × gh_G} {ls : Array Slot} (C : gh_K x cX0_commission "GargoyleTowerLaw" 6 (some .int) "commission" 55 1186 hh_X0_commission) (s0 : Option Nat) (hl : gh_lv ls 6 []) (h : gh_run (f_X0_commission_15 s0) g = some o) (hk : (gh_K0 x gh_rI) o) : gh_Wd x g (F0 (gh_cm x) 15 ls [va_rf s0]) := by
  unfold f_X0_commission_15 at h
  refine gr_astore (pc := 15) (i := 5) (l' := [(5, va_rf s0)]) C hl (Nat.le_of_ble_eq_true rfl) rfl dX0_commission_15 fun ls hl => ?_
  refine gr_iconst (pc := 17) (v := (1 : Int32)) C rfl dX0_commission_17 ?_
  exact gr_iret (pc := 18) C dX0_commission_18 h hk

noncomputable def f_X0_commission (p0 : Option Nat) (p1 : Int32) (p2 : Int32) (p3 : Int32) (p4 : Option Nat) : gh_M Int32 :=
  gh_nn p0 fun a1 =>
  gh_bd (gh_is a1 0) fun _ =>
  gh_tc (f_X1_commission a1 p1 p2 p3) (fun v2 =>
  gh_nn p4 fun a3 =>
  gh_bd (gh_last a3 (0 : Int32) v2.toInt64) fun _ =>
  gh_ret (0 : Int32))
  (fun e => if e.1 = 16 then (f_X0_commission_15 (some e.2)) else if e.1 = 17 then (f_X0_commission_19 (some e.2)) else if e.1 = 20 then (f_X0_commission_23 (some e.2)) else gh_stk)
theorem w_X0_commission {x : gh_C} {g : gh_G} {o : (Int32 ⊕ gh_X) × gh_G} {ls : Array Slot} (C : gh_K x cX0_commission "GargoyleTowerLaw" 6 (some .int) "commission" 55 1186 hh_X0_commission) (p0 : Option Nat) (p1 : Int32) (p2 : Int32) (p3 : Int32) (p4 : Option Nat) (hl : gh_lv ls 6 [(0, va_rf p0), (1, .int p1), (2, .int p2), (3, .int p3), (4, va_rf p4)]) (h : gh_run (f_X0_commission p0 p1 p2 p3 p4) g = some o) (hk : (gh_K0 x gh_rI) o) : gh_Wd x g (F0 (gh_cm x) 0 ls []) := by
  unfold f_X0_commission at h
  refine gr_aload (pc := 0) (i := 4) C (gl_at hl 4 rfl) dX0_commission_0 ?_
  refine gr_iconst (pc := 2) (v := (0 : Int32)) C rfl dX0_commission_2 ?_
  refine gr_aload_n (pc := 3) (i := 0) C rfl (gl_at hl 0 rfl) dX0_commission_3 ?_
  refine gr_iload_n (pc := 4) (i := 1) C rfl (gl_at hl 1 rfl) dX0_commission_4 ?_
  refine gr_iload_n (pc := 5) (i := 2) C rfl (gl_at hl 2 rfl) dX0_commission_5 ?_
  refine gr_iload_n (pc := 6) (i := 3) C rfl (gl_at hl 3 rfl) dX0_commission_6 ?_
  rcases p0 with _ | a1
  · exact gh_stk_inv h
  replace h := gh_nn_ss h
  obtain ⟨⟨fs9, hg9⟩, h⟩ := gh_is_inv h
  refine gh_callI (pc := 7) (rest := [.int (0 : Int32), va_rf p4]) C (k_X1_commission C.tr a1 p1 p2 p3) (Nat.le_of_ble_eq_true rfl) (Nat.le_of_ble_eq_true rfl) (gh_r4 (Nat.le_of_ble_eq_true rfl)) (fun H9 L9 hp9 => gi_V C hp9 hg9 gh_cX1 q1686 q1687 q1688 q1689 mh_X1 np11 rfl hl.1.1 dX0_commission_7 rfl) h (gh_K0_b _ hk) (fun v2 g h => ?_) (fun e g h => ?_)
  rotate_left
  ·
    by_cases c7 : e.1 = 16
    · replace h := gh_ift h c7
      refine gh_catch C (q := (RJ14, TJ14, 6)) (by rw [c7]; exact gh_cJ14) [] ⟨0, 12, 15, 21⟩ [⟨0, 12, 19, 13⟩, ⟨0, 12, 23, 15⟩] rfl (fun _ h => nomatch h) rfl (by decide) q1482 q411 ?_
      exact w_X0_commission_15 C (some e.2) (gl_sub hl [] rfl) h hk
    replace h := gh_iff h c7
    by_cases c7 : e.1 = 17
    · replace h := gh_ift h c7
      refine gh_catch C (q := (RJ20, TJ20, 6)) (by rw [c7]; exact gh_cJ20) [⟨0, 12, 15, 21⟩] ⟨0, 12, 19, 13⟩ [⟨0, 12, 23, 15⟩] rfl (List.forall_mem_cons.mpr ⟨Or.inr ⟨by decide, _, q1482, by decide +kernel⟩, (fun _ h => nomatch h)⟩) rfl (by decide) q1100 q648 ?_
      exact w_X0_commission_19 C (some e.2) (gl_sub hl [] rfl) h hk
    replace h := gh_iff h c7
    by_cases c7 : e.1 = 20
    · replace h := gh_ift h c7
      refine gh_catch C (q := (RJ23, TJ23, 6)) (by rw [c7]; exact gh_cJ23) [⟨0, 12, 15, 21⟩, ⟨0, 12, 19, 13⟩] ⟨0, 12, 23, 15⟩ [] rfl (List.forall_mem_cons.mpr ⟨Or.inr ⟨by decide, _, q1482, by decide +kernel⟩, (List.forall_mem_cons.mpr ⟨Or.inr ⟨by decide, _, q1100, by decide +kernel⟩, (fun _ h => nomatch h)⟩)⟩) rfl (by decide) q1101 q1466 ?_
      exact w_X0_commission_23 C (some e.2) (gl_sub hl [] rfl) h hk
    replace h := gh_iff h c7
    exact gh_stk_inv h
  refine gr_i2l (pc := 10) (v := v2.toInt64) C rfl dX0_commission_10 ?_
  rcases p4 with _ | a3
  · exact gh_stk_inv h
  replace h := gh_nn_ss h
  refine gr_last (pc := 11) C dX0_commission_11 h fun g h => ?_
  refine gr_goto (pc := 12) (tgt := 27) C rfl dX0_commission_12 ?_
  refine gr_iconst (pc := 27) (v := (0 : Int32)) C rfl dX0_commission_27 ?_
  exact gr_iret (pc := 28) C dX0_commission_28 h hk

theorem k_X0_commission {l : Launch} (hst : l.stackTraces = false) (p0 : Option Nat) (p1 : Int32) (p2 : Int32) (p3 : Int32) (p4 : Option Nat) : gh_Ct l yX0_commission 55 1203 (f_X0_commission p0 p1 p2 p3 p4) gh_rI [va_rf p0, .int p1, .int p2, .int p3, va_rf p4] := gh_introW2 (L1 := 1186) hst (by decide +kernel) q1685 q74 rfl ⟨gh_cat _, rfl, rfl, rfl, gh_cat _, trivial⟩ (Nat.le_of_ble_eq_true rfl) fun x o ls hl C h hk => w_X0_commission C p0 p1 p2 p3 p4 hl h hk
-- GargoyleTowerLaw.deliver(LGargoyleTower;II[J)I
abbrev hh_X0_deliver : List ExceptionTableEntry := tableOf [(0, 10, 13, 21), (0, 10, 17, 15)]
noncomputable def f_X0_deliver_17 (s0 : Option Nat) : gh_M Int32 :=
  gh_ret (2 : Int32)
theorem w_X0_deliver_17 {x : gh_C} {g : gh_G} {o : (Int32 ⊕ gh_X) × gh_G} {ls : Array Slot} (C : gh_K x cX0_deliver "GargoyleTowerLaw" 5 (some .int) "deliver" 55 1185 hh_X0_deliver) (s0 : Option Nat) (hl : gh_lv ls 5 []) (h : gh_run (f_X0_deliver_17 s0) g = some o) (hk : (gh_K0 x gh_rI) o) : gh_Wd x g (F0 (gh_cm x) 17 ls [va_rf s0]) := by
  unfold f_X0_deliver_17 at h
  refine gr_astore (pc := 17) (i := 4) (l' := [(4, va_rf s0)]) C hl (Nat.le_of_ble_eq_true rfl) rfl dX0_deliver_17 fun ls hl => ?_
  refine gr_iconst (pc := 19) (v := (2 : Int32)) C rfl dX0_deliver_19 ?_
  exact gr_iret (pc := 20) C dX0_deliver_20 h hk

noncomputable def f_X0_deliver_13 (s0 : Option Nat) : gh_M Int32 :=
  gh_ret (1 : Int32)
theorem w_X0_deliver_13 {x : gh_C} {g : gh_G} {o : (Int32 ⊕ gh_X) × gh_G} {ls : Array Slot} (C : gh_K x cX0_deliver "GargoyleTowerLaw" 5 (some .int) "deliver" 55 1185 hh_X0_deliver) (s0 : Option Nat) (hl : gh_lv ls 5 []) (h : gh_run (f_X0_deliver_13 s0) g = some o) (hk : (gh_K0 x gh_rI) o) : gh_Wd x g (F0 (gh_cm x) 13 ls [va_rf s0]) := by
  unfold f_X0_deliver_13 at h
  refine gr_astore (pc := 13) (i := 4) (l' := [(4, va_rf s0)]) C hl (Nat.le_of_ble_eq_true rfl) rfl dX0_deliver_13 fun ls hl => ?_
  refine gr_iconst (pc := 15) (v := (1 : Int32)) C rfl dX0_deliver_15 ?_
  exact gr_iret (pc := 16) C dX0_deliver_16 h hk

noncomputable def f_X0_deliver (p0 : Option Nat) (p1 : Int32) (p2 : Int32) (p3 : Option Nat) : gh_M Int32 :=
  gh_nn p0 fun a1 =>
  gh_bd (gh_is a1 0) fun _ =>
  gh_tc (f_X1_deliver a1 p1 p2) (fun v2 =>
  gh_nn p3 fun a3 =>
  gh_bd (gh_last a3 (0 : Int32) v2.toInt64) fun _ =>
  gh_ret (0 : Int32))
  (fun e => if e.1 = 16 then (f_X0_deliver_13 (some e.2)) else if e.1 = 20 then (f_X0_deliver_17 (some e.2)) else gh_stk)
theorem w_X0_deliver {x : gh_C} {g : gh_G} {o : (Int32 ⊕ gh_X) × gh_G} {ls : Array Slot} (C : gh_K x cX0_deliver "GargoyleTowerLaw" 5 (some .int) "deliver" 55 1185 hh_X0_deliver) (p0 : Option Nat) (p1 : Int32) (p2 : Int32) (p3 : Option Nat) (hl : gh_lv ls 5 [(0, va_rf p0), (1, .int p1), (2, .int p2), (3, va_rf p3)]) (h : gh_run (f_X0_deliver p0 p1 p2 p3) g = some o) (hk : (gh_K0 x gh_rI) o) : gh_Wd x g (F0 (gh_cm x) 0 ls []) := by
  unfold f_X0_deliver at h
  refine gr_aload_n (pc := 0) (i := 3) C rfl (gl_at hl 3 rfl) dX0_deliver_0 ?_
  refine gr_iconst (pc := 1) (v := (0 : Int32)) C rfl dX0_deliver_1 ?_
  refine gr_aload_n (pc := 2) (i := 0) C rfl (gl_at hl 0 rfl) dX0_deliver_2 ?_
  refine gr_iload_n (pc := 3) (i := 1) C rfl (gl_at hl 1 rfl) dX0_deliver_3 ?_
  refine gr_iload_n (pc := 4) (i := 2) C rfl (gl_at hl 2 rfl) dX0_deliver_4 ?_
  rcases p0 with _ | a1
  · exact gh_stk_inv h
  replace h := gh_nn_ss h
  obtain ⟨⟨fs9, hg9⟩, h⟩ := gh_is_inv h
  refine gh_callI (pc := 5) (rest := [.int (0 : Int32), va_rf p3]) C (k_X1_deliver C.tr a1 p1 p2) (Nat.le_of_ble_eq_true rfl) (Nat.le_of_ble_eq_true rfl) (gh_r4 (Nat.le_of_ble_eq_true rfl)) (fun H9 L9 hp9 => gi_V C hp9 hg9 gh_cX1 q1695 q1696 q1697 q1698 mh_X1 np1 rfl hl.1.1 dX0_deliver_5 rfl) h (gh_K0_b _ hk) (fun v2 g h => ?_) (fun e g h => ?_)
  rotate_left
  ·
    by_cases c7 : e.1 = 16
    · replace h := gh_ift h c7
      refine gh_catch C (q := (RJ14, TJ14, 6)) (by rw [c7]; exact gh_cJ14) [] ⟨0, 10, 13, 21⟩ [⟨0, 10, 17, 15⟩] rfl (fun _ h => nomatch h) rfl (by decide) q1482 q411 ?_
      exact w_X0_deliver_13 C (some e.2) (gl_sub hl [] rfl) h hk
    replace h := gh_iff h c7
    by_cases c7 : e.1 = 20
    · replace h := gh_ift h c7
      refine gh_catch C (q := (RJ23, TJ23, 6)) (by rw [c7]; exact gh_cJ23) [⟨0, 10, 13, 21⟩] ⟨0, 10, 17, 15⟩ [] rfl (List.forall_mem_cons.mpr ⟨Or.inr ⟨by decide, _, q1482, by decide +kernel⟩, (fun _ h => nomatch h)⟩) rfl (by decide) q1101 q1466 ?_
      exact w_X0_deliver_17 C (some e.2) (gl_sub hl [] rfl) h hk
    replace h := gh_iff h c7
    exact gh_stk_inv h
  refine gr_i2l (pc := 8) (v := v2.toInt64) C rfl dX0_deliver_8 ?_
  rcases p3 with _ | a3
  · exact gh_stk_inv h
  replace h := gh_nn_ss h
  refine gr_last (pc := 9) C dX0_deliver_9 h fun g h => ?_
  refine gr_goto (pc := 10) (tgt := 21) C rfl dX0_deliver_10 ?_
  refine gr_iconst (pc := 21) (v := (0 : Int32)) C rfl dX0_deliver_21 ?_
  exact gr_iret (pc := 22) C dX0_deliver_22 h hk

theorem k_X0_deliver {l : Launch} (hst : l.stackTraces = false) (p0 : Option Nat) (p1 : Int32) (p2 : Int32) (p3 : Option Nat) : gh_Ct l yX0_deliver 55 1201 (f_X0_deliver p0 p1 p2 p3) gh_rI [va_rf p0, .int p1, .int p2, va_rf p3] := gh_introW2 (L1 := 1185) hst (by decide +kernel) q1694 q74 rfl ⟨gh_cat _, rfl, rfl, gh_cat _, trivial⟩ (Nat.le_of_ble_eq_true rfl) fun x o ls hl C h hk => w_X0_deliver C p0 p1 p2 p3 hl h hk
-- GargoyleTowerLaw.commissionOf(LGargoyleTower;II[J)I
abbrev hh_X0_commissionOf : List ExceptionTableEntry := tableOf [(0, 10, 13, 21), (0, 10, 17, 13)]
noncomputable def f_X0_commissionOf_17 (s0 : Option Nat) : gh_M Int32 :=
  gh_ret (2 : Int32)
theorem w_X0_commissionOf_17 {x : gh_C} {g : gh_G} {o : (Int32 ⊕ gh_X) × gh_G} {ls : Array Slot} (C : gh_K x cX0_commissionOf "GargoyleTowerLaw" 5 (some .int) "commissionOf" 10 180 hh_X0_commissionOf) (s0 : Option Nat) (hl : gh_lv ls 5 []) (h : gh_run (f_X0_commissionOf_17 s0) g = some o) (hk : (gh_K0 x gh_rI) o) : gh_Wd x g (F0 (gh_cm x) 17 ls [va_rf s0]) := by
  unfold f_X0_commissionOf_17 at h
  refine gr_astore (pc := 17) (i := 4) (l' := [(4, va_rf s0)]) C hl (Nat.le_of_ble_eq_true rfl) rfl dX0_commissionOf_17 fun ls hl => ?_
  refine gr_iconst (pc := 19) (v := (2 : Int32)) C rfl dX0_commissionOf_19 ?_
  exact gr_iret (pc := 20) C dX0_commissionOf_20 h hk

noncomputable def f_X0_commissionOf_13 (s0 : Option Nat) : gh_M Int32 :=
  gh_ret (1 : Int32)
theorem w_X0_commissionOf_13 {x : gh_C} {g : gh_G} {o : (Int32 ⊕ gh_X) × gh_G} {ls : Array Slot} (C : gh_K x cX0_commissionOf "GargoyleTowerLaw" 5 (some .int) "commissionOf" 10 180 hh_X0_commissionOf) (s0 : Option Nat) (hl : gh_lv ls 5 []) (h : gh_run (f_X0_commissionOf_13 s0) g = some o) (hk : (gh_K0 x gh_rI) o) : gh_Wd x g (F0 (gh_cm x) 13 ls [va_rf s0]) := by
  unfold f_X0_commissionOf_13 at h
  refine gr_astore (pc := 13) (i := 4) (l' := [(4, va_rf s0)]) C hl (Nat.le_of_ble_eq_true rfl) rfl dX0_commissionOf_13 fun ls hl => ?_
  refine gr_iconst (pc := 15) (v := (1 : Int32)) C rfl dX0_commissionOf_15 ?_
  exact gr_iret (pc := 16) C dX0_commissionOf_16 h hk

noncomputable def f_X0_commissionOf (p0 : Option Nat) (p1 : Int32) (p2 : Int32) (p3 : Option Nat) : gh_M Int32 :=
  gh_nn p0 fun a1 =>
  gh_bd (gh_is a1 0) fun _ =>
  gh_tc (f_X1_commissionOf a1 p1 p2) (fun v2 =>
  gh_nn p3 fun a3 =>
  gh_bd (gh_last a3 (0 : Int32) v2.toInt64) fun _ =>
  gh_ret (0 : Int32))
  (fun e => if e.1 = 16 then (f_X0_commissionOf_13 (some e.2)) else if e.1 = 17 then (f_X0_commissionOf_17 (some e.2)) else gh_stk)
theorem w_X0_commissionOf {x : gh_C} {g : gh_G} {o : (Int32 ⊕ gh_X) × gh_G} {ls : Array Slot} (C : gh_K x cX0_commissionOf "GargoyleTowerLaw" 5 (some .int) "commissionOf" 10 180 hh_X0_commissionOf) (p0 : Option Nat) (p1 : Int32) (p2 : Int32) (p3 : Option Nat) (hl : gh_lv ls 5 [(0, va_rf p0), (1, .int p1), (2, .int p2), (3, va_rf p3)]) (h : gh_run (f_X0_commissionOf p0 p1 p2 p3) g = some o) (hk : (gh_K0 x gh_rI) o) : gh_Wd x g (F0 (gh_cm x) 0 ls []) := by
  unfold f_X0_commissionOf at h
  refine gr_aload_n (pc := 0) (i := 3) C rfl (gl_at hl 3 rfl) dX0_commissionOf_0 ?_
  refine gr_iconst (pc := 1) (v := (0 : Int32)) C rfl dX0_commissionOf_1 ?_
  refine gr_aload_n (pc := 2) (i := 0) C rfl (gl_at hl 0 rfl) dX0_commissionOf_2 ?_
  refine gr_iload_n (pc := 3) (i := 1) C rfl (gl_at hl 1 rfl) dX0_commissionOf_3 ?_
  refine gr_iload_n (pc := 4) (i := 2) C rfl (gl_at hl 2 rfl) dX0_commissionOf_4 ?_
  rcases p0 with _ | a1
  · exact gh_stk_inv h
  replace h := gh_nn_ss h
  obtain ⟨⟨fs9, hg9⟩, h⟩ := gh_is_inv h
  refine gh_callI (pc := 5) (rest := [.int (0 : Int32), va_rf p3]) C (k_X1_commissionOf C.tr a1 p1 p2) (Nat.le_of_ble_eq_true rfl) (Nat.le_of_ble_eq_true rfl) (gh_r4 (Nat.le_of_ble_eq_true rfl)) (fun H9 L9 hp9 => gi_V C hp9 hg9 gh_cX1 q1703 q1704 q1705 q1706 mh_X1 np1 rfl hl.1.1 dX0_commissionOf_5 rfl) h (gh_K0_b _ hk) (fun v2 g h => ?_) (fun e g h => ?_)
  rotate_left
  ·
    by_cases c7 : e.1 = 16
    · replace h := gh_ift h c7
      refine gh_catch C (q := (RJ14, TJ14, 6)) (by rw [c7]; exact gh_cJ14) [] ⟨0, 10, 13, 21⟩ [⟨0, 10, 17, 13⟩] rfl (fun _ h => nomatch h) rfl (by decide) q1482 q411 ?_
      exact w_X0_commissionOf_13 C (some e.2) (gl_sub hl [] rfl) h hk
    replace h := gh_iff h c7
    by_cases c7 : e.1 = 17
    · replace h := gh_ift h c7
      refine gh_catch C (q := (RJ20, TJ20, 6)) (by rw [c7]; exact gh_cJ20) [⟨0, 10, 13, 21⟩] ⟨0, 10, 17, 13⟩ [] rfl (List.forall_mem_cons.mpr ⟨Or.inr ⟨by decide, _, q1482, by decide +kernel⟩, (fun _ h => nomatch h)⟩) rfl (by decide) q1100 q648 ?_
      exact w_X0_commissionOf_17 C (some e.2) (gl_sub hl [] rfl) h hk
    replace h := gh_iff h c7
    exact gh_stk_inv h
  refine gr_i2l (pc := 8) (v := v2.toInt64) C rfl dX0_commissionOf_8 ?_
  rcases p3 with _ | a3
  · exact gh_stk_inv h
  replace h := gh_nn_ss h
  refine gr_last (pc := 9) C dX0_commissionOf_9 h fun g h => ?_
  refine gr_goto (pc := 10) (tgt := 21) C rfl dX0_commissionOf_10 ?_
  refine gr_iconst (pc := 21) (v := (0 : Int32)) C rfl dX0_commissionOf_21 ?_
  exact gr_iret (pc := 22) C dX0_commissionOf_22 h hk

theorem k_X0_commissionOf {l : Launch} (hst : l.stackTraces = false) (p0 : Option Nat) (p1 : Int32) (p2 : Int32) (p3 : Option Nat) : gh_Ct l yX0_commissionOf 10 196 (f_X0_commissionOf p0 p1 p2 p3) gh_rI [va_rf p0, .int p1, .int p2, va_rf p3] := gh_introW2 (L1 := 180) hst (by decide +kernel) q1702 q74 rfl ⟨gh_cat _, rfl, rfl, gh_cat _, trivial⟩ (Nat.le_of_ble_eq_true rfl) fun x o ls hl C h hk => w_X0_commissionOf C p0 p1 p2 p3 hl h hk
-- GargoyleTowerLaw.paidFor(LGargoyleTower;I[J)I
abbrev hh_X0_paidFor : List ExceptionTableEntry := tableOf [(0, 9, 12, 21)]
noncomputable def f_X0_paidFor_12 (s0 : Option Nat) : gh_M Int32 :=
  gh_ret (1 : Int32)
theorem w_X0_paidFor_12 {x : gh_C} {g : gh_G} {o : (Int32 ⊕ gh_X) × gh_G} {ls : Array Slot} (C : gh_K x cX0_paidFor "GargoyleTowerLaw" 4 (some .int) "paidFor" 9 152 hh_X0_paidFor) (s0 : Option Nat) (hl : gh_lv ls 4 []) (h : gh_run (f_X0_paidFor_12 s0) g = some o) (hk : (gh_K0 x gh_rI) o) : gh_Wd x g (F0 (gh_cm x) 12 ls [va_rf s0]) := by
  unfold f_X0_paidFor_12 at h
  refine gr_astore_n (pc := 12) (i := 3) (l' := [(3, va_rf s0)]) C rfl hl (Nat.le_of_ble_eq_true rfl) rfl dX0_paidFor_12 fun ls hl => ?_
  refine gr_iconst (pc := 13) (v := (1 : Int32)) C rfl dX0_paidFor_13 ?_
  exact gr_iret (pc := 14) C dX0_paidFor_14 h hk

noncomputable def f_X0_paidFor (p0 : Option Nat) (p1 : Int32) (p2 : Option Nat) : gh_M Int32 :=
  gh_nn p0 fun a1 =>
  gh_bd (gh_is a1 0) fun _ =>
  gh_tc (f_X1_paidFor a1 p1) (fun v2 =>
  gh_nn p2 fun a3 =>
  gh_bd (gh_last a3 (0 : Int32) v2.toInt64) fun _ =>
  gh_ret (0 : Int32))
  (fun e => if e.1 = 16 then (f_X0_paidFor_12 (some e.2)) else gh_stk)
theorem w_X0_paidFor {x : gh_C} {g : gh_G} {o : (Int32 ⊕ gh_X) × gh_G} {ls : Array Slot} (C : gh_K x cX0_paidFor "GargoyleTowerLaw" 4 (some .int) "paidFor" 9 152 hh_X0_paidFor) (p0 : Option Nat) (p1 : Int32) (p2 : Option Nat) (hl : gh_lv ls 4 [(0, va_rf p0), (1, .int p1), (2, va_rf p2)]) (h : gh_run (f_X0_paidFor p0 p1 p2) g = some o) (hk : (gh_K0 x gh_rI) o) : gh_Wd x g (F0 (gh_cm x) 0 ls []) := by
  unfold f_X0_paidFor at h
  refine gr_aload_n (pc := 0) (i := 2) C rfl (gl_at hl 2 rfl) dX0_paidFor_0 ?_
  refine gr_iconst (pc := 1) (v := (0 : Int32)) C rfl dX0_paidFor_1 ?_
  refine gr_aload_n (pc := 2) (i := 0) C rfl (gl_at hl 0 rfl) dX0_paidFor_2 ?_
  refine gr_iload_n (pc := 3) (i := 1) C rfl (gl_at hl 1 rfl) dX0_paidFor_3 ?_
  rcases p0 with _ | a1
  · exact gh_stk_inv h
  replace h := gh_nn_ss h
  obtain ⟨⟨fs9, hg9⟩, h⟩ := gh_is_inv h
  refine gh_callI (pc := 4) (rest := [.int (0 : Int32), va_rf p2]) C (k_X1_paidFor C.tr a1 p1) (Nat.le_of_ble_eq_true rfl) (Nat.le_of_ble_eq_true rfl) (gh_r4 (Nat.le_of_ble_eq_true rfl)) (fun H9 L9 hp9 => gi_V C hp9 hg9 gh_cX1 q1715 q1716 q1717 q1718 mh_X1 np6 rfl hl.1.1 dX0_paidFor_4 rfl) h (gh_K0_b _ hk) (fun v2 g h => ?_) (fun e g h => ?_)
  rotate_left
  ·
    by_cases c7 : e.1 = 16
    · replace h := gh_ift h c7
      refine gh_catch C (q := (RJ14, TJ14, 6)) (by rw [c7]; exact gh_cJ14) [] ⟨0, 9, 12, 21⟩ [] rfl (fun _ h => nomatch h) rfl (by decide) q1482 q411 ?_
      exact w_X0_paidFor_12 C (some e.2) (gl_sub hl [] rfl) h hk
    replace h := gh_iff h c7
    exact gh_stk_inv h
  refine gr_i2l (pc := 7) (v := v2.toInt64) C rfl dX0_paidFor_7 ?_
  rcases p2 with _ | a3
  · exact gh_stk_inv h
  replace h := gh_nn_ss h
  refine gr_last (pc := 8) C dX0_paidFor_8 h fun g h => ?_
  refine gr_goto (pc := 9) (tgt := 15) C rfl dX0_paidFor_9 ?_
  refine gr_iconst (pc := 15) (v := (0 : Int32)) C rfl dX0_paidFor_15 ?_
  exact gr_iret (pc := 16) C dX0_paidFor_16 h hk

theorem k_X0_paidFor {l : Launch} (hst : l.stackTraces = false) (p0 : Option Nat) (p1 : Int32) (p2 : Option Nat) : gh_Ct l yX0_paidFor 9 167 (f_X0_paidFor p0 p1 p2) gh_rI [va_rf p0, .int p1, va_rf p2] := gh_introW2 (L1 := 152) hst (by decide +kernel) q1714 q74 rfl ⟨gh_cat _, rfl, gh_cat _, trivial⟩ (Nat.le_of_ble_eq_true rfl) fun x o ls hl C h hk => w_X0_paidFor C p0 p1 p2 hl h hk
-- GargoyleTowerLaw.seed(LGargoyleTower;I[J)I
abbrev hh_X0_seed : List ExceptionTableEntry := tableOf [(0, 9, 12, 13)]
noncomputable def f_X0_seed_12 (s0 : Option Nat) : gh_M Int32 :=
  gh_ret (1 : Int32)
theorem w_X0_seed_12 {x : gh_C} {g : gh_G} {o : (Int32 ⊕ gh_X) × gh_G} {ls : Array Slot} (C : gh_K x cX0_seed "GargoyleTowerLaw" 4 (some .int) "seed" 55 1184 hh_X0_seed) (s0 : Option Nat) (hl : gh_lv ls 4 []) (h : gh_run (f_X0_seed_12 s0) g = some o) (hk : (gh_K0 x gh_rI) o) : gh_Wd x g (F0 (gh_cm x) 12 ls [va_rf s0]) := by
  unfold f_X0_seed_12 at h
  refine gr_astore_n (pc := 12) (i := 3) (l' := [(3, va_rf s0)]) C rfl hl (Nat.le_of_ble_eq_true rfl) rfl dX0_seed_12 fun ls hl => ?_
  refine gr_iconst (pc := 13) (v := (1 : Int32)) C rfl dX0_seed_13 ?_
  exact gr_iret (pc := 14) C dX0_seed_14 h hk

noncomputable def f_X0_seed (p0 : Option Nat) (p1 : Int32) (p2 : Option Nat) : gh_M Int32 :=
  gh_nn p0 fun a1 =>
  gh_bd (gh_is a1 0) fun _ =>
  gh_tc (f_X1_seed a1 p1) (fun v2 =>
  gh_nn p2 fun a3 =>
  gh_bd (gh_last a3 (0 : Int32) v2.toInt64) fun _ =>
  gh_ret (0 : Int32))
  (fun e => if e.1 = 17 then (f_X0_seed_12 (some e.2)) else gh_stk)
theorem w_X0_seed {x : gh_C} {g : gh_G} {o : (Int32 ⊕ gh_X) × gh_G} {ls : Array Slot} (C : gh_K x cX0_seed "GargoyleTowerLaw" 4 (some .int) "seed" 55 1184 hh_X0_seed) (p0 : Option Nat) (p1 : Int32) (p2 : Option Nat) (hl : gh_lv ls 4 [(0, va_rf p0), (1, .int p1), (2, va_rf p2)]) (h : gh_run (f_X0_seed p0 p1 p2) g = some o) (hk : (gh_K0 x gh_rI) o) : gh_Wd x g (F0 (gh_cm x) 0 ls []) := by
  unfold f_X0_seed at h
  refine gr_aload_n (pc := 0) (i := 2) C rfl (gl_at hl 2 rfl) dX0_seed_0 ?_
  refine gr_iconst (pc := 1) (v := (0 : Int32)) C rfl dX0_seed_1 ?_
  refine gr_aload_n (pc := 2) (i := 0) C rfl (gl_at hl 0 rfl) dX0_seed_2 ?_
  refine gr_iload_n (pc := 3) (i := 1) C rfl (gl_at hl 1 rfl) dX0_seed_3 ?_
  rcases p0 with _ | a1
  · exact gh_stk_inv h
  replace h := gh_nn_ss h
  obtain ⟨⟨fs9, hg9⟩, h⟩ := gh_is_inv h
  refine gh_callI (pc := 4) (rest := [.int (0 : Int32), va_rf p2]) C (k_X1_seed C.tr a1 p1) (Nat.le_of_ble_eq_true rfl) (Nat.le_of_ble_eq_true rfl) (gh_r4 (Nat.le_of_ble_eq_true rfl)) (fun H9 L9 hp9 => gi_V C hp9 hg9 gh_cX1 q1722 q1723 q1724 q1725 mh_X1 np6 rfl hl.1.1 dX0_seed_4 rfl) h (gh_K0_b _ hk) (fun v2 g h => ?_) (fun e g h => ?_)
  rotate_left
  ·
    by_cases c7 : e.1 = 17
    · replace h := gh_ift h c7
      refine gh_catch C (q := (RJ20, TJ20, 6)) (by rw [c7]; exact gh_cJ20) [] ⟨0, 9, 12, 13⟩ [] rfl (fun _ h => nomatch h) rfl (by decide) q1100 q648 ?_
      exact w_X0_seed_12 C (some e.2) (gl_sub hl [] rfl) h hk
    replace h := gh_iff h c7
    exact gh_stk_inv h
  refine gr_i2l (pc := 7) (v := v2.toInt64) C rfl dX0_seed_7 ?_
  rcases p2 with _ | a3
  · exact gh_stk_inv h
  replace h := gh_nn_ss h
  refine gr_last (pc := 8) C dX0_seed_8 h fun g h => ?_
  refine gr_goto (pc := 9) (tgt := 15) C rfl dX0_seed_9 ?_
  refine gr_iconst (pc := 15) (v := (0 : Int32)) C rfl dX0_seed_15 ?_
  exact gr_iret (pc := 16) C dX0_seed_16 h hk

theorem k_X0_seed {l : Launch} (hst : l.stackTraces = false) (p0 : Option Nat) (p1 : Int32) (p2 : Option Nat) : gh_Ct l yX0_seed 55 1199 (f_X0_seed p0 p1 p2) gh_rI [va_rf p0, .int p1, va_rf p2] := gh_introW2 (L1 := 1184) hst (by decide +kernel) q1721 q74 rfl ⟨gh_cat _, rfl, gh_cat _, trivial⟩ (Nat.le_of_ble_eq_true rfl) fun x o ls hl C h hk => w_X0_seed C p0 p1 p2 hl h hk
-- GargoyleTowerLaw.weather(LGargoyleTower;I[J)I
abbrev hh_X0_weather : List ExceptionTableEntry := tableOf [(0, 9, 12, 13)]
noncomputable def f_X0_weather_12 (s0 : Option Nat) : gh_M Int32 :=
  gh_ret (1 : Int32)
theorem w_X0_weather_12 {x : gh_C} {g : gh_G} {o : (Int32 ⊕ gh_X) × gh_G} {ls : Array Slot} (C : gh_K x cX0_weather "GargoyleTowerLaw" 4 (some .int) "weather" 9 153 hh_X0_weather) (s0 : Option Nat) (hl : gh_lv ls 4 []) (h : gh_run (f_X0_weather_12 s0) g = some o) (hk : (gh_K0 x gh_rI) o) : gh_Wd x g (F0 (gh_cm x) 12 ls [va_rf s0]) := by
  unfold f_X0_weather_12 at h
  refine gr_astore_n (pc := 12) (i := 3) (l' := [(3, va_rf s0)]) C rfl hl (Nat.le_of_ble_eq_true rfl) rfl dX0_weather_12 fun ls hl => ?_
  refine gr_iconst (pc := 13) (v := (1 : Int32)) C rfl dX0_weather_13 ?_
  exact gr_iret (pc := 14) C dX0_weather_14 h hk

noncomputable def f_X0_weather (p0 : Option Nat) (p1 : Int32) (p2 : Option Nat) : gh_M Int32 :=
  gh_nn p0 fun a1 =>
  gh_bd (gh_is a1 0) fun _ =>
  gh_tc (f_X1_weather a1 p1) (fun v2 =>
  gh_nn p2 fun a3 =>
  gh_bd (gh_last a3 (0 : Int32) v2.toInt64) fun _ =>
  gh_ret (0 : Int32))
  (fun e => if e.1 = 17 then (f_X0_weather_12 (some e.2)) else gh_stk)
theorem w_X0_weather {x : gh_C} {g : gh_G} {o : (Int32 ⊕ gh_X) × gh_G} {ls : Array Slot} (C : gh_K x cX0_weather "GargoyleTowerLaw" 4 (some .int) "weather" 9 153 hh_X0_weather) (p0 : Option Nat) (p1 : Int32) (p2 : Option Nat) (hl : gh_lv ls 4 [(0, va_rf p0), (1, .int p1), (2, va_rf p2)]) (h : gh_run (f_X0_weather p0 p1 p2) g = some o) (hk : (gh_K0 x gh_rI) o) : gh_Wd x g (F0 (gh_cm x) 0 ls []) := by
  unfold f_X0_weather at h
  refine gr_aload_n (pc := 0) (i := 2) C rfl (gl_at hl 2 rfl) dX0_weather_0 ?_
  refine gr_iconst (pc := 1) (v := (0 : Int32)) C rfl dX0_weather_1 ?_
  refine gr_aload_n (pc := 2) (i := 0) C rfl (gl_at hl 0 rfl) dX0_weather_2 ?_
  refine gr_iload_n (pc := 3) (i := 1) C rfl (gl_at hl 1 rfl) dX0_weather_3 ?_
  rcases p0 with _ | a1
  · exact gh_stk_inv h
  replace h := gh_nn_ss h
  obtain ⟨⟨fs9, hg9⟩, h⟩ := gh_is_inv h
  refine gh_callI (pc := 4) (rest := [.int (0 : Int32), va_rf p2]) C (k_X1_weather C.tr a1 p1) (Nat.le_of_ble_eq_true rfl) (Nat.le_of_ble_eq_true rfl) (gh_r4 (Nat.le_of_ble_eq_true rfl)) (fun H9 L9 hp9 => gi_V C hp9 hg9 gh_cX1 q1730 q1731 q1732 q1733 mh_X1 np6 rfl hl.1.1 dX0_weather_4 rfl) h (gh_K0_b _ hk) (fun v2 g h => ?_) (fun e g h => ?_)
  rotate_left
  ·
    by_cases c7 : e.1 = 17
    · replace h := gh_ift h c7
      refine gh_catch C (q := (RJ20, TJ20, 6)) (by rw [c7]; exact gh_cJ20) [] ⟨0, 9, 12, 13⟩ [] rfl (fun _ h => nomatch h) rfl (by decide) q1100 q648 ?_
      exact w_X0_weather_12 C (some e.2) (gl_sub hl [] rfl) h hk
    replace h := gh_iff h c7
    exact gh_stk_inv h
  refine gr_i2l (pc := 7) (v := v2.toInt64) C rfl dX0_weather_7 ?_
  rcases p2 with _ | a3
  · exact gh_stk_inv h
  replace h := gh_nn_ss h
  refine gr_last (pc := 8) C dX0_weather_8 h fun g h => ?_
  refine gr_goto (pc := 9) (tgt := 15) C rfl dX0_weather_9 ?_
  refine gr_iconst (pc := 15) (v := (0 : Int32)) C rfl dX0_weather_15 ?_
  exact gr_iret (pc := 16) C dX0_weather_16 h hk

theorem k_X0_weather {l : Launch} (hst : l.stackTraces = false) (p0 : Option Nat) (p1 : Int32) (p2 : Option Nat) : gh_Ct l yX0_weather 9 168 (f_X0_weather p0 p1 p2) gh_rI [va_rf p0, .int p1, va_rf p2] := gh_introW2 (L1 := 153) hst (by decide +kernel) q1729 q74 rfl ⟨gh_cat _, rfl, gh_cat _, trivial⟩ (Nat.le_of_ble_eq_true rfl) fun x o ls hl C h hk => w_X0_weather C p0 p1 p2 hl h hk
-- GargoyleTowerLaw.pass(LGargoyleTower;I[J)I
abbrev hh_X0_pass : List ExceptionTableEntry := tableOf [(0, 9, 12, 13)]
noncomputable def f_X0_pass_12 (s0 : Option Nat) : gh_M Int32 :=
  gh_ret (1 : Int32)
theorem w_X0_pass_12 {x : gh_C} {g : gh_G} {o : (Int32 ⊕ gh_X) × gh_G} {ls : Array Slot} (C : gh_K x cX0_pass "GargoyleTowerLaw" 4 (some .int) "pass" 55 1184 hh_X0_pass) (s0 : Option Nat) (hl : gh_lv ls 4 []) (h : gh_run (f_X0_pass_12 s0) g = some o) (hk : (gh_K0 x gh_rI) o) : gh_Wd x g (F0 (gh_cm x) 12 ls [va_rf s0]) := by
  unfold f_X0_pass_12 at h
  refine gr_astore_n (pc := 12) (i := 3) (l' := [(3, va_rf s0)]) C rfl hl (Nat.le_of_ble_eq_true rfl) rfl dX0_pass_12 fun ls hl => ?_
  refine gr_iconst (pc := 13) (v := (1 : Int32)) C rfl dX0_pass_13 ?_
  exact gr_iret (pc := 14) C dX0_pass_14 h hk

noncomputable def f_X0_pass (p0 : Option Nat) (p1 : Int32) (p2 : Option Nat) : gh_M Int32 :=
  gh_nn p0 fun a1 =>
  gh_bd (gh_is a1 0) fun _ =>
  gh_tc (f_X1_pass a1 p1) (fun v2 =>
  gh_nn p2 fun a3 =>
  gh_bd (gh_last a3 (0 : Int32) v2.toInt64) fun _ =>
  gh_ret (0 : Int32))
  (fun e => if e.1 = 17 then (f_X0_pass_12 (some e.2)) else gh_stk)
theorem w_X0_pass {x : gh_C} {g : gh_G} {o : (Int32 ⊕ gh_X) × gh_G} {ls : Array Slot} (C : gh_K x cX0_pass "GargoyleTowerLaw" 4 (some .int) "pass" 55 1184 hh_X0_pass) (p0 : Option Nat) (p1 : Int32) (p2 : Option Nat) (hl : gh_lv ls 4 [(0, va_rf p0), (1, .int p1), (2, va_rf p2)]) (h : gh_run (f_X0_pass p0 p1 p2) g = some o) (hk : (gh_K0 x gh_rI) o) : gh_Wd x g (F0 (gh_cm x) 0 ls []) := by
  unfold f_X0_pass at h
  refine gr_aload_n (pc := 0) (i := 2) C rfl (gl_at hl 2 rfl) dX0_pass_0 ?_
  refine gr_iconst (pc := 1) (v := (0 : Int32)) C rfl dX0_pass_1 ?_
  refine gr_aload_n (pc := 2) (i := 0) C rfl (gl_at hl 0 rfl) dX0_pass_2 ?_
  refine gr_iload_n (pc := 3) (i := 1) C rfl (gl_at hl 1 rfl) dX0_pass_3 ?_
  rcases p0 with _ | a1
  · exact gh_stk_inv h
  replace h := gh_nn_ss h
  obtain ⟨⟨fs9, hg9⟩, h⟩ := gh_is_inv h
  refine gh_callI (pc := 4) (rest := [.int (0 : Int32), va_rf p2]) C (k_X1_pass C.tr a1 p1) (Nat.le_of_ble_eq_true rfl) (Nat.le_of_ble_eq_true rfl) (gh_r4 (Nat.le_of_ble_eq_true rfl)) (fun H9 L9 hp9 => gi_V C hp9 hg9 gh_cX1 q1742 q1743 q1744 q1745 mh_X1 np6 rfl hl.1.1 dX0_pass_4 rfl) h (gh_K0_b _ hk) (fun v2 g h => ?_) (fun e g h => ?_)
  rotate_left
  ·
    by_cases c7 : e.1 = 17
    · replace h := gh_ift h c7
      refine gh_catch C (q := (RJ20, TJ20, 6)) (by rw [c7]; exact gh_cJ20) [] ⟨0, 9, 12, 13⟩ [] rfl (fun _ h => nomatch h) rfl (by decide) q1100 q648 ?_
      exact w_X0_pass_12 C (some e.2) (gl_sub hl [] rfl) h hk
    replace h := gh_iff h c7
    exact gh_stk_inv h
  refine gr_i2l (pc := 7) (v := v2.toInt64) C rfl dX0_pass_7 ?_
  rcases p2 with _ | a3
  · exact gh_stk_inv h
  replace h := gh_nn_ss h
  refine gr_last (pc := 8) C dX0_pass_8 h fun g h => ?_
  refine gr_goto (pc := 9) (tgt := 15) C rfl dX0_pass_9 ?_
  refine gr_iconst (pc := 15) (v := (0 : Int32)) C rfl dX0_pass_15 ?_
  exact gr_iret (pc := 16) C dX0_pass_16 h hk

theorem k_X0_pass {l : Launch} (hst : l.stackTraces = false) (p0 : Option Nat) (p1 : Int32) (p2 : Option Nat) : gh_Ct l yX0_pass 55 1199 (f_X0_pass p0 p1 p2) gh_rI [va_rf p0, .int p1, va_rf p2] := gh_introW2 (L1 := 1184) hst (by decide +kernel) q1741 q74 rfl ⟨gh_cat _, rfl, gh_cat _, trivial⟩ (Nat.le_of_ble_eq_true rfl) fun x o ls hl C h hk => w_X0_pass C p0 p1 p2 hl h hk
-- GargoyleTowerLaw.brokenIn(LGargoyleTower;I[J)I
abbrev hh_X0_brokenIn : List ExceptionTableEntry := tableOf [(0, 9, 12, 21), (0, 9, 15, 34)]
noncomputable def f_X0_brokenIn_15 (s0 : Option Nat) : gh_M Int32 :=
  gh_ret (2 : Int32)
theorem w_X0_brokenIn_15 {x : gh_C} {g : gh_G} {o : (Int32 ⊕ gh_X) × gh_G} {ls : Array Slot} (C : gh_K x cX0_brokenIn "GargoyleTowerLaw" 4 (some .int) "brokenIn" 52 1119 hh_X0_brokenIn) (s0 : Option Nat) (hl : gh_lv ls 4 []) (h : gh_run (f_X0_brokenIn_15 s0) g = some o) (hk : (gh_K0 x gh_rI) o) : gh_Wd x g (F0 (gh_cm x) 15 ls [va_rf s0]) := by
  unfold f_X0_brokenIn_15 at h
  refine gr_astore_n (pc := 15) (i := 3) (l' := [(3, va_rf s0)]) C rfl hl (Nat.le_of_ble_eq_true rfl) rfl dX0_brokenIn_15 fun ls hl => ?_
  refine gr_iconst (pc := 16) (v := (2 : Int32)) C rfl dX0_brokenIn_16 ?_
  exact gr_iret (pc := 17) C dX0_brokenIn_17 h hk

noncomputable def f_X0_brokenIn_12 (s0 : Option Nat) : gh_M Int32 :=
  gh_ret (1 : Int32)
theorem w_X0_brokenIn_12 {x : gh_C} {g : gh_G} {o : (Int32 ⊕ gh_X) × gh_G} {ls : Array Slot} (C : gh_K x cX0_brokenIn "GargoyleTowerLaw" 4 (some .int) "brokenIn" 52 1119 hh_X0_brokenIn) (s0 : Option Nat) (hl : gh_lv ls 4 []) (h : gh_run (f_X0_brokenIn_12 s0) g = some o) (hk : (gh_K0 x gh_rI) o) : gh_Wd x g (F0 (gh_cm x) 12 ls [va_rf s0]) := by
  unfold f_X0_brokenIn_12 at h
  refine gr_astore_n (pc := 12) (i := 3) (l' := [(3, va_rf s0)]) C rfl hl (Nat.le_of_ble_eq_true rfl) rfl dX0_brokenIn_12 fun ls hl => ?_
  refine gr_iconst (pc := 13) (v := (1 : Int32)) C rfl dX0_brokenIn_13 ?_
  exact gr_iret (pc := 14) C dX0_brokenIn_14 h hk

noncomputable def f_X0_brokenIn (p0 : Option Nat) (p1 : Int32) (p2 : Option Nat) : gh_M Int32 :=
  gh_nn p0 fun a1 =>
  gh_bd (gh_is a1 0) fun _ =>
  gh_tc (f_X1_brokenIn a1 p1) (fun v2 =>
  gh_nn p2 fun a3 =>
  gh_bd (gh_last a3 (0 : Int32) v2.toInt64) fun _ =>
  gh_ret (0 : Int32))
  (fun e => if e.1 = 16 then (f_X0_brokenIn_12 (some e.2)) else if e.1 = 18 then (f_X0_brokenIn_15 (some e.2)) else gh_stk)
theorem w_X0_brokenIn {x : gh_C} {g : gh_G} {o : (Int32 ⊕ gh_X) × gh_G} {ls : Array Slot} (C : gh_K x cX0_brokenIn "GargoyleTowerLaw" 4 (some .int) "brokenIn" 52 1119 hh_X0_brokenIn) (p0 : Option Nat) (p1 : Int32) (p2 : Option Nat) (hl : gh_lv ls 4 [(0, va_rf p0), (1, .int p1), (2, va_rf p2)]) (h : gh_run (f_X0_brokenIn p0 p1 p2) g = some o) (hk : (gh_K0 x gh_rI) o) : gh_Wd x g (F0 (gh_cm x) 0 ls []) := by
  unfold f_X0_brokenIn at h
  refine gr_aload_n (pc := 0) (i := 2) C rfl (gl_at hl 2 rfl) dX0_brokenIn_0 ?_
  refine gr_iconst (pc := 1) (v := (0 : Int32)) C rfl dX0_brokenIn_1 ?_
  refine gr_aload_n (pc := 2) (i := 0) C rfl (gl_at hl 0 rfl) dX0_brokenIn_2 ?_
  refine gr_iload_n (pc := 3) (i := 1) C rfl (gl_at hl 1 rfl) dX0_brokenIn_3 ?_
  rcases p0 with _ | a1
  · exact gh_stk_inv h
  replace h := gh_nn_ss h
  obtain ⟨⟨fs9, hg9⟩, h⟩ := gh_is_inv h
  refine gh_callI (pc := 4) (rest := [.int (0 : Int32), va_rf p2]) C (k_X1_brokenIn C.tr a1 p1) (Nat.le_of_ble_eq_true rfl) (Nat.le_of_ble_eq_true rfl) (gh_r4 (Nat.le_of_ble_eq_true rfl)) (fun H9 L9 hp9 => gi_V C hp9 hg9 gh_cX1 q1750 q1751 q1752 q1753 mh_X1 np6 rfl hl.1.1 dX0_brokenIn_4 rfl) h (gh_K0_b _ hk) (fun v2 g h => ?_) (fun e g h => ?_)
  rotate_left
  ·
    by_cases c7 : e.1 = 16
    · replace h := gh_ift h c7
      refine gh_catch C (q := (RJ14, TJ14, 6)) (by rw [c7]; exact gh_cJ14) [] ⟨0, 9, 12, 21⟩ [⟨0, 9, 15, 34⟩] rfl (fun _ h => nomatch h) rfl (by decide) q1482 q411 ?_
      exact w_X0_brokenIn_12 C (some e.2) (gl_sub hl [] rfl) h hk
    replace h := gh_iff h c7
    by_cases c7 : e.1 = 18
    · replace h := gh_ift h c7
      refine gh_catch C (q := (RJ21, TJ21, 6)) (by rw [c7]; exact gh_cJ21) [⟨0, 9, 12, 21⟩] ⟨0, 9, 15, 34⟩ [] rfl (List.forall_mem_cons.mpr ⟨Or.inr ⟨by decide, _, q1482, by decide +kernel⟩, (fun _ h => nomatch h)⟩) rfl (by decide) q1523 q724 ?_
      exact w_X0_brokenIn_15 C (some e.2) (gl_sub hl [] rfl) h hk
    replace h := gh_iff h c7
    exact gh_stk_inv h
  refine gr_i2l (pc := 7) (v := v2.toInt64) C rfl dX0_brokenIn_7 ?_
  rcases p2 with _ | a3
  · exact gh_stk_inv h
  replace h := gh_nn_ss h
  refine gr_last (pc := 8) C dX0_brokenIn_8 h fun g h => ?_
  refine gr_goto (pc := 9) (tgt := 18) C rfl dX0_brokenIn_9 ?_
  refine gr_iconst (pc := 18) (v := (0 : Int32)) C rfl dX0_brokenIn_18 ?_
  exact gr_iret (pc := 19) C dX0_brokenIn_19 h hk

theorem k_X0_brokenIn {l : Launch} (hst : l.stackTraces = false) (p0 : Option Nat) (p1 : Int32) (p2 : Option Nat) : gh_Ct l yX0_brokenIn 52 1134 (f_X0_brokenIn p0 p1 p2) gh_rI [va_rf p0, .int p1, va_rf p2] := gh_introW2 (L1 := 1119) hst (by decide +kernel) q1749 q74 rfl ⟨gh_cat _, rfl, gh_cat _, trivial⟩ (Nat.le_of_ble_eq_true rfl) fun x o ls hl C h hk => w_X0_brokenIn C p0 p1 p2 hl h hk
-- GargoyleTowerLaw.line(LGargoyleTower;I[J)I
abbrev hh_X0_line : List ExceptionTableEntry := tableOf [(0, 9, 12, 21)]
noncomputable def f_X0_line_12 (s0 : Option Nat) : gh_M Int32 :=
  gh_ret (1 : Int32)
theorem w_X0_line_12 {x : gh_C} {g : gh_G} {o : (Int32 ⊕ gh_X) × gh_G} {ls : Array Slot} (C : gh_K x cX0_line "GargoyleTowerLaw" 4 (some .int) "line" 11 260 hh_X0_line) (s0 : Option Nat) (hl : gh_lv ls 4 []) (h : gh_run (f_X0_line_12 s0) g = some o) (hk : (gh_K0 x gh_rI) o) : gh_Wd x g (F0 (gh_cm x) 12 ls [va_rf s0]) := by
  unfold f_X0_line_12 at h
  refine gr_astore_n (pc := 12) (i := 3) (l' := [(3, va_rf s0)]) C rfl hl (Nat.le_of_ble_eq_true rfl) rfl dX0_line_12 fun ls hl => ?_
  refine gr_iconst (pc := 13) (v := (1 : Int32)) C rfl dX0_line_13 ?_
  exact gr_iret (pc := 14) C dX0_line_14 h hk

noncomputable def f_X0_line (p0 : Option Nat) (p1 : Int32) (p2 : Option Nat) : gh_M Int32 :=
  gh_nn p0 fun a1 =>
  gh_bd (gh_is a1 0) fun _ =>
  gh_tc (f_X1_line a1 p1) (fun v2 =>
  gh_nn p2 fun a3 =>
  gh_bd (gh_last a3 (0 : Int32) v2.toInt64) fun _ =>
  gh_ret (0 : Int32))
  (fun e => if e.1 = 16 then (f_X0_line_12 (some e.2)) else gh_stk)
theorem w_X0_line {x : gh_C} {g : gh_G} {o : (Int32 ⊕ gh_X) × gh_G} {ls : Array Slot} (C : gh_K x cX0_line "GargoyleTowerLaw" 4 (some .int) "line" 11 260 hh_X0_line) (p0 : Option Nat) (p1 : Int32) (p2 : Option Nat) (hl : gh_lv ls 4 [(0, va_rf p0), (1, .int p1), (2, va_rf p2)]) (h : gh_run (f_X0_line p0 p1 p2) g = some o) (hk : (gh_K0 x gh_rI) o) : gh_Wd x g (F0 (gh_cm x) 0 ls []) := by
  unfold f_X0_line at h
  refine gr_aload_n (pc := 0) (i := 2) C rfl (gl_at hl 2 rfl) dX0_line_0 ?_
  refine gr_iconst (pc := 1) (v := (0 : Int32)) C rfl dX0_line_1 ?_
  refine gr_aload_n (pc := 2) (i := 0) C rfl (gl_at hl 0 rfl) dX0_line_2 ?_
  refine gr_iload_n (pc := 3) (i := 1) C rfl (gl_at hl 1 rfl) dX0_line_3 ?_
  rcases p0 with _ | a1
  · exact gh_stk_inv h
  replace h := gh_nn_ss h
  obtain ⟨⟨fs9, hg9⟩, h⟩ := gh_is_inv h
  refine gh_callI (pc := 4) (rest := [.int (0 : Int32), va_rf p2]) C (k_X1_line C.tr a1 p1) (Nat.le_of_ble_eq_true rfl) (Nat.le_of_ble_eq_true rfl) (gh_r4 (Nat.le_of_ble_eq_true rfl)) (fun H9 L9 hp9 => gi_V C hp9 hg9 gh_cX1 q1758 q1759 q1760 q1761 mh_X1 np6 rfl hl.1.1 dX0_line_4 rfl) h (gh_K0_b _ hk) (fun v2 g h => ?_) (fun e g h => ?_)
  rotate_left
  ·
    by_cases c7 : e.1 = 16
    · replace h := gh_ift h c7
      refine gh_catch C (q := (RJ14, TJ14, 6)) (by rw [c7]; exact gh_cJ14) [] ⟨0, 9, 12, 21⟩ [] rfl (fun _ h => nomatch h) rfl (by decide) q1482 q411 ?_
      exact w_X0_line_12 C (some e.2) (gl_sub hl [] rfl) h hk
    replace h := gh_iff h c7
    exact gh_stk_inv h
  refine gr_i2l (pc := 7) (v := v2.toInt64) C rfl dX0_line_7 ?_
  rcases p2 with _ | a3
  · exact gh_stk_inv h
  replace h := gh_nn_ss h
  refine gr_last (pc := 8) C dX0_line_8 h fun g h => ?_
  refine gr_goto (pc := 9) (tgt := 15) C rfl dX0_line_9 ?_
  refine gr_iconst (pc := 15) (v := (0 : Int32)) C rfl dX0_line_15 ?_
  exact gr_iret (pc := 16) C dX0_line_16 h hk

theorem k_X0_line {l : Launch} (hst : l.stackTraces = false) (p0 : Option Nat) (p1 : Int32) (p2 : Option Nat) : gh_Ct l yX0_line 11 275 (f_X0_line p0 p1 p2) gh_rI [va_rf p0, .int p1, va_rf p2] := gh_introW2 (L1 := 260) hst (by decide +kernel) q1757 q74 rfl ⟨gh_cat _, rfl, gh_cat _, trivial⟩ (Nat.le_of_ble_eq_true rfl) fun x o ls hl C h hk => w_X0_line C p0 p1 p2 hl h hk
-- GargoyleTowerLaw.character(LGargoyleTower;I[J)I
abbrev hh_X0_character : List ExceptionTableEntry := tableOf [(0, 9, 12, 21)]
noncomputable def f_X0_character_12 (s0 : Option Nat) : gh_M Int32 :=
  gh_ret (1 : Int32)
theorem w_X0_character_12 {x : gh_C} {g : gh_G} {o : (Int32 ⊕ gh_X) × gh_G} {ls : Array Slot} (C : gh_K x cX0_character "GargoyleTowerLaw" 4 (some .int) "character" 9 152 hh_X0_character) (s0 : Option Nat) (hl : gh_lv ls 4 []) (h : gh_run (f_X0_character_12 s0) g = some o) (hk : (gh_K0 x gh_rI) o) : gh_Wd x g (F0 (gh_cm x) 12 ls [va_rf s0]) := by
  unfold f_X0_character_12 at h
  refine gr_astore_n (pc := 12) (i := 3) (l' := [(3, va_rf s0)]) C rfl hl (Nat.le_of_ble_eq_true rfl) rfl dX0_character_12 fun ls hl => ?_
  refine gr_iconst (pc := 13) (v := (1 : Int32)) C rfl dX0_character_13 ?_
  exact gr_iret (pc := 14) C dX0_character_14 h hk

noncomputable def f_X0_character (p0 : Option Nat) (p1 : Int32) (p2 : Option Nat) : gh_M Int32 :=
  gh_nn p0 fun a1 =>
  gh_bd (gh_is a1 0) fun _ =>
  gh_tc (f_X1_character a1 p1) (fun v2 =>
  gh_nn p2 fun a3 =>
  gh_bd (gh_last a3 (0 : Int32) v2.toInt64) fun _ =>
  gh_ret (0 : Int32))
  (fun e => if e.1 = 16 then (f_X0_character_12 (some e.2)) else gh_stk)
theorem w_X0_character {x : gh_C} {g : gh_G} {o : (Int32 ⊕ gh_X) × gh_G} {ls : Array Slot} (C : gh_K x cX0_character "GargoyleTowerLaw" 4 (some .int) "character" 9 152 hh_X0_character) (p0 : Option Nat) (p1 : Int32) (p2 : Option Nat) (hl : gh_lv ls 4 [(0, va_rf p0), (1, .int p1), (2, va_rf p2)]) (h : gh_run (f_X0_character p0 p1 p2) g = some o) (hk : (gh_K0 x gh_rI) o) : gh_Wd x g (F0 (gh_cm x) 0 ls []) := by
  unfold f_X0_character at h
  refine gr_aload_n (pc := 0) (i := 2) C rfl (gl_at hl 2 rfl) dX0_character_0 ?_
  refine gr_iconst (pc := 1) (v := (0 : Int32)) C rfl dX0_character_1 ?_
  refine gr_aload_n (pc := 2) (i := 0) C rfl (gl_at hl 0 rfl) dX0_character_2 ?_
  refine gr_iload_n (pc := 3) (i := 1) C rfl (gl_at hl 1 rfl) dX0_character_3 ?_
  rcases p0 with _ | a1
  · exact gh_stk_inv h
  replace h := gh_nn_ss h
  obtain ⟨⟨fs9, hg9⟩, h⟩ := gh_is_inv h
  refine gh_callI (pc := 4) (rest := [.int (0 : Int32), va_rf p2]) C (k_X1_character C.tr a1 p1) (Nat.le_of_ble_eq_true rfl) (Nat.le_of_ble_eq_true rfl) (gh_r4 (Nat.le_of_ble_eq_true rfl)) (fun H9 L9 hp9 => gi_V C hp9 hg9 gh_cX1 q1959 q1960 q1961 q1962 mh_X1 np38 rfl hl.1.1 dX0_character_4 rfl) h (gh_K0_b _ hk) (fun v2 g h => ?_) (fun e g h => ?_)
  rotate_left
  ·
    by_cases c7 : e.1 = 16
    · replace h := gh_ift h c7
      refine gh_catch C (q := (RJ14, TJ14, 6)) (by rw [c7]; exact gh_cJ14) [] ⟨0, 9, 12, 21⟩ [] rfl (fun _ h => nomatch h) rfl (by decide) q1482 q411 ?_
      exact w_X0_character_12 C (some e.2) (gl_sub hl [] rfl) h hk
    replace h := gh_iff h c7
    exact gh_stk_inv h
  refine gr_i2l (pc := 7) (v := v2.toInt64) C rfl dX0_character_7 ?_
  rcases p2 with _ | a3
  · exact gh_stk_inv h
  replace h := gh_nn_ss h
  refine gr_last (pc := 8) C dX0_character_8 h fun g h => ?_
  refine gr_goto (pc := 9) (tgt := 15) C rfl dX0_character_9 ?_
  refine gr_iconst (pc := 15) (v := (0 : Int32)) C rfl dX0_character_15 ?_
  exact gr_iret (pc := 16) C dX0_character_16 h hk

theorem k_X0_character {l : Launch} (hst : l.stackTraces = false) (p0 : Option Nat) (p1 : Int32) (p2 : Option Nat) : gh_Ct l yX0_character 9 167 (f_X0_character p0 p1 p2) gh_rI [va_rf p0, .int p1, va_rf p2] := gh_introW2 (L1 := 152) hst (by decide +kernel) q1958 q74 rfl ⟨gh_cat _, rfl, gh_cat _, trivial⟩ (Nat.le_of_ble_eq_true rfl) fun x o ls hl C h hk => w_X0_character C p0 p1 p2 hl h hk
-- GargoyleTowerLaw.meanDetail(LGargoyleTower;[D)I
abbrev hh_X0_meanDetail : List ExceptionTableEntry := tableOf [(0, 7, 10, 102)]
noncomputable def f_X0_meanDetail_10 (s0 : Option Nat) : gh_M Int32 :=
  gh_ret (1 : Int32)
theorem w_X0_meanDetail_10 {x : gh_C} {g : gh_G} {o : (Int32 ⊕ gh_X) × gh_G} {ls : Array Slot} (C : gh_K x cX0_meanDetail "GargoyleTowerLaw" 3 (some .int) "meanDetail" 8 134 hh_X0_meanDetail) (s0 : Option Nat) (hl : gh_lv ls 3 []) (h : gh_run (f_X0_meanDetail_10 s0) g = some o) (hk : (gh_K0 x gh_rI) o) : gh_Wd x g (F0 (gh_cm x) 10 ls [va_rf s0]) := by
  unfold f_X0_meanDetail_10 at h
  refine gr_astore_n (pc := 10) (i := 2) (l' := [(2, va_rf s0)]) C rfl hl (Nat.le_of_ble_eq_true rfl) rfl dX0_meanDetail_10 fun ls hl => ?_
  refine gr_iconst (pc := 11) (v := (1 : Int32)) C rfl dX0_meanDetail_11 ?_
  exact gr_iret (pc := 12) C dX0_meanDetail_12 h hk

noncomputable def f_X0_meanDetail (p0 : Option Nat) (p1 : Option Nat) : gh_M Int32 :=
  gh_nn p0 fun a1 =>
  gh_bd (gh_is a1 0) fun _ =>
  gh_tc (f_X1_meanDetail a1) (fun v2 =>
  gh_nn p1 fun a3 =>
  gh_bd (gh_dast a3 (0 : Int32) v2) fun _ =>
  gh_ret (0 : Int32))
  (fun e => if e.1 = 23 then (f_X0_meanDetail_10 (some e.2)) else gh_stk)
theorem w_X0_meanDetail {x : gh_C} {g : gh_G} {o : (Int32 ⊕ gh_X) × gh_G} {ls : Array Slot} (C : gh_K x cX0_meanDetail "GargoyleTowerLaw" 3 (some .int) "meanDetail" 8 134 hh_X0_meanDetail) (p0 : Option Nat) (p1 : Option Nat) (hl : gh_lv ls 3 [(0, va_rf p0), (1, va_rf p1)]) (h : gh_run (f_X0_meanDetail p0 p1) g = some o) (hk : (gh_K0 x gh_rI) o) : gh_Wd x g (F0 (gh_cm x) 0 ls []) := by
  unfold f_X0_meanDetail at h
  refine gr_aload_n (pc := 0) (i := 1) C rfl (gl_at hl 1 rfl) dX0_meanDetail_0 ?_
  refine gr_iconst (pc := 1) (v := (0 : Int32)) C rfl dX0_meanDetail_1 ?_
  refine gr_aload_n (pc := 2) (i := 0) C rfl (gl_at hl 0 rfl) dX0_meanDetail_2 ?_
  rcases p0 with _ | a1
  · exact gh_stk_inv h
  replace h := gh_nn_ss h
  obtain ⟨⟨fs9, hg9⟩, h⟩ := gh_is_inv h
  refine gh_callD (pc := 3) (rest := [.int (0 : Int32), va_rf p1]) C (k_X1_meanDetail C.tr a1) (Nat.le_of_ble_eq_true rfl) (Nat.le_of_ble_eq_true rfl) (gh_r4 (Nat.le_of_ble_eq_true rfl)) (fun H9 L9 hp9 => gi_V C hp9 hg9 gh_cX1 q1981 q1982 q1983 q1984 mh_X1 np88 rfl hl.1.1 dX0_meanDetail_3 rfl) h (gh_K0_b _ hk) (fun v2 g h => ?_) (fun e g h => ?_)
  rotate_left
  ·
    by_cases c7 : e.1 = 23
    · replace h := gh_ift h c7
      refine gh_catch C (q := (RJ29, TJ29, 6)) (by rw [c7]; exact gh_cJ29) [] ⟨0, 7, 10, 102⟩ [] rfl (fun _ h => nomatch h) rfl (by decide) q1967 q1979 ?_
      exact w_X0_meanDetail_10 C (some e.2) (gl_sub hl [] rfl) h hk
    replace h := gh_iff h c7
    exact gh_stk_inv h
  rcases p1 with _ | a3
  · exact gh_stk_inv h
  replace h := gh_nn_ss h
  refine gr_dast (pc := 6) C dX0_meanDetail_6 h fun g h => ?_
  refine gr_goto (pc := 7) (tgt := 13) C rfl dX0_meanDetail_7 ?_
  refine gr_iconst (pc := 13) (v := (0 : Int32)) C rfl dX0_meanDetail_13 ?_
  exact gr_iret (pc := 14) C dX0_meanDetail_14 h hk

theorem k_X0_meanDetail {l : Launch} (hst : l.stackTraces = false) (p0 : Option Nat) (p1 : Option Nat) : gh_Ct l yX0_meanDetail 8 148 (f_X0_meanDetail p0 p1) gh_rI [va_rf p0, va_rf p1] := gh_introW2 (L1 := 134) hst (by decide +kernel) q1966 q74 rfl ⟨gh_cat _, gh_cat _, trivial⟩ (Nat.le_of_ble_eq_true rfl) fun x o ls hl C h hk => w_X0_meanDetail C p0 p1 hl h hk
-- GargoyleTowerLaw.brokenShare(LGargoyleTower;[D)I
abbrev hh_X0_brokenShare : List ExceptionTableEntry := tableOf [(0, 8, 11, 102)]
noncomputable def f_X0_brokenShare_11 (s0 : Option Nat) : gh_M Int32 :=
  gh_ret (1 : Int32)
theorem w_X0_brokenShare_11 {x : gh_C} {g : gh_G} {o : (Int32 ⊕ gh_X) × gh_G} {ls : Array Slot} (C : gh_K x cX0_brokenShare "GargoyleTowerLaw" 3 (some .int) "brokenShare" 8 130 hh_X0_brokenShare) (s0 : Option Nat) (hl : gh_lv ls 3 []) (h : gh_run (f_X0_brokenShare_11 s0) g = some o) (hk : (gh_K0 x gh_rI) o) : gh_Wd x g (F0 (gh_cm x) 11 ls [va_rf s0]) := by
  unfold f_X0_brokenShare_11 at h
  refine gr_astore_n (pc := 11) (i := 2) (l' := [(2, va_rf s0)]) C rfl hl (Nat.le_of_ble_eq_true rfl) rfl dX0_brokenShare_11 fun ls hl => ?_
  refine gr_iconst (pc := 12) (v := (1 : Int32)) C rfl dX0_brokenShare_12 ?_
  exact gr_iret (pc := 13) C dX0_brokenShare_13 h hk

noncomputable def f_X0_brokenShare (p0 : Option Nat) (p1 : Option Nat) : gh_M Int32 :=
  gh_nn p0 fun a1 =>
  gh_bd (gh_is a1 0) fun _ =>
  gh_tc (f_X1_brokenShare a1) (fun v2 =>
  gh_ok (gh_n64 (FP.f2d v2)) <|
  gh_nn p1 fun a3 =>
  gh_bd (gh_dast a3 (0 : Int32) (FP.f2d v2)) fun _ =>
  gh_ret (0 : Int32))
  (fun e => if e.1 = 23 then (f_X0_brokenShare_11 (some e.2)) else gh_stk)
theorem w_X0_brokenShare {x : gh_C} {g : gh_G} {o : (Int32 ⊕ gh_X) × gh_G} {ls : Array Slot} (C : gh_K x cX0_brokenShare "GargoyleTowerLaw" 3 (some .int) "brokenShare" 8 130 hh_X0_brokenShare) (p0 : Option Nat) (p1 : Option Nat) (hl : gh_lv ls 3 [(0, va_rf p0), (1, va_rf p1)]) (h : gh_run (f_X0_brokenShare p0 p1) g = some o) (hk : (gh_K0 x gh_rI) o) : gh_Wd x g (F0 (gh_cm x) 0 ls []) := by
  unfold f_X0_brokenShare at h
  refine gr_aload_n (pc := 0) (i := 1) C rfl (gl_at hl 1 rfl) dX0_brokenShare_0 ?_
  refine gr_iconst (pc := 1) (v := (0 : Int32)) C rfl dX0_brokenShare_1 ?_
  refine gr_aload_n (pc := 2) (i := 0) C rfl (gl_at hl 0 rfl) dX0_brokenShare_2 ?_
  rcases p0 with _ | a1
  · exact gh_stk_inv h
  replace h := gh_nn_ss h
  obtain ⟨⟨fs9, hg9⟩, h⟩ := gh_is_inv h
  refine gh_callF (pc := 3) (rest := [.int (0 : Int32), va_rf p1]) C (k_X1_brokenShare C.tr a1) (Nat.le_of_ble_eq_true rfl) (Nat.le_of_ble_eq_true rfl) (gh_r4 (Nat.le_of_ble_eq_true rfl)) (fun H9 L9 hp9 => gi_V C hp9 hg9 gh_cX1 q1997 q1998 q1999 q2000 mh_X1 np89 rfl hl.1.1 dX0_brokenShare_3 rfl) h (gh_K0_b _ hk) (fun v2 g h => ?_) (fun e g h => ?_)
  rotate_left
  ·
    by_cases c7 : e.1 = 23
    · replace h := gh_ift h c7
      refine gh_catch C (q := (RJ29, TJ29, 6)) (by rw [c7]; exact gh_cJ29) [] ⟨0, 8, 11, 102⟩ [] rfl (fun _ h => nomatch h) rfl (by decide) q1967 q1979 ?_
      exact w_X0_brokenShare_11 C (some e.2) (gl_sub hl [] rfl) h hk
    replace h := gh_iff h c7
    exact gh_stk_inv h
  obtain ⟨hz9, h⟩ := gh_ok_inv h
  refine gr_f2d (pc := 6) C (gh_n64_of hz9) dX0_brokenShare_6 ?_
  rcases p1 with _ | a3
  · exact gh_stk_inv h
  replace h := gh_nn_ss h
  refine gr_dast (pc := 7) C dX0_brokenShare_7 h fun g h => ?_
  refine gr_goto (pc := 8) (tgt := 14) C rfl dX0_brokenShare_8 ?_
  refine gr_iconst (pc := 14) (v := (0 : Int32)) C rfl dX0_brokenShare_14 ?_
  exact gr_iret (pc := 15) C dX0_brokenShare_15 h hk

theorem k_X0_brokenShare {l : Launch} (hst : l.stackTraces = false) (p0 : Option Nat) (p1 : Option Nat) : gh_Ct l yX0_brokenShare 8 144 (f_X0_brokenShare p0 p1) gh_rI [va_rf p0, va_rf p1] := gh_introW2 (L1 := 130) hst (by decide +kernel) q1996 q74 rfl ⟨gh_cat _, gh_cat _, trivial⟩ (Nat.le_of_ble_eq_true rfl) fun x o ls hl C h hk => w_X0_brokenShare C p0 p1 hl h hk
-- GargoyleTowerLaw.reason(LGargoyleTower;IZ[J)I
abbrev hh_X0_reason : List ExceptionTableEntry := tableOf [(0, 10, 13, 13), (0, 10, 17, 34)]
noncomputable def f_X0_reason_17 (s0 : Option Nat) : gh_M Int32 :=
  gh_ret (2 : Int32)
theorem w_X0_reason_17 {x : gh_C} {g : gh_G} {o : (Int32 ⊕ gh_X) × gh_G} {ls : Array Slot} (C : gh_K x cX0_reason "GargoyleTowerLaw" 5 (some .int) "reason" 9 154 hh_X0_reason) (s0 : Option Nat) (hl : gh_lv ls 5 []) (h : gh_run (f_X0_reason_17 s0) g = some o) (hk : (gh_K0 x gh_rI) o) : gh_Wd x g (F0 (gh_cm x) 17 ls [va_rf s0]) := by
  unfold f_X0_reason_17 at h
  refine gr_astore (pc := 17) (i := 4) (l' := [(4, va_rf s0)]) C hl (Nat.le_of_ble_eq_true rfl) rfl dX0_reason_17 fun ls hl => ?_
  refine gr_iconst (pc := 19) (v := (2 : Int32)) C rfl dX0_reason_19 ?_
  exact gr_iret (pc := 20) C dX0_reason_20 h hk

noncomputable def f_X0_reason_13 (s0 : Option Nat) : gh_M Int32 :=
  gh_ret (1 : Int32)
theorem w_X0_reason_13 {x : gh_C} {g : gh_G} {o : (Int32 ⊕ gh_X) × gh_G} {ls : Array Slot} (C : gh_K x cX0_reason "GargoyleTowerLaw" 5 (some .int) "reason" 9 154 hh_X0_reason) (s0 : Option Nat) (hl : gh_lv ls 5 []) (h : gh_run (f_X0_reason_13 s0) g = some o) (hk : (gh_K0 x gh_rI) o) : gh_Wd x g (F0 (gh_cm x) 13 ls [va_rf s0]) := by
  unfold f_X0_reason_13 at h
  refine gr_astore (pc := 13) (i := 4) (l' := [(4, va_rf s0)]) C hl (Nat.le_of_ble_eq_true rfl) rfl dX0_reason_13 fun ls hl => ?_
  refine gr_iconst (pc := 15) (v := (1 : Int32)) C rfl dX0_reason_15 ?_
  exact gr_iret (pc := 16) C dX0_reason_16 h hk

noncomputable def f_X0_reason (p0 : Option Nat) (p1 : Int32) (p2 : Int32) (p3 : Option Nat) : gh_M Int32 :=
  gh_nn p0 fun a1 =>
  gh_bd (gh_is a1 0) fun _ =>
  gh_tc (f_X1_reason a1 p1 p2) (fun v2 =>
  gh_nn p3 fun a3 =>
  gh_bd (gh_last a3 (0 : Int32) v2.toInt64) fun _ =>
  gh_ret (0 : Int32))
  (fun e => if e.1 = 17 then (f_X0_reason_13 (some e.2)) else if e.1 = 18 then (f_X0_reason_17 (some e.2)) else gh_stk)
theorem w_X0_reason {x : gh_C} {g : gh_G} {o : (Int32 ⊕ gh_X) × gh_G} {ls : Array Slot} (C : gh_K x cX0_reason "GargoyleTowerLaw" 5 (some .int) "reason" 9 154 hh_X0_reason) (p0 : Option Nat) (p1 : Int32) (p2 : Int32) (p3 : Option Nat) (hl : gh_lv ls 5 [(0, va_rf p0), (1, .int p1), (2, .int p2), (3, va_rf p3)]) (h : gh_run (f_X0_reason p0 p1 p2 p3) g = some o) (hk : (gh_K0 x gh_rI) o) : gh_Wd x g (F0 (gh_cm x) 0 ls []) := by
  unfold f_X0_reason at h
  refine gr_aload_n (pc := 0) (i := 3) C rfl (gl_at hl 3 rfl) dX0_reason_0 ?_
  refine gr_iconst (pc := 1) (v := (0 : Int32)) C rfl dX0_reason_1 ?_
  refine gr_aload_n (pc := 2) (i := 0) C rfl (gl_at hl 0 rfl) dX0_reason_2 ?_
  refine gr_iload_n (pc := 3) (i := 1) C rfl (gl_at hl 1 rfl) dX0_reason_3 ?_
  refine gr_iload_n (pc := 4) (i := 2) C rfl (gl_at hl 2 rfl) dX0_reason_4 ?_
  rcases p0 with _ | a1
  · exact gh_stk_inv h
  replace h := gh_nn_ss h
  obtain ⟨⟨fs9, hg9⟩, h⟩ := gh_is_inv h
  refine gh_callI (pc := 5) (rest := [.int (0 : Int32), va_rf p3]) C (k_X1_reason C.tr a1 p1 p2) (Nat.le_of_ble_eq_true rfl) (Nat.le_of_ble_eq_true rfl) (gh_r4 (Nat.le_of_ble_eq_true rfl)) (fun H9 L9 hp9 => gi_V C hp9 hg9 gh_cX1 q2009 q2010 q2011 q2012 mh_X1 np62 rfl hl.1.1 dX0_reason_5 rfl) h (gh_K0_b _ hk) (fun v2 g h => ?_) (fun e g h => ?_)
  rotate_left
  ·
    by_cases c7 : e.1 = 17
    · replace h := gh_ift h c7
      refine gh_catch C (q := (RJ20, TJ20, 6)) (by rw [c7]; exact gh_cJ20) [] ⟨0, 10, 13, 13⟩ [⟨0, 10, 17, 34⟩] rfl (fun _ h => nomatch h) rfl (by decide) q1100 q648 ?_
      exact w_X0_reason_13 C (some e.2) (gl_sub hl [] rfl) h hk
    replace h := gh_iff h c7
    by_cases c7 : e.1 = 18
    · replace h := gh_ift h c7
      refine gh_catch C (q := (RJ21, TJ21, 6)) (by rw [c7]; exact gh_cJ21) [⟨0, 10, 13, 13⟩] ⟨0, 10, 17, 34⟩ [] rfl (List.forall_mem_cons.mpr ⟨Or.inr ⟨by decide, _, q1100, by decide +kernel⟩, (fun _ h => nomatch h)⟩) rfl (by decide) q1523 q724 ?_
      exact w_X0_reason_17 C (some e.2) (gl_sub hl [] rfl) h hk
    replace h := gh_iff h c7
    exact gh_stk_inv h
  refine gr_i2l (pc := 8) (v := v2.toInt64) C rfl dX0_reason_8 ?_
  rcases p3 with _ | a3
  · exact gh_stk_inv h
  replace h := gh_nn_ss h
  refine gr_last (pc := 9) C dX0_reason_9 h fun g h => ?_
  refine gr_goto (pc := 10) (tgt := 21) C rfl dX0_reason_10 ?_
  refine gr_iconst (pc := 21) (v := (0 : Int32)) C rfl dX0_reason_21 ?_
  exact gr_iret (pc := 22) C dX0_reason_22 h hk

theorem k_X0_reason {l : Launch} (hst : l.stackTraces = false) (p0 : Option Nat) (p1 : Int32) (p2 : Int32) (p3 : Option Nat) : gh_Ct l yX0_reason 9 170 (f_X0_reason p0 p1 p2 p3) gh_rI [va_rf p0, .int p1, .int p2, va_rf p3] := gh_introW2 (L1 := 154) hst (by decide +kernel) q2008 q74 rfl ⟨gh_cat _, rfl, rfl, gh_cat _, trivial⟩ (Nat.le_of_ble_eq_true rfl) fun x o ls hl C h hk => w_X0_reason C p0 p1 p2 p3 hl h hk
-- GargoyleTowerLaw.account(LGargoyleTower;I[J)I
abbrev hh_X0_account : List ExceptionTableEntry := tableOf [(0, 9, 12, 13)]
noncomputable def f_X0_account_12 (s0 : Option Nat) : gh_M Int32 :=
  gh_ret (1 : Int32)
theorem w_X0_account_12 {x : gh_C} {g : gh_G} {o : (Int32 ⊕ gh_X) × gh_G} {ls : Array Slot} (C : gh_K x cX0_account "GargoyleTowerLaw" 4 (some .int) "account" 9 151 hh_X0_account) (s0 : Option Nat) (hl : gh_lv ls 4 []) (h : gh_run (f_X0_account_12 s0) g = some o) (hk : (gh_K0 x gh_rI) o) : gh_Wd x g (F0 (gh_cm x) 12 ls [va_rf s0]) := by
  unfold f_X0_account_12 at h
  refine gr_astore_n (pc := 12) (i := 3) (l' := [(3, va_rf s0)]) C rfl hl (Nat.le_of_ble_eq_true rfl) rfl dX0_account_12 fun ls hl => ?_
  refine gr_iconst (pc := 13) (v := (1 : Int32)) C rfl dX0_account_13 ?_
  exact gr_iret (pc := 14) C dX0_account_14 h hk

noncomputable def f_X0_account (p0 : Option Nat) (p1 : Int32) (p2 : Option Nat) : gh_M Int32 :=
  gh_nn p0 fun a1 =>
  gh_bd (gh_is a1 0) fun _ =>
  gh_tc (f_X1_account a1 p1) (fun v2 =>
  gh_nn p2 fun a3 =>
  gh_bd (gh_last a3 (0 : Int32) v2.toInt64) fun _ =>
  gh_ret (0 : Int32))
  (fun e => if e.1 = 17 then (f_X0_account_12 (some e.2)) else gh_stk)
theorem w_X0_account {x : gh_C} {g : gh_G} {o : (Int32 ⊕ gh_X) × gh_G} {ls : Array Slot} (C : gh_K x cX0_account "GargoyleTowerLaw" 4 (some .int) "account" 9 151 hh_X0_account) (p0 : Option Nat) (p1 : Int32) (p2 : Option Nat) (hl : gh_lv ls 4 [(0, va_rf p0), (1, .int p1), (2, va_rf p2)]) (h : gh_run (f_X0_account p0 p1 p2) g = some o) (hk : (gh_K0 x gh_rI) o) : gh_Wd x g (F0 (gh_cm x) 0 ls []) := by
  unfold f_X0_account at h
  refine gr_aload_n (pc := 0) (i := 2) C rfl (gl_at hl 2 rfl) dX0_account_0 ?_
  refine gr_iconst (pc := 1) (v := (0 : Int32)) C rfl dX0_account_1 ?_
  refine gr_aload_n (pc := 2) (i := 0) C rfl (gl_at hl 0 rfl) dX0_account_2 ?_
  refine gr_iload_n (pc := 3) (i := 1) C rfl (gl_at hl 1 rfl) dX0_account_3 ?_
  rcases p0 with _ | a1
  · exact gh_stk_inv h
  replace h := gh_nn_ss h
  obtain ⟨⟨fs9, hg9⟩, h⟩ := gh_is_inv h
  refine gh_callI (pc := 4) (rest := [.int (0 : Int32), va_rf p2]) C (k_X1_account C.tr a1 p1) (Nat.le_of_ble_eq_true rfl) (Nat.le_of_ble_eq_true rfl) (gh_r4 (Nat.le_of_ble_eq_true rfl)) (fun H9 L9 hp9 => gi_V C hp9 hg9 gh_cX1 q2030 q2031 q2032 q2033 mh_X1 np6 rfl hl.1.1 dX0_account_4 rfl) h (gh_K0_b _ hk) (fun v2 g h => ?_) (fun e g h => ?_)
  rotate_left
  ·
    by_cases c7 : e.1 = 17
    · replace h := gh_ift h c7
      refine gh_catch C (q := (RJ20, TJ20, 6)) (by rw [c7]; exact gh_cJ20) [] ⟨0, 9, 12, 13⟩ [] rfl (fun _ h => nomatch h) rfl (by decide) q1100 q648 ?_
      exact w_X0_account_12 C (some e.2) (gl_sub hl [] rfl) h hk
    replace h := gh_iff h c7
    exact gh_stk_inv h
  refine gr_i2l (pc := 7) (v := v2.toInt64) C rfl dX0_account_7 ?_
  rcases p2 with _ | a3
  · exact gh_stk_inv h
  replace h := gh_nn_ss h
  refine gr_last (pc := 8) C dX0_account_8 h fun g h => ?_
  refine gr_goto (pc := 9) (tgt := 15) C rfl dX0_account_9 ?_
  refine gr_iconst (pc := 15) (v := (0 : Int32)) C rfl dX0_account_15 ?_
  exact gr_iret (pc := 16) C dX0_account_16 h hk

theorem k_X0_account {l : Launch} (hst : l.stackTraces = false) (p0 : Option Nat) (p1 : Int32) (p2 : Option Nat) : gh_Ct l yX0_account 9 166 (f_X0_account p0 p1 p2) gh_rI [va_rf p0, .int p1, va_rf p2] := gh_introW2 (L1 := 151) hst (by decide +kernel) q2029 q74 rfl ⟨gh_cat _, rfl, gh_cat _, trivial⟩ (Nat.le_of_ble_eq_true rfl) fun x o ls hl C h hk => w_X0_account C p0 p1 p2 hl h hk
-- GargoyleTowerLaw.feed(LGargoyleTower;C[J)I
abbrev hh_X0_feed : List ExceptionTableEntry := tableOf [(0, 9, 12, 118)]
noncomputable def f_X0_feed_12 (s0 : Option Nat) : gh_M Int32 :=
  gh_ret (1 : Int32)
theorem w_X0_feed_12 {x : gh_C} {g : gh_G} {o : (Int32 ⊕ gh_X) × gh_G} {ls : Array Slot} (C : gh_K x cX0_feed "GargoyleTowerLaw" 4 (some .int) "feed" 9 151 hh_X0_feed) (s0 : Option Nat) (hl : gh_lv ls 4 []) (h : gh_run (f_X0_feed_12 s0) g = some o) (hk : (gh_K0 x gh_rI) o) : gh_Wd x g (F0 (gh_cm x) 12 ls [va_rf s0]) := by
  unfold f_X0_feed_12 at h
  refine gr_astore_n (pc := 12) (i := 3) (l' := [(3, va_rf s0)]) C rfl hl (Nat.le_of_ble_eq_true rfl) rfl dX0_feed_12 fun ls hl => ?_
  refine gr_iconst (pc := 13) (v := (1 : Int32)) C rfl dX0_feed_13 ?_
  exact gr_iret (pc := 14) C dX0_feed_14 h hk

noncomputable def f_X0_feed (p0 : Option Nat) (p1 : Int32) (p2 : Option Nat) : gh_M Int32 :=
  gh_nn p0 fun a1 =>
  gh_bd (gh_is a1 0) fun _ =>
  gh_tc (f_X1_feed a1 p1) (fun v2 =>
  gh_nn p2 fun a3 =>
  gh_bd (gh_last a3 (0 : Int32) v2.toInt64) fun _ =>
  gh_ret (0 : Int32))
  (fun e => if e.1 = 19 then (f_X0_feed_12 (some e.2)) else gh_stk)
theorem w_X0_feed {x : gh_C} {g : gh_G} {o : (Int32 ⊕ gh_X) × gh_G} {ls : Array Slot} (C : gh_K x cX0_feed "GargoyleTowerLaw" 4 (some .int) "feed" 9 151 hh_X0_feed) (p0 : Option Nat) (p1 : Int32) (p2 : Option Nat) (hl : gh_lv ls 4 [(0, va_rf p0), (1, .int p1), (2, va_rf p2)]) (h : gh_run (f_X0_feed p0 p1 p2) g = some o) (hk : (gh_K0 x gh_rI) o) : gh_Wd x g (F0 (gh_cm x) 0 ls []) := by
  unfold f_X0_feed at h
  refine gr_aload_n (pc := 0) (i := 2) C rfl (gl_at hl 2 rfl) dX0_feed_0 ?_
  refine gr_iconst (pc := 1) (v := (0 : Int32)) C rfl dX0_feed_1 ?_
  refine gr_aload_n (pc := 2) (i := 0) C rfl (gl_at hl 0 rfl) dX0_feed_2 ?_
  refine gr_iload_n (pc := 3) (i := 1) C rfl (gl_at hl 1 rfl) dX0_feed_3 ?_
  rcases p0 with _ | a1
  · exact gh_stk_inv h
  replace h := gh_nn_ss h
  obtain ⟨⟨fs9, hg9⟩, h⟩ := gh_is_inv h
  refine gh_callI (pc := 4) (rest := [.int (0 : Int32), va_rf p2]) C (k_X1_feed C.tr a1 p1) (Nat.le_of_ble_eq_true rfl) (Nat.le_of_ble_eq_true rfl) (gh_r4 (Nat.le_of_ble_eq_true rfl)) (fun H9 L9 hp9 => gi_V C hp9 hg9 gh_cX1 q2046 q2047 q2048 q2049 mh_X1 np90 rfl hl.1.1 dX0_feed_4 rfl) h (gh_K0_b _ hk) (fun v2 g h => ?_) (fun e g h => ?_)
  rotate_left
  ·
    by_cases c7 : e.1 = 19
    · replace h := gh_ift h c7
      refine gh_catch C (q := (RJ22, TJ22, 6)) (by rw [c7]; exact gh_cJ22) [] ⟨0, 9, 12, 118⟩ [] rfl (fun _ h => nomatch h) rfl (by decide) q2045 q1443 ?_
      exact w_X0_feed_12 C (some e.2) (gl_sub hl [] rfl) h hk
    replace h := gh_iff h c7
    exact gh_stk_inv h
  refine gr_i2l (pc := 7) (v := v2.toInt64) C rfl dX0_feed_7 ?_
  rcases p2 with _ | a3
  · exact gh_stk_inv h
  replace h := gh_nn_ss h
  refine gr_last (pc := 8) C dX0_feed_8 h fun g h => ?_
  refine gr_goto (pc := 9) (tgt := 15) C rfl dX0_feed_9 ?_
  refine gr_iconst (pc := 15) (v := (0 : Int32)) C rfl dX0_feed_15 ?_
  exact gr_iret (pc := 16) C dX0_feed_16 h hk

theorem k_X0_feed {l : Launch} (hst : l.stackTraces = false) (p0 : Option Nat) (p1 : Int32) (p2 : Option Nat) : gh_Ct l yX0_feed 9 166 (f_X0_feed p0 p1 p2) gh_rI [va_rf p0, .int p1, va_rf p2] := gh_introW2 (L1 := 151) hst (by decide +kernel) q2044 q74 rfl ⟨gh_cat _, rfl, gh_cat _, trivial⟩ (Nat.le_of_ble_eq_true rfl) fun x o ls hl C h hk => w_X0_feed C p0 p1 p2 hl h hk
-- GargoyleTowerLaw.perform(LGargoyleTower;[J)I
abbrev hh_X0_perform : List ExceptionTableEntry := tableOf [(0, 8, 11, 15)]
noncomputable def f_X0_perform_11 (s0 : Option Nat) : gh_M Int32 :=
  gh_ret (1 : Int32)
theorem w_X0_perform_11 {x : gh_C} {g : gh_G} {o : (Int32 ⊕ gh_X) × gh_G} {ls : Array Slot} (C : gh_K x cX0_perform "GargoyleTowerLaw" 3 (some .int) "perform" 56 1211 hh_X0_perform) (s0 : Option Nat) (hl : gh_lv ls 3 []) (h : gh_run (f_X0_perform_11 s0) g = some o) (hk : (gh_K0 x gh_rI) o) : gh_Wd x g (F0 (gh_cm x) 11 ls [va_rf s0]) := by
  unfold f_X0_perform_11 at h
  refine gr_astore_n (pc := 11) (i := 2) (l' := [(2, va_rf s0)]) C rfl hl (Nat.le_of_ble_eq_true rfl) rfl dX0_perform_11 fun ls hl => ?_
  refine gr_iconst (pc := 12) (v := (1 : Int32)) C rfl dX0_perform_12 ?_
  exact gr_iret (pc := 13) C dX0_perform_13 h hk

noncomputable def f_X0_perform (p0 : Option Nat) (p1 : Option Nat) : gh_M Int32 :=
  gh_nn p0 fun a1 =>
  gh_bd (gh_is a1 0) fun _ =>
  gh_tc (f_X1_perform a1) (fun v2 =>
  gh_nn p1 fun a3 =>
  gh_bd (gh_last a3 (0 : Int32) v2.toInt64) fun _ =>
  gh_ret (0 : Int32))
  (fun e => if e.1 = 20 then (f_X0_perform_11 (some e.2)) else gh_stk)
theorem w_X0_perform {x : gh_C} {g : gh_G} {o : (Int32 ⊕ gh_X) × gh_G} {ls : Array Slot} (C : gh_K x cX0_perform "GargoyleTowerLaw" 3 (some .int) "perform" 56 1211 hh_X0_perform) (p0 : Option Nat) (p1 : Option Nat) (hl : gh_lv ls 3 [(0, va_rf p0), (1, va_rf p1)]) (h : gh_run (f_X0_perform p0 p1) g = some o) (hk : (gh_K0 x gh_rI) o) : gh_Wd x g (F0 (gh_cm x) 0 ls []) := by
  unfold f_X0_perform at h
  refine gr_aload_n (pc := 0) (i := 1) C rfl (gl_at hl 1 rfl) dX0_perform_0 ?_
  refine gr_iconst (pc := 1) (v := (0 : Int32)) C rfl dX0_perform_1 ?_
  refine gr_aload_n (pc := 2) (i := 0) C rfl (gl_at hl 0 rfl) dX0_perform_2 ?_
  rcases p0 with _ | a1
  · exact gh_stk_inv h
  replace h := gh_nn_ss h
  obtain ⟨⟨fs9, hg9⟩, h⟩ := gh_is_inv h
  refine gh_callI (pc := 3) (rest := [.int (0 : Int32), va_rf p1]) C (k_X1_perform C.tr a1) (Nat.le_of_ble_eq_true rfl) (Nat.le_of_ble_eq_true rfl) (gh_r4 (Nat.le_of_ble_eq_true rfl)) (fun H9 L9 hp9 => gi_VX C hp9 hg9 gh_cX1 q2061 q2062 q2063 q2064 mh_X1 np0 rfl hl.1.1 dX0_perform_3 rfl) h (gh_K0_b _ hk) (fun v2 g h => ?_) (fun e g h => ?_)
  rotate_left
  ·
    by_cases c7 : e.1 = 20
    · replace h := gh_ift h c7
      refine gh_catch C (q := (RJ23, TJ23, 6)) (by rw [c7]; exact gh_cJ23) [] ⟨0, 8, 11, 15⟩ [] rfl (fun _ h => nomatch h) rfl (by decide) q1101 q1466 ?_
      exact w_X0_perform_11 C (some e.2) (gl_sub hl [] rfl) h hk
    replace h := gh_iff h c7
    exact gh_stk_inv h
  refine gr_i2l (pc := 6) (v := v2.toInt64) C rfl dX0_perform_6 ?_
  rcases p1 with _ | a3
  · exact gh_stk_inv h
  replace h := gh_nn_ss h
  refine gr_last (pc := 7) C dX0_perform_7 h fun g h => ?_
  refine gr_goto (pc := 8) (tgt := 14) C rfl dX0_perform_8 ?_
  refine gr_iconst (pc := 14) (v := (0 : Int32)) C rfl dX0_perform_14 ?_
  exact gr_iret (pc := 15) C dX0_perform_15 h hk

theorem k_X0_perform {l : Launch} (hst : l.stackTraces = false) (p0 : Option Nat) (p1 : Option Nat) : gh_Ct l yX0_perform 56 1225 (f_X0_perform p0 p1) gh_rI [va_rf p0, va_rf p1] := gh_introW2 (L1 := 1211) hst (by decide +kernel) q2060 q74 rfl ⟨gh_cat _, gh_cat _, trivial⟩ (Nat.le_of_ble_eq_true rfl) fun x o ls hl C h hk => w_X0_perform C p0 p1 hl h hk
-- GargoyleTowerLaw.undo(LGargoyleTower;[J)I
abbrev hh_X0_undo : List ExceptionTableEntry := tableOf [(0, 8, 11, 118)]
noncomputable def f_X0_undo_11 (s0 : Option Nat) : gh_M Int32 :=
  gh_ret (1 : Int32)
theorem w_X0_undo_11 {x : gh_C} {g : gh_G} {o : (Int32 ⊕ gh_X) × gh_G} {ls : Array Slot} (C : gh_K x cX0_undo "GargoyleTowerLaw" 3 (some .int) "undo" 9 150 hh_X0_undo) (s0 : Option Nat) (hl : gh_lv ls 3 []) (h : gh_run (f_X0_undo_11 s0) g = some o) (hk : (gh_K0 x gh_rI) o) : gh_Wd x g (F0 (gh_cm x) 11 ls [va_rf s0]) := by
  unfold f_X0_undo_11 at h
  refine gr_astore_n (pc := 11) (i := 2) (l' := [(2, va_rf s0)]) C rfl hl (Nat.le_of_ble_eq_true rfl) rfl dX0_undo_11 fun ls hl => ?_
  refine gr_iconst (pc := 12) (v := (1 : Int32)) C rfl dX0_undo_12 ?_
  exact gr_iret (pc := 13) C dX0_undo_13 h hk

noncomputable def f_X0_undo (p0 : Option Nat) (p1 : Option Nat) : gh_M Int32 :=
  gh_nn p0 fun a1 =>
  gh_bd (gh_is a1 0) fun _ =>
  gh_tc (f_X1_undo a1) (fun v2 =>
  gh_nn p1 fun a3 =>
  gh_bd (gh_last a3 (0 : Int32) v2.toInt64) fun _ =>
  gh_ret (0 : Int32))
  (fun e => if e.1 = 19 then (f_X0_undo_11 (some e.2)) else gh_stk)
theorem w_X0_undo {x : gh_C} {g : gh_G} {o : (Int32 ⊕ gh_X) × gh_G} {ls : Array Slot} (C : gh_K x cX0_undo "GargoyleTowerLaw" 3 (some .int) "undo" 9 150 hh_X0_undo) (p0 : Option Nat) (p1 : Option Nat) (hl : gh_lv ls 3 [(0, va_rf p0), (1, va_rf p1)]) (h : gh_run (f_X0_undo p0 p1) g = some o) (hk : (gh_K0 x gh_rI) o) : gh_Wd x g (F0 (gh_cm x) 0 ls []) := by
  unfold f_X0_undo at h
  refine gr_aload_n (pc := 0) (i := 1) C rfl (gl_at hl 1 rfl) dX0_undo_0 ?_
  refine gr_iconst (pc := 1) (v := (0 : Int32)) C rfl dX0_undo_1 ?_
  refine gr_aload_n (pc := 2) (i := 0) C rfl (gl_at hl 0 rfl) dX0_undo_2 ?_
  rcases p0 with _ | a1
  · exact gh_stk_inv h
  replace h := gh_nn_ss h
  obtain ⟨⟨fs9, hg9⟩, h⟩ := gh_is_inv h
  refine gh_callI (pc := 3) (rest := [.int (0 : Int32), va_rf p1]) C (k_X1_undo C.tr a1) (Nat.le_of_ble_eq_true rfl) (Nat.le_of_ble_eq_true rfl) (gh_r4 (Nat.le_of_ble_eq_true rfl)) (fun H9 L9 hp9 => gi_V C hp9 hg9 gh_cX1 q2264 q2265 q2266 q2267 mh_X1 np0 rfl hl.1.1 dX0_undo_3 rfl) h (gh_K0_b _ hk) (fun v2 g h => ?_) (fun e g h => ?_)
  rotate_left
  ·
    by_cases c7 : e.1 = 19
    · replace h := gh_ift h c7
      refine gh_catch C (q := (RJ22, TJ22, 6)) (by rw [c7]; exact gh_cJ22) [] ⟨0, 8, 11, 118⟩ [] rfl (fun _ h => nomatch h) rfl (by decide) q2045 q1443 ?_
      exact w_X0_undo_11 C (some e.2) (gl_sub hl [] rfl) h hk
    replace h := gh_iff h c7
    exact gh_stk_inv h
  refine gr_i2l (pc := 6) (v := v2.toInt64) C rfl dX0_undo_6 ?_
  rcases p1 with _ | a3
  · exact gh_stk_inv h
  replace h := gh_nn_ss h
  refine gr_last (pc := 7) C dX0_undo_7 h fun g h => ?_
  refine gr_goto (pc := 8) (tgt := 14) C rfl dX0_undo_8 ?_
  refine gr_iconst (pc := 14) (v := (0 : Int32)) C rfl dX0_undo_14 ?_
  exact gr_iret (pc := 15) C dX0_undo_15 h hk

theorem k_X0_undo {l : Launch} (hst : l.stackTraces = false) (p0 : Option Nat) (p1 : Option Nat) : gh_Ct l yX0_undo 9 164 (f_X0_undo p0 p1) gh_rI [va_rf p0, va_rf p1] := gh_introW2 (L1 := 150) hst (by decide +kernel) q2263 q74 rfl ⟨gh_cat _, gh_cat _, trivial⟩ (Nat.le_of_ble_eq_true rfl) fun x o ls hl C h hk => w_X0_undo C p0 p1 hl h hk
-- GargoyleTowerLaw.restore(LGargoyleTower;[J)I
abbrev hh_X0_restore : List ExceptionTableEntry := tableOf [(0, 8, 11, 118)]
noncomputable def f_X0_restore_11 (s0 : Option Nat) : gh_M Int32 :=
  gh_ret (1 : Int32)
theorem w_X0_restore_11 {x : gh_C} {g : gh_G} {o : (Int32 ⊕ gh_X) × gh_G} {ls : Array Slot} (C : gh_K x cX0_restore "GargoyleTowerLaw" 3 (some .int) "restore" 9 235 hh_X0_restore) (s0 : Option Nat) (hl : gh_lv ls 3 []) (h : gh_run (f_X0_restore_11 s0) g = some o) (hk : (gh_K0 x gh_rI) o) : gh_Wd x g (F0 (gh_cm x) 11 ls [va_rf s0]) := by
  unfold f_X0_restore_11 at h
  refine gr_astore_n (pc := 11) (i := 2) (l' := [(2, va_rf s0)]) C rfl hl (Nat.le_of_ble_eq_true rfl) rfl dX0_restore_11 fun ls hl => ?_
  refine gr_iconst (pc := 12) (v := (1 : Int32)) C rfl dX0_restore_12 ?_
  exact gr_iret (pc := 13) C dX0_restore_13 h hk

noncomputable def f_X0_restore (p0 : Option Nat) (p1 : Option Nat) : gh_M Int32 :=
  gh_nn p0 fun a1 =>
  gh_bd (gh_is a1 0) fun _ =>
  gh_tc (f_X1_restore a1) (fun v2 =>
  gh_nn p1 fun a3 =>
  gh_bd (gh_last a3 (0 : Int32) v2.toInt64) fun _ =>
  gh_ret (0 : Int32))
  (fun e => if e.1 = 19 then (f_X0_restore_11 (some e.2)) else gh_stk)
theorem w_X0_restore {x : gh_C} {g : gh_G} {o : (Int32 ⊕ gh_X) × gh_G} {ls : Array Slot} (C : gh_K x cX0_restore "GargoyleTowerLaw" 3 (some .int) "restore" 9 235 hh_X0_restore) (p0 : Option Nat) (p1 : Option Nat) (hl : gh_lv ls 3 [(0, va_rf p0), (1, va_rf p1)]) (h : gh_run (f_X0_restore p0 p1) g = some o) (hk : (gh_K0 x gh_rI) o) : gh_Wd x g (F0 (gh_cm x) 0 ls []) := by
  unfold f_X0_restore at h
  refine gr_aload_n (pc := 0) (i := 1) C rfl (gl_at hl 1 rfl) dX0_restore_0 ?_
  refine gr_iconst (pc := 1) (v := (0 : Int32)) C rfl dX0_restore_1 ?_
  refine gr_aload_n (pc := 2) (i := 0) C rfl (gl_at hl 0 rfl) dX0_restore_2 ?_
  rcases p0 with _ | a1
  · exact gh_stk_inv h
  replace h := gh_nn_ss h
  obtain ⟨⟨fs9, hg9⟩, h⟩ := gh_is_inv h
  refine gh_callI (pc := 3) (rest := [.int (0 : Int32), va_rf p1]) C (k_X1_restore C.tr a1) (Nat.le_of_ble_eq_true rfl) (Nat.le_of_ble_eq_true rfl) (gh_r4 (Nat.le_of_ble_eq_true rfl)) (fun H9 L9 hp9 => gi_V C hp9 hg9 gh_cX1 q2286 q2287 q2288 q2289 mh_X1 np0 rfl hl.1.1 dX0_restore_3 rfl) h (gh_K0_b _ hk) (fun v2 g h => ?_) (fun e g h => ?_)
  rotate_left
  ·
    by_cases c7 : e.1 = 19
    · replace h := gh_ift h c7
      refine gh_catch C (q := (RJ22, TJ22, 6)) (by rw [c7]; exact gh_cJ22) [] ⟨0, 8, 11, 118⟩ [] rfl (fun _ h => nomatch h) rfl (by decide) q2045 q1443 ?_
      exact w_X0_restore_11 C (some e.2) (gl_sub hl [] rfl) h hk
    replace h := gh_iff h c7
    exact gh_stk_inv h
  refine gr_i2l (pc := 6) (v := v2.toInt64) C rfl dX0_restore_6 ?_
  rcases p1 with _ | a3
  · exact gh_stk_inv h
  replace h := gh_nn_ss h
  refine gr_last (pc := 7) C dX0_restore_7 h fun g h => ?_
  refine gr_goto (pc := 8) (tgt := 14) C rfl dX0_restore_8 ?_
  refine gr_iconst (pc := 14) (v := (0 : Int32)) C rfl dX0_restore_14 ?_
  exact gr_iret (pc := 15) C dX0_restore_15 h hk

theorem k_X0_restore {l : Launch} (hst : l.stackTraces = false) (p0 : Option Nat) (p1 : Option Nat) : gh_Ct l yX0_restore 9 249 (f_X0_restore p0 p1) gh_rI [va_rf p0, va_rf p1] := gh_introW2 (L1 := 235) hst (by decide +kernel) q2285 q74 rfl ⟨gh_cat _, gh_cat _, trivial⟩ (Nat.le_of_ble_eq_true rfl) fun x o ls hl C h hk => w_X0_restore C p0 p1 hl h hk
