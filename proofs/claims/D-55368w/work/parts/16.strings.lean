/-! strings: rows of the code, functions, walks, contracts (printed) -/
set_option maxRecDepth 100000
abbrev cJ17_copyOf : ByteArray := prog_52_method_121_code
def yJ17_copyOf : MethodName := ⟨RJ17, "copyOf", "([BI)[B"⟩
def dkwJ17_copyOf_1 : List UInt8 := [27, 184, 1, 48, 184, 0, 150, 44, 176]
abbrev dktJ17_copyOf_1 : List UInt8 := dkwJ17_copyOf_1 ++ []
def dkwJ17_copyOf_0 : List UInt8 := [27, 42, 190, 160, 0, 11, 42, 182, 1, 54, 192, 1, 55, 176, 27, 188, 8, 77, 42, 3, 44, 3, 42, 190]
abbrev dktJ17_copyOf_0 : List UInt8 := dkwJ17_copyOf_0 ++ dktJ17_copyOf_1
theorem dksJ17_copyOf_0 : cJ17_copyOf.data.toList.drop 0 = dktJ17_copyOf_0 := by decide +kernel
theorem dksJ17_copyOf_1 : cJ17_copyOf.data.toList.drop 24 = dktJ17_copyOf_1 := dk_seg dksJ17_copyOf_0 24 rfl rfl
theorem dJ17_copyOf_0 : decode cJ17_copyOf 0 = .ok (.iload_n 1, 1) := dk_27 (dk_at dksJ17_copyOf_0 0 rfl rfl)
theorem dJ17_copyOf_1 : decode cJ17_copyOf 1 = .ok (.aload_n 0, 1) := dk_42 (dk_at dksJ17_copyOf_0 1 rfl rfl)
theorem dJ17_copyOf_2 : decode cJ17_copyOf 2 = .ok (.arraylength, 1) := dk_190 (dk_at dksJ17_copyOf_0 2 rfl rfl)
theorem dJ17_copyOf_3 : decode cJ17_copyOf 3 = .ok (.if_icmp .ne 11, 3) := dk_160 0 11 (dk_at dksJ17_copyOf_0 3 rfl rfl)
theorem dJ17_copyOf_6 : decode cJ17_copyOf 6 = .ok (.aload_n 0, 1) := dk_42 (dk_at dksJ17_copyOf_0 6 rfl rfl)
theorem dJ17_copyOf_7 : decode cJ17_copyOf 7 = .ok (.invokevirtual 310, 3) := dk_182 1 54 (dk_at dksJ17_copyOf_0 7 rfl rfl)
theorem dJ17_copyOf_10 : decode cJ17_copyOf 10 = .ok (.checkcast 311, 3) := dk_192 1 55 (dk_at dksJ17_copyOf_0 10 rfl rfl)
theorem dJ17_copyOf_13 : decode cJ17_copyOf 13 = .ok (.areturn, 1) := dk_176 (dk_at dksJ17_copyOf_0 13 rfl rfl)
theorem dJ17_copyOf_14 : decode cJ17_copyOf 14 = .ok (.iload_n 1, 1) := dk_27 (dk_at dksJ17_copyOf_0 14 rfl rfl)
theorem dJ17_copyOf_15 : decode cJ17_copyOf 15 = .ok (.newarray .byte, 2) := dk_188_8 (dk_at dksJ17_copyOf_0 15 rfl rfl)
theorem dJ17_copyOf_17 : decode cJ17_copyOf 17 = .ok (.astore_n 2, 1) := dk_77 (dk_at dksJ17_copyOf_0 17 rfl rfl)
theorem dJ17_copyOf_18 : decode cJ17_copyOf 18 = .ok (.aload_n 0, 1) := dk_42 (dk_at dksJ17_copyOf_0 18 rfl rfl)
theorem dJ17_copyOf_19 : decode cJ17_copyOf 19 = .ok (.iconst 0, 1) := dk_3 (dk_at dksJ17_copyOf_0 19 rfl rfl)
theorem dJ17_copyOf_20 : decode cJ17_copyOf 20 = .ok (.aload_n 2, 1) := dk_44 (dk_at dksJ17_copyOf_0 20 rfl rfl)
theorem dJ17_copyOf_21 : decode cJ17_copyOf 21 = .ok (.iconst 0, 1) := dk_3 (dk_at dksJ17_copyOf_0 21 rfl rfl)
theorem dJ17_copyOf_22 : decode cJ17_copyOf 22 = .ok (.aload_n 0, 1) := dk_42 (dk_at dksJ17_copyOf_0 22 rfl rfl)
theorem dJ17_copyOf_23 : decode cJ17_copyOf 23 = .ok (.arraylength, 1) := dk_190 (dk_at dksJ17_copyOf_0 23 rfl rfl)
theorem dJ17_copyOf_24 : decode cJ17_copyOf 24 = .ok (.iload_n 1, 1) := dk_27 (dk_at dksJ17_copyOf_1 0 rfl rfl)
theorem dJ17_copyOf_25 : decode cJ17_copyOf 25 = .ok (.invokestatic 304, 3) := dk_184 1 48 (dk_at dksJ17_copyOf_1 1 rfl rfl)
theorem dJ17_copyOf_28 : decode cJ17_copyOf 28 = .ok (.invokestatic 150, 3) := dk_184 0 150 (dk_at dksJ17_copyOf_1 4 rfl rfl)
theorem dJ17_copyOf_31 : decode cJ17_copyOf 31 = .ok (.aload_n 2, 1) := dk_44 (dk_at dksJ17_copyOf_1 7 rfl rfl)
theorem dJ17_copyOf_32 : decode cJ17_copyOf 32 = .ok (.areturn, 1) := dk_176 (dk_at dksJ17_copyOf_1 8 rfl rfl)
abbrev cJ4_init : ByteArray := prog_16_method_2_code
def yJ4_init : MethodName := ⟨RJ4, "<init>", "(I)V"⟩
def dkwJ4_init_1 : List UInt8 := [167, 0, 16, 42, 27, 184, 0, 26, 181, 0, 15, 42, 4, 181, 0, 22, 177]
abbrev dktJ4_init_1 : List UInt8 := dkwJ4_init_1 ++ []
def dkwJ4_init_0 : List UInt8 := [42, 183, 0, 3, 178, 0, 18, 153, 0, 18, 42, 27, 188, 8, 181, 0, 15, 42, 3, 181, 0, 22]
abbrev dktJ4_init_0 : List UInt8 := dkwJ4_init_0 ++ dktJ4_init_1
theorem dksJ4_init_0 : cJ4_init.data.toList.drop 0 = dktJ4_init_0 := by decide +kernel
theorem dksJ4_init_1 : cJ4_init.data.toList.drop 22 = dktJ4_init_1 := dk_seg dksJ4_init_0 22 rfl rfl
theorem dJ4_init_0 : decode cJ4_init 0 = .ok (.aload_n 0, 1) := dk_42 (dk_at dksJ4_init_0 0 rfl rfl)
theorem dJ4_init_1 : decode cJ4_init 1 = .ok (.invokespecial 3, 3) := dk_183 0 3 (dk_at dksJ4_init_0 1 rfl rfl)
theorem dJ4_init_4 : decode cJ4_init 4 = .ok (.getstatic 18, 3) := dk_178 0 18 (dk_at dksJ4_init_0 4 rfl rfl)
theorem dJ4_init_7 : decode cJ4_init 7 = .ok (.ifCond .eq 18, 3) := dk_153 0 18 (dk_at dksJ4_init_0 7 rfl rfl)
theorem dJ4_init_10 : decode cJ4_init 10 = .ok (.aload_n 0, 1) := dk_42 (dk_at dksJ4_init_0 10 rfl rfl)
theorem dJ4_init_11 : decode cJ4_init 11 = .ok (.iload_n 1, 1) := dk_27 (dk_at dksJ4_init_0 11 rfl rfl)
theorem dJ4_init_12 : decode cJ4_init 12 = .ok (.newarray .byte, 2) := dk_188_8 (dk_at dksJ4_init_0 12 rfl rfl)
theorem dJ4_init_14 : decode cJ4_init 14 = .ok (.putfield 15, 3) := dk_181 0 15 (dk_at dksJ4_init_0 14 rfl rfl)
theorem dJ4_init_17 : decode cJ4_init 17 = .ok (.aload_n 0, 1) := dk_42 (dk_at dksJ4_init_0 17 rfl rfl)
theorem dJ4_init_18 : decode cJ4_init 18 = .ok (.iconst 0, 1) := dk_3 (dk_at dksJ4_init_0 18 rfl rfl)
theorem dJ4_init_19 : decode cJ4_init 19 = .ok (.putfield 22, 3) := dk_181 0 22 (dk_at dksJ4_init_0 19 rfl rfl)
theorem dJ4_init_22 : decode cJ4_init 22 = .ok (.goto 16, 3) := dk_167 0 16 (dk_at dksJ4_init_1 0 rfl rfl)
theorem dJ4_init_25 : decode cJ4_init 25 = .ok (.aload_n 0, 1) := dk_42 (dk_at dksJ4_init_1 3 rfl rfl)
theorem dJ4_init_26 : decode cJ4_init 26 = .ok (.iload_n 1, 1) := dk_27 (dk_at dksJ4_init_1 4 rfl rfl)
theorem dJ4_init_27 : decode cJ4_init 27 = .ok (.invokestatic 26, 3) := dk_184 0 26 (dk_at dksJ4_init_1 5 rfl rfl)
theorem dJ4_init_30 : decode cJ4_init 30 = .ok (.putfield 15, 3) := dk_181 0 15 (dk_at dksJ4_init_1 8 rfl rfl)
theorem dJ4_init_33 : decode cJ4_init 33 = .ok (.aload_n 0, 1) := dk_42 (dk_at dksJ4_init_1 11 rfl rfl)
theorem dJ4_init_34 : decode cJ4_init 34 = .ok (.iconst 1, 1) := dk_4 (dk_at dksJ4_init_1 12 rfl rfl)
theorem dJ4_init_35 : decode cJ4_init 35 = .ok (.putfield 22, 3) := dk_181 0 22 (dk_at dksJ4_init_1 13 rfl rfl)
theorem dJ4_init_38 : decode cJ4_init 38 = .ok (.return_, 1) := dk_177 (dk_at dksJ4_init_1 16 rfl rfl)
abbrev cJ4_newCapacity : ByteArray := prog_16_method_10_code
def yJ4_newCapacity : MethodName := ⟨RJ4, "newCapacity", "(I)I"⟩
def dkwJ4_newCapacity_2 : List UInt8 := [183, 0, 124, 191, 21, 5, 42, 180, 0, 22, 122, 172]
abbrev dktJ4_newCapacity_2 : List UInt8 := dkwJ4_newCapacity_2 ++ []
def dkwJ4_newCapacity_1 : List UInt8 := [180, 0, 22, 120, 96, 184, 0, 114, 54, 5, 21, 5, 18, 39, 160, 0, 13, 187, 0, 120, 89, 18, 122]
abbrev dktJ4_newCapacity_1 : List UInt8 := dkwJ4_newCapacity_1 ++ dktJ4_newCapacity_2
def dkwJ4_newCapacity_0 : List UInt8 := [42, 180, 0, 15, 190, 61, 27, 42, 180, 0, 22, 120, 62, 29, 28, 100, 54, 4, 28, 21, 4, 28, 5, 42]
abbrev dktJ4_newCapacity_0 : List UInt8 := dkwJ4_newCapacity_0 ++ dktJ4_newCapacity_1
theorem dksJ4_newCapacity_0 : cJ4_newCapacity.data.toList.drop 0 = dktJ4_newCapacity_0 := by decide +kernel
theorem dksJ4_newCapacity_1 : cJ4_newCapacity.data.toList.drop 24 = dktJ4_newCapacity_1 := dk_seg dksJ4_newCapacity_0 24 rfl rfl
theorem dksJ4_newCapacity_2 : cJ4_newCapacity.data.toList.drop 47 = dktJ4_newCapacity_2 := dk_seg dksJ4_newCapacity_1 23 rfl rfl
theorem dJ4_newCapacity_0 : decode cJ4_newCapacity 0 = .ok (.aload_n 0, 1) := dk_42 (dk_at dksJ4_newCapacity_0 0 rfl rfl)
theorem dJ4_newCapacity_1 : decode cJ4_newCapacity 1 = .ok (.getfield 15, 3) := dk_180 0 15 (dk_at dksJ4_newCapacity_0 1 rfl rfl)
theorem dJ4_newCapacity_4 : decode cJ4_newCapacity 4 = .ok (.arraylength, 1) := dk_190 (dk_at dksJ4_newCapacity_0 4 rfl rfl)
theorem dJ4_newCapacity_5 : decode cJ4_newCapacity 5 = .ok (.istore_n 2, 1) := dk_61 (dk_at dksJ4_newCapacity_0 5 rfl rfl)
theorem dJ4_newCapacity_6 : decode cJ4_newCapacity 6 = .ok (.iload_n 1, 1) := dk_27 (dk_at dksJ4_newCapacity_0 6 rfl rfl)
theorem dJ4_newCapacity_7 : decode cJ4_newCapacity 7 = .ok (.aload_n 0, 1) := dk_42 (dk_at dksJ4_newCapacity_0 7 rfl rfl)
theorem dJ4_newCapacity_8 : decode cJ4_newCapacity 8 = .ok (.getfield 22, 3) := dk_180 0 22 (dk_at dksJ4_newCapacity_0 8 rfl rfl)
theorem dJ4_newCapacity_11 : decode cJ4_newCapacity 11 = .ok (.ishl, 1) := dk_120 (dk_at dksJ4_newCapacity_0 11 rfl rfl)
theorem dJ4_newCapacity_12 : decode cJ4_newCapacity 12 = .ok (.istore_n 3, 1) := dk_62 (dk_at dksJ4_newCapacity_0 12 rfl rfl)
theorem dJ4_newCapacity_13 : decode cJ4_newCapacity 13 = .ok (.iload_n 3, 1) := dk_29 (dk_at dksJ4_newCapacity_0 13 rfl rfl)
theorem dJ4_newCapacity_14 : decode cJ4_newCapacity 14 = .ok (.iload_n 2, 1) := dk_28 (dk_at dksJ4_newCapacity_0 14 rfl rfl)
theorem dJ4_newCapacity_15 : decode cJ4_newCapacity 15 = .ok (.isub, 1) := dk_100 (dk_at dksJ4_newCapacity_0 15 rfl rfl)
theorem dJ4_newCapacity_16 : decode cJ4_newCapacity 16 = .ok (.istore 4, 2) := dk_54 4 (dk_at dksJ4_newCapacity_0 16 rfl rfl)
theorem dJ4_newCapacity_18 : decode cJ4_newCapacity 18 = .ok (.iload_n 2, 1) := dk_28 (dk_at dksJ4_newCapacity_0 18 rfl rfl)
theorem dJ4_newCapacity_19 : decode cJ4_newCapacity 19 = .ok (.iload 4, 2) := dk_21 4 (dk_at dksJ4_newCapacity_0 19 rfl rfl)
theorem dJ4_newCapacity_21 : decode cJ4_newCapacity 21 = .ok (.iload_n 2, 1) := dk_28 (dk_at dksJ4_newCapacity_0 21 rfl rfl)
theorem dJ4_newCapacity_22 : decode cJ4_newCapacity 22 = .ok (.iconst 2, 1) := dk_5 (dk_at dksJ4_newCapacity_0 22 rfl rfl)
theorem dJ4_newCapacity_23 : decode cJ4_newCapacity 23 = .ok (.aload_n 0, 1) := dk_42 (dk_at dksJ4_newCapacity_0 23 rfl rfl)
theorem dJ4_newCapacity_24 : decode cJ4_newCapacity 24 = .ok (.getfield 22, 3) := dk_180 0 22 (dk_at dksJ4_newCapacity_1 0 rfl rfl)
theorem dJ4_newCapacity_27 : decode cJ4_newCapacity 27 = .ok (.ishl, 1) := dk_120 (dk_at dksJ4_newCapacity_1 3 rfl rfl)
theorem dJ4_newCapacity_28 : decode cJ4_newCapacity 28 = .ok (.iadd, 1) := dk_96 (dk_at dksJ4_newCapacity_1 4 rfl rfl)
theorem dJ4_newCapacity_29 : decode cJ4_newCapacity 29 = .ok (.invokestatic 114, 3) := dk_184 0 114 (dk_at dksJ4_newCapacity_1 5 rfl rfl)
theorem dJ4_newCapacity_32 : decode cJ4_newCapacity 32 = .ok (.istore 5, 2) := dk_54 5 (dk_at dksJ4_newCapacity_1 8 rfl rfl)
theorem dJ4_newCapacity_34 : decode cJ4_newCapacity 34 = .ok (.iload 5, 2) := dk_21 5 (dk_at dksJ4_newCapacity_1 10 rfl rfl)
theorem dJ4_newCapacity_36 : decode cJ4_newCapacity 36 = .ok (.ldc 39, 2) := dk_18 39 (dk_at dksJ4_newCapacity_1 12 rfl rfl)
theorem dJ4_newCapacity_38 : decode cJ4_newCapacity 38 = .ok (.if_icmp .ne 13, 3) := dk_160 0 13 (dk_at dksJ4_newCapacity_1 14 rfl rfl)
theorem dJ4_newCapacity_41 : decode cJ4_newCapacity 41 = .ok (.new 120, 3) := dk_187 0 120 (dk_at dksJ4_newCapacity_1 17 rfl rfl)
theorem dJ4_newCapacity_44 : decode cJ4_newCapacity 44 = .ok (.dup, 1) := dk_89 (dk_at dksJ4_newCapacity_1 20 rfl rfl)
theorem dJ4_newCapacity_45 : decode cJ4_newCapacity 45 = .ok (.ldc 122, 2) := dk_18 122 (dk_at dksJ4_newCapacity_1 21 rfl rfl)
theorem dJ4_newCapacity_47 : decode cJ4_newCapacity 47 = .ok (.invokespecial 124, 3) := dk_183 0 124 (dk_at dksJ4_newCapacity_2 0 rfl rfl)
theorem dJ4_newCapacity_50 : decode cJ4_newCapacity 50 = .ok (.athrow, 1) := dk_191 (dk_at dksJ4_newCapacity_2 3 rfl rfl)
theorem dJ4_newCapacity_51 : decode cJ4_newCapacity 51 = .ok (.iload 5, 2) := dk_21 5 (dk_at dksJ4_newCapacity_2 4 rfl rfl)
theorem dJ4_newCapacity_53 : decode cJ4_newCapacity 53 = .ok (.aload_n 0, 1) := dk_42 (dk_at dksJ4_newCapacity_2 6 rfl rfl)
theorem dJ4_newCapacity_54 : decode cJ4_newCapacity 54 = .ok (.getfield 22, 3) := dk_180 0 22 (dk_at dksJ4_newCapacity_2 7 rfl rfl)
theorem dJ4_newCapacity_57 : decode cJ4_newCapacity 57 = .ok (.ishr, 1) := dk_122 (dk_at dksJ4_newCapacity_2 10 rfl rfl)
theorem dJ4_newCapacity_58 : decode cJ4_newCapacity 58 = .ok (.ireturn, 1) := dk_172 (dk_at dksJ4_newCapacity_2 11 rfl rfl)
abbrev cJ4_ensureCapacityInternal : ByteArray := prog_16_method_9_code
def yJ4_ensureCapacityInternal : MethodName := ⟨RJ4, "ensureCapacityInternal", "(I)V"⟩
def dkwJ4_ensureCapacityInternal_1 : List UInt8 := [182, 0, 104, 42, 180, 0, 22, 120, 184, 0, 108, 181, 0, 15, 177]
abbrev dktJ4_ensureCapacityInternal_1 : List UInt8 := dkwJ4_ensureCapacityInternal_1 ++ []
def dkwJ4_ensureCapacityInternal_0 : List UInt8 := [42, 180, 0, 15, 190, 42, 180, 0, 22, 122, 61, 27, 28, 100, 158, 0, 24, 42, 42, 180, 0, 15, 42, 27]
abbrev dktJ4_ensureCapacityInternal_0 : List UInt8 := dkwJ4_ensureCapacityInternal_0 ++ dktJ4_ensureCapacityInternal_1
theorem dksJ4_ensureCapacityInternal_0 : cJ4_ensureCapacityInternal.data.toList.drop 0 = dktJ4_ensureCapacityInternal_0 := by decide +kernel
theorem dksJ4_ensureCapacityInternal_1 : cJ4_ensureCapacityInternal.data.toList.drop 24 = dktJ4_ensureCapacityInternal_1 := dk_seg dksJ4_ensureCapacityInternal_0 24 rfl rfl
theorem dJ4_ensureCapacityInternal_0 : decode cJ4_ensureCapacityInternal 0 = .ok (.aload_n 0, 1) := dk_42 (dk_at dksJ4_ensureCapacityInternal_0 0 rfl rfl)
theorem dJ4_ensureCapacityInternal_1 : decode cJ4_ensureCapacityInternal 1 = .ok (.getfield 15, 3) := dk_180 0 15 (dk_at dksJ4_ensureCapacityInternal_0 1 rfl rfl)
theorem dJ4_ensureCapacityInternal_4 : decode cJ4_ensureCapacityInternal 4 = .ok (.arraylength, 1) := dk_190 (dk_at dksJ4_ensureCapacityInternal_0 4 rfl rfl)
theorem dJ4_ensureCapacityInternal_5 : decode cJ4_ensureCapacityInternal 5 = .ok (.aload_n 0, 1) := dk_42 (dk_at dksJ4_ensureCapacityInternal_0 5 rfl rfl)
theorem dJ4_ensureCapacityInternal_6 : decode cJ4_ensureCapacityInternal 6 = .ok (.getfield 22, 3) := dk_180 0 22 (dk_at dksJ4_ensureCapacityInternal_0 6 rfl rfl)
theorem dJ4_ensureCapacityInternal_9 : decode cJ4_ensureCapacityInternal 9 = .ok (.ishr, 1) := dk_122 (dk_at dksJ4_ensureCapacityInternal_0 9 rfl rfl)
theorem dJ4_ensureCapacityInternal_10 : decode cJ4_ensureCapacityInternal 10 = .ok (.istore_n 2, 1) := dk_61 (dk_at dksJ4_ensureCapacityInternal_0 10 rfl rfl)
theorem dJ4_ensureCapacityInternal_11 : decode cJ4_ensureCapacityInternal 11 = .ok (.iload_n 1, 1) := dk_27 (dk_at dksJ4_ensureCapacityInternal_0 11 rfl rfl)
theorem dJ4_ensureCapacityInternal_12 : decode cJ4_ensureCapacityInternal 12 = .ok (.iload_n 2, 1) := dk_28 (dk_at dksJ4_ensureCapacityInternal_0 12 rfl rfl)
theorem dJ4_ensureCapacityInternal_13 : decode cJ4_ensureCapacityInternal 13 = .ok (.isub, 1) := dk_100 (dk_at dksJ4_ensureCapacityInternal_0 13 rfl rfl)
theorem dJ4_ensureCapacityInternal_14 : decode cJ4_ensureCapacityInternal 14 = .ok (.ifCond .le 24, 3) := dk_158 0 24 (dk_at dksJ4_ensureCapacityInternal_0 14 rfl rfl)
theorem dJ4_ensureCapacityInternal_17 : decode cJ4_ensureCapacityInternal 17 = .ok (.aload_n 0, 1) := dk_42 (dk_at dksJ4_ensureCapacityInternal_0 17 rfl rfl)
theorem dJ4_ensureCapacityInternal_18 : decode cJ4_ensureCapacityInternal 18 = .ok (.aload_n 0, 1) := dk_42 (dk_at dksJ4_ensureCapacityInternal_0 18 rfl rfl)
theorem dJ4_ensureCapacityInternal_19 : decode cJ4_ensureCapacityInternal 19 = .ok (.getfield 15, 3) := dk_180 0 15 (dk_at dksJ4_ensureCapacityInternal_0 19 rfl rfl)
theorem dJ4_ensureCapacityInternal_22 : decode cJ4_ensureCapacityInternal 22 = .ok (.aload_n 0, 1) := dk_42 (dk_at dksJ4_ensureCapacityInternal_0 22 rfl rfl)
theorem dJ4_ensureCapacityInternal_23 : decode cJ4_ensureCapacityInternal 23 = .ok (.iload_n 1, 1) := dk_27 (dk_at dksJ4_ensureCapacityInternal_0 23 rfl rfl)
theorem dJ4_ensureCapacityInternal_24 : decode cJ4_ensureCapacityInternal 24 = .ok (.invokevirtual 104, 3) := dk_182 0 104 (dk_at dksJ4_ensureCapacityInternal_1 0 rfl rfl)
theorem dJ4_ensureCapacityInternal_27 : decode cJ4_ensureCapacityInternal 27 = .ok (.aload_n 0, 1) := dk_42 (dk_at dksJ4_ensureCapacityInternal_1 3 rfl rfl)
theorem dJ4_ensureCapacityInternal_28 : decode cJ4_ensureCapacityInternal 28 = .ok (.getfield 22, 3) := dk_180 0 22 (dk_at dksJ4_ensureCapacityInternal_1 4 rfl rfl)
theorem dJ4_ensureCapacityInternal_31 : decode cJ4_ensureCapacityInternal 31 = .ok (.ishl, 1) := dk_120 (dk_at dksJ4_ensureCapacityInternal_1 7 rfl rfl)
theorem dJ4_ensureCapacityInternal_32 : decode cJ4_ensureCapacityInternal 32 = .ok (.invokestatic 108, 3) := dk_184 0 108 (dk_at dksJ4_ensureCapacityInternal_1 8 rfl rfl)
theorem dJ4_ensureCapacityInternal_35 : decode cJ4_ensureCapacityInternal 35 = .ok (.putfield 15, 3) := dk_181 0 15 (dk_at dksJ4_ensureCapacityInternal_1 11 rfl rfl)
theorem dJ4_ensureCapacityInternal_38 : decode cJ4_ensureCapacityInternal 38 = .ok (.return_, 1) := dk_177 (dk_at dksJ4_ensureCapacityInternal_1 14 rfl rfl)
abbrev cJ4_isLatin1 : ByteArray := prog_16_method_68_code
def yJ4_isLatin1 : MethodName := ⟨RJ4, "isLatin1", "()Z"⟩
def dkwJ4_isLatin1_0 : List UInt8 := [178, 0, 18, 153, 0, 14, 42, 180, 0, 22, 154, 0, 7, 4, 167, 0, 4, 3, 172]
abbrev dktJ4_isLatin1_0 : List UInt8 := dkwJ4_isLatin1_0 ++ []
theorem dksJ4_isLatin1_0 : cJ4_isLatin1.data.toList.drop 0 = dktJ4_isLatin1_0 := by decide +kernel
theorem dJ4_isLatin1_0 : decode cJ4_isLatin1 0 = .ok (.getstatic 18, 3) := dk_178 0 18 (dk_at dksJ4_isLatin1_0 0 rfl rfl)
theorem dJ4_isLatin1_3 : decode cJ4_isLatin1 3 = .ok (.ifCond .eq 14, 3) := dk_153 0 14 (dk_at dksJ4_isLatin1_0 3 rfl rfl)
theorem dJ4_isLatin1_6 : decode cJ4_isLatin1 6 = .ok (.aload_n 0, 1) := dk_42 (dk_at dksJ4_isLatin1_0 6 rfl rfl)
theorem dJ4_isLatin1_7 : decode cJ4_isLatin1 7 = .ok (.getfield 22, 3) := dk_180 0 22 (dk_at dksJ4_isLatin1_0 7 rfl rfl)
theorem dJ4_isLatin1_10 : decode cJ4_isLatin1 10 = .ok (.ifCond .ne 7, 3) := dk_154 0 7 (dk_at dksJ4_isLatin1_0 10 rfl rfl)
theorem dJ4_isLatin1_13 : decode cJ4_isLatin1 13 = .ok (.iconst 1, 1) := dk_4 (dk_at dksJ4_isLatin1_0 13 rfl rfl)
theorem dJ4_isLatin1_14 : decode cJ4_isLatin1 14 = .ok (.goto 4, 3) := dk_167 0 4 (dk_at dksJ4_isLatin1_0 14 rfl rfl)
theorem dJ4_isLatin1_17 : decode cJ4_isLatin1 17 = .ok (.iconst 0, 1) := dk_3 (dk_at dksJ4_isLatin1_0 17 rfl rfl)
theorem dJ4_isLatin1_18 : decode cJ4_isLatin1 18 = .ok (.ireturn, 1) := dk_172 (dk_at dksJ4_isLatin1_0 18 rfl rfl)
abbrev cJ4_setLength : ByteArray := prog_16_method_13_code
def yJ4_setLength : MethodName := ⟨RJ4, "setLength", "(I)V"⟩
def dkwJ4_setLength_3 : List UInt8 := [164, 0, 8, 42, 4, 181, 0, 73, 42, 27, 181, 0, 79, 177]
abbrev dktJ4_setLength_3 : List UInt8 := dkwJ4_setLength_3 ++ []
def dkwJ4_setLength_2 : List UInt8 := [167, 0, 31, 42, 180, 0, 15, 42, 180, 0, 79, 27, 184, 0, 137, 167, 0, 16, 42, 180, 0, 79, 27]
abbrev dktJ4_setLength_2 : List UInt8 := dkwJ4_setLength_2 ++ dktJ4_setLength_3
def dkwJ4_setLength_1 : List UInt8 := [162, 0, 40, 42, 182, 0, 83, 153, 0, 18, 42, 180, 0, 15, 42, 180, 0, 79, 27, 184, 0, 133]
abbrev dktJ4_setLength_1 : List UInt8 := dkwJ4_setLength_1 ++ dktJ4_setLength_2
def dkwJ4_setLength_0 : List UInt8 := [27, 156, 0, 12, 187, 0, 129, 89, 27, 183, 0, 131, 191, 42, 27, 182, 0, 100, 42, 180, 0, 79, 27]
abbrev dktJ4_setLength_0 : List UInt8 := dkwJ4_setLength_0 ++ dktJ4_setLength_1
theorem dksJ4_setLength_0 : cJ4_setLength.data.toList.drop 0 = dktJ4_setLength_0 := by decide +kernel
theorem dksJ4_setLength_1 : cJ4_setLength.data.toList.drop 23 = dktJ4_setLength_1 := dk_seg dksJ4_setLength_0 23 rfl rfl
theorem dksJ4_setLength_2 : cJ4_setLength.data.toList.drop 45 = dktJ4_setLength_2 := dk_seg dksJ4_setLength_1 22 rfl rfl
theorem dksJ4_setLength_3 : cJ4_setLength.data.toList.drop 68 = dktJ4_setLength_3 := dk_seg dksJ4_setLength_2 23 rfl rfl
theorem dJ4_setLength_0 : decode cJ4_setLength 0 = .ok (.iload_n 1, 1) := dk_27 (dk_at dksJ4_setLength_0 0 rfl rfl)
theorem dJ4_setLength_1 : decode cJ4_setLength 1 = .ok (.ifCond .ge 12, 3) := dk_156 0 12 (dk_at dksJ4_setLength_0 1 rfl rfl)
theorem dJ4_setLength_4 : decode cJ4_setLength 4 = .ok (.new 129, 3) := dk_187 0 129 (dk_at dksJ4_setLength_0 4 rfl rfl)
theorem dJ4_setLength_7 : decode cJ4_setLength 7 = .ok (.dup, 1) := dk_89 (dk_at dksJ4_setLength_0 7 rfl rfl)
theorem dJ4_setLength_8 : decode cJ4_setLength 8 = .ok (.iload_n 1, 1) := dk_27 (dk_at dksJ4_setLength_0 8 rfl rfl)
theorem dJ4_setLength_9 : decode cJ4_setLength 9 = .ok (.invokespecial 131, 3) := dk_183 0 131 (dk_at dksJ4_setLength_0 9 rfl rfl)
theorem dJ4_setLength_12 : decode cJ4_setLength 12 = .ok (.athrow, 1) := dk_191 (dk_at dksJ4_setLength_0 12 rfl rfl)
theorem dJ4_setLength_13 : decode cJ4_setLength 13 = .ok (.aload_n 0, 1) := dk_42 (dk_at dksJ4_setLength_0 13 rfl rfl)
theorem dJ4_setLength_14 : decode cJ4_setLength 14 = .ok (.iload_n 1, 1) := dk_27 (dk_at dksJ4_setLength_0 14 rfl rfl)
theorem dJ4_setLength_15 : decode cJ4_setLength 15 = .ok (.invokevirtual 100, 3) := dk_182 0 100 (dk_at dksJ4_setLength_0 15 rfl rfl)
theorem dJ4_setLength_18 : decode cJ4_setLength 18 = .ok (.aload_n 0, 1) := dk_42 (dk_at dksJ4_setLength_0 18 rfl rfl)
theorem dJ4_setLength_19 : decode cJ4_setLength 19 = .ok (.getfield 79, 3) := dk_180 0 79 (dk_at dksJ4_setLength_0 19 rfl rfl)
theorem dJ4_setLength_22 : decode cJ4_setLength 22 = .ok (.iload_n 1, 1) := dk_27 (dk_at dksJ4_setLength_0 22 rfl rfl)
theorem dJ4_setLength_23 : decode cJ4_setLength 23 = .ok (.if_icmp .ge 40, 3) := dk_162 0 40 (dk_at dksJ4_setLength_1 0 rfl rfl)
theorem dJ4_setLength_26 : decode cJ4_setLength 26 = .ok (.aload_n 0, 1) := dk_42 (dk_at dksJ4_setLength_1 3 rfl rfl)
theorem dJ4_setLength_27 : decode cJ4_setLength 27 = .ok (.invokevirtual 83, 3) := dk_182 0 83 (dk_at dksJ4_setLength_1 4 rfl rfl)
theorem dJ4_setLength_30 : decode cJ4_setLength 30 = .ok (.ifCond .eq 18, 3) := dk_153 0 18 (dk_at dksJ4_setLength_1 7 rfl rfl)
theorem dJ4_setLength_33 : decode cJ4_setLength 33 = .ok (.aload_n 0, 1) := dk_42 (dk_at dksJ4_setLength_1 10 rfl rfl)
theorem dJ4_setLength_34 : decode cJ4_setLength 34 = .ok (.getfield 15, 3) := dk_180 0 15 (dk_at dksJ4_setLength_1 11 rfl rfl)
theorem dJ4_setLength_37 : decode cJ4_setLength 37 = .ok (.aload_n 0, 1) := dk_42 (dk_at dksJ4_setLength_1 14 rfl rfl)
theorem dJ4_setLength_38 : decode cJ4_setLength 38 = .ok (.getfield 79, 3) := dk_180 0 79 (dk_at dksJ4_setLength_1 15 rfl rfl)
theorem dJ4_setLength_41 : decode cJ4_setLength 41 = .ok (.iload_n 1, 1) := dk_27 (dk_at dksJ4_setLength_1 18 rfl rfl)
theorem dJ4_setLength_42 : decode cJ4_setLength 42 = .ok (.invokestatic 133, 3) := dk_184 0 133 (dk_at dksJ4_setLength_1 19 rfl rfl)
theorem dJ4_setLength_45 : decode cJ4_setLength 45 = .ok (.goto 31, 3) := dk_167 0 31 (dk_at dksJ4_setLength_2 0 rfl rfl)
theorem dJ4_setLength_48 : decode cJ4_setLength 48 = .ok (.aload_n 0, 1) := dk_42 (dk_at dksJ4_setLength_2 3 rfl rfl)
theorem dJ4_setLength_49 : decode cJ4_setLength 49 = .ok (.getfield 15, 3) := dk_180 0 15 (dk_at dksJ4_setLength_2 4 rfl rfl)
theorem dJ4_setLength_52 : decode cJ4_setLength 52 = .ok (.aload_n 0, 1) := dk_42 (dk_at dksJ4_setLength_2 7 rfl rfl)
theorem dJ4_setLength_53 : decode cJ4_setLength 53 = .ok (.getfield 79, 3) := dk_180 0 79 (dk_at dksJ4_setLength_2 8 rfl rfl)
theorem dJ4_setLength_56 : decode cJ4_setLength 56 = .ok (.iload_n 1, 1) := dk_27 (dk_at dksJ4_setLength_2 11 rfl rfl)
theorem dJ4_setLength_57 : decode cJ4_setLength 57 = .ok (.invokestatic 137, 3) := dk_184 0 137 (dk_at dksJ4_setLength_2 12 rfl rfl)
theorem dJ4_setLength_60 : decode cJ4_setLength 60 = .ok (.goto 16, 3) := dk_167 0 16 (dk_at dksJ4_setLength_2 15 rfl rfl)
theorem dJ4_setLength_63 : decode cJ4_setLength 63 = .ok (.aload_n 0, 1) := dk_42 (dk_at dksJ4_setLength_2 18 rfl rfl)
theorem dJ4_setLength_64 : decode cJ4_setLength 64 = .ok (.getfield 79, 3) := dk_180 0 79 (dk_at dksJ4_setLength_2 19 rfl rfl)
theorem dJ4_setLength_67 : decode cJ4_setLength 67 = .ok (.iload_n 1, 1) := dk_27 (dk_at dksJ4_setLength_2 22 rfl rfl)
theorem dJ4_setLength_68 : decode cJ4_setLength 68 = .ok (.if_icmp .le 8, 3) := dk_164 0 8 (dk_at dksJ4_setLength_3 0 rfl rfl)
theorem dJ4_setLength_71 : decode cJ4_setLength 71 = .ok (.aload_n 0, 1) := dk_42 (dk_at dksJ4_setLength_3 3 rfl rfl)
theorem dJ4_setLength_72 : decode cJ4_setLength 72 = .ok (.iconst 1, 1) := dk_4 (dk_at dksJ4_setLength_3 4 rfl rfl)
theorem dJ4_setLength_73 : decode cJ4_setLength 73 = .ok (.putfield 73, 3) := dk_181 0 73 (dk_at dksJ4_setLength_3 5 rfl rfl)
theorem dJ4_setLength_76 : decode cJ4_setLength 76 = .ok (.aload_n 0, 1) := dk_42 (dk_at dksJ4_setLength_3 8 rfl rfl)
theorem dJ4_setLength_77 : decode cJ4_setLength 77 = .ok (.iload_n 1, 1) := dk_27 (dk_at dksJ4_setLength_3 9 rfl rfl)
theorem dJ4_setLength_78 : decode cJ4_setLength 78 = .ok (.putfield 79, 3) := dk_181 0 79 (dk_at dksJ4_setLength_3 10 rfl rfl)
theorem dJ4_setLength_81 : decode cJ4_setLength 81 = .ok (.return_, 1) := dk_177 (dk_at dksJ4_setLength_3 13 rfl rfl)
abbrev cJ4_getBytes : ByteArray := prog_16_method_65_code
def yJ4_getBytes : MethodName := ⟨RJ4, "getBytes", "([BIB)V"⟩
def dkwJ4_getBytes_1 : List UInt8 := [184, 1, 53, 167, 0, 17, 42, 180, 0, 15, 3, 43, 28, 42, 180, 0, 79, 184, 0, 125, 177]
abbrev dktJ4_getBytes_1 : List UInt8 := dkwJ4_getBytes_1 ++ []
def dkwJ4_getBytes_0 : List UInt8 := [42, 180, 0, 22, 29, 160, 0, 24, 42, 180, 0, 15, 3, 43, 28, 29, 120, 42, 180, 0, 79, 29, 120]
abbrev dktJ4_getBytes_0 : List UInt8 := dkwJ4_getBytes_0 ++ dktJ4_getBytes_1
theorem dksJ4_getBytes_0 : cJ4_getBytes.data.toList.drop 0 = dktJ4_getBytes_0 := by decide +kernel
theorem dksJ4_getBytes_1 : cJ4_getBytes.data.toList.drop 23 = dktJ4_getBytes_1 := dk_seg dksJ4_getBytes_0 23 rfl rfl
theorem dJ4_getBytes_0 : decode cJ4_getBytes 0 = .ok (.aload_n 0, 1) := dk_42 (dk_at dksJ4_getBytes_0 0 rfl rfl)
theorem dJ4_getBytes_1 : decode cJ4_getBytes 1 = .ok (.getfield 22, 3) := dk_180 0 22 (dk_at dksJ4_getBytes_0 1 rfl rfl)
theorem dJ4_getBytes_4 : decode cJ4_getBytes 4 = .ok (.iload_n 3, 1) := dk_29 (dk_at dksJ4_getBytes_0 4 rfl rfl)
theorem dJ4_getBytes_5 : decode cJ4_getBytes 5 = .ok (.if_icmp .ne 24, 3) := dk_160 0 24 (dk_at dksJ4_getBytes_0 5 rfl rfl)
theorem dJ4_getBytes_8 : decode cJ4_getBytes 8 = .ok (.aload_n 0, 1) := dk_42 (dk_at dksJ4_getBytes_0 8 rfl rfl)
theorem dJ4_getBytes_9 : decode cJ4_getBytes 9 = .ok (.getfield 15, 3) := dk_180 0 15 (dk_at dksJ4_getBytes_0 9 rfl rfl)
theorem dJ4_getBytes_12 : decode cJ4_getBytes 12 = .ok (.iconst 0, 1) := dk_3 (dk_at dksJ4_getBytes_0 12 rfl rfl)
theorem dJ4_getBytes_13 : decode cJ4_getBytes 13 = .ok (.aload_n 1, 1) := dk_43 (dk_at dksJ4_getBytes_0 13 rfl rfl)
theorem dJ4_getBytes_14 : decode cJ4_getBytes 14 = .ok (.iload_n 2, 1) := dk_28 (dk_at dksJ4_getBytes_0 14 rfl rfl)
theorem dJ4_getBytes_15 : decode cJ4_getBytes 15 = .ok (.iload_n 3, 1) := dk_29 (dk_at dksJ4_getBytes_0 15 rfl rfl)
theorem dJ4_getBytes_16 : decode cJ4_getBytes 16 = .ok (.ishl, 1) := dk_120 (dk_at dksJ4_getBytes_0 16 rfl rfl)
theorem dJ4_getBytes_17 : decode cJ4_getBytes 17 = .ok (.aload_n 0, 1) := dk_42 (dk_at dksJ4_getBytes_0 17 rfl rfl)
theorem dJ4_getBytes_18 : decode cJ4_getBytes 18 = .ok (.getfield 79, 3) := dk_180 0 79 (dk_at dksJ4_getBytes_0 18 rfl rfl)
theorem dJ4_getBytes_21 : decode cJ4_getBytes 21 = .ok (.iload_n 3, 1) := dk_29 (dk_at dksJ4_getBytes_0 21 rfl rfl)
theorem dJ4_getBytes_22 : decode cJ4_getBytes 22 = .ok (.ishl, 1) := dk_120 (dk_at dksJ4_getBytes_0 22 rfl rfl)
theorem dJ4_getBytes_23 : decode cJ4_getBytes 23 = .ok (.invokestatic 309, 3) := dk_184 1 53 (dk_at dksJ4_getBytes_1 0 rfl rfl)
theorem dJ4_getBytes_26 : decode cJ4_getBytes 26 = .ok (.goto 17, 3) := dk_167 0 17 (dk_at dksJ4_getBytes_1 3 rfl rfl)
theorem dJ4_getBytes_29 : decode cJ4_getBytes 29 = .ok (.aload_n 0, 1) := dk_42 (dk_at dksJ4_getBytes_1 6 rfl rfl)
theorem dJ4_getBytes_30 : decode cJ4_getBytes 30 = .ok (.getfield 15, 3) := dk_180 0 15 (dk_at dksJ4_getBytes_1 7 rfl rfl)
theorem dJ4_getBytes_33 : decode cJ4_getBytes 33 = .ok (.iconst 0, 1) := dk_3 (dk_at dksJ4_getBytes_1 10 rfl rfl)
theorem dJ4_getBytes_34 : decode cJ4_getBytes 34 = .ok (.aload_n 1, 1) := dk_43 (dk_at dksJ4_getBytes_1 11 rfl rfl)
theorem dJ4_getBytes_35 : decode cJ4_getBytes 35 = .ok (.iload_n 2, 1) := dk_28 (dk_at dksJ4_getBytes_1 12 rfl rfl)
theorem dJ4_getBytes_36 : decode cJ4_getBytes 36 = .ok (.aload_n 0, 1) := dk_42 (dk_at dksJ4_getBytes_1 13 rfl rfl)
theorem dJ4_getBytes_37 : decode cJ4_getBytes 37 = .ok (.getfield 79, 3) := dk_180 0 79 (dk_at dksJ4_getBytes_1 14 rfl rfl)
theorem dJ4_getBytes_40 : decode cJ4_getBytes 40 = .ok (.invokestatic 125, 3) := dk_184 0 125 (dk_at dksJ4_getBytes_1 17 rfl rfl)
theorem dJ4_getBytes_43 : decode cJ4_getBytes 43 = .ok (.return_, 1) := dk_177 (dk_at dksJ4_getBytes_1 20 rfl rfl)
abbrev cJ4_getCoder : ByteArray := prog_16_method_67_code
def yJ4_getCoder : MethodName := ⟨RJ4, "getCoder", "()B"⟩
def dkwJ4_getCoder_0 : List UInt8 := [178, 0, 18, 153, 0, 10, 42, 180, 0, 22, 167, 0, 4, 4, 172]
abbrev dktJ4_getCoder_0 : List UInt8 := dkwJ4_getCoder_0 ++ []
theorem dksJ4_getCoder_0 : cJ4_getCoder.data.toList.drop 0 = dktJ4_getCoder_0 := by decide +kernel
theorem dJ4_getCoder_0 : decode cJ4_getCoder 0 = .ok (.getstatic 18, 3) := dk_178 0 18 (dk_at dksJ4_getCoder_0 0 rfl rfl)
theorem dJ4_getCoder_3 : decode cJ4_getCoder 3 = .ok (.ifCond .eq 10, 3) := dk_153 0 10 (dk_at dksJ4_getCoder_0 3 rfl rfl)
theorem dJ4_getCoder_6 : decode cJ4_getCoder 6 = .ok (.aload_n 0, 1) := dk_42 (dk_at dksJ4_getCoder_0 6 rfl rfl)
theorem dJ4_getCoder_7 : decode cJ4_getCoder 7 = .ok (.getfield 22, 3) := dk_180 0 22 (dk_at dksJ4_getCoder_0 7 rfl rfl)
theorem dJ4_getCoder_10 : decode cJ4_getCoder 10 = .ok (.goto 4, 3) := dk_167 0 4 (dk_at dksJ4_getCoder_0 10 rfl rfl)
theorem dJ4_getCoder_13 : decode cJ4_getCoder 13 = .ok (.iconst 1, 1) := dk_4 (dk_at dksJ4_getCoder_0 13 rfl rfl)
theorem dJ4_getCoder_14 : decode cJ4_getCoder 14 = .ok (.ireturn, 1) := dk_172 (dk_at dksJ4_getCoder_0 14 rfl rfl)
abbrev cJ4_length : ByteArray := prog_16_method_6_code
def yJ4_length : MethodName := ⟨RJ4, "length", "()I"⟩
theorem dJ4_length_0 : decode cJ4_length 0 = .ok (.aload_n 0, 1) := by decide +kernel
theorem dJ4_length_1 : decode cJ4_length 1 = .ok (.getfield 79, 3) := by decide +kernel
theorem dJ4_length_4 : decode cJ4_length 4 = .ok (.ireturn, 1) := by decide +kernel
abbrev cJ6_coder : ByteArray := prog_32_method_152_code
def yJ6_coder : MethodName := ⟨RJ6, "coder", "()B"⟩
def dkwJ6_coder_0 : List UInt8 := [178, 0, 38, 153, 0, 10, 42, 180, 0, 15, 167, 0, 4, 4, 172]
abbrev dktJ6_coder_0 : List UInt8 := dkwJ6_coder_0 ++ []
theorem dksJ6_coder_0 : cJ6_coder.data.toList.drop 0 = dktJ6_coder_0 := by decide +kernel
theorem dJ6_coder_0 : decode cJ6_coder 0 = .ok (.getstatic 38, 3) := dk_178 0 38 (dk_at dksJ6_coder_0 0 rfl rfl)
theorem dJ6_coder_3 : decode cJ6_coder 3 = .ok (.ifCond .eq 10, 3) := dk_153 0 10 (dk_at dksJ6_coder_0 3 rfl rfl)
theorem dJ6_coder_6 : decode cJ6_coder 6 = .ok (.aload_n 0, 1) := dk_42 (dk_at dksJ6_coder_0 6 rfl rfl)
theorem dJ6_coder_7 : decode cJ6_coder 7 = .ok (.getfield 15, 3) := dk_180 0 15 (dk_at dksJ6_coder_0 7 rfl rfl)
theorem dJ6_coder_10 : decode cJ6_coder 10 = .ok (.goto 4, 3) := dk_167 0 4 (dk_at dksJ6_coder_0 10 rfl rfl)
theorem dJ6_coder_13 : decode cJ6_coder 13 = .ok (.iconst 1, 1) := dk_4 (dk_at dksJ6_coder_0 13 rfl rfl)
theorem dJ6_coder_14 : decode cJ6_coder 14 = .ok (.ireturn, 1) := dk_172 (dk_at dksJ6_coder_0 14 rfl rfl)
abbrev cJ6_length : ByteArray := prog_32_method_54_code
def yJ6_length : MethodName := ⟨RJ6, "length", "()I"⟩
def dkwJ6_length_0 : List UInt8 := [42, 180, 0, 9, 190, 42, 182, 1, 79, 122, 172]
abbrev dktJ6_length_0 : List UInt8 := dkwJ6_length_0 ++ []
theorem dksJ6_length_0 : cJ6_length.data.toList.drop 0 = dktJ6_length_0 := by decide +kernel
theorem dJ6_length_0 : decode cJ6_length 0 = .ok (.aload_n 0, 1) := dk_42 (dk_at dksJ6_length_0 0 rfl rfl)
theorem dJ6_length_1 : decode cJ6_length 1 = .ok (.getfield 9, 3) := dk_180 0 9 (dk_at dksJ6_length_0 1 rfl rfl)
theorem dJ6_length_4 : decode cJ6_length 4 = .ok (.arraylength, 1) := dk_190 (dk_at dksJ6_length_0 4 rfl rfl)
theorem dJ6_length_5 : decode cJ6_length 5 = .ok (.aload_n 0, 1) := dk_42 (dk_at dksJ6_length_0 5 rfl rfl)
theorem dJ6_length_6 : decode cJ6_length 6 = .ok (.invokevirtual 335, 3) := dk_182 1 79 (dk_at dksJ6_length_0 6 rfl rfl)
theorem dJ6_length_9 : decode cJ6_length 9 = .ok (.ishr, 1) := dk_122 (dk_at dksJ6_length_0 9 rfl rfl)
theorem dJ6_length_10 : decode cJ6_length 10 = .ok (.ireturn, 1) := dk_172 (dk_at dksJ6_length_0 10 rfl rfl)
abbrev cJ6_hashCode : ByteArray := prog_32_method_78_code
def yJ6_hashCode : MethodName := ⟨RJ6, "hashCode", "()I"⟩
def dkwJ6_hashCode_2 : List UInt8 := [181, 0, 23, 167, 0, 8, 42, 27, 181, 0, 19, 27, 172]
abbrev dktJ6_hashCode_2 : List UInt8 := dkwJ6_hashCode_2 ++ []
def dkwJ6_hashCode_1 : List UInt8 := [180, 0, 9, 184, 2, 116, 167, 0, 10, 42, 180, 0, 9, 184, 2, 120, 60, 27, 154, 0, 11, 42, 4]
abbrev dktJ6_hashCode_1 : List UInt8 := dkwJ6_hashCode_1 ++ dktJ6_hashCode_2
def dkwJ6_hashCode_0 : List UInt8 := [42, 180, 0, 19, 60, 27, 154, 0, 52, 42, 180, 0, 23, 154, 0, 45, 42, 182, 1, 236, 153, 0, 13, 42]
abbrev dktJ6_hashCode_0 : List UInt8 := dkwJ6_hashCode_0 ++ dktJ6_hashCode_1
theorem dksJ6_hashCode_0 : cJ6_hashCode.data.toList.drop 0 = dktJ6_hashCode_0 := by decide +kernel
theorem dksJ6_hashCode_1 : cJ6_hashCode.data.toList.drop 24 = dktJ6_hashCode_1 := dk_seg dksJ6_hashCode_0 24 rfl rfl
theorem dksJ6_hashCode_2 : cJ6_hashCode.data.toList.drop 47 = dktJ6_hashCode_2 := dk_seg dksJ6_hashCode_1 23 rfl rfl
theorem dJ6_hashCode_0 : decode cJ6_hashCode 0 = .ok (.aload_n 0, 1) := dk_42 (dk_at dksJ6_hashCode_0 0 rfl rfl)
theorem dJ6_hashCode_1 : decode cJ6_hashCode 1 = .ok (.getfield 19, 3) := dk_180 0 19 (dk_at dksJ6_hashCode_0 1 rfl rfl)
theorem dJ6_hashCode_4 : decode cJ6_hashCode 4 = .ok (.istore_n 1, 1) := dk_60 (dk_at dksJ6_hashCode_0 4 rfl rfl)
theorem dJ6_hashCode_5 : decode cJ6_hashCode 5 = .ok (.iload_n 1, 1) := dk_27 (dk_at dksJ6_hashCode_0 5 rfl rfl)
theorem dJ6_hashCode_6 : decode cJ6_hashCode 6 = .ok (.ifCond .ne 52, 3) := dk_154 0 52 (dk_at dksJ6_hashCode_0 6 rfl rfl)
theorem dJ6_hashCode_9 : decode cJ6_hashCode 9 = .ok (.aload_n 0, 1) := dk_42 (dk_at dksJ6_hashCode_0 9 rfl rfl)
theorem dJ6_hashCode_10 : decode cJ6_hashCode 10 = .ok (.getfield 23, 3) := dk_180 0 23 (dk_at dksJ6_hashCode_0 10 rfl rfl)
theorem dJ6_hashCode_13 : decode cJ6_hashCode 13 = .ok (.ifCond .ne 45, 3) := dk_154 0 45 (dk_at dksJ6_hashCode_0 13 rfl rfl)
theorem dJ6_hashCode_16 : decode cJ6_hashCode 16 = .ok (.aload_n 0, 1) := dk_42 (dk_at dksJ6_hashCode_0 16 rfl rfl)
theorem dJ6_hashCode_17 : decode cJ6_hashCode 17 = .ok (.invokevirtual 492, 3) := dk_182 1 236 (dk_at dksJ6_hashCode_0 17 rfl rfl)
theorem dJ6_hashCode_20 : decode cJ6_hashCode 20 = .ok (.ifCond .eq 13, 3) := dk_153 0 13 (dk_at dksJ6_hashCode_0 20 rfl rfl)
theorem dJ6_hashCode_23 : decode cJ6_hashCode 23 = .ok (.aload_n 0, 1) := dk_42 (dk_at dksJ6_hashCode_0 23 rfl rfl)
theorem dJ6_hashCode_24 : decode cJ6_hashCode 24 = .ok (.getfield 9, 3) := dk_180 0 9 (dk_at dksJ6_hashCode_1 0 rfl rfl)
theorem dJ6_hashCode_27 : decode cJ6_hashCode 27 = .ok (.invokestatic 628, 3) := dk_184 2 116 (dk_at dksJ6_hashCode_1 3 rfl rfl)
theorem dJ6_hashCode_30 : decode cJ6_hashCode 30 = .ok (.goto 10, 3) := dk_167 0 10 (dk_at dksJ6_hashCode_1 6 rfl rfl)
theorem dJ6_hashCode_33 : decode cJ6_hashCode 33 = .ok (.aload_n 0, 1) := dk_42 (dk_at dksJ6_hashCode_1 9 rfl rfl)
theorem dJ6_hashCode_34 : decode cJ6_hashCode 34 = .ok (.getfield 9, 3) := dk_180 0 9 (dk_at dksJ6_hashCode_1 10 rfl rfl)
theorem dJ6_hashCode_37 : decode cJ6_hashCode 37 = .ok (.invokestatic 632, 3) := dk_184 2 120 (dk_at dksJ6_hashCode_1 13 rfl rfl)
theorem dJ6_hashCode_40 : decode cJ6_hashCode 40 = .ok (.istore_n 1, 1) := dk_60 (dk_at dksJ6_hashCode_1 16 rfl rfl)
theorem dJ6_hashCode_41 : decode cJ6_hashCode 41 = .ok (.iload_n 1, 1) := dk_27 (dk_at dksJ6_hashCode_1 17 rfl rfl)
theorem dJ6_hashCode_42 : decode cJ6_hashCode 42 = .ok (.ifCond .ne 11, 3) := dk_154 0 11 (dk_at dksJ6_hashCode_1 18 rfl rfl)
theorem dJ6_hashCode_45 : decode cJ6_hashCode 45 = .ok (.aload_n 0, 1) := dk_42 (dk_at dksJ6_hashCode_1 21 rfl rfl)
theorem dJ6_hashCode_46 : decode cJ6_hashCode 46 = .ok (.iconst 1, 1) := dk_4 (dk_at dksJ6_hashCode_1 22 rfl rfl)
theorem dJ6_hashCode_47 : decode cJ6_hashCode 47 = .ok (.putfield 23, 3) := dk_181 0 23 (dk_at dksJ6_hashCode_2 0 rfl rfl)
theorem dJ6_hashCode_50 : decode cJ6_hashCode 50 = .ok (.goto 8, 3) := dk_167 0 8 (dk_at dksJ6_hashCode_2 3 rfl rfl)
theorem dJ6_hashCode_53 : decode cJ6_hashCode 53 = .ok (.aload_n 0, 1) := dk_42 (dk_at dksJ6_hashCode_2 6 rfl rfl)
theorem dJ6_hashCode_54 : decode cJ6_hashCode 54 = .ok (.iload_n 1, 1) := dk_27 (dk_at dksJ6_hashCode_2 7 rfl rfl)
theorem dJ6_hashCode_55 : decode cJ6_hashCode 55 = .ok (.putfield 19, 3) := dk_181 0 19 (dk_at dksJ6_hashCode_2 8 rfl rfl)
theorem dJ6_hashCode_58 : decode cJ6_hashCode 58 = .ok (.iload_n 1, 1) := dk_27 (dk_at dksJ6_hashCode_2 11 rfl rfl)
theorem dJ6_hashCode_59 : decode cJ6_hashCode 59 = .ok (.ireturn, 1) := dk_172 (dk_at dksJ6_hashCode_2 12 rfl rfl)
abbrev cJ6_equals : ByteArray := prog_32_method_66_code
def yJ6_equals : MethodName := ⟨RJ6, "equals", "(Ljava/lang/Object;)Z"⟩
def dkwJ6_equals_2 : List UInt8 := [184, 2, 29, 153, 0, 7, 4, 167, 0, 4, 3, 172]
abbrev dktJ6_equals_2 : List UInt8 := dkwJ6_equals_2 ++ []
def dkwJ6_equals_1 : List UInt8 := [153, 0, 14, 42, 180, 0, 15, 44, 180, 0, 15, 160, 0, 21, 42, 180, 0, 9, 44, 180, 0, 9]
abbrev dktJ6_equals_1 : List UInt8 := dkwJ6_equals_1 ++ dktJ6_equals_2
def dkwJ6_equals_0 : List UInt8 := [42, 43, 166, 0, 5, 4, 172, 43, 193, 0, 10, 153, 0, 43, 43, 192, 0, 10, 77, 178, 0, 38]
abbrev dktJ6_equals_0 : List UInt8 := dkwJ6_equals_0 ++ dktJ6_equals_1
theorem dksJ6_equals_0 : cJ6_equals.data.toList.drop 0 = dktJ6_equals_0 := by decide +kernel
theorem dksJ6_equals_1 : cJ6_equals.data.toList.drop 22 = dktJ6_equals_1 := dk_seg dksJ6_equals_0 22 rfl rfl
theorem dksJ6_equals_2 : cJ6_equals.data.toList.drop 44 = dktJ6_equals_2 := dk_seg dksJ6_equals_1 22 rfl rfl
theorem dJ6_equals_0 : decode cJ6_equals 0 = .ok (.aload_n 0, 1) := dk_42 (dk_at dksJ6_equals_0 0 rfl rfl)
theorem dJ6_equals_1 : decode cJ6_equals 1 = .ok (.aload_n 1, 1) := dk_43 (dk_at dksJ6_equals_0 1 rfl rfl)
theorem dJ6_equals_2 : decode cJ6_equals 2 = .ok (.if_acmp .ne 5, 3) := dk_166 0 5 (dk_at dksJ6_equals_0 2 rfl rfl)
theorem dJ6_equals_5 : decode cJ6_equals 5 = .ok (.iconst 1, 1) := dk_4 (dk_at dksJ6_equals_0 5 rfl rfl)
theorem dJ6_equals_6 : decode cJ6_equals 6 = .ok (.ireturn, 1) := dk_172 (dk_at dksJ6_equals_0 6 rfl rfl)
theorem dJ6_equals_7 : decode cJ6_equals 7 = .ok (.aload_n 1, 1) := dk_43 (dk_at dksJ6_equals_0 7 rfl rfl)
theorem dJ6_equals_8 : decode cJ6_equals 8 = .ok (.instanceof 10, 3) := dk_193 0 10 (dk_at dksJ6_equals_0 8 rfl rfl)
theorem dJ6_equals_11 : decode cJ6_equals 11 = .ok (.ifCond .eq 43, 3) := dk_153 0 43 (dk_at dksJ6_equals_0 11 rfl rfl)
theorem dJ6_equals_14 : decode cJ6_equals 14 = .ok (.aload_n 1, 1) := dk_43 (dk_at dksJ6_equals_0 14 rfl rfl)
theorem dJ6_equals_15 : decode cJ6_equals 15 = .ok (.checkcast 10, 3) := dk_192 0 10 (dk_at dksJ6_equals_0 15 rfl rfl)
theorem dJ6_equals_18 : decode cJ6_equals 18 = .ok (.astore_n 2, 1) := dk_77 (dk_at dksJ6_equals_0 18 rfl rfl)
theorem dJ6_equals_19 : decode cJ6_equals 19 = .ok (.getstatic 38, 3) := dk_178 0 38 (dk_at dksJ6_equals_0 19 rfl rfl)
theorem dJ6_equals_22 : decode cJ6_equals 22 = .ok (.ifCond .eq 14, 3) := dk_153 0 14 (dk_at dksJ6_equals_1 0 rfl rfl)
theorem dJ6_equals_25 : decode cJ6_equals 25 = .ok (.aload_n 0, 1) := dk_42 (dk_at dksJ6_equals_1 3 rfl rfl)
theorem dJ6_equals_26 : decode cJ6_equals 26 = .ok (.getfield 15, 3) := dk_180 0 15 (dk_at dksJ6_equals_1 4 rfl rfl)
theorem dJ6_equals_29 : decode cJ6_equals 29 = .ok (.aload_n 2, 1) := dk_44 (dk_at dksJ6_equals_1 7 rfl rfl)
theorem dJ6_equals_30 : decode cJ6_equals 30 = .ok (.getfield 15, 3) := dk_180 0 15 (dk_at dksJ6_equals_1 8 rfl rfl)
theorem dJ6_equals_33 : decode cJ6_equals 33 = .ok (.if_icmp .ne 21, 3) := dk_160 0 21 (dk_at dksJ6_equals_1 11 rfl rfl)
theorem dJ6_equals_36 : decode cJ6_equals 36 = .ok (.aload_n 0, 1) := dk_42 (dk_at dksJ6_equals_1 14 rfl rfl)
theorem dJ6_equals_37 : decode cJ6_equals 37 = .ok (.getfield 9, 3) := dk_180 0 9 (dk_at dksJ6_equals_1 15 rfl rfl)
theorem dJ6_equals_40 : decode cJ6_equals 40 = .ok (.aload_n 2, 1) := dk_44 (dk_at dksJ6_equals_1 18 rfl rfl)
theorem dJ6_equals_41 : decode cJ6_equals 41 = .ok (.getfield 9, 3) := dk_180 0 9 (dk_at dksJ6_equals_1 19 rfl rfl)
theorem dJ6_equals_44 : decode cJ6_equals 44 = .ok (.invokestatic 541, 3) := dk_184 2 29 (dk_at dksJ6_equals_2 0 rfl rfl)
theorem dJ6_equals_47 : decode cJ6_equals 47 = .ok (.ifCond .eq 7, 3) := dk_153 0 7 (dk_at dksJ6_equals_2 3 rfl rfl)
theorem dJ6_equals_50 : decode cJ6_equals 50 = .ok (.iconst 1, 1) := dk_4 (dk_at dksJ6_equals_2 6 rfl rfl)
theorem dJ6_equals_51 : decode cJ6_equals 51 = .ok (.goto 4, 3) := dk_167 0 4 (dk_at dksJ6_equals_2 7 rfl rfl)
theorem dJ6_equals_54 : decode cJ6_equals 54 = .ok (.iconst 0, 1) := dk_3 (dk_at dksJ6_equals_2 10 rfl rfl)
theorem dJ6_equals_55 : decode cJ6_equals 55 = .ok (.ireturn, 1) := dk_172 (dk_at dksJ6_equals_2 11 rfl rfl)
abbrev cJ6_getBytes : ByteArray := prog_32_method_147_code
def yJ6_getBytes : MethodName := ⟨RJ6, "getBytes", "([BIB)V"⟩
def dkwJ6_getBytes_1 : List UInt8 := [184, 0, 212, 167, 0, 18, 42, 180, 0, 9, 3, 43, 28, 42, 180, 0, 9, 190, 184, 0, 106, 177]
abbrev dktJ6_getBytes_1 : List UInt8 := dkwJ6_getBytes_1 ++ []
def dkwJ6_getBytes_0 : List UInt8 := [42, 182, 1, 79, 29, 160, 0, 23, 42, 180, 0, 9, 3, 43, 28, 29, 120, 42, 180, 0, 9, 190]
abbrev dktJ6_getBytes_0 : List UInt8 := dkwJ6_getBytes_0 ++ dktJ6_getBytes_1
theorem dksJ6_getBytes_0 : cJ6_getBytes.data.toList.drop 0 = dktJ6_getBytes_0 := by decide +kernel
theorem dksJ6_getBytes_1 : cJ6_getBytes.data.toList.drop 22 = dktJ6_getBytes_1 := dk_seg dksJ6_getBytes_0 22 rfl rfl
theorem dJ6_getBytes_0 : decode cJ6_getBytes 0 = .ok (.aload_n 0, 1) := dk_42 (dk_at dksJ6_getBytes_0 0 rfl rfl)
theorem dJ6_getBytes_1 : decode cJ6_getBytes 1 = .ok (.invokevirtual 335, 3) := dk_182 1 79 (dk_at dksJ6_getBytes_0 1 rfl rfl)
theorem dJ6_getBytes_4 : decode cJ6_getBytes 4 = .ok (.iload_n 3, 1) := dk_29 (dk_at dksJ6_getBytes_0 4 rfl rfl)
theorem dJ6_getBytes_5 : decode cJ6_getBytes 5 = .ok (.if_icmp .ne 23, 3) := dk_160 0 23 (dk_at dksJ6_getBytes_0 5 rfl rfl)
theorem dJ6_getBytes_8 : decode cJ6_getBytes 8 = .ok (.aload_n 0, 1) := dk_42 (dk_at dksJ6_getBytes_0 8 rfl rfl)
theorem dJ6_getBytes_9 : decode cJ6_getBytes 9 = .ok (.getfield 9, 3) := dk_180 0 9 (dk_at dksJ6_getBytes_0 9 rfl rfl)
theorem dJ6_getBytes_12 : decode cJ6_getBytes 12 = .ok (.iconst 0, 1) := dk_3 (dk_at dksJ6_getBytes_0 12 rfl rfl)
theorem dJ6_getBytes_13 : decode cJ6_getBytes 13 = .ok (.aload_n 1, 1) := dk_43 (dk_at dksJ6_getBytes_0 13 rfl rfl)
theorem dJ6_getBytes_14 : decode cJ6_getBytes 14 = .ok (.iload_n 2, 1) := dk_28 (dk_at dksJ6_getBytes_0 14 rfl rfl)
theorem dJ6_getBytes_15 : decode cJ6_getBytes 15 = .ok (.iload_n 3, 1) := dk_29 (dk_at dksJ6_getBytes_0 15 rfl rfl)
theorem dJ6_getBytes_16 : decode cJ6_getBytes 16 = .ok (.ishl, 1) := dk_120 (dk_at dksJ6_getBytes_0 16 rfl rfl)
theorem dJ6_getBytes_17 : decode cJ6_getBytes 17 = .ok (.aload_n 0, 1) := dk_42 (dk_at dksJ6_getBytes_0 17 rfl rfl)
theorem dJ6_getBytes_18 : decode cJ6_getBytes 18 = .ok (.getfield 9, 3) := dk_180 0 9 (dk_at dksJ6_getBytes_0 18 rfl rfl)
theorem dJ6_getBytes_21 : decode cJ6_getBytes 21 = .ok (.arraylength, 1) := dk_190 (dk_at dksJ6_getBytes_0 21 rfl rfl)
theorem dJ6_getBytes_22 : decode cJ6_getBytes 22 = .ok (.invokestatic 212, 3) := dk_184 0 212 (dk_at dksJ6_getBytes_1 0 rfl rfl)
theorem dJ6_getBytes_25 : decode cJ6_getBytes 25 = .ok (.goto 18, 3) := dk_167 0 18 (dk_at dksJ6_getBytes_1 3 rfl rfl)
theorem dJ6_getBytes_28 : decode cJ6_getBytes 28 = .ok (.aload_n 0, 1) := dk_42 (dk_at dksJ6_getBytes_1 6 rfl rfl)
theorem dJ6_getBytes_29 : decode cJ6_getBytes 29 = .ok (.getfield 9, 3) := dk_180 0 9 (dk_at dksJ6_getBytes_1 7 rfl rfl)
theorem dJ6_getBytes_32 : decode cJ6_getBytes 32 = .ok (.iconst 0, 1) := dk_3 (dk_at dksJ6_getBytes_1 10 rfl rfl)
theorem dJ6_getBytes_33 : decode cJ6_getBytes 33 = .ok (.aload_n 1, 1) := dk_43 (dk_at dksJ6_getBytes_1 11 rfl rfl)
theorem dJ6_getBytes_34 : decode cJ6_getBytes 34 = .ok (.iload_n 2, 1) := dk_28 (dk_at dksJ6_getBytes_1 12 rfl rfl)
theorem dJ6_getBytes_35 : decode cJ6_getBytes 35 = .ok (.aload_n 0, 1) := dk_42 (dk_at dksJ6_getBytes_1 13 rfl rfl)
theorem dJ6_getBytes_36 : decode cJ6_getBytes 36 = .ok (.getfield 9, 3) := dk_180 0 9 (dk_at dksJ6_getBytes_1 14 rfl rfl)
theorem dJ6_getBytes_39 : decode cJ6_getBytes 39 = .ok (.arraylength, 1) := dk_190 (dk_at dksJ6_getBytes_1 17 rfl rfl)
theorem dJ6_getBytes_40 : decode cJ6_getBytes 40 = .ok (.invokestatic 106, 3) := dk_184 0 106 (dk_at dksJ6_getBytes_1 18 rfl rfl)
theorem dJ6_getBytes_43 : decode cJ6_getBytes 43 = .ok (.return_, 1) := dk_177 (dk_at dksJ6_getBytes_1 21 rfl rfl)
abbrev cJ6_checkIndex : ByteArray := prog_32_method_155_code
def yJ6_checkIndex : MethodName := ⟨RJ6, "checkIndex", "(II)V"⟩
def dkwJ6_checkIndex_0 : List UInt8 := [26, 27, 178, 4, 29, 184, 4, 35, 87, 177]
abbrev dktJ6_checkIndex_0 : List UInt8 := dkwJ6_checkIndex_0 ++ []
theorem dksJ6_checkIndex_0 : cJ6_checkIndex.data.toList.drop 0 = dktJ6_checkIndex_0 := by decide +kernel
theorem dJ6_checkIndex_0 : decode cJ6_checkIndex 0 = .ok (.iload_n 0, 1) := dk_26 (dk_at dksJ6_checkIndex_0 0 rfl rfl)
theorem dJ6_checkIndex_1 : decode cJ6_checkIndex 1 = .ok (.iload_n 1, 1) := dk_27 (dk_at dksJ6_checkIndex_0 1 rfl rfl)
theorem dJ6_checkIndex_2 : decode cJ6_checkIndex 2 = .ok (.getstatic 1053, 3) := dk_178 4 29 (dk_at dksJ6_checkIndex_0 2 rfl rfl)
theorem dJ6_checkIndex_5 : decode cJ6_checkIndex 5 = .ok (.invokestatic 1059, 3) := dk_184 4 35 (dk_at dksJ6_checkIndex_0 5 rfl rfl)
theorem dJ6_checkIndex_8 : decode cJ6_checkIndex 8 = .ok (.pop, 1) := dk_87 (dk_at dksJ6_checkIndex_0 8 rfl rfl)
theorem dJ6_checkIndex_9 : decode cJ6_checkIndex 9 = .ok (.return_, 1) := dk_177 (dk_at dksJ6_checkIndex_0 9 rfl rfl)
abbrev cJ6_isLatin1 : ByteArray := prog_32_method_154_code
def yJ6_isLatin1 : MethodName := ⟨RJ6, "isLatin1", "()Z"⟩
def dkwJ6_isLatin1_0 : List UInt8 := [178, 0, 38, 153, 0, 14, 42, 180, 0, 15, 154, 0, 7, 4, 167, 0, 4, 3, 172]
abbrev dktJ6_isLatin1_0 : List UInt8 := dkwJ6_isLatin1_0 ++ []
theorem dksJ6_isLatin1_0 : cJ6_isLatin1.data.toList.drop 0 = dktJ6_isLatin1_0 := by decide +kernel
theorem dJ6_isLatin1_0 : decode cJ6_isLatin1 0 = .ok (.getstatic 38, 3) := dk_178 0 38 (dk_at dksJ6_isLatin1_0 0 rfl rfl)
theorem dJ6_isLatin1_3 : decode cJ6_isLatin1 3 = .ok (.ifCond .eq 14, 3) := dk_153 0 14 (dk_at dksJ6_isLatin1_0 3 rfl rfl)
theorem dJ6_isLatin1_6 : decode cJ6_isLatin1 6 = .ok (.aload_n 0, 1) := dk_42 (dk_at dksJ6_isLatin1_0 6 rfl rfl)
theorem dJ6_isLatin1_7 : decode cJ6_isLatin1 7 = .ok (.getfield 15, 3) := dk_180 0 15 (dk_at dksJ6_isLatin1_0 7 rfl rfl)
theorem dJ6_isLatin1_10 : decode cJ6_isLatin1 10 = .ok (.ifCond .ne 7, 3) := dk_154 0 7 (dk_at dksJ6_isLatin1_0 10 rfl rfl)
theorem dJ6_isLatin1_13 : decode cJ6_isLatin1 13 = .ok (.iconst 1, 1) := dk_4 (dk_at dksJ6_isLatin1_0 13 rfl rfl)
theorem dJ6_isLatin1_14 : decode cJ6_isLatin1 14 = .ok (.goto 4, 3) := dk_167 0 4 (dk_at dksJ6_isLatin1_0 14 rfl rfl)
theorem dJ6_isLatin1_17 : decode cJ6_isLatin1 17 = .ok (.iconst 0, 1) := dk_3 (dk_at dksJ6_isLatin1_0 17 rfl rfl)
theorem dJ6_isLatin1_18 : decode cJ6_isLatin1 18 = .ok (.ireturn, 1) := dk_172 (dk_at dksJ6_isLatin1_0 18 rfl rfl)
abbrev cJ6_isEmpty : ByteArray := prog_32_method_55_code
def yJ6_isEmpty : MethodName := ⟨RJ6, "isEmpty", "()Z"⟩
def dkwJ6_isEmpty_0 : List UInt8 := [42, 180, 0, 9, 190, 154, 0, 7, 4, 167, 0, 4, 3, 172]
abbrev dktJ6_isEmpty_0 : List UInt8 := dkwJ6_isEmpty_0 ++ []
theorem dksJ6_isEmpty_0 : cJ6_isEmpty.data.toList.drop 0 = dktJ6_isEmpty_0 := by decide +kernel
theorem dJ6_isEmpty_0 : decode cJ6_isEmpty 0 = .ok (.aload_n 0, 1) := dk_42 (dk_at dksJ6_isEmpty_0 0 rfl rfl)
theorem dJ6_isEmpty_1 : decode cJ6_isEmpty 1 = .ok (.getfield 9, 3) := dk_180 0 9 (dk_at dksJ6_isEmpty_0 1 rfl rfl)
theorem dJ6_isEmpty_4 : decode cJ6_isEmpty 4 = .ok (.arraylength, 1) := dk_190 (dk_at dksJ6_isEmpty_0 4 rfl rfl)
theorem dJ6_isEmpty_5 : decode cJ6_isEmpty 5 = .ok (.ifCond .ne 7, 3) := dk_154 0 7 (dk_at dksJ6_isEmpty_0 5 rfl rfl)
theorem dJ6_isEmpty_8 : decode cJ6_isEmpty 8 = .ok (.iconst 1, 1) := dk_4 (dk_at dksJ6_isEmpty_0 8 rfl rfl)
theorem dJ6_isEmpty_9 : decode cJ6_isEmpty 9 = .ok (.goto 4, 3) := dk_167 0 4 (dk_at dksJ6_isEmpty_0 9 rfl rfl)
theorem dJ6_isEmpty_12 : decode cJ6_isEmpty 12 = .ok (.iconst 0, 1) := dk_3 (dk_at dksJ6_isEmpty_0 12 rfl rfl)
theorem dJ6_isEmpty_13 : decode cJ6_isEmpty 13 = .ok (.ireturn, 1) := dk_172 (dk_at dksJ6_isEmpty_0 13 rfl rfl)
abbrev cJ18_charAt : ByteArray := prog_35_method_2_code
def yJ18_charAt : MethodName := ⟨RJ18, "charAt", "([BI)C"⟩
def dkwJ18_charAt_0 : List UInt8 := [27, 42, 190, 184, 0, 9, 42, 27, 51, 17, 0, 255, 126, 146, 172]
abbrev dktJ18_charAt_0 : List UInt8 := dkwJ18_charAt_0 ++ []
theorem dksJ18_charAt_0 : cJ18_charAt.data.toList.drop 0 = dktJ18_charAt_0 := by decide +kernel
theorem dJ18_charAt_0 : decode cJ18_charAt 0 = .ok (.iload_n 1, 1) := dk_27 (dk_at dksJ18_charAt_0 0 rfl rfl)
theorem dJ18_charAt_1 : decode cJ18_charAt 1 = .ok (.aload_n 0, 1) := dk_42 (dk_at dksJ18_charAt_0 1 rfl rfl)
theorem dJ18_charAt_2 : decode cJ18_charAt 2 = .ok (.arraylength, 1) := dk_190 (dk_at dksJ18_charAt_0 2 rfl rfl)
theorem dJ18_charAt_3 : decode cJ18_charAt 3 = .ok (.invokestatic 9, 3) := dk_184 0 9 (dk_at dksJ18_charAt_0 3 rfl rfl)
theorem dJ18_charAt_6 : decode cJ18_charAt 6 = .ok (.aload_n 0, 1) := dk_42 (dk_at dksJ18_charAt_0 6 rfl rfl)
theorem dJ18_charAt_7 : decode cJ18_charAt 7 = .ok (.iload_n 1, 1) := dk_27 (dk_at dksJ18_charAt_0 7 rfl rfl)
theorem dJ18_charAt_8 : decode cJ18_charAt 8 = .ok (.baload, 1) := dk_51 (dk_at dksJ18_charAt_0 8 rfl rfl)
theorem dJ18_charAt_9 : decode cJ18_charAt 9 = .ok (.sipush 255, 3) := dk_17 0 255 (dk_at dksJ18_charAt_0 9 rfl rfl)
theorem dJ18_charAt_12 : decode cJ18_charAt 12 = .ok (.iand, 1) := dk_126 (dk_at dksJ18_charAt_0 12 rfl rfl)
theorem dJ18_charAt_13 : decode cJ18_charAt 13 = .ok (.i2c, 1) := dk_146 (dk_at dksJ18_charAt_0 13 rfl rfl)
theorem dJ18_charAt_14 : decode cJ18_charAt 14 = .ok (.ireturn, 1) := dk_172 (dk_at dksJ18_charAt_0 14 rfl rfl)
abbrev cJ18_canEncode : ByteArray := prog_35_method_3_code
def yJ18_canEncode : MethodName := ⟨RJ18, "canEncode", "(C)Z"⟩
def dkwJ18_canEncode_0 : List UInt8 := [26, 17, 0, 255, 163, 0, 7, 4, 167, 0, 4, 3, 172]
abbrev dktJ18_canEncode_0 : List UInt8 := dkwJ18_canEncode_0 ++ []
theorem dksJ18_canEncode_0 : cJ18_canEncode.data.toList.drop 0 = dktJ18_canEncode_0 := by decide +kernel
theorem dJ18_canEncode_0 : decode cJ18_canEncode 0 = .ok (.iload_n 0, 1) := dk_26 (dk_at dksJ18_canEncode_0 0 rfl rfl)
theorem dJ18_canEncode_1 : decode cJ18_canEncode 1 = .ok (.sipush 255, 3) := dk_17 0 255 (dk_at dksJ18_canEncode_0 1 rfl rfl)
theorem dJ18_canEncode_4 : decode cJ18_canEncode 4 = .ok (.if_icmp .gt 7, 3) := dk_163 0 7 (dk_at dksJ18_canEncode_0 4 rfl rfl)
theorem dJ18_canEncode_7 : decode cJ18_canEncode 7 = .ok (.iconst 1, 1) := dk_4 (dk_at dksJ18_canEncode_0 7 rfl rfl)
theorem dJ18_canEncode_8 : decode cJ18_canEncode 8 = .ok (.goto 4, 3) := dk_167 0 4 (dk_at dksJ18_canEncode_0 8 rfl rfl)
theorem dJ18_canEncode_11 : decode cJ18_canEncode 11 = .ok (.iconst 0, 1) := dk_3 (dk_at dksJ18_canEncode_0 11 rfl rfl)
theorem dJ18_canEncode_12 : decode cJ18_canEncode 12 = .ok (.ireturn, 1) := dk_172 (dk_at dksJ18_canEncode_0 12 rfl rfl)
abbrev cJ19_stringSize : ByteArray := prog_27_method_13_code
def yJ19_stringSize : MethodName := ⟨RJ19, "stringSize", "(I)I"⟩
def dkwJ19_stringSize_1 : List UInt8 := [164, 0, 7, 29, 27, 96, 172, 16, 10, 28, 104, 61, 132, 3, 1, 167, 255, 233, 16, 10, 27, 96, 172]
abbrev dktJ19_stringSize_1 : List UInt8 := dkwJ19_stringSize_1 ++ []
def dkwJ19_stringSize_0 : List UInt8 := [4, 60, 26, 155, 0, 8, 3, 60, 26, 116, 59, 16, 246, 61, 4, 62, 29, 16, 10, 162, 0, 23, 26, 28]
abbrev dktJ19_stringSize_0 : List UInt8 := dkwJ19_stringSize_0 ++ dktJ19_stringSize_1
theorem dksJ19_stringSize_0 : cJ19_stringSize.data.toList.drop 0 = dktJ19_stringSize_0 := by decide +kernel
theorem dksJ19_stringSize_1 : cJ19_stringSize.data.toList.drop 24 = dktJ19_stringSize_1 := dk_seg dksJ19_stringSize_0 24 rfl rfl
theorem dJ19_stringSize_0 : decode cJ19_stringSize 0 = .ok (.iconst 1, 1) := dk_4 (dk_at dksJ19_stringSize_0 0 rfl rfl)
theorem dJ19_stringSize_1 : decode cJ19_stringSize 1 = .ok (.istore_n 1, 1) := dk_60 (dk_at dksJ19_stringSize_0 1 rfl rfl)
theorem dJ19_stringSize_2 : decode cJ19_stringSize 2 = .ok (.iload_n 0, 1) := dk_26 (dk_at dksJ19_stringSize_0 2 rfl rfl)
theorem dJ19_stringSize_3 : decode cJ19_stringSize 3 = .ok (.ifCond .lt 8, 3) := dk_155 0 8 (dk_at dksJ19_stringSize_0 3 rfl rfl)
theorem dJ19_stringSize_6 : decode cJ19_stringSize 6 = .ok (.iconst 0, 1) := dk_3 (dk_at dksJ19_stringSize_0 6 rfl rfl)
theorem dJ19_stringSize_7 : decode cJ19_stringSize 7 = .ok (.istore_n 1, 1) := dk_60 (dk_at dksJ19_stringSize_0 7 rfl rfl)
theorem dJ19_stringSize_8 : decode cJ19_stringSize 8 = .ok (.iload_n 0, 1) := dk_26 (dk_at dksJ19_stringSize_0 8 rfl rfl)
theorem dJ19_stringSize_9 : decode cJ19_stringSize 9 = .ok (.ineg, 1) := dk_116 (dk_at dksJ19_stringSize_0 9 rfl rfl)
theorem dJ19_stringSize_10 : decode cJ19_stringSize 10 = .ok (.istore_n 0, 1) := dk_59 (dk_at dksJ19_stringSize_0 10 rfl rfl)
theorem dJ19_stringSize_11 : decode cJ19_stringSize 11 = .ok (.bipush (-10), 2) := dk_16 246 (dk_at dksJ19_stringSize_0 11 rfl rfl)
theorem dJ19_stringSize_13 : decode cJ19_stringSize 13 = .ok (.istore_n 2, 1) := dk_61 (dk_at dksJ19_stringSize_0 13 rfl rfl)
theorem dJ19_stringSize_14 : decode cJ19_stringSize 14 = .ok (.iconst 1, 1) := dk_4 (dk_at dksJ19_stringSize_0 14 rfl rfl)
theorem dJ19_stringSize_15 : decode cJ19_stringSize 15 = .ok (.istore_n 3, 1) := dk_62 (dk_at dksJ19_stringSize_0 15 rfl rfl)
theorem dJ19_stringSize_16 : decode cJ19_stringSize 16 = .ok (.iload_n 3, 1) := dk_29 (dk_at dksJ19_stringSize_0 16 rfl rfl)
theorem dJ19_stringSize_17 : decode cJ19_stringSize 17 = .ok (.bipush 10, 2) := dk_16 10 (dk_at dksJ19_stringSize_0 17 rfl rfl)
theorem dJ19_stringSize_19 : decode cJ19_stringSize 19 = .ok (.if_icmp .ge 23, 3) := dk_162 0 23 (dk_at dksJ19_stringSize_0 19 rfl rfl)
theorem dJ19_stringSize_22 : decode cJ19_stringSize 22 = .ok (.iload_n 0, 1) := dk_26 (dk_at dksJ19_stringSize_0 22 rfl rfl)
theorem dJ19_stringSize_23 : decode cJ19_stringSize 23 = .ok (.iload_n 2, 1) := dk_28 (dk_at dksJ19_stringSize_0 23 rfl rfl)
theorem dJ19_stringSize_24 : decode cJ19_stringSize 24 = .ok (.if_icmp .le 7, 3) := dk_164 0 7 (dk_at dksJ19_stringSize_1 0 rfl rfl)
theorem dJ19_stringSize_27 : decode cJ19_stringSize 27 = .ok (.iload_n 3, 1) := dk_29 (dk_at dksJ19_stringSize_1 3 rfl rfl)
theorem dJ19_stringSize_28 : decode cJ19_stringSize 28 = .ok (.iload_n 1, 1) := dk_27 (dk_at dksJ19_stringSize_1 4 rfl rfl)
theorem dJ19_stringSize_29 : decode cJ19_stringSize 29 = .ok (.iadd, 1) := dk_96 (dk_at dksJ19_stringSize_1 5 rfl rfl)
theorem dJ19_stringSize_30 : decode cJ19_stringSize 30 = .ok (.ireturn, 1) := dk_172 (dk_at dksJ19_stringSize_1 6 rfl rfl)
theorem dJ19_stringSize_31 : decode cJ19_stringSize 31 = .ok (.bipush 10, 2) := dk_16 10 (dk_at dksJ19_stringSize_1 7 rfl rfl)
theorem dJ19_stringSize_33 : decode cJ19_stringSize 33 = .ok (.iload_n 2, 1) := dk_28 (dk_at dksJ19_stringSize_1 9 rfl rfl)
theorem dJ19_stringSize_34 : decode cJ19_stringSize 34 = .ok (.imul, 1) := dk_104 (dk_at dksJ19_stringSize_1 10 rfl rfl)
theorem dJ19_stringSize_35 : decode cJ19_stringSize 35 = .ok (.istore_n 2, 1) := dk_61 (dk_at dksJ19_stringSize_1 11 rfl rfl)
theorem dJ19_stringSize_36 : decode cJ19_stringSize 36 = .ok (.iinc 3 1, 3) := dk_132 3 1 (dk_at dksJ19_stringSize_1 12 rfl rfl)
theorem dJ19_stringSize_39 : decode cJ19_stringSize 39 = .ok (.goto (-23), 3) := dk_167 255 233 (dk_at dksJ19_stringSize_1 15 rfl rfl)
theorem dJ19_stringSize_42 : decode cJ19_stringSize 42 = .ok (.bipush 10, 2) := dk_16 10 (dk_at dksJ19_stringSize_1 18 rfl rfl)
theorem dJ19_stringSize_44 : decode cJ19_stringSize 44 = .ok (.iload_n 1, 1) := dk_27 (dk_at dksJ19_stringSize_1 20 rfl rfl)
theorem dJ19_stringSize_45 : decode cJ19_stringSize 45 = .ok (.iadd, 1) := dk_96 (dk_at dksJ19_stringSize_1 21 rfl rfl)
theorem dJ19_stringSize_46 : decode cJ19_stringSize 46 = .ok (.ireturn, 1) := dk_172 (dk_at dksJ19_stringSize_1 22 rfl rfl)
abbrev cJ19_getChars : ByteArray := prog_27_method_12_code
def yJ19_getChars : MethodName := ⟨RJ19, "getChars", "(II[B)I"⟩
def dkwJ19_getChars_5 : List UInt8 := [16, 45, 84, 21, 5, 172]
abbrev dktJ19_getChars_5 : List UInt8 := dkwJ19_getChars_5 ++ []
def dkwJ19_getChars_4 : List UInt8 := [132, 5, 255, 21, 5, 178, 0, 87, 26, 116, 51, 84, 21, 6, 153, 0, 12, 44, 132, 5, 255, 21, 5]
abbrev dktJ19_getChars_4 : List UInt8 := dkwJ19_getChars_4 ++ dktJ19_getChars_5
def dkwJ19_getChars_3 : List UInt8 := [167, 255, 209, 44, 132, 5, 255, 21, 5, 178, 0, 83, 26, 116, 51, 84, 26, 16, 247, 162, 0, 16, 44]
abbrev dktJ19_getChars_3 : List UInt8 := dkwJ19_getChars_3 ++ dktJ19_getChars_4
def dkwJ19_getChars_2 : List UInt8 := [21, 5, 178, 0, 83, 21, 4, 51, 84, 44, 132, 5, 255, 21, 5, 178, 0, 87, 21, 4, 51, 84]
abbrev dktJ19_getChars_2 : List UInt8 := dkwJ19_getChars_2 ++ dktJ19_getChars_3
def dkwJ19_getChars_1 : List UInt8 := [16, 156, 163, 0, 47, 26, 16, 100, 108, 62, 29, 16, 100, 104, 26, 100, 54, 4, 29, 59, 44, 132, 5, 255]
abbrev dktJ19_getChars_1 : List UInt8 := dkwJ19_getChars_1 ++ dktJ19_getChars_2
def dkwJ19_getChars_0 : List UInt8 := [27, 54, 5, 26, 156, 0, 7, 4, 167, 0, 4, 3, 54, 6, 21, 6, 154, 0, 6, 26, 116, 59, 26]
abbrev dktJ19_getChars_0 : List UInt8 := dkwJ19_getChars_0 ++ dktJ19_getChars_1
theorem dksJ19_getChars_0 : cJ19_getChars.data.toList.drop 0 = dktJ19_getChars_0 := by decide +kernel
theorem dksJ19_getChars_1 : cJ19_getChars.data.toList.drop 23 = dktJ19_getChars_1 := dk_seg dksJ19_getChars_0 23 rfl rfl
theorem dksJ19_getChars_2 : cJ19_getChars.data.toList.drop 47 = dktJ19_getChars_2 := dk_seg dksJ19_getChars_1 24 rfl rfl
theorem dksJ19_getChars_3 : cJ19_getChars.data.toList.drop 69 = dktJ19_getChars_3 := dk_seg dksJ19_getChars_2 22 rfl rfl
theorem dksJ19_getChars_4 : cJ19_getChars.data.toList.drop 92 = dktJ19_getChars_4 := dk_seg dksJ19_getChars_3 23 rfl rfl
theorem dksJ19_getChars_5 : cJ19_getChars.data.toList.drop 115 = dktJ19_getChars_5 := dk_seg dksJ19_getChars_4 23 rfl rfl
theorem dJ19_getChars_0 : decode cJ19_getChars 0 = .ok (.iload_n 1, 1) := dk_27 (dk_at dksJ19_getChars_0 0 rfl rfl)
theorem dJ19_getChars_1 : decode cJ19_getChars 1 = .ok (.istore 5, 2) := dk_54 5 (dk_at dksJ19_getChars_0 1 rfl rfl)
theorem dJ19_getChars_3 : decode cJ19_getChars 3 = .ok (.iload_n 0, 1) := dk_26 (dk_at dksJ19_getChars_0 3 rfl rfl)
theorem dJ19_getChars_4 : decode cJ19_getChars 4 = .ok (.ifCond .ge 7, 3) := dk_156 0 7 (dk_at dksJ19_getChars_0 4 rfl rfl)
theorem dJ19_getChars_7 : decode cJ19_getChars 7 = .ok (.iconst 1, 1) := dk_4 (dk_at dksJ19_getChars_0 7 rfl rfl)
theorem dJ19_getChars_8 : decode cJ19_getChars 8 = .ok (.goto 4, 3) := dk_167 0 4 (dk_at dksJ19_getChars_0 8 rfl rfl)
theorem dJ19_getChars_11 : decode cJ19_getChars 11 = .ok (.iconst 0, 1) := dk_3 (dk_at dksJ19_getChars_0 11 rfl rfl)
theorem dJ19_getChars_12 : decode cJ19_getChars 12 = .ok (.istore 6, 2) := dk_54 6 (dk_at dksJ19_getChars_0 12 rfl rfl)
theorem dJ19_getChars_14 : decode cJ19_getChars 14 = .ok (.iload 6, 2) := dk_21 6 (dk_at dksJ19_getChars_0 14 rfl rfl)
theorem dJ19_getChars_16 : decode cJ19_getChars 16 = .ok (.ifCond .ne 6, 3) := dk_154 0 6 (dk_at dksJ19_getChars_0 16 rfl rfl)
theorem dJ19_getChars_19 : decode cJ19_getChars 19 = .ok (.iload_n 0, 1) := dk_26 (dk_at dksJ19_getChars_0 19 rfl rfl)
theorem dJ19_getChars_20 : decode cJ19_getChars 20 = .ok (.ineg, 1) := dk_116 (dk_at dksJ19_getChars_0 20 rfl rfl)
theorem dJ19_getChars_21 : decode cJ19_getChars 21 = .ok (.istore_n 0, 1) := dk_59 (dk_at dksJ19_getChars_0 21 rfl rfl)
theorem dJ19_getChars_22 : decode cJ19_getChars 22 = .ok (.iload_n 0, 1) := dk_26 (dk_at dksJ19_getChars_0 22 rfl rfl)
theorem dJ19_getChars_23 : decode cJ19_getChars 23 = .ok (.bipush (-100), 2) := dk_16 156 (dk_at dksJ19_getChars_1 0 rfl rfl)
theorem dJ19_getChars_25 : decode cJ19_getChars 25 = .ok (.if_icmp .gt 47, 3) := dk_163 0 47 (dk_at dksJ19_getChars_1 2 rfl rfl)
theorem dJ19_getChars_28 : decode cJ19_getChars 28 = .ok (.iload_n 0, 1) := dk_26 (dk_at dksJ19_getChars_1 5 rfl rfl)
theorem dJ19_getChars_29 : decode cJ19_getChars 29 = .ok (.bipush 100, 2) := dk_16 100 (dk_at dksJ19_getChars_1 6 rfl rfl)
theorem dJ19_getChars_31 : decode cJ19_getChars 31 = .ok (.idiv, 1) := dk_108 (dk_at dksJ19_getChars_1 8 rfl rfl)
theorem dJ19_getChars_32 : decode cJ19_getChars 32 = .ok (.istore_n 3, 1) := dk_62 (dk_at dksJ19_getChars_1 9 rfl rfl)
theorem dJ19_getChars_33 : decode cJ19_getChars 33 = .ok (.iload_n 3, 1) := dk_29 (dk_at dksJ19_getChars_1 10 rfl rfl)
theorem dJ19_getChars_34 : decode cJ19_getChars 34 = .ok (.bipush 100, 2) := dk_16 100 (dk_at dksJ19_getChars_1 11 rfl rfl)
theorem dJ19_getChars_36 : decode cJ19_getChars 36 = .ok (.imul, 1) := dk_104 (dk_at dksJ19_getChars_1 13 rfl rfl)
theorem dJ19_getChars_37 : decode cJ19_getChars 37 = .ok (.iload_n 0, 1) := dk_26 (dk_at dksJ19_getChars_1 14 rfl rfl)
theorem dJ19_getChars_38 : decode cJ19_getChars 38 = .ok (.isub, 1) := dk_100 (dk_at dksJ19_getChars_1 15 rfl rfl)
theorem dJ19_getChars_39 : decode cJ19_getChars 39 = .ok (.istore 4, 2) := dk_54 4 (dk_at dksJ19_getChars_1 16 rfl rfl)
theorem dJ19_getChars_41 : decode cJ19_getChars 41 = .ok (.iload_n 3, 1) := dk_29 (dk_at dksJ19_getChars_1 18 rfl rfl)
theorem dJ19_getChars_42 : decode cJ19_getChars 42 = .ok (.istore_n 0, 1) := dk_59 (dk_at dksJ19_getChars_1 19 rfl rfl)
theorem dJ19_getChars_43 : decode cJ19_getChars 43 = .ok (.aload_n 2, 1) := dk_44 (dk_at dksJ19_getChars_1 20 rfl rfl)
theorem dJ19_getChars_44 : decode cJ19_getChars 44 = .ok (.iinc 5 (-1), 3) := dk_132 5 255 (dk_at dksJ19_getChars_1 21 rfl rfl)
theorem dJ19_getChars_47 : decode cJ19_getChars 47 = .ok (.iload 5, 2) := dk_21 5 (dk_at dksJ19_getChars_2 0 rfl rfl)
theorem dJ19_getChars_49 : decode cJ19_getChars 49 = .ok (.getstatic 83, 3) := dk_178 0 83 (dk_at dksJ19_getChars_2 2 rfl rfl)
theorem dJ19_getChars_52 : decode cJ19_getChars 52 = .ok (.iload 4, 2) := dk_21 4 (dk_at dksJ19_getChars_2 5 rfl rfl)
theorem dJ19_getChars_54 : decode cJ19_getChars 54 = .ok (.baload, 1) := dk_51 (dk_at dksJ19_getChars_2 7 rfl rfl)
theorem dJ19_getChars_55 : decode cJ19_getChars 55 = .ok (.bastore, 1) := dk_84 (dk_at dksJ19_getChars_2 8 rfl rfl)
theorem dJ19_getChars_56 : decode cJ19_getChars 56 = .ok (.aload_n 2, 1) := dk_44 (dk_at dksJ19_getChars_2 9 rfl rfl)
theorem dJ19_getChars_57 : decode cJ19_getChars 57 = .ok (.iinc 5 (-1), 3) := dk_132 5 255 (dk_at dksJ19_getChars_2 10 rfl rfl)
theorem dJ19_getChars_60 : decode cJ19_getChars 60 = .ok (.iload 5, 2) := dk_21 5 (dk_at dksJ19_getChars_2 13 rfl rfl)
theorem dJ19_getChars_62 : decode cJ19_getChars 62 = .ok (.getstatic 87, 3) := dk_178 0 87 (dk_at dksJ19_getChars_2 15 rfl rfl)
theorem dJ19_getChars_65 : decode cJ19_getChars 65 = .ok (.iload 4, 2) := dk_21 4 (dk_at dksJ19_getChars_2 18 rfl rfl)
theorem dJ19_getChars_67 : decode cJ19_getChars 67 = .ok (.baload, 1) := dk_51 (dk_at dksJ19_getChars_2 20 rfl rfl)
theorem dJ19_getChars_68 : decode cJ19_getChars 68 = .ok (.bastore, 1) := dk_84 (dk_at dksJ19_getChars_2 21 rfl rfl)
theorem dJ19_getChars_69 : decode cJ19_getChars 69 = .ok (.goto (-47), 3) := dk_167 255 209 (dk_at dksJ19_getChars_3 0 rfl rfl)
theorem dJ19_getChars_72 : decode cJ19_getChars 72 = .ok (.aload_n 2, 1) := dk_44 (dk_at dksJ19_getChars_3 3 rfl rfl)
theorem dJ19_getChars_73 : decode cJ19_getChars 73 = .ok (.iinc 5 (-1), 3) := dk_132 5 255 (dk_at dksJ19_getChars_3 4 rfl rfl)
theorem dJ19_getChars_76 : decode cJ19_getChars 76 = .ok (.iload 5, 2) := dk_21 5 (dk_at dksJ19_getChars_3 7 rfl rfl)
theorem dJ19_getChars_78 : decode cJ19_getChars 78 = .ok (.getstatic 83, 3) := dk_178 0 83 (dk_at dksJ19_getChars_3 9 rfl rfl)
theorem dJ19_getChars_81 : decode cJ19_getChars 81 = .ok (.iload_n 0, 1) := dk_26 (dk_at dksJ19_getChars_3 12 rfl rfl)
theorem dJ19_getChars_82 : decode cJ19_getChars 82 = .ok (.ineg, 1) := dk_116 (dk_at dksJ19_getChars_3 13 rfl rfl)
theorem dJ19_getChars_83 : decode cJ19_getChars 83 = .ok (.baload, 1) := dk_51 (dk_at dksJ19_getChars_3 14 rfl rfl)
theorem dJ19_getChars_84 : decode cJ19_getChars 84 = .ok (.bastore, 1) := dk_84 (dk_at dksJ19_getChars_3 15 rfl rfl)
theorem dJ19_getChars_85 : decode cJ19_getChars 85 = .ok (.iload_n 0, 1) := dk_26 (dk_at dksJ19_getChars_3 16 rfl rfl)
theorem dJ19_getChars_86 : decode cJ19_getChars 86 = .ok (.bipush (-9), 2) := dk_16 247 (dk_at dksJ19_getChars_3 17 rfl rfl)
theorem dJ19_getChars_88 : decode cJ19_getChars 88 = .ok (.if_icmp .ge 16, 3) := dk_162 0 16 (dk_at dksJ19_getChars_3 19 rfl rfl)
theorem dJ19_getChars_91 : decode cJ19_getChars 91 = .ok (.aload_n 2, 1) := dk_44 (dk_at dksJ19_getChars_3 22 rfl rfl)
theorem dJ19_getChars_92 : decode cJ19_getChars 92 = .ok (.iinc 5 (-1), 3) := dk_132 5 255 (dk_at dksJ19_getChars_4 0 rfl rfl)
theorem dJ19_getChars_95 : decode cJ19_getChars 95 = .ok (.iload 5, 2) := dk_21 5 (dk_at dksJ19_getChars_4 3 rfl rfl)
theorem dJ19_getChars_97 : decode cJ19_getChars 97 = .ok (.getstatic 87, 3) := dk_178 0 87 (dk_at dksJ19_getChars_4 5 rfl rfl)
theorem dJ19_getChars_100 : decode cJ19_getChars 100 = .ok (.iload_n 0, 1) := dk_26 (dk_at dksJ19_getChars_4 8 rfl rfl)
theorem dJ19_getChars_101 : decode cJ19_getChars 101 = .ok (.ineg, 1) := dk_116 (dk_at dksJ19_getChars_4 9 rfl rfl)
theorem dJ19_getChars_102 : decode cJ19_getChars 102 = .ok (.baload, 1) := dk_51 (dk_at dksJ19_getChars_4 10 rfl rfl)
theorem dJ19_getChars_103 : decode cJ19_getChars 103 = .ok (.bastore, 1) := dk_84 (dk_at dksJ19_getChars_4 11 rfl rfl)
theorem dJ19_getChars_104 : decode cJ19_getChars 104 = .ok (.iload 6, 2) := dk_21 6 (dk_at dksJ19_getChars_4 12 rfl rfl)
theorem dJ19_getChars_106 : decode cJ19_getChars 106 = .ok (.ifCond .eq 12, 3) := dk_153 0 12 (dk_at dksJ19_getChars_4 14 rfl rfl)
theorem dJ19_getChars_109 : decode cJ19_getChars 109 = .ok (.aload_n 2, 1) := dk_44 (dk_at dksJ19_getChars_4 17 rfl rfl)
theorem dJ19_getChars_110 : decode cJ19_getChars 110 = .ok (.iinc 5 (-1), 3) := dk_132 5 255 (dk_at dksJ19_getChars_4 18 rfl rfl)
theorem dJ19_getChars_113 : decode cJ19_getChars 113 = .ok (.iload 5, 2) := dk_21 5 (dk_at dksJ19_getChars_4 21 rfl rfl)
theorem dJ19_getChars_115 : decode cJ19_getChars 115 = .ok (.bipush 45, 2) := dk_16 45 (dk_at dksJ19_getChars_5 0 rfl rfl)
theorem dJ19_getChars_117 : decode cJ19_getChars 117 = .ok (.bastore, 1) := dk_84 (dk_at dksJ19_getChars_5 2 rfl rfl)
theorem dJ19_getChars_118 : decode cJ19_getChars 118 = .ok (.iload 5, 2) := dk_21 5 (dk_at dksJ19_getChars_5 3 rfl rfl)
theorem dJ19_getChars_120 : decode cJ19_getChars 120 = .ok (.ireturn, 1) := dk_172 (dk_at dksJ19_getChars_5 5 rfl rfl)
abbrev cJ5_init : ByteArray := prog_33_method_1_code
def yJ5_init : MethodName := ⟨RJ5, "<init>", "()V"⟩
def dkwJ5_init_0 : List UInt8 := [42, 16, 16, 183, 0, 1, 177]
abbrev dktJ5_init_0 : List UInt8 := dkwJ5_init_0 ++ []
theorem dksJ5_init_0 : cJ5_init.data.toList.drop 0 = dktJ5_init_0 := by decide +kernel
theorem dJ5_init_0 : decode cJ5_init 0 = .ok (.aload_n 0, 1) := dk_42 (dk_at dksJ5_init_0 0 rfl rfl)
theorem dJ5_init_1 : decode cJ5_init 1 = .ok (.bipush 16, 2) := dk_16 16 (dk_at dksJ5_init_0 1 rfl rfl)
theorem dJ5_init_3 : decode cJ5_init 3 = .ok (.invokespecial 1, 3) := dk_183 0 1 (dk_at dksJ5_init_0 3 rfl rfl)
theorem dJ5_init_6 : decode cJ5_init 6 = .ok (.return_, 1) := dk_177 (dk_at dksJ5_init_0 6 rfl rfl)
abbrev cJ5_length : ByteArray := prog_33_method_93_code
def yJ5_length : MethodName := ⟨RJ5, "length", "()I"⟩
theorem dJ5_length_0 : decode cJ5_length 0 = .ok (.aload_n 0, 1) := by decide +kernel
theorem dJ5_length_1 : decode cJ5_length 1 = .ok (.invokespecial 343, 3) := by decide +kernel
theorem dJ5_length_4 : decode cJ5_length 4 = .ok (.ireturn, 1) := by decide +kernel
abbrev cJ5_setLength : ByteArray := prog_33_method_89_code
def yJ5_setLength : MethodName := ⟨RJ5, "setLength", "(I)V"⟩
def dkwJ5_setLength_0 : List UInt8 := [42, 27, 183, 1, 77, 177]
abbrev dktJ5_setLength_0 : List UInt8 := dkwJ5_setLength_0 ++ []
theorem dksJ5_setLength_0 : cJ5_setLength.data.toList.drop 0 = dktJ5_setLength_0 := by decide +kernel
theorem dJ5_setLength_0 : decode cJ5_setLength 0 = .ok (.aload_n 0, 1) := dk_42 (dk_at dksJ5_setLength_0 0 rfl rfl)
theorem dJ5_setLength_1 : decode cJ5_setLength 1 = .ok (.iload_n 1, 1) := dk_27 (dk_at dksJ5_setLength_0 1 rfl rfl)
theorem dJ5_setLength_2 : decode cJ5_setLength 2 = .ok (.invokespecial 333, 3) := dk_183 1 77 (dk_at dksJ5_setLength_0 2 rfl rfl)
theorem dJ5_setLength_5 : decode cJ5_setLength 5 = .ok (.return_, 1) := dk_177 (dk_at dksJ5_setLength_0 5 rfl rfl)
abbrev cJ4_inflateIfNeededFor : ByteArray := prog_16_method_71_code
def yJ4_inflateIfNeededFor : MethodName := ⟨RJ4, "inflateIfNeededFor", "(Ljava/lang/String;)V"⟩
def dkwJ4_inflateIfNeededFor_0 : List UInt8 := [178, 0, 18, 153, 0, 18, 42, 180, 0, 22, 43, 182, 0, 40, 159, 0, 7, 42, 182, 0, 195, 177]
abbrev dktJ4_inflateIfNeededFor_0 : List UInt8 := dkwJ4_inflateIfNeededFor_0 ++ []
theorem dksJ4_inflateIfNeededFor_0 : cJ4_inflateIfNeededFor.data.toList.drop 0 = dktJ4_inflateIfNeededFor_0 := by decide +kernel
theorem dJ4_inflateIfNeededFor_0 : decode cJ4_inflateIfNeededFor 0 = .ok (.getstatic 18, 3) := dk_178 0 18 (dk_at dksJ4_inflateIfNeededFor_0 0 rfl rfl)
theorem dJ4_inflateIfNeededFor_3 : decode cJ4_inflateIfNeededFor 3 = .ok (.ifCond .eq 18, 3) := dk_153 0 18 (dk_at dksJ4_inflateIfNeededFor_0 3 rfl rfl)
theorem dJ4_inflateIfNeededFor_6 : decode cJ4_inflateIfNeededFor 6 = .ok (.aload_n 0, 1) := dk_42 (dk_at dksJ4_inflateIfNeededFor_0 6 rfl rfl)
theorem dJ4_inflateIfNeededFor_7 : decode cJ4_inflateIfNeededFor 7 = .ok (.getfield 22, 3) := dk_180 0 22 (dk_at dksJ4_inflateIfNeededFor_0 7 rfl rfl)
theorem dJ4_inflateIfNeededFor_10 : decode cJ4_inflateIfNeededFor 10 = .ok (.aload_n 1, 1) := dk_43 (dk_at dksJ4_inflateIfNeededFor_0 10 rfl rfl)
theorem dJ4_inflateIfNeededFor_11 : decode cJ4_inflateIfNeededFor 11 = .ok (.invokevirtual 40, 3) := dk_182 0 40 (dk_at dksJ4_inflateIfNeededFor_0 11 rfl rfl)
theorem dJ4_inflateIfNeededFor_14 : decode cJ4_inflateIfNeededFor 14 = .ok (.if_icmp .eq 7, 3) := dk_159 0 7 (dk_at dksJ4_inflateIfNeededFor_0 14 rfl rfl)
theorem dJ4_inflateIfNeededFor_17 : decode cJ4_inflateIfNeededFor 17 = .ok (.aload_n 0, 1) := dk_42 (dk_at dksJ4_inflateIfNeededFor_0 17 rfl rfl)
theorem dJ4_inflateIfNeededFor_18 : decode cJ4_inflateIfNeededFor 18 = .ok (.invokevirtual 195, 3) := dk_182 0 195 (dk_at dksJ4_inflateIfNeededFor_0 18 rfl rfl)
theorem dJ4_inflateIfNeededFor_21 : decode cJ4_inflateIfNeededFor 21 = .ok (.return_, 1) := dk_177 (dk_at dksJ4_inflateIfNeededFor_0 21 rfl rfl)
abbrev cJ4_inflateIfNeededFor_2 : ByteArray := prog_16_method_72_code
def yJ4_inflateIfNeededFor_2 : MethodName := ⟨RJ4, "inflateIfNeededFor", "(Ljava/lang/AbstractStringBuilder;)V"⟩
def dkwJ4_inflateIfNeededFor_2_0 : List UInt8 := [178, 0, 18, 153, 0, 18, 42, 180, 0, 22, 43, 182, 0, 70, 159, 0, 7, 42, 182, 0, 195, 177]
abbrev dktJ4_inflateIfNeededFor_2_0 : List UInt8 := dkwJ4_inflateIfNeededFor_2_0 ++ []
theorem dksJ4_inflateIfNeededFor_2_0 : cJ4_inflateIfNeededFor_2.data.toList.drop 0 = dktJ4_inflateIfNeededFor_2_0 := by decide +kernel
theorem dJ4_inflateIfNeededFor_2_0 : decode cJ4_inflateIfNeededFor_2 0 = .ok (.getstatic 18, 3) := dk_178 0 18 (dk_at dksJ4_inflateIfNeededFor_2_0 0 rfl rfl)
theorem dJ4_inflateIfNeededFor_2_3 : decode cJ4_inflateIfNeededFor_2 3 = .ok (.ifCond .eq 18, 3) := dk_153 0 18 (dk_at dksJ4_inflateIfNeededFor_2_0 3 rfl rfl)
theorem dJ4_inflateIfNeededFor_2_6 : decode cJ4_inflateIfNeededFor_2 6 = .ok (.aload_n 0, 1) := dk_42 (dk_at dksJ4_inflateIfNeededFor_2_0 6 rfl rfl)
theorem dJ4_inflateIfNeededFor_2_7 : decode cJ4_inflateIfNeededFor_2 7 = .ok (.getfield 22, 3) := dk_180 0 22 (dk_at dksJ4_inflateIfNeededFor_2_0 7 rfl rfl)
theorem dJ4_inflateIfNeededFor_2_10 : decode cJ4_inflateIfNeededFor_2 10 = .ok (.aload_n 1, 1) := dk_43 (dk_at dksJ4_inflateIfNeededFor_2_0 10 rfl rfl)
theorem dJ4_inflateIfNeededFor_2_11 : decode cJ4_inflateIfNeededFor_2 11 = .ok (.invokevirtual 70, 3) := dk_182 0 70 (dk_at dksJ4_inflateIfNeededFor_2_0 11 rfl rfl)
theorem dJ4_inflateIfNeededFor_2_14 : decode cJ4_inflateIfNeededFor_2 14 = .ok (.if_icmp .eq 7, 3) := dk_159 0 7 (dk_at dksJ4_inflateIfNeededFor_2_0 14 rfl rfl)
theorem dJ4_inflateIfNeededFor_2_17 : decode cJ4_inflateIfNeededFor_2 17 = .ok (.aload_n 0, 1) := dk_42 (dk_at dksJ4_inflateIfNeededFor_2_0 17 rfl rfl)
theorem dJ4_inflateIfNeededFor_2_18 : decode cJ4_inflateIfNeededFor_2 18 = .ok (.invokevirtual 195, 3) := dk_182 0 195 (dk_at dksJ4_inflateIfNeededFor_2_0 18 rfl rfl)
theorem dJ4_inflateIfNeededFor_2_21 : decode cJ4_inflateIfNeededFor_2 21 = .ok (.return_, 1) := dk_177 (dk_at dksJ4_inflateIfNeededFor_2_0 21 rfl rfl)
abbrev cJ4_append_2 : ByteArray := prog_16_method_32_code
def yJ4_append_2 : MethodName := ⟨RJ4, "append", "(I)Ljava/lang/AbstractStringBuilder;"⟩
def dkwJ4_append_2_2 : List UInt8 := [42, 29, 181, 0, 79, 42, 176]
abbrev dktJ4_append_2_2 : List UInt8 := dkwJ4_append_2_2 ++ []
def dkwJ4_append_2_1 : List UInt8 := [27, 29, 42, 180, 0, 15, 184, 0, 248, 87, 167, 0, 14, 27, 28, 29, 42, 180, 0, 15, 184, 0, 251, 87]
abbrev dktJ4_append_2_1 : List UInt8 := dkwJ4_append_2_1 ++ dktJ4_append_2_2
def dkwJ4_append_2_0 : List UInt8 := [42, 180, 0, 79, 61, 28, 27, 184, 0, 245, 96, 62, 42, 29, 182, 0, 100, 42, 182, 0, 83, 153, 0, 16]
abbrev dktJ4_append_2_0 : List UInt8 := dkwJ4_append_2_0 ++ dktJ4_append_2_1
theorem dksJ4_append_2_0 : cJ4_append_2.data.toList.drop 0 = dktJ4_append_2_0 := by decide +kernel
theorem dksJ4_append_2_1 : cJ4_append_2.data.toList.drop 24 = dktJ4_append_2_1 := dk_seg dksJ4_append_2_0 24 rfl rfl
theorem dksJ4_append_2_2 : cJ4_append_2.data.toList.drop 48 = dktJ4_append_2_2 := dk_seg dksJ4_append_2_1 24 rfl rfl
theorem dJ4_append_2_0 : decode cJ4_append_2 0 = .ok (.aload_n 0, 1) := dk_42 (dk_at dksJ4_append_2_0 0 rfl rfl)
theorem dJ4_append_2_1 : decode cJ4_append_2 1 = .ok (.getfield 79, 3) := dk_180 0 79 (dk_at dksJ4_append_2_0 1 rfl rfl)
theorem dJ4_append_2_4 : decode cJ4_append_2 4 = .ok (.istore_n 2, 1) := dk_61 (dk_at dksJ4_append_2_0 4 rfl rfl)
theorem dJ4_append_2_5 : decode cJ4_append_2 5 = .ok (.iload_n 2, 1) := dk_28 (dk_at dksJ4_append_2_0 5 rfl rfl)
theorem dJ4_append_2_6 : decode cJ4_append_2 6 = .ok (.iload_n 1, 1) := dk_27 (dk_at dksJ4_append_2_0 6 rfl rfl)
theorem dJ4_append_2_7 : decode cJ4_append_2 7 = .ok (.invokestatic 245, 3) := dk_184 0 245 (dk_at dksJ4_append_2_0 7 rfl rfl)
theorem dJ4_append_2_10 : decode cJ4_append_2 10 = .ok (.iadd, 1) := dk_96 (dk_at dksJ4_append_2_0 10 rfl rfl)
theorem dJ4_append_2_11 : decode cJ4_append_2 11 = .ok (.istore_n 3, 1) := dk_62 (dk_at dksJ4_append_2_0 11 rfl rfl)
theorem dJ4_append_2_12 : decode cJ4_append_2 12 = .ok (.aload_n 0, 1) := dk_42 (dk_at dksJ4_append_2_0 12 rfl rfl)
theorem dJ4_append_2_13 : decode cJ4_append_2 13 = .ok (.iload_n 3, 1) := dk_29 (dk_at dksJ4_append_2_0 13 rfl rfl)
theorem dJ4_append_2_14 : decode cJ4_append_2 14 = .ok (.invokevirtual 100, 3) := dk_182 0 100 (dk_at dksJ4_append_2_0 14 rfl rfl)
theorem dJ4_append_2_17 : decode cJ4_append_2 17 = .ok (.aload_n 0, 1) := dk_42 (dk_at dksJ4_append_2_0 17 rfl rfl)
theorem dJ4_append_2_18 : decode cJ4_append_2 18 = .ok (.invokevirtual 83, 3) := dk_182 0 83 (dk_at dksJ4_append_2_0 18 rfl rfl)
theorem dJ4_append_2_21 : decode cJ4_append_2 21 = .ok (.ifCond .eq 16, 3) := dk_153 0 16 (dk_at dksJ4_append_2_0 21 rfl rfl)
theorem dJ4_append_2_24 : decode cJ4_append_2 24 = .ok (.iload_n 1, 1) := dk_27 (dk_at dksJ4_append_2_1 0 rfl rfl)
theorem dJ4_append_2_25 : decode cJ4_append_2 25 = .ok (.iload_n 3, 1) := dk_29 (dk_at dksJ4_append_2_1 1 rfl rfl)
theorem dJ4_append_2_26 : decode cJ4_append_2 26 = .ok (.aload_n 0, 1) := dk_42 (dk_at dksJ4_append_2_1 2 rfl rfl)
theorem dJ4_append_2_27 : decode cJ4_append_2 27 = .ok (.getfield 15, 3) := dk_180 0 15 (dk_at dksJ4_append_2_1 3 rfl rfl)
theorem dJ4_append_2_30 : decode cJ4_append_2 30 = .ok (.invokestatic 248, 3) := dk_184 0 248 (dk_at dksJ4_append_2_1 6 rfl rfl)
theorem dJ4_append_2_33 : decode cJ4_append_2 33 = .ok (.pop, 1) := dk_87 (dk_at dksJ4_append_2_1 9 rfl rfl)
theorem dJ4_append_2_34 : decode cJ4_append_2 34 = .ok (.goto 14, 3) := dk_167 0 14 (dk_at dksJ4_append_2_1 10 rfl rfl)
theorem dJ4_append_2_37 : decode cJ4_append_2 37 = .ok (.iload_n 1, 1) := dk_27 (dk_at dksJ4_append_2_1 13 rfl rfl)
theorem dJ4_append_2_38 : decode cJ4_append_2 38 = .ok (.iload_n 2, 1) := dk_28 (dk_at dksJ4_append_2_1 14 rfl rfl)
theorem dJ4_append_2_39 : decode cJ4_append_2 39 = .ok (.iload_n 3, 1) := dk_29 (dk_at dksJ4_append_2_1 15 rfl rfl)
theorem dJ4_append_2_40 : decode cJ4_append_2 40 = .ok (.aload_n 0, 1) := dk_42 (dk_at dksJ4_append_2_1 16 rfl rfl)
theorem dJ4_append_2_41 : decode cJ4_append_2 41 = .ok (.getfield 15, 3) := dk_180 0 15 (dk_at dksJ4_append_2_1 17 rfl rfl)
theorem dJ4_append_2_44 : decode cJ4_append_2 44 = .ok (.invokestatic 251, 3) := dk_184 0 251 (dk_at dksJ4_append_2_1 20 rfl rfl)
theorem dJ4_append_2_47 : decode cJ4_append_2 47 = .ok (.pop, 1) := dk_87 (dk_at dksJ4_append_2_1 23 rfl rfl)
theorem dJ4_append_2_48 : decode cJ4_append_2 48 = .ok (.aload_n 0, 1) := dk_42 (dk_at dksJ4_append_2_2 0 rfl rfl)
theorem dJ4_append_2_49 : decode cJ4_append_2 49 = .ok (.iload_n 3, 1) := dk_29 (dk_at dksJ4_append_2_2 1 rfl rfl)
theorem dJ4_append_2_50 : decode cJ4_append_2 50 = .ok (.putfield 79, 3) := dk_181 0 79 (dk_at dksJ4_append_2_2 2 rfl rfl)
theorem dJ4_append_2_53 : decode cJ4_append_2 53 = .ok (.aload_n 0, 1) := dk_42 (dk_at dksJ4_append_2_2 5 rfl rfl)
theorem dJ4_append_2_54 : decode cJ4_append_2 54 = .ok (.areturn, 1) := dk_176 (dk_at dksJ4_append_2_2 6 rfl rfl)
abbrev cJ4_append_3 : ByteArray := prog_16_method_31_code
def yJ4_append_3 : MethodName := ⟨RJ4, "append", "(C)Ljava/lang/AbstractStringBuilder;"⟩
def dkwJ4_append_3_3 : List UInt8 := [181, 0, 79, 27, 184, 0, 197, 42, 176]
abbrev dktJ4_append_3_3 : List UInt8 := dkwJ4_append_3_3 ++ []
def dkwJ4_append_3_2 : List UInt8 := [182, 0, 83, 153, 0, 7, 42, 182, 0, 195, 42, 180, 0, 15, 42, 89, 180, 0, 79, 90, 4, 96]
abbrev dktJ4_append_3_2 : List UInt8 := dkwJ4_append_3_2 ++ dktJ4_append_3_3
def dkwJ4_append_3_1 : List UInt8 := [42, 180, 0, 15, 42, 89, 180, 0, 79, 90, 4, 96, 181, 0, 79, 27, 145, 84, 167, 0, 33, 42]
abbrev dktJ4_append_3_1 : List UInt8 := dkwJ4_append_3_1 ++ dktJ4_append_3_2
def dkwJ4_append_3_0 : List UInt8 := [42, 42, 180, 0, 79, 4, 96, 182, 0, 100, 42, 182, 0, 83, 153, 0, 31, 27, 184, 0, 191, 153, 0, 24]
abbrev dktJ4_append_3_0 : List UInt8 := dkwJ4_append_3_0 ++ dktJ4_append_3_1
theorem dksJ4_append_3_0 : cJ4_append_3.data.toList.drop 0 = dktJ4_append_3_0 := by decide +kernel
theorem dksJ4_append_3_1 : cJ4_append_3.data.toList.drop 24 = dktJ4_append_3_1 := dk_seg dksJ4_append_3_0 24 rfl rfl
theorem dksJ4_append_3_2 : cJ4_append_3.data.toList.drop 46 = dktJ4_append_3_2 := dk_seg dksJ4_append_3_1 22 rfl rfl
theorem dksJ4_append_3_3 : cJ4_append_3.data.toList.drop 68 = dktJ4_append_3_3 := dk_seg dksJ4_append_3_2 22 rfl rfl
theorem dJ4_append_3_0 : decode cJ4_append_3 0 = .ok (.aload_n 0, 1) := dk_42 (dk_at dksJ4_append_3_0 0 rfl rfl)
theorem dJ4_append_3_1 : decode cJ4_append_3 1 = .ok (.aload_n 0, 1) := dk_42 (dk_at dksJ4_append_3_0 1 rfl rfl)
theorem dJ4_append_3_2 : decode cJ4_append_3 2 = .ok (.getfield 79, 3) := dk_180 0 79 (dk_at dksJ4_append_3_0 2 rfl rfl)
theorem dJ4_append_3_5 : decode cJ4_append_3 5 = .ok (.iconst 1, 1) := dk_4 (dk_at dksJ4_append_3_0 5 rfl rfl)
theorem dJ4_append_3_6 : decode cJ4_append_3 6 = .ok (.iadd, 1) := dk_96 (dk_at dksJ4_append_3_0 6 rfl rfl)
theorem dJ4_append_3_7 : decode cJ4_append_3 7 = .ok (.invokevirtual 100, 3) := dk_182 0 100 (dk_at dksJ4_append_3_0 7 rfl rfl)
theorem dJ4_append_3_10 : decode cJ4_append_3 10 = .ok (.aload_n 0, 1) := dk_42 (dk_at dksJ4_append_3_0 10 rfl rfl)
theorem dJ4_append_3_11 : decode cJ4_append_3 11 = .ok (.invokevirtual 83, 3) := dk_182 0 83 (dk_at dksJ4_append_3_0 11 rfl rfl)
theorem dJ4_append_3_14 : decode cJ4_append_3 14 = .ok (.ifCond .eq 31, 3) := dk_153 0 31 (dk_at dksJ4_append_3_0 14 rfl rfl)
theorem dJ4_append_3_17 : decode cJ4_append_3 17 = .ok (.iload_n 1, 1) := dk_27 (dk_at dksJ4_append_3_0 17 rfl rfl)
theorem dJ4_append_3_18 : decode cJ4_append_3 18 = .ok (.invokestatic 191, 3) := dk_184 0 191 (dk_at dksJ4_append_3_0 18 rfl rfl)
theorem dJ4_append_3_21 : decode cJ4_append_3 21 = .ok (.ifCond .eq 24, 3) := dk_153 0 24 (dk_at dksJ4_append_3_0 21 rfl rfl)
theorem dJ4_append_3_24 : decode cJ4_append_3 24 = .ok (.aload_n 0, 1) := dk_42 (dk_at dksJ4_append_3_1 0 rfl rfl)
theorem dJ4_append_3_25 : decode cJ4_append_3 25 = .ok (.getfield 15, 3) := dk_180 0 15 (dk_at dksJ4_append_3_1 1 rfl rfl)
theorem dJ4_append_3_28 : decode cJ4_append_3 28 = .ok (.aload_n 0, 1) := dk_42 (dk_at dksJ4_append_3_1 4 rfl rfl)
theorem dJ4_append_3_29 : decode cJ4_append_3 29 = .ok (.dup, 1) := dk_89 (dk_at dksJ4_append_3_1 5 rfl rfl)
theorem dJ4_append_3_30 : decode cJ4_append_3 30 = .ok (.getfield 79, 3) := dk_180 0 79 (dk_at dksJ4_append_3_1 6 rfl rfl)
theorem dJ4_append_3_33 : decode cJ4_append_3 33 = .ok (.dup_x1, 1) := dk_90 (dk_at dksJ4_append_3_1 9 rfl rfl)
theorem dJ4_append_3_34 : decode cJ4_append_3 34 = .ok (.iconst 1, 1) := dk_4 (dk_at dksJ4_append_3_1 10 rfl rfl)
theorem dJ4_append_3_35 : decode cJ4_append_3 35 = .ok (.iadd, 1) := dk_96 (dk_at dksJ4_append_3_1 11 rfl rfl)
theorem dJ4_append_3_36 : decode cJ4_append_3 36 = .ok (.putfield 79, 3) := dk_181 0 79 (dk_at dksJ4_append_3_1 12 rfl rfl)
theorem dJ4_append_3_39 : decode cJ4_append_3 39 = .ok (.iload_n 1, 1) := dk_27 (dk_at dksJ4_append_3_1 15 rfl rfl)
theorem dJ4_append_3_40 : decode cJ4_append_3 40 = .ok (.i2b, 1) := dk_145 (dk_at dksJ4_append_3_1 16 rfl rfl)
theorem dJ4_append_3_41 : decode cJ4_append_3 41 = .ok (.bastore, 1) := dk_84 (dk_at dksJ4_append_3_1 17 rfl rfl)
theorem dJ4_append_3_42 : decode cJ4_append_3 42 = .ok (.goto 33, 3) := dk_167 0 33 (dk_at dksJ4_append_3_1 18 rfl rfl)
theorem dJ4_append_3_45 : decode cJ4_append_3 45 = .ok (.aload_n 0, 1) := dk_42 (dk_at dksJ4_append_3_1 21 rfl rfl)
theorem dJ4_append_3_46 : decode cJ4_append_3 46 = .ok (.invokevirtual 83, 3) := dk_182 0 83 (dk_at dksJ4_append_3_2 0 rfl rfl)
theorem dJ4_append_3_49 : decode cJ4_append_3 49 = .ok (.ifCond .eq 7, 3) := dk_153 0 7 (dk_at dksJ4_append_3_2 3 rfl rfl)
theorem dJ4_append_3_52 : decode cJ4_append_3 52 = .ok (.aload_n 0, 1) := dk_42 (dk_at dksJ4_append_3_2 6 rfl rfl)
theorem dJ4_append_3_53 : decode cJ4_append_3 53 = .ok (.invokevirtual 195, 3) := dk_182 0 195 (dk_at dksJ4_append_3_2 7 rfl rfl)
theorem dJ4_append_3_56 : decode cJ4_append_3 56 = .ok (.aload_n 0, 1) := dk_42 (dk_at dksJ4_append_3_2 10 rfl rfl)
theorem dJ4_append_3_57 : decode cJ4_append_3 57 = .ok (.getfield 15, 3) := dk_180 0 15 (dk_at dksJ4_append_3_2 11 rfl rfl)
theorem dJ4_append_3_60 : decode cJ4_append_3 60 = .ok (.aload_n 0, 1) := dk_42 (dk_at dksJ4_append_3_2 14 rfl rfl)
theorem dJ4_append_3_61 : decode cJ4_append_3 61 = .ok (.dup, 1) := dk_89 (dk_at dksJ4_append_3_2 15 rfl rfl)
theorem dJ4_append_3_62 : decode cJ4_append_3 62 = .ok (.getfield 79, 3) := dk_180 0 79 (dk_at dksJ4_append_3_2 16 rfl rfl)
theorem dJ4_append_3_65 : decode cJ4_append_3 65 = .ok (.dup_x1, 1) := dk_90 (dk_at dksJ4_append_3_2 19 rfl rfl)
theorem dJ4_append_3_66 : decode cJ4_append_3 66 = .ok (.iconst 1, 1) := dk_4 (dk_at dksJ4_append_3_2 20 rfl rfl)
theorem dJ4_append_3_67 : decode cJ4_append_3 67 = .ok (.iadd, 1) := dk_96 (dk_at dksJ4_append_3_2 21 rfl rfl)
theorem dJ4_append_3_68 : decode cJ4_append_3 68 = .ok (.putfield 79, 3) := dk_181 0 79 (dk_at dksJ4_append_3_3 0 rfl rfl)
theorem dJ4_append_3_71 : decode cJ4_append_3 71 = .ok (.iload_n 1, 1) := dk_27 (dk_at dksJ4_append_3_3 3 rfl rfl)
theorem dJ4_append_3_72 : decode cJ4_append_3 72 = .ok (.invokestatic 197, 3) := dk_184 0 197 (dk_at dksJ4_append_3_3 4 rfl rfl)
theorem dJ4_append_3_75 : decode cJ4_append_3 75 = .ok (.aload_n 0, 1) := dk_42 (dk_at dksJ4_append_3_3 7 rfl rfl)
theorem dJ4_append_3_76 : decode cJ4_append_3 76 = .ok (.areturn, 1) := dk_176 (dk_at dksJ4_append_3_3 8 rfl rfl)
abbrev cJ4_append_5 : ByteArray := prog_16_method_24_code
def yJ4_append_5 : MethodName := ⟨RJ4, "append", "(Ljava/lang/AbstractStringBuilder;)Ljava/lang/AbstractStringBuilder;"⟩
def dkwJ4_append_5_2 : List UInt8 := [180, 0, 79, 28, 96, 181, 0, 79, 42, 89, 180, 0, 73, 43, 180, 0, 73, 128, 181, 0, 73, 42, 176]
abbrev dktJ4_append_5_2 : List UInt8 := dkwJ4_append_5_2 ++ []
def dkwJ4_append_5_1 : List UInt8 := [42, 43, 182, 0, 215, 43, 42, 180, 0, 15, 42, 180, 0, 79, 42, 180, 0, 22, 182, 0, 219, 42, 89]
abbrev dktJ4_append_5_1 : List UInt8 := dkwJ4_append_5_1 ++ dktJ4_append_5_2
def dkwJ4_append_5_0 : List UInt8 := [43, 199, 0, 8, 42, 182, 0, 204, 176, 43, 182, 0, 160, 61, 42, 42, 180, 0, 79, 28, 96, 182, 0, 100]
abbrev dktJ4_append_5_0 : List UInt8 := dkwJ4_append_5_0 ++ dktJ4_append_5_1
theorem dksJ4_append_5_0 : cJ4_append_5.data.toList.drop 0 = dktJ4_append_5_0 := by decide +kernel
theorem dksJ4_append_5_1 : cJ4_append_5.data.toList.drop 24 = dktJ4_append_5_1 := dk_seg dksJ4_append_5_0 24 rfl rfl
theorem dksJ4_append_5_2 : cJ4_append_5.data.toList.drop 47 = dktJ4_append_5_2 := dk_seg dksJ4_append_5_1 23 rfl rfl
theorem dJ4_append_5_0 : decode cJ4_append_5 0 = .ok (.aload_n 1, 1) := dk_43 (dk_at dksJ4_append_5_0 0 rfl rfl)
theorem dJ4_append_5_1 : decode cJ4_append_5 1 = .ok (.ifnonnull 8, 3) := dk_199 0 8 (dk_at dksJ4_append_5_0 1 rfl rfl)
theorem dJ4_append_5_4 : decode cJ4_append_5 4 = .ok (.aload_n 0, 1) := dk_42 (dk_at dksJ4_append_5_0 4 rfl rfl)
theorem dJ4_append_5_5 : decode cJ4_append_5 5 = .ok (.invokevirtual 204, 3) := dk_182 0 204 (dk_at dksJ4_append_5_0 5 rfl rfl)
theorem dJ4_append_5_8 : decode cJ4_append_5 8 = .ok (.areturn, 1) := dk_176 (dk_at dksJ4_append_5_0 8 rfl rfl)
theorem dJ4_append_5_9 : decode cJ4_append_5 9 = .ok (.aload_n 1, 1) := dk_43 (dk_at dksJ4_append_5_0 9 rfl rfl)
theorem dJ4_append_5_10 : decode cJ4_append_5 10 = .ok (.invokevirtual 160, 3) := dk_182 0 160 (dk_at dksJ4_append_5_0 10 rfl rfl)
theorem dJ4_append_5_13 : decode cJ4_append_5 13 = .ok (.istore_n 2, 1) := dk_61 (dk_at dksJ4_append_5_0 13 rfl rfl)
theorem dJ4_append_5_14 : decode cJ4_append_5 14 = .ok (.aload_n 0, 1) := dk_42 (dk_at dksJ4_append_5_0 14 rfl rfl)
theorem dJ4_append_5_15 : decode cJ4_append_5 15 = .ok (.aload_n 0, 1) := dk_42 (dk_at dksJ4_append_5_0 15 rfl rfl)
theorem dJ4_append_5_16 : decode cJ4_append_5 16 = .ok (.getfield 79, 3) := dk_180 0 79 (dk_at dksJ4_append_5_0 16 rfl rfl)
theorem dJ4_append_5_19 : decode cJ4_append_5 19 = .ok (.iload_n 2, 1) := dk_28 (dk_at dksJ4_append_5_0 19 rfl rfl)
theorem dJ4_append_5_20 : decode cJ4_append_5 20 = .ok (.iadd, 1) := dk_96 (dk_at dksJ4_append_5_0 20 rfl rfl)
theorem dJ4_append_5_21 : decode cJ4_append_5 21 = .ok (.invokevirtual 100, 3) := dk_182 0 100 (dk_at dksJ4_append_5_0 21 rfl rfl)
theorem dJ4_append_5_24 : decode cJ4_append_5 24 = .ok (.aload_n 0, 1) := dk_42 (dk_at dksJ4_append_5_1 0 rfl rfl)
theorem dJ4_append_5_25 : decode cJ4_append_5 25 = .ok (.aload_n 1, 1) := dk_43 (dk_at dksJ4_append_5_1 1 rfl rfl)
theorem dJ4_append_5_26 : decode cJ4_append_5 26 = .ok (.invokevirtual 215, 3) := dk_182 0 215 (dk_at dksJ4_append_5_1 2 rfl rfl)
theorem dJ4_append_5_29 : decode cJ4_append_5 29 = .ok (.aload_n 1, 1) := dk_43 (dk_at dksJ4_append_5_1 5 rfl rfl)
theorem dJ4_append_5_30 : decode cJ4_append_5 30 = .ok (.aload_n 0, 1) := dk_42 (dk_at dksJ4_append_5_1 6 rfl rfl)
theorem dJ4_append_5_31 : decode cJ4_append_5 31 = .ok (.getfield 15, 3) := dk_180 0 15 (dk_at dksJ4_append_5_1 7 rfl rfl)
theorem dJ4_append_5_34 : decode cJ4_append_5 34 = .ok (.aload_n 0, 1) := dk_42 (dk_at dksJ4_append_5_1 10 rfl rfl)
theorem dJ4_append_5_35 : decode cJ4_append_5 35 = .ok (.getfield 79, 3) := dk_180 0 79 (dk_at dksJ4_append_5_1 11 rfl rfl)
theorem dJ4_append_5_38 : decode cJ4_append_5 38 = .ok (.aload_n 0, 1) := dk_42 (dk_at dksJ4_append_5_1 14 rfl rfl)
theorem dJ4_append_5_39 : decode cJ4_append_5 39 = .ok (.getfield 22, 3) := dk_180 0 22 (dk_at dksJ4_append_5_1 15 rfl rfl)
theorem dJ4_append_5_42 : decode cJ4_append_5 42 = .ok (.invokevirtual 219, 3) := dk_182 0 219 (dk_at dksJ4_append_5_1 18 rfl rfl)
theorem dJ4_append_5_45 : decode cJ4_append_5 45 = .ok (.aload_n 0, 1) := dk_42 (dk_at dksJ4_append_5_1 21 rfl rfl)
theorem dJ4_append_5_46 : decode cJ4_append_5 46 = .ok (.dup, 1) := dk_89 (dk_at dksJ4_append_5_1 22 rfl rfl)
theorem dJ4_append_5_47 : decode cJ4_append_5 47 = .ok (.getfield 79, 3) := dk_180 0 79 (dk_at dksJ4_append_5_2 0 rfl rfl)
theorem dJ4_append_5_50 : decode cJ4_append_5 50 = .ok (.iload_n 2, 1) := dk_28 (dk_at dksJ4_append_5_2 3 rfl rfl)
theorem dJ4_append_5_51 : decode cJ4_append_5 51 = .ok (.iadd, 1) := dk_96 (dk_at dksJ4_append_5_2 4 rfl rfl)
theorem dJ4_append_5_52 : decode cJ4_append_5 52 = .ok (.putfield 79, 3) := dk_181 0 79 (dk_at dksJ4_append_5_2 5 rfl rfl)
theorem dJ4_append_5_55 : decode cJ4_append_5 55 = .ok (.aload_n 0, 1) := dk_42 (dk_at dksJ4_append_5_2 8 rfl rfl)
theorem dJ4_append_5_56 : decode cJ4_append_5 56 = .ok (.dup, 1) := dk_89 (dk_at dksJ4_append_5_2 9 rfl rfl)
theorem dJ4_append_5_57 : decode cJ4_append_5 57 = .ok (.getfield 73, 3) := dk_180 0 73 (dk_at dksJ4_append_5_2 10 rfl rfl)
theorem dJ4_append_5_60 : decode cJ4_append_5 60 = .ok (.aload_n 1, 1) := dk_43 (dk_at dksJ4_append_5_2 13 rfl rfl)
theorem dJ4_append_5_61 : decode cJ4_append_5 61 = .ok (.getfield 73, 3) := dk_180 0 73 (dk_at dksJ4_append_5_2 14 rfl rfl)
theorem dJ4_append_5_64 : decode cJ4_append_5 64 = .ok (.ior, 1) := dk_128 (dk_at dksJ4_append_5_2 17 rfl rfl)
theorem dJ4_append_5_65 : decode cJ4_append_5 65 = .ok (.putfield 73, 3) := dk_181 0 73 (dk_at dksJ4_append_5_2 18 rfl rfl)
theorem dJ4_append_5_68 : decode cJ4_append_5 68 = .ok (.aload_n 0, 1) := dk_42 (dk_at dksJ4_append_5_2 21 rfl rfl)
theorem dJ4_append_5_69 : decode cJ4_append_5 69 = .ok (.areturn, 1) := dk_176 (dk_at dksJ4_append_5_2 22 rfl rfl)
abbrev cJ4_charAt : ByteArray := prog_16_method_14_code
def yJ4_charAt : MethodName := ⟨RJ4, "charAt", "(I)C"⟩
def dkwJ4_charAt_1 : List UInt8 := [21, 4, 184, 0, 144, 28, 154, 0, 12, 45, 27, 51, 17, 0, 255, 126, 146, 172, 45, 27, 184, 0, 148, 172]
abbrev dktJ4_charAt_1 : List UInt8 := dkwJ4_charAt_1 ++ []
def dkwJ4_charAt_0 : List UInt8 := [42, 180, 0, 22, 61, 42, 180, 0, 15, 78, 42, 180, 0, 79, 45, 190, 28, 122, 184, 0, 138, 54, 4, 27]
abbrev dktJ4_charAt_0 : List UInt8 := dkwJ4_charAt_0 ++ dktJ4_charAt_1
theorem dksJ4_charAt_0 : cJ4_charAt.data.toList.drop 0 = dktJ4_charAt_0 := by decide +kernel
theorem dksJ4_charAt_1 : cJ4_charAt.data.toList.drop 24 = dktJ4_charAt_1 := dk_seg dksJ4_charAt_0 24 rfl rfl
theorem dJ4_charAt_0 : decode cJ4_charAt 0 = .ok (.aload_n 0, 1) := dk_42 (dk_at dksJ4_charAt_0 0 rfl rfl)
theorem dJ4_charAt_1 : decode cJ4_charAt 1 = .ok (.getfield 22, 3) := dk_180 0 22 (dk_at dksJ4_charAt_0 1 rfl rfl)
theorem dJ4_charAt_4 : decode cJ4_charAt 4 = .ok (.istore_n 2, 1) := dk_61 (dk_at dksJ4_charAt_0 4 rfl rfl)
theorem dJ4_charAt_5 : decode cJ4_charAt 5 = .ok (.aload_n 0, 1) := dk_42 (dk_at dksJ4_charAt_0 5 rfl rfl)
theorem dJ4_charAt_6 : decode cJ4_charAt 6 = .ok (.getfield 15, 3) := dk_180 0 15 (dk_at dksJ4_charAt_0 6 rfl rfl)
theorem dJ4_charAt_9 : decode cJ4_charAt 9 = .ok (.astore_n 3, 1) := dk_78 (dk_at dksJ4_charAt_0 9 rfl rfl)
theorem dJ4_charAt_10 : decode cJ4_charAt 10 = .ok (.aload_n 0, 1) := dk_42 (dk_at dksJ4_charAt_0 10 rfl rfl)
theorem dJ4_charAt_11 : decode cJ4_charAt 11 = .ok (.getfield 79, 3) := dk_180 0 79 (dk_at dksJ4_charAt_0 11 rfl rfl)
theorem dJ4_charAt_14 : decode cJ4_charAt 14 = .ok (.aload_n 3, 1) := dk_45 (dk_at dksJ4_charAt_0 14 rfl rfl)
theorem dJ4_charAt_15 : decode cJ4_charAt 15 = .ok (.arraylength, 1) := dk_190 (dk_at dksJ4_charAt_0 15 rfl rfl)
theorem dJ4_charAt_16 : decode cJ4_charAt 16 = .ok (.iload_n 2, 1) := dk_28 (dk_at dksJ4_charAt_0 16 rfl rfl)
theorem dJ4_charAt_17 : decode cJ4_charAt 17 = .ok (.ishr, 1) := dk_122 (dk_at dksJ4_charAt_0 17 rfl rfl)
theorem dJ4_charAt_18 : decode cJ4_charAt 18 = .ok (.invokestatic 138, 3) := dk_184 0 138 (dk_at dksJ4_charAt_0 18 rfl rfl)
theorem dJ4_charAt_21 : decode cJ4_charAt 21 = .ok (.istore 4, 2) := dk_54 4 (dk_at dksJ4_charAt_0 21 rfl rfl)
theorem dJ4_charAt_23 : decode cJ4_charAt 23 = .ok (.iload_n 1, 1) := dk_27 (dk_at dksJ4_charAt_0 23 rfl rfl)
theorem dJ4_charAt_24 : decode cJ4_charAt 24 = .ok (.iload 4, 2) := dk_21 4 (dk_at dksJ4_charAt_1 0 rfl rfl)
theorem dJ4_charAt_26 : decode cJ4_charAt 26 = .ok (.invokestatic 144, 3) := dk_184 0 144 (dk_at dksJ4_charAt_1 2 rfl rfl)
theorem dJ4_charAt_29 : decode cJ4_charAt 29 = .ok (.iload_n 2, 1) := dk_28 (dk_at dksJ4_charAt_1 5 rfl rfl)
theorem dJ4_charAt_30 : decode cJ4_charAt 30 = .ok (.ifCond .ne 12, 3) := dk_154 0 12 (dk_at dksJ4_charAt_1 6 rfl rfl)
theorem dJ4_charAt_33 : decode cJ4_charAt 33 = .ok (.aload_n 3, 1) := dk_45 (dk_at dksJ4_charAt_1 9 rfl rfl)
theorem dJ4_charAt_34 : decode cJ4_charAt 34 = .ok (.iload_n 1, 1) := dk_27 (dk_at dksJ4_charAt_1 10 rfl rfl)
theorem dJ4_charAt_35 : decode cJ4_charAt 35 = .ok (.baload, 1) := dk_51 (dk_at dksJ4_charAt_1 11 rfl rfl)
theorem dJ4_charAt_36 : decode cJ4_charAt 36 = .ok (.sipush 255, 3) := dk_17 0 255 (dk_at dksJ4_charAt_1 12 rfl rfl)
theorem dJ4_charAt_39 : decode cJ4_charAt 39 = .ok (.iand, 1) := dk_126 (dk_at dksJ4_charAt_1 15 rfl rfl)
theorem dJ4_charAt_40 : decode cJ4_charAt 40 = .ok (.i2c, 1) := dk_146 (dk_at dksJ4_charAt_1 16 rfl rfl)
theorem dJ4_charAt_41 : decode cJ4_charAt 41 = .ok (.ireturn, 1) := dk_172 (dk_at dksJ4_charAt_1 17 rfl rfl)
theorem dJ4_charAt_42 : decode cJ4_charAt 42 = .ok (.aload_n 3, 1) := dk_45 (dk_at dksJ4_charAt_1 18 rfl rfl)
theorem dJ4_charAt_43 : decode cJ4_charAt 43 = .ok (.iload_n 1, 1) := dk_27 (dk_at dksJ4_charAt_1 19 rfl rfl)
theorem dJ4_charAt_44 : decode cJ4_charAt 44 = .ok (.invokestatic 148, 3) := dk_184 0 148 (dk_at dksJ4_charAt_1 20 rfl rfl)
theorem dJ4_charAt_47 : decode cJ4_charAt 47 = .ok (.ireturn, 1) := dk_172 (dk_at dksJ4_charAt_1 23 rfl rfl)
abbrev cJ6_charAt : ByteArray := prog_32_method_56_code
def yJ6_charAt : MethodName := ⟨RJ6, "charAt", "(I)C"⟩
def dkwJ6_charAt_1 : List UInt8 := [172]
abbrev dktJ6_charAt_1 : List UInt8 := dkwJ6_charAt_1 ++ []
def dkwJ6_charAt_0 : List UInt8 := [42, 182, 1, 236, 153, 0, 12, 42, 180, 0, 9, 27, 184, 1, 239, 172, 42, 180, 0, 9, 27, 184, 1, 242]
abbrev dktJ6_charAt_0 : List UInt8 := dkwJ6_charAt_0 ++ dktJ6_charAt_1
theorem dksJ6_charAt_0 : cJ6_charAt.data.toList.drop 0 = dktJ6_charAt_0 := by decide +kernel
theorem dksJ6_charAt_1 : cJ6_charAt.data.toList.drop 24 = dktJ6_charAt_1 := dk_seg dksJ6_charAt_0 24 rfl rfl
theorem dJ6_charAt_0 : decode cJ6_charAt 0 = .ok (.aload_n 0, 1) := dk_42 (dk_at dksJ6_charAt_0 0 rfl rfl)
theorem dJ6_charAt_1 : decode cJ6_charAt 1 = .ok (.invokevirtual 492, 3) := dk_182 1 236 (dk_at dksJ6_charAt_0 1 rfl rfl)
theorem dJ6_charAt_4 : decode cJ6_charAt 4 = .ok (.ifCond .eq 12, 3) := dk_153 0 12 (dk_at dksJ6_charAt_0 4 rfl rfl)
theorem dJ6_charAt_7 : decode cJ6_charAt 7 = .ok (.aload_n 0, 1) := dk_42 (dk_at dksJ6_charAt_0 7 rfl rfl)
theorem dJ6_charAt_8 : decode cJ6_charAt 8 = .ok (.getfield 9, 3) := dk_180 0 9 (dk_at dksJ6_charAt_0 8 rfl rfl)
theorem dJ6_charAt_11 : decode cJ6_charAt 11 = .ok (.iload_n 1, 1) := dk_27 (dk_at dksJ6_charAt_0 11 rfl rfl)
theorem dJ6_charAt_12 : decode cJ6_charAt 12 = .ok (.invokestatic 495, 3) := dk_184 1 239 (dk_at dksJ6_charAt_0 12 rfl rfl)
theorem dJ6_charAt_15 : decode cJ6_charAt 15 = .ok (.ireturn, 1) := dk_172 (dk_at dksJ6_charAt_0 15 rfl rfl)
theorem dJ6_charAt_16 : decode cJ6_charAt 16 = .ok (.aload_n 0, 1) := dk_42 (dk_at dksJ6_charAt_0 16 rfl rfl)
theorem dJ6_charAt_17 : decode cJ6_charAt 17 = .ok (.getfield 9, 3) := dk_180 0 9 (dk_at dksJ6_charAt_0 17 rfl rfl)
theorem dJ6_charAt_20 : decode cJ6_charAt 20 = .ok (.iload_n 1, 1) := dk_27 (dk_at dksJ6_charAt_0 20 rfl rfl)
theorem dJ6_charAt_21 : decode cJ6_charAt 21 = .ok (.invokestatic 498, 3) := dk_184 1 242 (dk_at dksJ6_charAt_0 21 rfl rfl)
theorem dJ6_charAt_24 : decode cJ6_charAt 24 = .ok (.ireturn, 1) := dk_172 (dk_at dksJ6_charAt_1 0 rfl rfl)
abbrev cJ5_append_2 : ByteArray := prog_33_method_15_code
def yJ5_append_2 : MethodName := ⟨RJ5, "append", "(I)Ljava/lang/StringBuilder;"⟩
def dkwJ5_append_2_0 : List UInt8 := [42, 27, 183, 0, 53, 87, 42, 176]
abbrev dktJ5_append_2_0 : List UInt8 := dkwJ5_append_2_0 ++ []
theorem dksJ5_append_2_0 : cJ5_append_2.data.toList.drop 0 = dktJ5_append_2_0 := by decide +kernel
theorem dJ5_append_2_0 : decode cJ5_append_2 0 = .ok (.aload_n 0, 1) := dk_42 (dk_at dksJ5_append_2_0 0 rfl rfl)
theorem dJ5_append_2_1 : decode cJ5_append_2 1 = .ok (.iload_n 1, 1) := dk_27 (dk_at dksJ5_append_2_0 1 rfl rfl)
theorem dJ5_append_2_2 : decode cJ5_append_2 2 = .ok (.invokespecial 53, 3) := dk_183 0 53 (dk_at dksJ5_append_2_0 2 rfl rfl)
theorem dJ5_append_2_5 : decode cJ5_append_2 5 = .ok (.pop, 1) := dk_87 (dk_at dksJ5_append_2_0 5 rfl rfl)
theorem dJ5_append_2_6 : decode cJ5_append_2 6 = .ok (.aload_n 0, 1) := dk_42 (dk_at dksJ5_append_2_0 6 rfl rfl)
theorem dJ5_append_2_7 : decode cJ5_append_2 7 = .ok (.areturn, 1) := dk_176 (dk_at dksJ5_append_2_0 7 rfl rfl)
abbrev cJ5_append_4 : ByteArray := prog_33_method_14_code
def yJ5_append_4 : MethodName := ⟨RJ5, "append", "(C)Ljava/lang/StringBuilder;"⟩
def dkwJ5_append_4_0 : List UInt8 := [42, 27, 183, 0, 50, 87, 42, 176]
abbrev dktJ5_append_4_0 : List UInt8 := dkwJ5_append_4_0 ++ []
theorem dksJ5_append_4_0 : cJ5_append_4.data.toList.drop 0 = dktJ5_append_4_0 := by decide +kernel
theorem dJ5_append_4_0 : decode cJ5_append_4 0 = .ok (.aload_n 0, 1) := dk_42 (dk_at dksJ5_append_4_0 0 rfl rfl)
theorem dJ5_append_4_1 : decode cJ5_append_4 1 = .ok (.iload_n 1, 1) := dk_27 (dk_at dksJ5_append_4_0 1 rfl rfl)
theorem dJ5_append_4_2 : decode cJ5_append_4 2 = .ok (.invokespecial 50, 3) := dk_183 0 50 (dk_at dksJ5_append_4_0 2 rfl rfl)
theorem dJ5_append_4_5 : decode cJ5_append_4 5 = .ok (.pop, 1) := dk_87 (dk_at dksJ5_append_4_0 5 rfl rfl)
theorem dJ5_append_4_6 : decode cJ5_append_4 6 = .ok (.aload_n 0, 1) := dk_42 (dk_at dksJ5_append_4_0 6 rfl rfl)
theorem dJ5_append_4_7 : decode cJ5_append_4 7 = .ok (.areturn, 1) := dk_176 (dk_at dksJ5_append_4_0 7 rfl rfl)
abbrev cJ5_charAt : ByteArray := prog_33_method_88_code
def yJ5_charAt : MethodName := ⟨RJ5, "charAt", "(I)C"⟩
def dkwJ5_charAt_0 : List UInt8 := [42, 27, 183, 1, 73, 172]
abbrev dktJ5_charAt_0 : List UInt8 := dkwJ5_charAt_0 ++ []
theorem dksJ5_charAt_0 : cJ5_charAt.data.toList.drop 0 = dktJ5_charAt_0 := by decide +kernel
theorem dJ5_charAt_0 : decode cJ5_charAt 0 = .ok (.aload_n 0, 1) := dk_42 (dk_at dksJ5_charAt_0 0 rfl rfl)
theorem dJ5_charAt_1 : decode cJ5_charAt 1 = .ok (.iload_n 1, 1) := dk_27 (dk_at dksJ5_charAt_0 1 rfl rfl)
theorem dJ5_charAt_2 : decode cJ5_charAt 2 = .ok (.invokespecial 329, 3) := dk_183 1 73 (dk_at dksJ5_charAt_0 2 rfl rfl)
theorem dJ5_charAt_5 : decode cJ5_charAt 5 = .ok (.ireturn, 1) := dk_172 (dk_at dksJ5_charAt_0 5 rfl rfl)
abbrev cJ4_putStringAt : ByteArray := prog_16_method_73_code
def yJ4_putStringAt : MethodName := ⟨RJ4, "putStringAt", "(ILjava/lang/String;)V"⟩
def dkwJ4_putStringAt_0 : List UInt8 := [42, 44, 182, 1, 141, 44, 42, 180, 0, 15, 27, 42, 180, 0, 22, 182, 1, 143, 177]
abbrev dktJ4_putStringAt_0 : List UInt8 := dkwJ4_putStringAt_0 ++ []
theorem dksJ4_putStringAt_0 : cJ4_putStringAt.data.toList.drop 0 = dktJ4_putStringAt_0 := by decide +kernel
theorem dJ4_putStringAt_0 : decode cJ4_putStringAt 0 = .ok (.aload_n 0, 1) := dk_42 (dk_at dksJ4_putStringAt_0 0 rfl rfl)
theorem dJ4_putStringAt_1 : decode cJ4_putStringAt 1 = .ok (.aload_n 2, 1) := dk_44 (dk_at dksJ4_putStringAt_0 1 rfl rfl)
theorem dJ4_putStringAt_2 : decode cJ4_putStringAt 2 = .ok (.invokevirtual 397, 3) := dk_182 1 141 (dk_at dksJ4_putStringAt_0 2 rfl rfl)
theorem dJ4_putStringAt_5 : decode cJ4_putStringAt 5 = .ok (.aload_n 2, 1) := dk_44 (dk_at dksJ4_putStringAt_0 5 rfl rfl)
theorem dJ4_putStringAt_6 : decode cJ4_putStringAt 6 = .ok (.aload_n 0, 1) := dk_42 (dk_at dksJ4_putStringAt_0 6 rfl rfl)
theorem dJ4_putStringAt_7 : decode cJ4_putStringAt 7 = .ok (.getfield 15, 3) := dk_180 0 15 (dk_at dksJ4_putStringAt_0 7 rfl rfl)
theorem dJ4_putStringAt_10 : decode cJ4_putStringAt 10 = .ok (.iload_n 1, 1) := dk_27 (dk_at dksJ4_putStringAt_0 10 rfl rfl)
theorem dJ4_putStringAt_11 : decode cJ4_putStringAt 11 = .ok (.aload_n 0, 1) := dk_42 (dk_at dksJ4_putStringAt_0 11 rfl rfl)
theorem dJ4_putStringAt_12 : decode cJ4_putStringAt 12 = .ok (.getfield 22, 3) := dk_180 0 22 (dk_at dksJ4_putStringAt_0 12 rfl rfl)
theorem dJ4_putStringAt_15 : decode cJ4_putStringAt 15 = .ok (.invokevirtual 399, 3) := dk_182 1 143 (dk_at dksJ4_putStringAt_0 15 rfl rfl)
theorem dJ4_putStringAt_18 : decode cJ4_putStringAt 18 = .ok (.return_, 1) := dk_177 (dk_at dksJ4_putStringAt_0 18 rfl rfl)
abbrev cJ4_append : ByteArray := prog_16_method_22_code
def yJ4_append : MethodName := ⟨RJ4, "append", "(Ljava/lang/String;)Ljava/lang/AbstractStringBuilder;"⟩
def dkwJ4_append_1 : List UInt8 := [42, 42, 180, 0, 79, 43, 182, 0, 208, 42, 89, 180, 0, 79, 28, 96, 181, 0, 79, 42, 176]
abbrev dktJ4_append_1 : List UInt8 := dkwJ4_append_1 ++ []
def dkwJ4_append_0 : List UInt8 := [43, 199, 0, 8, 42, 182, 0, 204, 176, 43, 182, 0, 32, 61, 42, 42, 180, 0, 79, 28, 96, 182, 0, 100]
abbrev dktJ4_append_0 : List UInt8 := dkwJ4_append_0 ++ dktJ4_append_1
theorem dksJ4_append_0 : cJ4_append.data.toList.drop 0 = dktJ4_append_0 := by decide +kernel
theorem dksJ4_append_1 : cJ4_append.data.toList.drop 24 = dktJ4_append_1 := dk_seg dksJ4_append_0 24 rfl rfl
theorem dJ4_append_0 : decode cJ4_append 0 = .ok (.aload_n 1, 1) := dk_43 (dk_at dksJ4_append_0 0 rfl rfl)
theorem dJ4_append_1 : decode cJ4_append 1 = .ok (.ifnonnull 8, 3) := dk_199 0 8 (dk_at dksJ4_append_0 1 rfl rfl)
theorem dJ4_append_4 : decode cJ4_append 4 = .ok (.aload_n 0, 1) := dk_42 (dk_at dksJ4_append_0 4 rfl rfl)
theorem dJ4_append_5 : decode cJ4_append 5 = .ok (.invokevirtual 204, 3) := dk_182 0 204 (dk_at dksJ4_append_0 5 rfl rfl)
theorem dJ4_append_8 : decode cJ4_append 8 = .ok (.areturn, 1) := dk_176 (dk_at dksJ4_append_0 8 rfl rfl)
theorem dJ4_append_9 : decode cJ4_append 9 = .ok (.aload_n 1, 1) := dk_43 (dk_at dksJ4_append_0 9 rfl rfl)
theorem dJ4_append_10 : decode cJ4_append 10 = .ok (.invokevirtual 32, 3) := dk_182 0 32 (dk_at dksJ4_append_0 10 rfl rfl)
theorem dJ4_append_13 : decode cJ4_append 13 = .ok (.istore_n 2, 1) := dk_61 (dk_at dksJ4_append_0 13 rfl rfl)
theorem dJ4_append_14 : decode cJ4_append 14 = .ok (.aload_n 0, 1) := dk_42 (dk_at dksJ4_append_0 14 rfl rfl)
theorem dJ4_append_15 : decode cJ4_append 15 = .ok (.aload_n 0, 1) := dk_42 (dk_at dksJ4_append_0 15 rfl rfl)
theorem dJ4_append_16 : decode cJ4_append 16 = .ok (.getfield 79, 3) := dk_180 0 79 (dk_at dksJ4_append_0 16 rfl rfl)
theorem dJ4_append_19 : decode cJ4_append 19 = .ok (.iload_n 2, 1) := dk_28 (dk_at dksJ4_append_0 19 rfl rfl)
theorem dJ4_append_20 : decode cJ4_append 20 = .ok (.iadd, 1) := dk_96 (dk_at dksJ4_append_0 20 rfl rfl)
theorem dJ4_append_21 : decode cJ4_append 21 = .ok (.invokevirtual 100, 3) := dk_182 0 100 (dk_at dksJ4_append_0 21 rfl rfl)
theorem dJ4_append_24 : decode cJ4_append 24 = .ok (.aload_n 0, 1) := dk_42 (dk_at dksJ4_append_1 0 rfl rfl)
theorem dJ4_append_25 : decode cJ4_append 25 = .ok (.aload_n 0, 1) := dk_42 (dk_at dksJ4_append_1 1 rfl rfl)
theorem dJ4_append_26 : decode cJ4_append 26 = .ok (.getfield 79, 3) := dk_180 0 79 (dk_at dksJ4_append_1 2 rfl rfl)
theorem dJ4_append_29 : decode cJ4_append 29 = .ok (.aload_n 1, 1) := dk_43 (dk_at dksJ4_append_1 5 rfl rfl)
theorem dJ4_append_30 : decode cJ4_append 30 = .ok (.invokevirtual 208, 3) := dk_182 0 208 (dk_at dksJ4_append_1 6 rfl rfl)
theorem dJ4_append_33 : decode cJ4_append 33 = .ok (.aload_n 0, 1) := dk_42 (dk_at dksJ4_append_1 9 rfl rfl)
theorem dJ4_append_34 : decode cJ4_append 34 = .ok (.dup, 1) := dk_89 (dk_at dksJ4_append_1 10 rfl rfl)
theorem dJ4_append_35 : decode cJ4_append 35 = .ok (.getfield 79, 3) := dk_180 0 79 (dk_at dksJ4_append_1 11 rfl rfl)
theorem dJ4_append_38 : decode cJ4_append 38 = .ok (.iload_n 2, 1) := dk_28 (dk_at dksJ4_append_1 14 rfl rfl)
theorem dJ4_append_39 : decode cJ4_append 39 = .ok (.iadd, 1) := dk_96 (dk_at dksJ4_append_1 15 rfl rfl)
theorem dJ4_append_40 : decode cJ4_append 40 = .ok (.putfield 79, 3) := dk_181 0 79 (dk_at dksJ4_append_1 16 rfl rfl)
theorem dJ4_append_43 : decode cJ4_append 43 = .ok (.aload_n 0, 1) := dk_42 (dk_at dksJ4_append_1 19 rfl rfl)
theorem dJ4_append_44 : decode cJ4_append 44 = .ok (.areturn, 1) := dk_176 (dk_at dksJ4_append_1 20 rfl rfl)
abbrev cJ5_append : ByteArray := prog_33_method_7_code
def yJ5_append : MethodName := ⟨RJ5, "append", "(Ljava/lang/String;)Ljava/lang/StringBuilder;"⟩
def dkwJ5_append_0 : List UInt8 := [42, 43, 183, 0, 29, 87, 42, 176]
abbrev dktJ5_append_0 : List UInt8 := dkwJ5_append_0 ++ []
theorem dksJ5_append_0 : cJ5_append.data.toList.drop 0 = dktJ5_append_0 := by decide +kernel
theorem dJ5_append_0 : decode cJ5_append 0 = .ok (.aload_n 0, 1) := dk_42 (dk_at dksJ5_append_0 0 rfl rfl)
theorem dJ5_append_1 : decode cJ5_append 1 = .ok (.aload_n 1, 1) := dk_43 (dk_at dksJ5_append_0 1 rfl rfl)
theorem dJ5_append_2 : decode cJ5_append 2 = .ok (.invokespecial 29, 3) := dk_183 0 29 (dk_at dksJ5_append_0 2 rfl rfl)
theorem dJ5_append_5 : decode cJ5_append 5 = .ok (.pop, 1) := dk_87 (dk_at dksJ5_append_0 5 rfl rfl)
theorem dJ5_append_6 : decode cJ5_append 6 = .ok (.aload_n 0, 1) := dk_42 (dk_at dksJ5_append_0 6 rfl rfl)
theorem dJ5_append_7 : decode cJ5_append 7 = .ok (.areturn, 1) := dk_176 (dk_at dksJ5_append_0 7 rfl rfl)
abbrev cJ5_append_3 : ByteArray := prog_33_method_80_code
def yJ5_append_3 : MethodName := ⟨RJ5, "append", "(Ljava/lang/String;)Ljava/lang/AbstractStringBuilder;"⟩
def dkwJ5_append_3_0 : List UInt8 := [42, 43, 182, 0, 23, 176]
abbrev dktJ5_append_3_0 : List UInt8 := dkwJ5_append_3_0 ++ []
theorem dksJ5_append_3_0 : cJ5_append_3.data.toList.drop 0 = dktJ5_append_3_0 := by decide +kernel
theorem dJ5_append_3_0 : decode cJ5_append_3 0 = .ok (.aload_n 0, 1) := dk_42 (dk_at dksJ5_append_3_0 0 rfl rfl)
theorem dJ5_append_3_1 : decode cJ5_append_3 1 = .ok (.aload_n 1, 1) := dk_43 (dk_at dksJ5_append_3_0 1 rfl rfl)
theorem dJ5_append_3_2 : decode cJ5_append_3 2 = .ok (.invokevirtual 23, 3) := dk_182 0 23 (dk_at dksJ5_append_3_0 2 rfl rfl)
theorem dJ5_append_3_5 : decode cJ5_append_3 5 = .ok (.areturn, 1) := dk_176 (dk_at dksJ5_append_3_0 5 rfl rfl)
abbrev cJ4_append_4 : ByteArray := prog_16_method_25_code
def yJ4_append_4 : MethodName := ⟨RJ4, "append", "(Ljava/lang/CharSequence;)Ljava/lang/AbstractStringBuilder;"⟩
def dkwJ4_append_4_2 : List UInt8 := [185, 0, 47, 1, 0, 182, 0, 223, 176]
abbrev dktJ4_append_4_2 : List UInt8 := dkwJ4_append_4_2 ++ []
def dkwJ4_append_4_1 : List UInt8 := [176, 43, 193, 0, 10, 153, 0, 12, 42, 43, 192, 0, 10, 182, 0, 212, 176, 42, 43, 3, 43]
abbrev dktJ4_append_4_1 : List UInt8 := dkwJ4_append_4_1 ++ dktJ4_append_4_2
def dkwJ4_append_4_0 : List UInt8 := [43, 199, 0, 8, 42, 182, 0, 204, 176, 43, 193, 0, 1, 153, 0, 12, 42, 43, 192, 0, 1, 182, 0, 43]
abbrev dktJ4_append_4_0 : List UInt8 := dkwJ4_append_4_0 ++ dktJ4_append_4_1
theorem dksJ4_append_4_0 : cJ4_append_4.data.toList.drop 0 = dktJ4_append_4_0 := by decide +kernel
theorem dksJ4_append_4_1 : cJ4_append_4.data.toList.drop 24 = dktJ4_append_4_1 := dk_seg dksJ4_append_4_0 24 rfl rfl
theorem dksJ4_append_4_2 : cJ4_append_4.data.toList.drop 45 = dktJ4_append_4_2 := dk_seg dksJ4_append_4_1 21 rfl rfl
theorem dJ4_append_4_0 : decode cJ4_append_4 0 = .ok (.aload_n 1, 1) := dk_43 (dk_at dksJ4_append_4_0 0 rfl rfl)
theorem dJ4_append_4_1 : decode cJ4_append_4 1 = .ok (.ifnonnull 8, 3) := dk_199 0 8 (dk_at dksJ4_append_4_0 1 rfl rfl)
theorem dJ4_append_4_4 : decode cJ4_append_4 4 = .ok (.aload_n 0, 1) := dk_42 (dk_at dksJ4_append_4_0 4 rfl rfl)
theorem dJ4_append_4_5 : decode cJ4_append_4 5 = .ok (.invokevirtual 204, 3) := dk_182 0 204 (dk_at dksJ4_append_4_0 5 rfl rfl)
theorem dJ4_append_4_8 : decode cJ4_append_4 8 = .ok (.areturn, 1) := dk_176 (dk_at dksJ4_append_4_0 8 rfl rfl)
theorem dJ4_append_4_9 : decode cJ4_append_4 9 = .ok (.aload_n 1, 1) := dk_43 (dk_at dksJ4_append_4_0 9 rfl rfl)
theorem dJ4_append_4_10 : decode cJ4_append_4 10 = .ok (.instanceof 1, 3) := dk_193 0 1 (dk_at dksJ4_append_4_0 10 rfl rfl)
theorem dJ4_append_4_13 : decode cJ4_append_4 13 = .ok (.ifCond .eq 12, 3) := dk_153 0 12 (dk_at dksJ4_append_4_0 13 rfl rfl)
theorem dJ4_append_4_16 : decode cJ4_append_4 16 = .ok (.aload_n 0, 1) := dk_42 (dk_at dksJ4_append_4_0 16 rfl rfl)
theorem dJ4_append_4_17 : decode cJ4_append_4 17 = .ok (.aload_n 1, 1) := dk_43 (dk_at dksJ4_append_4_0 17 rfl rfl)
theorem dJ4_append_4_18 : decode cJ4_append_4 18 = .ok (.checkcast 1, 3) := dk_192 0 1 (dk_at dksJ4_append_4_0 18 rfl rfl)
theorem dJ4_append_4_21 : decode cJ4_append_4 21 = .ok (.invokevirtual 43, 3) := dk_182 0 43 (dk_at dksJ4_append_4_0 21 rfl rfl)
theorem dJ4_append_4_24 : decode cJ4_append_4 24 = .ok (.areturn, 1) := dk_176 (dk_at dksJ4_append_4_1 0 rfl rfl)
theorem dJ4_append_4_25 : decode cJ4_append_4 25 = .ok (.aload_n 1, 1) := dk_43 (dk_at dksJ4_append_4_1 1 rfl rfl)
theorem dJ4_append_4_26 : decode cJ4_append_4 26 = .ok (.instanceof 10, 3) := dk_193 0 10 (dk_at dksJ4_append_4_1 2 rfl rfl)
theorem dJ4_append_4_29 : decode cJ4_append_4 29 = .ok (.ifCond .eq 12, 3) := dk_153 0 12 (dk_at dksJ4_append_4_1 5 rfl rfl)
theorem dJ4_append_4_32 : decode cJ4_append_4 32 = .ok (.aload_n 0, 1) := dk_42 (dk_at dksJ4_append_4_1 8 rfl rfl)
theorem dJ4_append_4_33 : decode cJ4_append_4 33 = .ok (.aload_n 1, 1) := dk_43 (dk_at dksJ4_append_4_1 9 rfl rfl)
theorem dJ4_append_4_34 : decode cJ4_append_4 34 = .ok (.checkcast 10, 3) := dk_192 0 10 (dk_at dksJ4_append_4_1 10 rfl rfl)
theorem dJ4_append_4_37 : decode cJ4_append_4 37 = .ok (.invokevirtual 212, 3) := dk_182 0 212 (dk_at dksJ4_append_4_1 13 rfl rfl)
theorem dJ4_append_4_40 : decode cJ4_append_4 40 = .ok (.areturn, 1) := dk_176 (dk_at dksJ4_append_4_1 16 rfl rfl)
theorem dJ4_append_4_41 : decode cJ4_append_4 41 = .ok (.aload_n 0, 1) := dk_42 (dk_at dksJ4_append_4_1 17 rfl rfl)
theorem dJ4_append_4_42 : decode cJ4_append_4 42 = .ok (.aload_n 1, 1) := dk_43 (dk_at dksJ4_append_4_1 18 rfl rfl)
theorem dJ4_append_4_43 : decode cJ4_append_4 43 = .ok (.iconst 0, 1) := dk_3 (dk_at dksJ4_append_4_1 19 rfl rfl)
theorem dJ4_append_4_44 : decode cJ4_append_4 44 = .ok (.aload_n 1, 1) := dk_43 (dk_at dksJ4_append_4_1 20 rfl rfl)
theorem dJ4_append_4_45 : decode cJ4_append_4 45 = .ok (.invokeinterface 47 1, 5) := by decide +kernel
theorem dJ4_append_4_50 : decode cJ4_append_4 50 = .ok (.invokevirtual 223, 3) := dk_182 0 223 (dk_at dksJ4_append_4_2 5 rfl rfl)
theorem dJ4_append_4_53 : decode cJ4_append_4 53 = .ok (.areturn, 1) := dk_176 (dk_at dksJ4_append_4_2 8 rfl rfl)
abbrev cJ4_init_2 : ByteArray := prog_16_method_3_code
def yJ4_init_2 : MethodName := ⟨RJ4, "<init>", "(Ljava/lang/String;)V"⟩
def dkwJ4_init_2_2 : List UInt8 := [167, 0, 7, 29, 184, 0, 26, 181, 0, 15, 42, 43, 182, 0, 43, 87, 177]
abbrev dktJ4_init_2_2 : List UInt8 := dkwJ4_init_2_2 ++ []
def dkwJ4_init_2_1 : List UInt8 := [62, 43, 182, 0, 40, 54, 4, 42, 21, 4, 181, 0, 22, 42, 21, 4, 154, 0, 9, 29, 188, 8]
abbrev dktJ4_init_2_1 : List UInt8 := dkwJ4_init_2_1 ++ dktJ4_init_2_2
def dkwJ4_init_2_0 : List UInt8 := [42, 183, 0, 3, 43, 182, 0, 32, 61, 28, 18, 38, 162, 0, 10, 28, 16, 16, 96, 167, 0, 5, 18, 39]
abbrev dktJ4_init_2_0 : List UInt8 := dkwJ4_init_2_0 ++ dktJ4_init_2_1
theorem dksJ4_init_2_0 : cJ4_init_2.data.toList.drop 0 = dktJ4_init_2_0 := by decide +kernel
theorem dksJ4_init_2_1 : cJ4_init_2.data.toList.drop 24 = dktJ4_init_2_1 := dk_seg dksJ4_init_2_0 24 rfl rfl
theorem dksJ4_init_2_2 : cJ4_init_2.data.toList.drop 46 = dktJ4_init_2_2 := dk_seg dksJ4_init_2_1 22 rfl rfl
theorem dJ4_init_2_0 : decode cJ4_init_2 0 = .ok (.aload_n 0, 1) := dk_42 (dk_at dksJ4_init_2_0 0 rfl rfl)
theorem dJ4_init_2_1 : decode cJ4_init_2 1 = .ok (.invokespecial 3, 3) := dk_183 0 3 (dk_at dksJ4_init_2_0 1 rfl rfl)
theorem dJ4_init_2_4 : decode cJ4_init_2 4 = .ok (.aload_n 1, 1) := dk_43 (dk_at dksJ4_init_2_0 4 rfl rfl)
theorem dJ4_init_2_5 : decode cJ4_init_2 5 = .ok (.invokevirtual 32, 3) := dk_182 0 32 (dk_at dksJ4_init_2_0 5 rfl rfl)
theorem dJ4_init_2_8 : decode cJ4_init_2 8 = .ok (.istore_n 2, 1) := dk_61 (dk_at dksJ4_init_2_0 8 rfl rfl)
theorem dJ4_init_2_9 : decode cJ4_init_2 9 = .ok (.iload_n 2, 1) := dk_28 (dk_at dksJ4_init_2_0 9 rfl rfl)
theorem dJ4_init_2_10 : decode cJ4_init_2 10 = .ok (.ldc 38, 2) := dk_18 38 (dk_at dksJ4_init_2_0 10 rfl rfl)
theorem dJ4_init_2_12 : decode cJ4_init_2 12 = .ok (.if_icmp .ge 10, 3) := dk_162 0 10 (dk_at dksJ4_init_2_0 12 rfl rfl)
theorem dJ4_init_2_15 : decode cJ4_init_2 15 = .ok (.iload_n 2, 1) := dk_28 (dk_at dksJ4_init_2_0 15 rfl rfl)
theorem dJ4_init_2_16 : decode cJ4_init_2 16 = .ok (.bipush 16, 2) := dk_16 16 (dk_at dksJ4_init_2_0 16 rfl rfl)
theorem dJ4_init_2_18 : decode cJ4_init_2 18 = .ok (.iadd, 1) := dk_96 (dk_at dksJ4_init_2_0 18 rfl rfl)
theorem dJ4_init_2_19 : decode cJ4_init_2 19 = .ok (.goto 5, 3) := dk_167 0 5 (dk_at dksJ4_init_2_0 19 rfl rfl)
theorem dJ4_init_2_22 : decode cJ4_init_2 22 = .ok (.ldc 39, 2) := dk_18 39 (dk_at dksJ4_init_2_0 22 rfl rfl)
theorem dJ4_init_2_24 : decode cJ4_init_2 24 = .ok (.istore_n 3, 1) := dk_62 (dk_at dksJ4_init_2_1 0 rfl rfl)
theorem dJ4_init_2_25 : decode cJ4_init_2 25 = .ok (.aload_n 1, 1) := dk_43 (dk_at dksJ4_init_2_1 1 rfl rfl)
theorem dJ4_init_2_26 : decode cJ4_init_2 26 = .ok (.invokevirtual 40, 3) := dk_182 0 40 (dk_at dksJ4_init_2_1 2 rfl rfl)
theorem dJ4_init_2_29 : decode cJ4_init_2 29 = .ok (.istore 4, 2) := dk_54 4 (dk_at dksJ4_init_2_1 5 rfl rfl)
theorem dJ4_init_2_31 : decode cJ4_init_2 31 = .ok (.aload_n 0, 1) := dk_42 (dk_at dksJ4_init_2_1 7 rfl rfl)
theorem dJ4_init_2_32 : decode cJ4_init_2 32 = .ok (.iload 4, 2) := dk_21 4 (dk_at dksJ4_init_2_1 8 rfl rfl)
theorem dJ4_init_2_34 : decode cJ4_init_2 34 = .ok (.putfield 22, 3) := dk_181 0 22 (dk_at dksJ4_init_2_1 10 rfl rfl)
theorem dJ4_init_2_37 : decode cJ4_init_2 37 = .ok (.aload_n 0, 1) := dk_42 (dk_at dksJ4_init_2_1 13 rfl rfl)
theorem dJ4_init_2_38 : decode cJ4_init_2 38 = .ok (.iload 4, 2) := dk_21 4 (dk_at dksJ4_init_2_1 14 rfl rfl)
theorem dJ4_init_2_40 : decode cJ4_init_2 40 = .ok (.ifCond .ne 9, 3) := dk_154 0 9 (dk_at dksJ4_init_2_1 16 rfl rfl)
theorem dJ4_init_2_43 : decode cJ4_init_2 43 = .ok (.iload_n 3, 1) := dk_29 (dk_at dksJ4_init_2_1 19 rfl rfl)
theorem dJ4_init_2_44 : decode cJ4_init_2 44 = .ok (.newarray .byte, 2) := dk_188_8 (dk_at dksJ4_init_2_1 20 rfl rfl)
theorem dJ4_init_2_46 : decode cJ4_init_2 46 = .ok (.goto 7, 3) := dk_167 0 7 (dk_at dksJ4_init_2_2 0 rfl rfl)
theorem dJ4_init_2_49 : decode cJ4_init_2 49 = .ok (.iload_n 3, 1) := dk_29 (dk_at dksJ4_init_2_2 3 rfl rfl)
theorem dJ4_init_2_50 : decode cJ4_init_2 50 = .ok (.invokestatic 26, 3) := dk_184 0 26 (dk_at dksJ4_init_2_2 4 rfl rfl)
theorem dJ4_init_2_53 : decode cJ4_init_2 53 = .ok (.putfield 15, 3) := dk_181 0 15 (dk_at dksJ4_init_2_2 7 rfl rfl)
theorem dJ4_init_2_56 : decode cJ4_init_2 56 = .ok (.aload_n 0, 1) := dk_42 (dk_at dksJ4_init_2_2 10 rfl rfl)
theorem dJ4_init_2_57 : decode cJ4_init_2 57 = .ok (.aload_n 1, 1) := dk_43 (dk_at dksJ4_init_2_2 11 rfl rfl)
theorem dJ4_init_2_58 : decode cJ4_init_2 58 = .ok (.invokevirtual 43, 3) := dk_182 0 43 (dk_at dksJ4_init_2_2 12 rfl rfl)
theorem dJ4_init_2_61 : decode cJ4_init_2 61 = .ok (.pop, 1) := dk_87 (dk_at dksJ4_init_2_2 15 rfl rfl)
theorem dJ4_init_2_62 : decode cJ4_init_2 62 = .ok (.return_, 1) := dk_177 (dk_at dksJ4_init_2_2 16 rfl rfl)
abbrev cJ5_init_2 : ByteArray := prog_33_method_3_code
def yJ5_init_2 : MethodName := ⟨RJ5, "<init>", "(Ljava/lang/String;)V"⟩
def dkwJ5_init_2_0 : List UInt8 := [42, 43, 183, 0, 7, 177]
abbrev dktJ5_init_2_0 : List UInt8 := dkwJ5_init_2_0 ++ []
theorem dksJ5_init_2_0 : cJ5_init_2.data.toList.drop 0 = dktJ5_init_2_0 := by decide +kernel
theorem dJ5_init_2_0 : decode cJ5_init_2 0 = .ok (.aload_n 0, 1) := dk_42 (dk_at dksJ5_init_2_0 0 rfl rfl)
theorem dJ5_init_2_1 : decode cJ5_init_2 1 = .ok (.aload_n 1, 1) := dk_43 (dk_at dksJ5_init_2_0 1 rfl rfl)
theorem dJ5_init_2_2 : decode cJ5_init_2 2 = .ok (.invokespecial 7, 3) := dk_183 0 7 (dk_at dksJ5_init_2_0 2 rfl rfl)
theorem dJ5_init_2_5 : decode cJ5_init_2 5 = .ok (.return_, 1) := dk_177 (dk_at dksJ5_init_2_0 5 rfl rfl)
abbrev cJ5_append_5 : ByteArray := prog_33_method_9_code
def yJ5_append_5 : MethodName := ⟨RJ5, "append", "(Ljava/lang/CharSequence;)Ljava/lang/StringBuilder;"⟩
def dkwJ5_append_5_0 : List UInt8 := [42, 43, 183, 0, 35, 87, 42, 176]
abbrev dktJ5_append_5_0 : List UInt8 := dkwJ5_append_5_0 ++ []
theorem dksJ5_append_5_0 : cJ5_append_5.data.toList.drop 0 = dktJ5_append_5_0 := by decide +kernel
theorem dJ5_append_5_0 : decode cJ5_append_5 0 = .ok (.aload_n 0, 1) := dk_42 (dk_at dksJ5_append_5_0 0 rfl rfl)
theorem dJ5_append_5_1 : decode cJ5_append_5 1 = .ok (.aload_n 1, 1) := dk_43 (dk_at dksJ5_append_5_0 1 rfl rfl)
theorem dJ5_append_5_2 : decode cJ5_append_5 2 = .ok (.invokespecial 35, 3) := dk_183 0 35 (dk_at dksJ5_append_5_0 2 rfl rfl)
theorem dJ5_append_5_5 : decode cJ5_append_5 5 = .ok (.pop, 1) := dk_87 (dk_at dksJ5_append_5_0 5 rfl rfl)
theorem dJ5_append_5_6 : decode cJ5_append_5 6 = .ok (.aload_n 0, 1) := dk_42 (dk_at dksJ5_append_5_0 6 rfl rfl)
theorem dJ5_append_5_7 : decode cJ5_append_5 7 = .ok (.areturn, 1) := dk_176 (dk_at dksJ5_append_5_0 7 rfl rfl)
theorem q82 : (Jvm.Cond.initialized "java/lang/AbstractStringBuilder") ∈ lw_all := lw_g (lw_at lw_m1 8 rfl) rfl
theorem q83 : (Jvm.Cond.initialized "java/lang/StringBuilder") ∈ lw_all := lw_g (lw_at lw_m1 9 rfl) rfl
theorem q84 : (Jvm.Cond.initialized "java/lang/String") ∈ lw_all := lw_g (lw_at lw_m1 10 rfl) rfl
theorem q99 : (Jvm.Cond.initialized "java/lang/StringLatin1") ∈ lw_all := lw_g (lw_at lw_m1 25 rfl) rfl
theorem q101 : (Jvm.Cond.initialized "java/lang/Integer") ∈ lw_all := lw_g (lw_at lw_m1 27 rfl) rfl
theorem q242 : (Jvm.Cond.code ({ cls := "java/lang/StringBuilder", name := "<init>", desc := "()V" } : Jvm.MethodName) prog_33_method_1_code (1 : Nat) (Option.none : Option Jvm.ClassFile.FieldType)) ∈ lw_all := lw_g (lw_at lw_m1 168 rfl) rfl
theorem q243 : (Jvm.Cond.methodLink "java/lang/StringBuilder" (1 : Nat) ({ cls := "java/lang/AbstractStringBuilder", name := "<init>", desc := "(I)V" } : Jvm.MethodName)) ∈ lw_all := lw_g (lw_at lw_m1 169 rfl) rfl
theorem q244 : (Jvm.Cond.instanceMethod ({ cls := "java/lang/AbstractStringBuilder", name := "<init>", desc := "(I)V" } : Jvm.MethodName)) ∈ lw_all := lw_g (lw_at lw_m1 170 rfl) rfl
theorem q245 : (Jvm.Cond.code ({ cls := "java/lang/AbstractStringBuilder", name := "<init>", desc := "(I)V" } : Jvm.MethodName) prog_16_method_2_code (2 : Nat) (Option.none : Option Jvm.ClassFile.FieldType)) ∈ lw_all := lw_g (lw_at lw_m1 171 rfl) rfl
theorem q246 : (Jvm.Cond.methodLink "java/lang/AbstractStringBuilder" (3 : Nat) ({ cls := "java/lang/Object", name := "<init>", desc := "()V" } : Jvm.MethodName)) ∈ lw_all := lw_g (lw_at lw_m1 172 rfl) rfl
theorem q247 : (Jvm.Cond.fieldLink "java/lang/AbstractStringBuilder" (18 : Nat) "java/lang/String" "COMPACT_STRINGS" "Z") ∈ lw_all := lw_g (lw_at lw_m1 173 rfl) rfl
theorem q256 : (Jvm.Cond.fieldLink "java/lang/AbstractStringBuilder" (15 : Nat) "java/lang/AbstractStringBuilder" "value" "[B") ∈ lw_all := lw_g (lw_at lw_m1 182 rfl) rfl
theorem q257 : (Jvm.Cond.fieldLink "java/lang/AbstractStringBuilder" (22 : Nat) "java/lang/AbstractStringBuilder" "coder" "B") ∈ lw_all := lw_g (lw_at lw_m1 183 rfl) rfl
theorem q258 : (Jvm.Cond.fieldLink "java/lang/AbstractStringBuilder" (73 : Nat) "java/lang/AbstractStringBuilder" "maybeLatin1" "Z") ∈ lw_all := lw_g (lw_at lw_m1 184 rfl) rfl
theorem q260 : (Jvm.Cond.fieldLink "java/lang/AbstractStringBuilder" (79 : Nat) "java/lang/AbstractStringBuilder" "count" "I") ∈ lw_all := lw_g (lw_at lw_m1 186 rfl) rfl
theorem q269 : (Jvm.Cond.superclass "java/lang/StringBuilder" "java/lang/AbstractStringBuilder") ∈ lw_all := lw_g (lw_at lw_m1 195 rfl) rfl
theorem q270 : (Jvm.Cond.arrayClass Jvm.ClassFile.FieldType.byte) ∈ lw_all := lw_g (lw_at lw_m1 196 rfl) rfl
theorem q465 : (Jvm.Cond.instanceMethod ({ cls := "java/lang/StringBuilder", name := "append", desc := "(Ljava/lang/String;)Ljava/lang/StringBuilder;" } : Jvm.MethodName)) ∈ lw_all := lw_g (lw_at lw_m2 151 rfl) rfl
theorem q466 : (Jvm.Cond.selects "java/lang/StringBuilder" ({ cls := "java/lang/StringBuilder", name := "append", desc := "(Ljava/lang/String;)Ljava/lang/StringBuilder;" } : Jvm.MethodName) ({ cls := "java/lang/StringBuilder", name := "append", desc := "(Ljava/lang/String;)Ljava/lang/StringBuilder;" } : Jvm.MethodName)) ∈ lw_all := lw_g (lw_at lw_m2 152 rfl) rfl
theorem q467 : (Jvm.Cond.code ({ cls := "java/lang/StringBuilder", name := "append", desc := "(Ljava/lang/String;)Ljava/lang/StringBuilder;" } : Jvm.MethodName) prog_33_method_7_code (2 : Nat) (Option.some (Jvm.ClassFile.FieldType.object "java/lang/StringBuilder"))) ∈ lw_all := lw_g (lw_at lw_m2 153 rfl) rfl
theorem q468 : (Jvm.Cond.methodLink "java/lang/StringBuilder" (29 : Nat) ({ cls := "java/lang/AbstractStringBuilder", name := "append", desc := "(Ljava/lang/String;)Ljava/lang/AbstractStringBuilder;" } : Jvm.MethodName)) ∈ lw_all := lw_g (lw_at lw_m2 154 rfl) rfl
theorem q469 : (Jvm.Cond.instanceMethod ({ cls := "java/lang/AbstractStringBuilder", name := "append", desc := "(Ljava/lang/String;)Ljava/lang/AbstractStringBuilder;" } : Jvm.MethodName)) ∈ lw_all := lw_g (lw_at lw_m2 155 rfl) rfl
theorem q470 : (Jvm.Cond.code ({ cls := "java/lang/AbstractStringBuilder", name := "append", desc := "(Ljava/lang/String;)Ljava/lang/AbstractStringBuilder;" } : Jvm.MethodName) prog_16_method_22_code (3 : Nat) (Option.some (Jvm.ClassFile.FieldType.object "java/lang/AbstractStringBuilder"))) ∈ lw_all := lw_g (lw_at lw_m2 156 rfl) rfl
theorem q475 : (Jvm.Cond.methodLink "java/lang/AbstractStringBuilder" (100 : Nat) ({ cls := "java/lang/AbstractStringBuilder", name := "ensureCapacityInternal", desc := "(I)V" } : Jvm.MethodName)) ∈ lw_all := lw_g (lw_at lw_m2 161 rfl) rfl
theorem q476 : (Jvm.Cond.privateMethod ({ cls := "java/lang/AbstractStringBuilder", name := "ensureCapacityInternal", desc := "(I)V" } : Jvm.MethodName)) ∈ lw_tbl := lw_at lw_m2 162 rfl
theorem q477 : (Jvm.Cond.instanceMethod ({ cls := "java/lang/AbstractStringBuilder", name := "ensureCapacityInternal", desc := "(I)V" } : Jvm.MethodName)) ∈ lw_all := lw_g (lw_at lw_m2 163 rfl) rfl
theorem q478 : (Jvm.Cond.code ({ cls := "java/lang/AbstractStringBuilder", name := "ensureCapacityInternal", desc := "(I)V" } : Jvm.MethodName) prog_16_method_9_code (3 : Nat) (Option.none : Option Jvm.ClassFile.FieldType)) ∈ lw_all := lw_g (lw_at lw_m2 164 rfl) rfl
theorem q479 : (Jvm.Cond.methodLink "java/lang/AbstractStringBuilder" (104 : Nat) ({ cls := "java/lang/AbstractStringBuilder", name := "newCapacity", desc := "(I)I" } : Jvm.MethodName)) ∈ lw_all := lw_g (lw_at lw_m2 165 rfl) rfl
theorem q480 : (Jvm.Cond.privateMethod ({ cls := "java/lang/AbstractStringBuilder", name := "newCapacity", desc := "(I)I" } : Jvm.MethodName)) ∈ lw_tbl := lw_at lw_m2 166 rfl
theorem q481 : (Jvm.Cond.instanceMethod ({ cls := "java/lang/AbstractStringBuilder", name := "newCapacity", desc := "(I)I" } : Jvm.MethodName)) ∈ lw_all := lw_g (lw_at lw_m2 167 rfl) rfl
theorem q482 : (Jvm.Cond.code ({ cls := "java/lang/AbstractStringBuilder", name := "newCapacity", desc := "(I)I" } : Jvm.MethodName) prog_16_method_10_code (6 : Nat) (Option.some Jvm.ClassFile.FieldType.int)) ∈ lw_all := lw_g (lw_at lw_m2 168 rfl) rfl
theorem q483 : (Jvm.Cond.methodLink "java/lang/AbstractStringBuilder" (114 : Nat) ({ cls := "jdk/internal/util/ArraysSupport", name := "newLength", desc := "(III)I" } : Jvm.MethodName)) ∈ lw_all := lw_g (lw_at lw_m2 169 rfl) rfl
theorem q493 : (Jvm.Cond.constant "java/lang/AbstractStringBuilder" (39 : Nat) (2147483647 : Int32)) ∈ lw_all := lw_g (lw_at lw_m2 179 rfl) rfl
theorem q494 : (Jvm.Cond.methodLink "java/lang/AbstractStringBuilder" (108 : Nat) ({ cls := "java/util/Arrays", name := "copyOf", desc := "([BI)[B" } : Jvm.MethodName)) ∈ lw_all := lw_g (lw_at lw_m2 180 rfl) rfl
theorem q495 : (Jvm.Cond.static ({ cls := "java/util/Arrays", name := "copyOf", desc := "([BI)[B" } : Jvm.MethodName)) ∈ lw_all := lw_g (lw_at lw_m2 181 rfl) rfl
theorem q496 : (Jvm.Cond.code ({ cls := "java/util/Arrays", name := "copyOf", desc := "([BI)[B" } : Jvm.MethodName) prog_52_method_121_code (3 : Nat) (Option.some (Jvm.ClassFile.FieldType.array Jvm.ClassFile.FieldType.byte))) ∈ lw_all := lw_g (lw_at lw_m2 182 rfl) rfl
theorem q510 : (Jvm.Cond.methodLink "java/lang/AbstractStringBuilder" (83 : Nat) ({ cls := "java/lang/AbstractStringBuilder", name := "isLatin1", desc := "()Z" } : Jvm.MethodName)) ∈ lw_all := lw_g (lw_at lw_m2 196 rfl) rfl
theorem q511 : (Jvm.Cond.instanceMethod ({ cls := "java/lang/AbstractStringBuilder", name := "isLatin1", desc := "()Z" } : Jvm.MethodName)) ∈ lw_all := lw_g (lw_at lw_m2 197 rfl) rfl
theorem q513 : (Jvm.Cond.selects "java/lang/StringBuilder" ({ cls := "java/lang/AbstractStringBuilder", name := "isLatin1", desc := "()Z" } : Jvm.MethodName) ({ cls := "java/lang/AbstractStringBuilder", name := "isLatin1", desc := "()Z" } : Jvm.MethodName)) ∈ lw_all := lw_g (lw_at lw_m2 199 rfl) rfl
theorem q514 : (Jvm.Cond.code ({ cls := "java/lang/AbstractStringBuilder", name := "isLatin1", desc := "()Z" } : Jvm.MethodName) prog_16_method_68_code (1 : Nat) (Option.some Jvm.ClassFile.FieldType.boolean)) ∈ lw_all := lw_g (lw_at lw_m2 200 rfl) rfl
theorem q527 : (Jvm.Cond.fieldLink "java/lang/String" (1053 : Nat) "jdk/internal/util/Preconditions" "SIOOBE_FORMATTER" "Ljava/util/function/BiFunction;") ∈ lw_all := lw_g (lw_at lw_m2 213 rfl) rfl
theorem q541 : (Jvm.Cond.methodLink "java/lang/AbstractStringBuilder" (32 : Nat) ({ cls := "java/lang/String", name := "length", desc := "()I" } : Jvm.MethodName)) ∈ lw_all := lw_g (lw_at lw_m2 227 rfl) rfl
theorem q542 : (Jvm.Cond.instanceMethod ({ cls := "java/lang/String", name := "length", desc := "()I" } : Jvm.MethodName)) ∈ lw_all := lw_g (lw_at lw_m2 228 rfl) rfl
theorem q543 : (Jvm.Cond.selects "java/lang/String" ({ cls := "java/lang/String", name := "length", desc := "()I" } : Jvm.MethodName) ({ cls := "java/lang/String", name := "length", desc := "()I" } : Jvm.MethodName)) ∈ lw_all := lw_g (lw_at lw_m2 229 rfl) rfl
theorem q544 : (Jvm.Cond.code ({ cls := "java/lang/String", name := "length", desc := "()I" } : Jvm.MethodName) prog_32_method_54_code (1 : Nat) (Option.some Jvm.ClassFile.FieldType.int)) ∈ lw_all := lw_g (lw_at lw_m2 230 rfl) rfl
theorem q545 : (Jvm.Cond.methodLink "java/lang/String" (335 : Nat) ({ cls := "java/lang/String", name := "coder", desc := "()B" } : Jvm.MethodName)) ∈ lw_all := lw_g (lw_at lw_m2 231 rfl) rfl
theorem q546 : (Jvm.Cond.instanceMethod ({ cls := "java/lang/String", name := "coder", desc := "()B" } : Jvm.MethodName)) ∈ lw_all := lw_g (lw_at lw_m2 232 rfl) rfl
theorem q547 : (Jvm.Cond.selects "java/lang/String" ({ cls := "java/lang/String", name := "coder", desc := "()B" } : Jvm.MethodName) ({ cls := "java/lang/String", name := "coder", desc := "()B" } : Jvm.MethodName)) ∈ lw_all := lw_g (lw_at lw_m2 233 rfl) rfl
theorem q548 : (Jvm.Cond.code ({ cls := "java/lang/String", name := "coder", desc := "()B" } : Jvm.MethodName) prog_32_method_152_code (1 : Nat) (Option.some Jvm.ClassFile.FieldType.byte)) ∈ lw_all := lw_g (lw_at lw_m2 234 rfl) rfl
theorem q549 : (Jvm.Cond.fieldLink "java/lang/String" (38 : Nat) "java/lang/String" "COMPACT_STRINGS" "Z") ∈ lw_all := lw_g (lw_at lw_m2 235 rfl) rfl
theorem q550 : (Jvm.Cond.methodLink "java/lang/AbstractStringBuilder" (208 : Nat) ({ cls := "java/lang/AbstractStringBuilder", name := "putStringAt", desc := "(ILjava/lang/String;)V" } : Jvm.MethodName)) ∈ lw_all := lw_g (lw_at lw_m2 236 rfl) rfl
theorem q551 : (Jvm.Cond.privateMethod ({ cls := "java/lang/AbstractStringBuilder", name := "putStringAt", desc := "(ILjava/lang/String;)V" } : Jvm.MethodName)) ∈ lw_tbl := lw_at lw_m2 237 rfl
theorem q552 : (Jvm.Cond.instanceMethod ({ cls := "java/lang/AbstractStringBuilder", name := "putStringAt", desc := "(ILjava/lang/String;)V" } : Jvm.MethodName)) ∈ lw_all := lw_g (lw_at lw_m2 238 rfl) rfl
theorem q553 : (Jvm.Cond.code ({ cls := "java/lang/AbstractStringBuilder", name := "putStringAt", desc := "(ILjava/lang/String;)V" } : Jvm.MethodName) prog_16_method_73_code (3 : Nat) (Option.none : Option Jvm.ClassFile.FieldType)) ∈ lw_all := lw_g (lw_at lw_m2 239 rfl) rfl
theorem q554 : (Jvm.Cond.methodLink "java/lang/AbstractStringBuilder" (397 : Nat) ({ cls := "java/lang/AbstractStringBuilder", name := "inflateIfNeededFor", desc := "(Ljava/lang/String;)V" } : Jvm.MethodName)) ∈ lw_all := lw_g (lw_at lw_m3 0 rfl) rfl
theorem q555 : (Jvm.Cond.privateMethod ({ cls := "java/lang/AbstractStringBuilder", name := "inflateIfNeededFor", desc := "(Ljava/lang/String;)V" } : Jvm.MethodName)) ∈ lw_tbl := lw_at lw_m3 1 rfl
theorem q556 : (Jvm.Cond.instanceMethod ({ cls := "java/lang/AbstractStringBuilder", name := "inflateIfNeededFor", desc := "(Ljava/lang/String;)V" } : Jvm.MethodName)) ∈ lw_all := lw_g (lw_at lw_m3 2 rfl) rfl
theorem q557 : (Jvm.Cond.code ({ cls := "java/lang/AbstractStringBuilder", name := "inflateIfNeededFor", desc := "(Ljava/lang/String;)V" } : Jvm.MethodName) prog_16_method_71_code (2 : Nat) (Option.none : Option Jvm.ClassFile.FieldType)) ∈ lw_all := lw_g (lw_at lw_m3 3 rfl) rfl
theorem q558 : (Jvm.Cond.methodLink "java/lang/AbstractStringBuilder" (40 : Nat) ({ cls := "java/lang/String", name := "coder", desc := "()B" } : Jvm.MethodName)) ∈ lw_all := lw_g (lw_at lw_m3 4 rfl) rfl
theorem q578 : (Jvm.Cond.methodLink "java/lang/AbstractStringBuilder" (399 : Nat) ({ cls := "java/lang/String", name := "getBytes", desc := "([BIB)V" } : Jvm.MethodName)) ∈ lw_all := lw_g (lw_at lw_m3 24 rfl) rfl
theorem q579 : (Jvm.Cond.instanceMethod ({ cls := "java/lang/String", name := "getBytes", desc := "([BIB)V" } : Jvm.MethodName)) ∈ lw_all := lw_g (lw_at lw_m3 25 rfl) rfl
theorem q580 : (Jvm.Cond.selects "java/lang/String" ({ cls := "java/lang/String", name := "getBytes", desc := "([BIB)V" } : Jvm.MethodName) ({ cls := "java/lang/String", name := "getBytes", desc := "([BIB)V" } : Jvm.MethodName)) ∈ lw_all := lw_g (lw_at lw_m3 26 rfl) rfl
theorem q581 : (Jvm.Cond.code ({ cls := "java/lang/String", name := "getBytes", desc := "([BIB)V" } : Jvm.MethodName) prog_32_method_147_code (4 : Nat) (Option.none : Option Jvm.ClassFile.FieldType)) ∈ lw_all := lw_g (lw_at lw_m3 27 rfl) rfl
theorem q582 : (Jvm.Cond.methodLink "java/lang/String" (212 : Nat) ({ cls := "java/lang/System", name := "arraycopy", desc := "(Ljava/lang/Object;ILjava/lang/Object;II)V" } : Jvm.MethodName)) ∈ lw_all := lw_g (lw_at lw_m3 28 rfl) rfl
theorem q587 : (Jvm.Cond.code ({ cls := "java/lang/StringBuilder", name := "append", desc := "(I)Ljava/lang/StringBuilder;" } : Jvm.MethodName) prog_33_method_15_code (2 : Nat) (Option.some (Jvm.ClassFile.FieldType.object "java/lang/StringBuilder"))) ∈ lw_all := lw_g (lw_at lw_m3 33 rfl) rfl
theorem q588 : (Jvm.Cond.methodLink "java/lang/StringBuilder" (53 : Nat) ({ cls := "java/lang/AbstractStringBuilder", name := "append", desc := "(I)Ljava/lang/AbstractStringBuilder;" } : Jvm.MethodName)) ∈ lw_all := lw_g (lw_at lw_m3 34 rfl) rfl
theorem q589 : (Jvm.Cond.instanceMethod ({ cls := "java/lang/AbstractStringBuilder", name := "append", desc := "(I)Ljava/lang/AbstractStringBuilder;" } : Jvm.MethodName)) ∈ lw_all := lw_g (lw_at lw_m3 35 rfl) rfl
theorem q590 : (Jvm.Cond.code ({ cls := "java/lang/AbstractStringBuilder", name := "append", desc := "(I)Ljava/lang/AbstractStringBuilder;" } : Jvm.MethodName) prog_16_method_32_code (4 : Nat) (Option.some (Jvm.ClassFile.FieldType.object "java/lang/AbstractStringBuilder"))) ∈ lw_all := lw_g (lw_at lw_m3 36 rfl) rfl
theorem q591 : (Jvm.Cond.methodLink "java/lang/AbstractStringBuilder" (245 : Nat) ({ cls := "java/lang/Integer", name := "stringSize", desc := "(I)I" } : Jvm.MethodName)) ∈ lw_all := lw_g (lw_at lw_m3 37 rfl) rfl
theorem q592 : (Jvm.Cond.static ({ cls := "java/lang/Integer", name := "stringSize", desc := "(I)I" } : Jvm.MethodName)) ∈ lw_all := lw_g (lw_at lw_m3 38 rfl) rfl
theorem q593 : (Jvm.Cond.code ({ cls := "java/lang/Integer", name := "stringSize", desc := "(I)I" } : Jvm.MethodName) prog_27_method_13_code (4 : Nat) (Option.some Jvm.ClassFile.FieldType.int)) ∈ lw_all := lw_g (lw_at lw_m3 39 rfl) rfl
theorem q594 : (Jvm.Cond.methodLink "java/lang/AbstractStringBuilder" (248 : Nat) ({ cls := "java/lang/Integer", name := "getChars", desc := "(II[B)I" } : Jvm.MethodName)) ∈ lw_all := lw_g (lw_at lw_m3 40 rfl) rfl
theorem q595 : (Jvm.Cond.static ({ cls := "java/lang/Integer", name := "getChars", desc := "(II[B)I" } : Jvm.MethodName)) ∈ lw_all := lw_g (lw_at lw_m3 41 rfl) rfl
theorem q596 : (Jvm.Cond.code ({ cls := "java/lang/Integer", name := "getChars", desc := "(II[B)I" } : Jvm.MethodName) prog_27_method_12_code (7 : Nat) (Option.some Jvm.ClassFile.FieldType.int)) ∈ lw_all := lw_g (lw_at lw_m3 42 rfl) rfl
theorem q597 : (Jvm.Cond.fieldLink "java/lang/Integer" (83 : Nat) "java/lang/Integer" "DigitOnes" "[B") ∈ lw_all := lw_g (lw_at lw_m3 43 rfl) rfl
theorem q599 : (Jvm.Cond.fieldLink "java/lang/Integer" (87 : Nat) "java/lang/Integer" "DigitTens" "[B") ∈ lw_all := lw_g (lw_at lw_m3 45 rfl) rfl
theorem q629 : (Jvm.Cond.instanceMethod ({ cls := "java/lang/AbstractStringBuilder", name := "length", desc := "()I" } : Jvm.MethodName)) ∈ lw_all := lw_g (lw_at lw_m3 75 rfl) rfl
theorem q630 : (Jvm.Cond.sameMethod "java/lang/AbstractStringBuilder" "java/lang/AbstractStringBuilder" "length" "()I") ∈ lw_all := lw_g (lw_at lw_m3 76 rfl) rfl
theorem q631 : (Jvm.Cond.selects "java/lang/StringBuilder" ({ cls := "java/lang/AbstractStringBuilder", name := "length", desc := "()I" } : Jvm.MethodName) ({ cls := "java/lang/StringBuilder", name := "length", desc := "()I" } : Jvm.MethodName)) ∈ lw_all := lw_g (lw_at lw_m3 77 rfl) rfl
theorem q632 : (Jvm.Cond.instanceMethod ({ cls := "java/lang/StringBuilder", name := "length", desc := "()I" } : Jvm.MethodName)) ∈ lw_all := lw_g (lw_at lw_m3 78 rfl) rfl
theorem q633 : (Jvm.Cond.code ({ cls := "java/lang/StringBuilder", name := "length", desc := "()I" } : Jvm.MethodName) prog_33_method_93_code (1 : Nat) (Option.some Jvm.ClassFile.FieldType.int)) ∈ lw_all := lw_g (lw_at lw_m3 79 rfl) rfl
theorem q634 : (Jvm.Cond.methodLink "java/lang/StringBuilder" (343 : Nat) ({ cls := "java/lang/AbstractStringBuilder", name := "length", desc := "()I" } : Jvm.MethodName)) ∈ lw_all := lw_g (lw_at lw_m3 80 rfl) rfl
theorem q635 : (Jvm.Cond.code ({ cls := "java/lang/AbstractStringBuilder", name := "length", desc := "()I" } : Jvm.MethodName) prog_16_method_6_code (1 : Nat) (Option.some Jvm.ClassFile.FieldType.int)) ∈ lw_all := lw_g (lw_at lw_m3 81 rfl) rfl
theorem q699 : (Jvm.Cond.fieldLink "java/lang/String" (9 : Nat) "java/lang/String" "value" "[B") ∈ lw_all := lw_g (lw_at lw_m3 145 rfl) rfl
theorem q700 : (Jvm.Cond.fieldLink "java/lang/String" (15 : Nat) "java/lang/String" "coder" "B") ∈ lw_all := lw_g (lw_at lw_m3 146 rfl) rfl
theorem q701 : (Jvm.Cond.fieldLink "java/lang/String" (19 : Nat) "java/lang/String" "hash" "I") ∈ lw_all := lw_g (lw_at lw_m3 147 rfl) rfl
theorem q1141 : (Jvm.Cond.code ({ cls := "java/lang/String", name := "hashCode", desc := "()I" } : Jvm.MethodName) prog_32_method_78_code (2 : Nat) (Option.some Jvm.ClassFile.FieldType.int)) ∈ lw_all := lw_g (lw_at lw_m5 107 rfl) rfl
theorem q1142 : (Jvm.Cond.methodLink "java/lang/String" (492 : Nat) ({ cls := "java/lang/String", name := "isLatin1", desc := "()Z" } : Jvm.MethodName)) ∈ lw_all := lw_g (lw_at lw_m5 108 rfl) rfl
theorem q1143 : (Jvm.Cond.instanceMethod ({ cls := "java/lang/String", name := "isLatin1", desc := "()Z" } : Jvm.MethodName)) ∈ lw_all := lw_g (lw_at lw_m5 109 rfl) rfl
theorem q1144 : (Jvm.Cond.selects "java/lang/String" ({ cls := "java/lang/String", name := "isLatin1", desc := "()Z" } : Jvm.MethodName) ({ cls := "java/lang/String", name := "isLatin1", desc := "()Z" } : Jvm.MethodName)) ∈ lw_all := lw_g (lw_at lw_m5 110 rfl) rfl
theorem q1145 : (Jvm.Cond.code ({ cls := "java/lang/String", name := "isLatin1", desc := "()Z" } : Jvm.MethodName) prog_32_method_154_code (1 : Nat) (Option.some Jvm.ClassFile.FieldType.boolean)) ∈ lw_all := lw_g (lw_at lw_m5 111 rfl) rfl
theorem q1203 : (Jvm.Cond.code ({ cls := "java/lang/String", name := "equals", desc := "(Ljava/lang/Object;)Z" } : Jvm.MethodName) prog_32_method_66_code (3 : Nat) (Option.some Jvm.ClassFile.FieldType.boolean)) ∈ lw_all := lw_g (lw_at lw_m5 169 rfl) rfl
theorem q1765 : (Jvm.Cond.code ({ cls := "java/lang/StringBuilder", name := "setLength", desc := "(I)V" } : Jvm.MethodName) prog_33_method_89_code (2 : Nat) (Option.none : Option Jvm.ClassFile.FieldType)) ∈ lw_all := lw_g (lw_at lw_m8 11 rfl) rfl
theorem q1766 : (Jvm.Cond.methodLink "java/lang/StringBuilder" (333 : Nat) ({ cls := "java/lang/AbstractStringBuilder", name := "setLength", desc := "(I)V" } : Jvm.MethodName)) ∈ lw_all := lw_g (lw_at lw_m8 12 rfl) rfl
theorem q1767 : (Jvm.Cond.instanceMethod ({ cls := "java/lang/AbstractStringBuilder", name := "setLength", desc := "(I)V" } : Jvm.MethodName)) ∈ lw_all := lw_g (lw_at lw_m8 13 rfl) rfl
theorem q1768 : (Jvm.Cond.code ({ cls := "java/lang/AbstractStringBuilder", name := "setLength", desc := "(I)V" } : Jvm.MethodName) prog_16_method_13_code (2 : Nat) (Option.none : Option Jvm.ClassFile.FieldType)) ∈ lw_all := lw_g (lw_at lw_m8 14 rfl) rfl
theorem q1820 : (Jvm.Cond.code ({ cls := "java/lang/StringBuilder", name := "<init>", desc := "(Ljava/lang/String;)V" } : Jvm.MethodName) prog_33_method_3_code (2 : Nat) (Option.none : Option Jvm.ClassFile.FieldType)) ∈ lw_all := lw_g (lw_at lw_m8 66 rfl) rfl
theorem q1821 : (Jvm.Cond.methodLink "java/lang/StringBuilder" (7 : Nat) ({ cls := "java/lang/AbstractStringBuilder", name := "<init>", desc := "(Ljava/lang/String;)V" } : Jvm.MethodName)) ∈ lw_all := lw_g (lw_at lw_m8 67 rfl) rfl
theorem q1822 : (Jvm.Cond.instanceMethod ({ cls := "java/lang/AbstractStringBuilder", name := "<init>", desc := "(Ljava/lang/String;)V" } : Jvm.MethodName)) ∈ lw_all := lw_g (lw_at lw_m8 68 rfl) rfl
theorem q1823 : (Jvm.Cond.code ({ cls := "java/lang/AbstractStringBuilder", name := "<init>", desc := "(Ljava/lang/String;)V" } : Jvm.MethodName) prog_16_method_3_code (5 : Nat) (Option.none : Option Jvm.ClassFile.FieldType)) ∈ lw_all := lw_g (lw_at lw_m8 69 rfl) rfl
theorem q1824 : (Jvm.Cond.constant "java/lang/AbstractStringBuilder" (38 : Nat) (2147483631 : Int32)) ∈ lw_all := lw_g (lw_at lw_m8 70 rfl) rfl
theorem q1825 : (Jvm.Cond.methodLink "java/lang/AbstractStringBuilder" (43 : Nat) ({ cls := "java/lang/AbstractStringBuilder", name := "append", desc := "(Ljava/lang/String;)Ljava/lang/AbstractStringBuilder;" } : Jvm.MethodName)) ∈ lw_all := lw_g (lw_at lw_m8 71 rfl) rfl
theorem q1826 : (Jvm.Cond.instanceMethod ({ cls := "java/lang/StringBuilder", name := "append", desc := "(Ljava/lang/String;)Ljava/lang/AbstractStringBuilder;" } : Jvm.MethodName)) ∈ lw_all := lw_g (lw_at lw_m8 72 rfl) rfl
theorem q1827 : (Jvm.Cond.code ({ cls := "java/lang/StringBuilder", name := "append", desc := "(Ljava/lang/String;)Ljava/lang/AbstractStringBuilder;" } : Jvm.MethodName) prog_33_method_80_code (2 : Nat) (Option.some (Jvm.ClassFile.FieldType.object "java/lang/AbstractStringBuilder"))) ∈ lw_all := lw_g (lw_at lw_m8 73 rfl) rfl
theorem q1828 : (Jvm.Cond.methodLink "java/lang/StringBuilder" (23 : Nat) ({ cls := "java/lang/StringBuilder", name := "append", desc := "(Ljava/lang/String;)Ljava/lang/StringBuilder;" } : Jvm.MethodName)) ∈ lw_all := lw_g (lw_at lw_m8 74 rfl) rfl
theorem q1833 : (Jvm.Cond.code ({ cls := "java/lang/StringBuilder", name := "append", desc := "(C)Ljava/lang/StringBuilder;" } : Jvm.MethodName) prog_33_method_14_code (2 : Nat) (Option.some (Jvm.ClassFile.FieldType.object "java/lang/StringBuilder"))) ∈ lw_all := lw_g (lw_at lw_m8 79 rfl) rfl
theorem q1834 : (Jvm.Cond.methodLink "java/lang/StringBuilder" (50 : Nat) ({ cls := "java/lang/AbstractStringBuilder", name := "append", desc := "(C)Ljava/lang/AbstractStringBuilder;" } : Jvm.MethodName)) ∈ lw_all := lw_g (lw_at lw_m8 80 rfl) rfl
theorem q1835 : (Jvm.Cond.instanceMethod ({ cls := "java/lang/AbstractStringBuilder", name := "append", desc := "(C)Ljava/lang/AbstractStringBuilder;" } : Jvm.MethodName)) ∈ lw_all := lw_g (lw_at lw_m8 81 rfl) rfl
theorem q1836 : (Jvm.Cond.code ({ cls := "java/lang/AbstractStringBuilder", name := "append", desc := "(C)Ljava/lang/AbstractStringBuilder;" } : Jvm.MethodName) prog_16_method_31_code (2 : Nat) (Option.some (Jvm.ClassFile.FieldType.object "java/lang/AbstractStringBuilder"))) ∈ lw_all := lw_g (lw_at lw_m8 82 rfl) rfl
theorem q1837 : (Jvm.Cond.methodLink "java/lang/AbstractStringBuilder" (191 : Nat) ({ cls := "java/lang/StringLatin1", name := "canEncode", desc := "(C)Z" } : Jvm.MethodName)) ∈ lw_all := lw_g (lw_at lw_m8 83 rfl) rfl
theorem q1838 : (Jvm.Cond.static ({ cls := "java/lang/StringLatin1", name := "canEncode", desc := "(C)Z" } : Jvm.MethodName)) ∈ lw_all := lw_g (lw_at lw_m8 84 rfl) rfl
theorem q1839 : (Jvm.Cond.code ({ cls := "java/lang/StringLatin1", name := "canEncode", desc := "(C)Z" } : Jvm.MethodName) prog_35_method_3_code (1 : Nat) (Option.some Jvm.ClassFile.FieldType.boolean)) ∈ lw_all := lw_g (lw_at lw_m8 85 rfl) rfl
theorem q1847 : (Jvm.Cond.static ({ cls := "java/lang/String", name := "checkIndex", desc := "(II)V" } : Jvm.MethodName)) ∈ lw_all := lw_g (lw_at lw_m8 93 rfl) rfl
theorem q1848 : (Jvm.Cond.code ({ cls := "java/lang/String", name := "checkIndex", desc := "(II)V" } : Jvm.MethodName) prog_32_method_155_code (2 : Nat) (Option.none : Option Jvm.ClassFile.FieldType)) ∈ lw_all := lw_g (lw_at lw_m8 94 rfl) rfl
theorem q1849 : (Jvm.Cond.methodLink "java/lang/String" (1059 : Nat) ({ cls := "jdk/internal/util/Preconditions", name := "checkIndex", desc := "(IILjava/util/function/BiFunction;)I" } : Jvm.MethodName)) ∈ lw_all := lw_g (lw_at lw_m8 95 rfl) rfl
theorem q1853 : (Jvm.Cond.code ({ cls := "java/lang/StringBuilder", name := "append", desc := "(Ljava/lang/CharSequence;)Ljava/lang/StringBuilder;" } : Jvm.MethodName) prog_33_method_9_code (2 : Nat) (Option.some (Jvm.ClassFile.FieldType.object "java/lang/StringBuilder"))) ∈ lw_all := lw_g (lw_at lw_m8 99 rfl) rfl
theorem q1854 : (Jvm.Cond.methodLink "java/lang/StringBuilder" (35 : Nat) ({ cls := "java/lang/AbstractStringBuilder", name := "append", desc := "(Ljava/lang/CharSequence;)Ljava/lang/AbstractStringBuilder;" } : Jvm.MethodName)) ∈ lw_all := lw_g (lw_at lw_m8 100 rfl) rfl
theorem q1855 : (Jvm.Cond.instanceMethod ({ cls := "java/lang/AbstractStringBuilder", name := "append", desc := "(Ljava/lang/CharSequence;)Ljava/lang/AbstractStringBuilder;" } : Jvm.MethodName)) ∈ lw_all := lw_g (lw_at lw_m8 101 rfl) rfl
theorem q1856 : (Jvm.Cond.code ({ cls := "java/lang/AbstractStringBuilder", name := "append", desc := "(Ljava/lang/CharSequence;)Ljava/lang/AbstractStringBuilder;" } : Jvm.MethodName) prog_16_method_25_code (2 : Nat) (Option.some (Jvm.ClassFile.FieldType.object "java/lang/AbstractStringBuilder"))) ∈ lw_all := lw_g (lw_at lw_m8 102 rfl) rfl
theorem q1857 : (Jvm.Cond.classLink "java/lang/AbstractStringBuilder" (1 : Nat) "java/lang/String") ∈ lw_all := lw_g (lw_at lw_m8 103 rfl) rfl
theorem q1858 : (Jvm.Cond.classLink "java/lang/AbstractStringBuilder" (10 : Nat) "java/lang/AbstractStringBuilder") ∈ lw_all := lw_g (lw_at lw_m8 104 rfl) rfl
theorem q1859 : (Jvm.Cond.methodLink "java/lang/AbstractStringBuilder" (212 : Nat) ({ cls := "java/lang/AbstractStringBuilder", name := "append", desc := "(Ljava/lang/AbstractStringBuilder;)Ljava/lang/AbstractStringBuilder;" } : Jvm.MethodName)) ∈ lw_all := lw_g (lw_at lw_m8 105 rfl) rfl
theorem q1860 : (Jvm.Cond.instanceMethod ({ cls := "java/lang/AbstractStringBuilder", name := "append", desc := "(Ljava/lang/AbstractStringBuilder;)Ljava/lang/AbstractStringBuilder;" } : Jvm.MethodName)) ∈ lw_all := lw_g (lw_at lw_m8 106 rfl) rfl
theorem q1862 : (Jvm.Cond.selects "java/lang/StringBuilder" ({ cls := "java/lang/AbstractStringBuilder", name := "append", desc := "(Ljava/lang/AbstractStringBuilder;)Ljava/lang/AbstractStringBuilder;" } : Jvm.MethodName) ({ cls := "java/lang/AbstractStringBuilder", name := "append", desc := "(Ljava/lang/AbstractStringBuilder;)Ljava/lang/AbstractStringBuilder;" } : Jvm.MethodName)) ∈ lw_all := lw_g (lw_at lw_m8 108 rfl) rfl
theorem q1863 : (Jvm.Cond.code ({ cls := "java/lang/AbstractStringBuilder", name := "append", desc := "(Ljava/lang/AbstractStringBuilder;)Ljava/lang/AbstractStringBuilder;" } : Jvm.MethodName) prog_16_method_24_code (3 : Nat) (Option.some (Jvm.ClassFile.FieldType.object "java/lang/AbstractStringBuilder"))) ∈ lw_all := lw_g (lw_at lw_m8 109 rfl) rfl
theorem q1864 : (Jvm.Cond.methodLink "java/lang/AbstractStringBuilder" (160 : Nat) ({ cls := "java/lang/AbstractStringBuilder", name := "length", desc := "()I" } : Jvm.MethodName)) ∈ lw_all := lw_g (lw_at lw_m8 110 rfl) rfl
theorem q1865 : (Jvm.Cond.methodLink "java/lang/AbstractStringBuilder" (215 : Nat) ({ cls := "java/lang/AbstractStringBuilder", name := "inflateIfNeededFor", desc := "(Ljava/lang/AbstractStringBuilder;)V" } : Jvm.MethodName)) ∈ lw_all := lw_g (lw_at lw_m8 111 rfl) rfl
theorem q1866 : (Jvm.Cond.privateMethod ({ cls := "java/lang/AbstractStringBuilder", name := "inflateIfNeededFor", desc := "(Ljava/lang/AbstractStringBuilder;)V" } : Jvm.MethodName)) ∈ lw_tbl := lw_at lw_m8 112 rfl
theorem q1867 : (Jvm.Cond.instanceMethod ({ cls := "java/lang/AbstractStringBuilder", name := "inflateIfNeededFor", desc := "(Ljava/lang/AbstractStringBuilder;)V" } : Jvm.MethodName)) ∈ lw_all := lw_g (lw_at lw_m8 113 rfl) rfl
theorem q1868 : (Jvm.Cond.code ({ cls := "java/lang/AbstractStringBuilder", name := "inflateIfNeededFor", desc := "(Ljava/lang/AbstractStringBuilder;)V" } : Jvm.MethodName) prog_16_method_72_code (2 : Nat) (Option.none : Option Jvm.ClassFile.FieldType)) ∈ lw_all := lw_g (lw_at lw_m8 114 rfl) rfl
theorem q1869 : (Jvm.Cond.methodLink "java/lang/AbstractStringBuilder" (70 : Nat) ({ cls := "java/lang/AbstractStringBuilder", name := "getCoder", desc := "()B" } : Jvm.MethodName)) ∈ lw_all := lw_g (lw_at lw_m8 115 rfl) rfl
theorem q1870 : (Jvm.Cond.instanceMethod ({ cls := "java/lang/AbstractStringBuilder", name := "getCoder", desc := "()B" } : Jvm.MethodName)) ∈ lw_all := lw_g (lw_at lw_m8 116 rfl) rfl
theorem q1872 : (Jvm.Cond.selects "java/lang/StringBuilder" ({ cls := "java/lang/AbstractStringBuilder", name := "getCoder", desc := "()B" } : Jvm.MethodName) ({ cls := "java/lang/AbstractStringBuilder", name := "getCoder", desc := "()B" } : Jvm.MethodName)) ∈ lw_all := lw_g (lw_at lw_m8 118 rfl) rfl
theorem q1873 : (Jvm.Cond.code ({ cls := "java/lang/AbstractStringBuilder", name := "getCoder", desc := "()B" } : Jvm.MethodName) prog_16_method_67_code (1 : Nat) (Option.some Jvm.ClassFile.FieldType.byte)) ∈ lw_all := lw_g (lw_at lw_m8 119 rfl) rfl
theorem q1874 : (Jvm.Cond.methodLink "java/lang/AbstractStringBuilder" (219 : Nat) ({ cls := "java/lang/AbstractStringBuilder", name := "getBytes", desc := "([BIB)V" } : Jvm.MethodName)) ∈ lw_all := lw_g (lw_at lw_m8 120 rfl) rfl
theorem q1875 : (Jvm.Cond.instanceMethod ({ cls := "java/lang/AbstractStringBuilder", name := "getBytes", desc := "([BIB)V" } : Jvm.MethodName)) ∈ lw_all := lw_g (lw_at lw_m8 121 rfl) rfl
theorem q1877 : (Jvm.Cond.selects "java/lang/StringBuilder" ({ cls := "java/lang/AbstractStringBuilder", name := "getBytes", desc := "([BIB)V" } : Jvm.MethodName) ({ cls := "java/lang/AbstractStringBuilder", name := "getBytes", desc := "([BIB)V" } : Jvm.MethodName)) ∈ lw_all := lw_g (lw_at lw_m8 123 rfl) rfl
theorem q1878 : (Jvm.Cond.code ({ cls := "java/lang/AbstractStringBuilder", name := "getBytes", desc := "([BIB)V" } : Jvm.MethodName) prog_16_method_65_code (4 : Nat) (Option.none : Option Jvm.ClassFile.FieldType)) ∈ lw_all := lw_g (lw_at lw_m8 124 rfl) rfl
theorem q1879 : (Jvm.Cond.methodLink "java/lang/AbstractStringBuilder" (309 : Nat) ({ cls := "java/lang/System", name := "arraycopy", desc := "(Ljava/lang/Object;ILjava/lang/Object;II)V" } : Jvm.MethodName)) ∈ lw_all := lw_g (lw_at lw_m8 125 rfl) rfl
theorem q1920 : (Jvm.Cond.code ({ cls := "java/lang/String", name := "charAt", desc := "(I)C" } : Jvm.MethodName) prog_32_method_56_code (2 : Nat) (Option.some Jvm.ClassFile.FieldType.char)) ∈ lw_all := lw_g (lw_at lw_m8 166 rfl) rfl
theorem q1921 : (Jvm.Cond.methodLink "java/lang/String" (495 : Nat) ({ cls := "java/lang/StringLatin1", name := "charAt", desc := "([BI)C" } : Jvm.MethodName)) ∈ lw_all := lw_g (lw_at lw_m8 167 rfl) rfl
theorem q1922 : (Jvm.Cond.static ({ cls := "java/lang/StringLatin1", name := "charAt", desc := "([BI)C" } : Jvm.MethodName)) ∈ lw_all := lw_g (lw_at lw_m8 168 rfl) rfl
theorem q1923 : (Jvm.Cond.code ({ cls := "java/lang/StringLatin1", name := "charAt", desc := "([BI)C" } : Jvm.MethodName) prog_35_method_2_code (2 : Nat) (Option.some Jvm.ClassFile.FieldType.char)) ∈ lw_all := lw_g (lw_at lw_m8 169 rfl) rfl
theorem q1924 : (Jvm.Cond.methodLink "java/lang/StringLatin1" (9 : Nat) ({ cls := "java/lang/String", name := "checkIndex", desc := "(II)V" } : Jvm.MethodName)) ∈ lw_all := lw_g (lw_at lw_m8 170 rfl) rfl
theorem q1942 : (Jvm.Cond.code ({ cls := "java/lang/StringBuilder", name := "charAt", desc := "(I)C" } : Jvm.MethodName) prog_33_method_88_code (2 : Nat) (Option.some Jvm.ClassFile.FieldType.char)) ∈ lw_all := lw_g (lw_at lw_m8 188 rfl) rfl
theorem q1943 : (Jvm.Cond.methodLink "java/lang/StringBuilder" (329 : Nat) ({ cls := "java/lang/AbstractStringBuilder", name := "charAt", desc := "(I)C" } : Jvm.MethodName)) ∈ lw_all := lw_g (lw_at lw_m8 189 rfl) rfl
theorem q1944 : (Jvm.Cond.instanceMethod ({ cls := "java/lang/AbstractStringBuilder", name := "charAt", desc := "(I)C" } : Jvm.MethodName)) ∈ lw_all := lw_g (lw_at lw_m8 190 rfl) rfl
theorem q1945 : (Jvm.Cond.code ({ cls := "java/lang/AbstractStringBuilder", name := "charAt", desc := "(I)C" } : Jvm.MethodName) prog_16_method_14_code (5 : Nat) (Option.some Jvm.ClassFile.FieldType.char)) ∈ lw_all := lw_g (lw_at lw_m8 191 rfl) rfl
theorem q1946 : (Jvm.Cond.methodLink "java/lang/AbstractStringBuilder" (138 : Nat) ({ cls := "java/lang/Math", name := "min", desc := "(II)I" } : Jvm.MethodName)) ∈ lw_all := lw_g (lw_at lw_m8 192 rfl) rfl
theorem q1947 : (Jvm.Cond.methodLink "java/lang/AbstractStringBuilder" (144 : Nat) ({ cls := "java/lang/String", name := "checkIndex", desc := "(II)V" } : Jvm.MethodName)) ∈ lw_all := lw_g (lw_at lw_m8 193 rfl) rfl
theorem q2100 : (Jvm.Cond.code ({ cls := "java/lang/String", name := "isEmpty", desc := "()Z" } : Jvm.MethodName) prog_32_method_55_code (1 : Nat) (Option.some Jvm.ClassFile.FieldType.boolean)) ∈ lw_all := lw_g (lw_at lw_m9 106 rfl) rfl
theorem q2716 : (Jvm.Cond.sameMethod "java/lang/AbstractStringBuilder" "java/lang/AbstractStringBuilder" "append" "(Ljava/lang/String;)Ljava/lang/AbstractStringBuilder;") ∈ lw_all := lw_g (lw_at lw_m12 2 rfl) rfl
theorem q2718 : (Jvm.Cond.sameMethod "java/lang/AbstractStringBuilder" "java/lang/AbstractStringBuilder" "ensureCapacityInternal" "(I)V") ∈ lw_all := lw_g (lw_at lw_m12 4 rfl) rfl
theorem q2719 : (Jvm.Cond.sameMethod "java/lang/AbstractStringBuilder" "java/lang/AbstractStringBuilder" "newCapacity" "(I)I") ∈ lw_all := lw_g (lw_at lw_m12 5 rfl) rfl
theorem q2720 : (Jvm.Cond.sameMethod "java/lang/AbstractStringBuilder" "java/lang/AbstractStringBuilder" "putStringAt" "(ILjava/lang/String;)V") ∈ lw_all := lw_g (lw_at lw_m12 6 rfl) rfl
theorem q2721 : (Jvm.Cond.sameMethod "java/lang/AbstractStringBuilder" "java/lang/AbstractStringBuilder" "inflateIfNeededFor" "(Ljava/lang/String;)V") ∈ lw_all := lw_g (lw_at lw_m12 7 rfl) rfl
theorem q2723 : (Jvm.Cond.sameMethod "java/lang/AbstractStringBuilder" "java/lang/AbstractStringBuilder" "append" "(I)Ljava/lang/AbstractStringBuilder;") ∈ lw_all := lw_g (lw_at lw_m12 9 rfl) rfl
theorem q2729 : (Jvm.Cond.sameMethod "java/lang/AbstractStringBuilder" "java/lang/AbstractStringBuilder" "setLength" "(I)V") ∈ lw_all := lw_g (lw_at lw_m12 15 rfl) rfl
theorem q2730 : (Jvm.Cond.selects "java/lang/StringBuilder" ({ cls := "java/lang/AbstractStringBuilder", name := "append", desc := "(Ljava/lang/String;)Ljava/lang/AbstractStringBuilder;" } : Jvm.MethodName) ({ cls := "java/lang/StringBuilder", name := "append", desc := "(Ljava/lang/String;)Ljava/lang/AbstractStringBuilder;" } : Jvm.MethodName)) ∈ lw_all := lw_g (lw_at lw_m12 16 rfl) rfl
theorem q2731 : (Jvm.Cond.sameMethod "java/lang/AbstractStringBuilder" "java/lang/AbstractStringBuilder" "append" "(C)Ljava/lang/AbstractStringBuilder;") ∈ lw_all := lw_g (lw_at lw_m12 17 rfl) rfl
theorem q2732 : (Jvm.Cond.sameMethod "java/lang/AbstractStringBuilder" "java/lang/AbstractStringBuilder" "append" "(Ljava/lang/CharSequence;)Ljava/lang/AbstractStringBuilder;") ∈ lw_all := lw_g (lw_at lw_m12 18 rfl) rfl
theorem q2733 : (Jvm.Cond.sameMethod "java/lang/AbstractStringBuilder" "java/lang/AbstractStringBuilder" "inflateIfNeededFor" "(Ljava/lang/AbstractStringBuilder;)V") ∈ lw_all := lw_g (lw_at lw_m12 19 rfl) rfl
theorem q2735 : (Jvm.Cond.sameMethod "java/lang/AbstractStringBuilder" "java/lang/AbstractStringBuilder" "charAt" "(I)C") ∈ lw_all := lw_g (lw_at lw_m12 21 rfl) rfl
theorem q2742 : (Jvm.Cond.castable "java/lang/StringBuilder" "java/lang/AbstractStringBuilder") ∈ lw_tbl := lw_at lw_m12 28 rfl
theorem np28 : gh_np "([BI)[B" 2 := by unfold gh_np; decide +kernel
theorem np29 : gh_np "()B" 0 := by unfold gh_np; decide +kernel
theorem np30 : gh_np "(II)V" 2 := by unfold gh_np; decide +kernel
theorem np31 : gh_np "(II[B)I" 3 := by unfold gh_np; decide +kernel
theorem np32 : gh_np "(C)Z" 1 := by unfold gh_np; decide +kernel
theorem np33 : gh_np "(Ljava/lang/AbstractStringBuilder;)V" 1 := by unfold gh_np; decide +kernel
theorem np34 : gh_np "([BIB)V" 3 := by unfold gh_np; decide +kernel
theorem np35 : gh_np "([BI)C" 2 := by unfold gh_np; decide +kernel
theorem np36 : gh_np "(I)Ljava/lang/AbstractStringBuilder;" 1 := by unfold gh_np; decide +kernel
theorem np37 : gh_np "(C)Ljava/lang/AbstractStringBuilder;" 1 := by unfold gh_np; decide +kernel
theorem np38 : gh_np "(I)C" 1 := by unfold gh_np; decide +kernel
theorem np39 : gh_np "(Ljava/lang/String;)V" 1 := by unfold gh_np; decide +kernel
theorem np40 : gh_np "(ILjava/lang/String;)V" 2 := by unfold gh_np; decide +kernel
theorem np41 : gh_np "(Ljava/lang/String;)Ljava/lang/AbstractStringBuilder;" 1 := by unfold gh_np; decide +kernel
theorem np42 : gh_np "(Ljava/lang/String;)Ljava/lang/StringBuilder;" 1 := by unfold gh_np; decide +kernel
theorem np43 : gh_np "(Ljava/lang/AbstractStringBuilder;)Ljava/lang/AbstractStringBuilder;" 1 := by unfold gh_np; decide +kernel
theorem np44 : gh_np "(Ljava/lang/CharSequence;)Ljava/lang/AbstractStringBuilder;" 1 := by unfold gh_np; decide +kernel
theorem mh_J4 : gh_mh "java/lang/AbstractStringBuilder" := ⟨by decide, by decide⟩
theorem mh_J19 : gh_mh "java/lang/Integer" := ⟨by decide, by decide⟩
theorem mh_J6 : gh_mh "java/lang/String" := ⟨by decide, by decide⟩
theorem mh_J5 : gh_mh "java/lang/StringBuilder" := ⟨by decide, by decide⟩
theorem mh_J18 : gh_mh "java/lang/StringLatin1" := ⟨by decide, by decide⟩
-- Arrays.copyOf([BI)[B
noncomputable def f_J17_copyOf (p0 : Option Nat) (p1 : Int32) : gh_M (Option Nat) :=
  gh_nn p0 fun a1 =>
  gh_bd (gh_alen a1) fun v2 =>
  if p1 = v2 then
  (gh_stk)
  else
  (gh_bd (gh_newa 4 p1) fun a3 =>
  gh_bd (gh_alen a1) fun v4 =>
  gh_bd (f_J16_min v4 p1) fun v5 =>
  gh_bd (gh_cpyi 4 a1 (0 : Int32) a3 (0 : Int32) v5) fun _ =>
  gh_ret (some a3))
theorem w_J17_copyOf {x : gh_C} {g : gh_G} {o : ((Option Nat) ⊕ gh_X) × gh_G} {ls : Array Slot} (C : gh_K x cJ17_copyOf "java/util/Arrays" 3 (some (.array .byte)) "copyOf" 1 60 []) (p0 : Option Nat) (p1 : Int32) (hl : gh_lv ls 3 [(0, va_rf p0), (1, .int p1)]) (h : gh_run (f_J17_copyOf p0 p1) g = some o) (hk : (gh_K0 x gh_rQ) o) : gh_Wd x g (F0 (gh_cm x) 0 ls []) := by
  unfold f_J17_copyOf at h
  refine gr_iload_n (pc := 0) (i := 1) C rfl (gl_at hl 1 rfl) dJ17_copyOf_0 ?_
  refine gr_aload_n (pc := 1) (i := 0) C rfl (gl_at hl 0 rfl) dJ17_copyOf_1 ?_
  rcases p0 with _ | a1
  · exact gh_stk_inv h
  replace h := gh_nn_ss h
  refine gr_alen (pc := 2) C dJ17_copyOf_2 h fun v2 h => ?_
  refine gr_icmp_ne (pc := 3) (tgt := 14) C rfl dJ17_copyOf_3 (fun c9 => ?_) (fun c9 => ?_)
  · replace h := gh_iff h c9
    refine gr_iload_n (pc := 14) (i := 1) C rfl (gl_at hl 1 rfl) dJ17_copyOf_14 ?_
    refine gr_newa (pc := 15) (k := 4) (atype := .byte) C (by decide) q270 dJ17_copyOf_15 h (gh_K0_b _ hk) fun a3 g h => ?_
    refine gr_astore_n (pc := 17) (i := 2) (l' := [(2, va_rf (some a3)), (0, va_rf (some a1)), (1, .int p1)]) C rfl hl (Nat.le_of_ble_eq_true rfl) rfl dJ17_copyOf_17 fun ls hl => ?_
    refine gr_aload_n (pc := 18) (i := 0) C rfl (gl_at hl 1 rfl) dJ17_copyOf_18 ?_
    refine gr_iconst (pc := 19) (v := (0 : Int32)) C rfl dJ17_copyOf_19 ?_
    refine gr_aload_n (pc := 20) (i := 2) C rfl (gl_at hl 0 rfl) dJ17_copyOf_20 ?_
    refine gr_iconst (pc := 21) (v := (0 : Int32)) C rfl dJ17_copyOf_21 ?_
    refine gr_aload_n (pc := 22) (i := 0) C rfl (gl_at hl 1 rfl) dJ17_copyOf_22 ?_
    refine gr_alen (pc := 23) C dJ17_copyOf_23 h fun v4 h => ?_
    refine gr_iload_n (pc := 24) (i := 1) C rfl (gl_at hl 2 rfl) dJ17_copyOf_24 ?_
    refine gh_callI (pc := 25) (rest := [.int (0 : Int32), va_rf (some a3), .int (0 : Int32), va_rf (some a1)]) C (k_J16_min C.tr v4 p1) (Nat.le_of_ble_eq_true rfl) (Nat.le_of_ble_eq_true rfl) (gh_r4 (Nat.le_of_ble_eq_true rfl)) (fun H9 L9 hp9 => gi_S C q504 q505 q96 q506 mh_J16 np1 rfl hl.1.1 dJ17_copyOf_25 rfl) h (gh_K0_b _ hk) (fun v5 g h => ?_) (fun e g h => ?_)
    rotate_left
    ·
      exact gh_out C (fun _ h => nomatch h) h hk
    refine gr_cpyi (pc := 28) C (by decide) q507 q509 q508 q98 hl.1.1 (Nat.le_of_ble_eq_true rfl) (Nat.le_of_ble_eq_true rfl) (Nat.le_of_ble_eq_true rfl) dJ17_copyOf_28 h fun g h => ?_
    refine gr_aload_n (pc := 31) (i := 2) C rfl (gl_at hl 0 rfl) dJ17_copyOf_31 ?_
    exact gr_aret (pc := 32) C (Or.inr ⟨_, rfl⟩) dJ17_copyOf_32 h hk
  · replace h := gh_ift h c9
    exact gh_stk_inv h

theorem k_J17_copyOf {l : Launch} (hst : l.stackTraces = false) (p0 : Option Nat) (p1 : Int32) : gh_Ct l yJ17_copyOf 1 74 (f_J17_copyOf p0 p1) gh_rQ [va_rf p0, .int p1] := gh_intro2 (L1 := 60) hst (by decide +kernel) q496 q97 rfl ⟨gh_cat _, rfl, trivial⟩ (Nat.le_of_ble_eq_true rfl) fun x o ls hl C h hk => w_J17_copyOf C p0 p1 hl h hk
-- AbstractStringBuilder.<init>(I)V
noncomputable def f_J4_init (t0 : Nat) (p1 : Int32) : gh_M Unit :=
  gh_bd (gh_csti 15) fun v1 =>
  if v1 = 0 then
  (gh_stk)
  else
  (gh_bd (gh_newa 4 p1) fun a2 =>
  gh_bd (gh_putv t0 13 0 (.array .byte) (va_rf (some a2))) fun _ =>
  gh_bd (gh_putv t0 13 1 .byte (.int (0 : Int32))) fun _ =>
  gh_ret ())
theorem w_J4_init {x : gh_C} {g : gh_G} {o : (Unit ⊕ gh_X) × gh_G} {ls : Array Slot} (C : gh_K x cJ4_init "java/lang/AbstractStringBuilder" 2 none "<init>" 1 20 []) (t0 : Nat) (p1 : Int32) (hl : gh_lv ls 2 [(0, va_rf (some t0)), (1, .int p1)]) (h : gh_run (f_J4_init t0 p1) g = some o) (hk : (gh_K0 x gh_rV) o) : gh_Wd x g (F0 (gh_cm x) 0 ls []) := by
  unfold f_J4_init at h
  refine gr_aload_n (pc := 0) (i := 0) C rfl (gl_at hl 0 rfl) dJ4_init_0 ?_
  refine gr_oinit (pc := 1) C q246 q130 q131 hl.1.1 (Nat.le_of_ble_eq_true rfl) (Nat.le_of_ble_eq_true rfl) (Nat.le_of_ble_eq_true rfl) dJ4_init_1 ?_
  refine gr_getsi (pc := 4) C (Cn := "java/lang/String") (n := "COMPACT_STRINGS") (d := "Z") (j := 15) (by decide +kernel) q247 (fun _ h => h) dJ4_init_4 h fun v1 h => ?_
  refine gr_if_eq (pc := 7) (tgt := 25) C rfl dJ4_init_7 (fun c9 => ?_) (fun c9 => ?_)
  · replace h := gh_ift h c9
    exact gh_stk_inv h
  · replace h := gh_iff h c9
    refine gr_aload_n (pc := 10) (i := 0) C rfl (gl_at hl 0 rfl) dJ4_init_10 ?_
    refine gr_iload_n (pc := 11) (i := 1) C rfl (gl_at hl 1 rfl) dJ4_init_11 ?_
    refine gr_newa (pc := 12) (k := 4) (atype := .byte) C (by decide) q270 dJ4_init_12 h (gh_K0_b _ hk) fun a2 g h => ?_
    refine gr_putp (pc := 14) C gh_bJ5 (k := 0) (Nat.le_of_ble_eq_true rfl) q256 (fun _ h => h) rfl dJ4_init_14 h fun g h => ?_
    refine gr_aload_n (pc := 17) (i := 0) C rfl (gl_at hl 0 rfl) dJ4_init_17 ?_
    refine gr_iconst (pc := 18) (v := (0 : Int32)) C rfl dJ4_init_18 ?_
    refine gr_putp (pc := 19) C gh_bJ5 (k := 1) (Nat.le_of_ble_eq_true rfl) q257 (fun _ h => h) rfl dJ4_init_19 h fun g h => ?_
    refine gr_goto (pc := 22) (tgt := 38) C rfl dJ4_init_22 ?_
    exact gr_vret (pc := 38) C dJ4_init_38 h hk

theorem k_J4_init {l : Launch} (hst : l.stackTraces = false) (t0 : Nat) (p1 : Int32) : gh_Ct l yJ4_init 1 33 (f_J4_init t0 p1) gh_rV [va_rf (some t0), .int p1] := gh_intro2 (L1 := 20) hst (by decide +kernel) q245 q82 rfl ⟨gh_cat _, rfl, trivial⟩ (Nat.le_of_ble_eq_true rfl) fun x o ls hl C h hk => w_J4_init C t0 p1 hl h hk
-- AbstractStringBuilder.newCapacity(I)I
noncomputable def f_J4_newCapacity (t0 : Nat) (p1 : Int32) : gh_M Int32 :=
  gh_bd (gh_getr t0 13 0) fun v1 =>
  gh_nn v1 fun a2 =>
  gh_bd (gh_alen a2) fun v3 =>
  gh_bd (gh_geti t0 13 1) fun v4 =>
  gh_bd (gh_geti t0 13 1) fun v5 =>
  gh_bd (f_J15_newLength v3 ((p1 <<< (v4 &&& 31)) - v3) (v3 + ((2 : Int32) <<< (v5 &&& 31)))) fun v6 =>
  if v6 = (2147483647 : Int32) then
  (gh_stk)
  else
  (gh_bd (gh_geti t0 13 1) fun v7 =>
  gh_ret (v6 >>> (v7 &&& 31)))
theorem w_J4_newCapacity {x : gh_C} {g : gh_G} {o : (Int32 ⊕ gh_X) × gh_G} {ls : Array Slot} (C : gh_K x cJ4_newCapacity "java/lang/AbstractStringBuilder" 6 (some .int) "newCapacity" 2 44 []) (t0 : Nat) (p1 : Int32) (hl : gh_lv ls 6 [(0, va_rf (some t0)), (1, .int p1)]) (h : gh_run (f_J4_newCapacity t0 p1) g = some o) (hk : (gh_K0 x gh_rI) o) : gh_Wd x g (F0 (gh_cm x) 0 ls []) := by
  unfold f_J4_newCapacity at h
  refine gr_aload_n (pc := 0) (i := 0) C rfl (gl_at hl 0 rfl) dJ4_newCapacity_0 ?_
  refine gr_getr (pc := 1) C gh_bJ5 (k := 0) (Nat.le_of_ble_eq_true rfl) q256 (fun _ h => h) dJ4_newCapacity_1 h fun v1 h => ?_
  rcases v1 with _ | a2
  · exact gh_stk_inv h
  replace h := gh_nn_ss h
  refine gr_alen (pc := 4) C dJ4_newCapacity_4 h fun v3 h => ?_
  refine gr_istore_n (pc := 5) (i := 2) (l' := [(2, .int v3), (0, va_rf (some t0)), (1, .int p1)]) C rfl hl (Nat.le_of_ble_eq_true rfl) rfl dJ4_newCapacity_5 fun ls hl => ?_
  refine gr_iload_n (pc := 6) (i := 1) C rfl (gl_at hl 2 rfl) dJ4_newCapacity_6 ?_
  refine gr_aload_n (pc := 7) (i := 0) C rfl (gl_at hl 1 rfl) dJ4_newCapacity_7 ?_
  refine gr_geti (pc := 8) C gh_bJ5 (k := 1) (Nat.le_of_ble_eq_true rfl) q257 (fun _ h => h) dJ4_newCapacity_8 h fun v4 h => ?_
  refine gr_ishl (pc := 11) C dJ4_newCapacity_11 ?_
  refine gr_istore_n (pc := 12) (i := 3) (l' := [(3, .int (p1 <<< (v4 &&& 31))), (2, .int v3), (0, va_rf (some t0)), (1, .int p1)]) C rfl hl (Nat.le_of_ble_eq_true rfl) rfl dJ4_newCapacity_12 fun ls hl => ?_
  refine gr_iload_n (pc := 13) (i := 3) C rfl (gl_at hl 0 rfl) dJ4_newCapacity_13 ?_
  refine gr_iload_n (pc := 14) (i := 2) C rfl (gl_at hl 1 rfl) dJ4_newCapacity_14 ?_
  refine gr_isub (pc := 15) C dJ4_newCapacity_15 ?_
  refine gr_istore (pc := 16) (i := 4) (l' := [(4, .int ((p1 <<< (v4 &&& 31)) - v3)), (3, .int (p1 <<< (v4 &&& 31))), (2, .int v3), (0, va_rf (some t0)), (1, .int p1)]) C hl (Nat.le_of_ble_eq_true rfl) rfl dJ4_newCapacity_16 fun ls hl => ?_
  refine gr_iload_n (pc := 18) (i := 2) C rfl (gl_at hl 2 rfl) dJ4_newCapacity_18 ?_
  refine gr_iload (pc := 19) (i := 4) C (gl_at hl 0 rfl) dJ4_newCapacity_19 ?_
  refine gr_iload_n (pc := 21) (i := 2) C rfl (gl_at hl 2 rfl) dJ4_newCapacity_21 ?_
  refine gr_iconst (pc := 22) (v := (2 : Int32)) C rfl dJ4_newCapacity_22 ?_
  refine gr_aload_n (pc := 23) (i := 0) C rfl (gl_at hl 3 rfl) dJ4_newCapacity_23 ?_
  refine gr_geti (pc := 24) C gh_bJ5 (k := 1) (Nat.le_of_ble_eq_true rfl) q257 (fun _ h => h) dJ4_newCapacity_24 h fun v5 h => ?_
  refine gr_ishl (pc := 27) C dJ4_newCapacity_27 ?_
  refine gr_iadd (pc := 28) C dJ4_newCapacity_28 ?_
  refine gh_callI (pc := 29) (rest := []) C (k_J15_newLength C.tr v3 ((p1 <<< (v4 &&& 31)) - v3) (v3 + ((2 : Int32) <<< (v5 &&& 31)))) (Nat.le_of_ble_eq_true rfl) (Nat.le_of_ble_eq_true rfl) (gh_r4 (Nat.le_of_ble_eq_true rfl)) (fun H9 L9 hp9 => gi_S C q483 q484 q95 q485 mh_J15 np11 rfl hl.1.1 dJ4_newCapacity_29 rfl) h (gh_K0_b _ hk) (fun v6 g h => ?_) (fun e g h => ?_)
  rotate_left
  ·
    exact gh_out C (fun _ h => nomatch h) h hk
  refine gr_istore (pc := 32) (i := 5) (l' := [(5, .int v6), (4, .int ((p1 <<< (v4 &&& 31)) - v3)), (3, .int (p1 <<< (v4 &&& 31))), (2, .int v3), (0, va_rf (some t0)), (1, .int p1)]) C hl (Nat.le_of_ble_eq_true rfl) rfl dJ4_newCapacity_32 fun ls hl => ?_
  refine gr_iload (pc := 34) (i := 5) C (gl_at hl 0 rfl) dJ4_newCapacity_34 ?_
  refine gr_ldc (pc := 36) (v := (2147483647 : Int32)) C q493 dJ4_newCapacity_36 ?_
  refine gr_icmp_ne (pc := 38) (tgt := 51) C rfl dJ4_newCapacity_38 (fun c9 => ?_) (fun c9 => ?_)
  · replace h := gh_iff h c9
    refine gr_iload (pc := 51) (i := 5) C (gl_at hl 0 rfl) dJ4_newCapacity_51 ?_
    refine gr_aload_n (pc := 53) (i := 0) C rfl (gl_at hl 4 rfl) dJ4_newCapacity_53 ?_
    refine gr_geti (pc := 54) C gh_bJ5 (k := 1) (Nat.le_of_ble_eq_true rfl) q257 (fun _ h => h) dJ4_newCapacity_54 h fun v7 h => ?_
    refine gr_ishr (pc := 57) C dJ4_newCapacity_57 ?_
    exact gr_iret (pc := 58) C dJ4_newCapacity_58 h hk
  · replace h := gh_ift h c9
    exact gh_stk_inv h

theorem k_J4_newCapacity {l : Launch} (hst : l.stackTraces = false) (t0 : Nat) (p1 : Int32) : gh_Ct l yJ4_newCapacity 2 61 (f_J4_newCapacity t0 p1) gh_rI [va_rf (some t0), .int p1] := gh_intro2 (L1 := 44) hst (by decide +kernel) q482 q82 rfl ⟨gh_cat _, rfl, trivial⟩ (Nat.le_of_ble_eq_true rfl) fun x o ls hl C h hk => w_J4_newCapacity C t0 p1 hl h hk
-- AbstractStringBuilder.ensureCapacityInternal(I)V
noncomputable def f_J4_ensureCapacityInternal (t0 : Nat) (p1 : Int32) : gh_M Unit :=
  gh_bd (gh_getr t0 13 0) fun v1 =>
  gh_nn v1 fun a2 =>
  gh_bd (gh_alen a2) fun v3 =>
  gh_bd (gh_geti t0 13 1) fun v4 =>
  if (p1 - (v3 >>> (v4 &&& 31))) ≤ 0 then
  (gh_ret ())
  else
  (gh_bd (gh_getr t0 13 0) fun v5 =>
  gh_bd (gh_is t0 13) fun _ =>
  gh_bd (f_J4_newCapacity t0 p1) fun v6 =>
  gh_bd (gh_geti t0 13 1) fun v7 =>
  gh_bd (f_J17_copyOf v5 (v6 <<< (v7 &&& 31))) fun v8 =>
  gh_bd (gh_putv t0 13 0 (.array .byte) (va_rf v8)) fun _ =>
  gh_ret ())
theorem w_J4_ensureCapacityInternal {x : gh_C} {g : gh_G} {o : (Unit ⊕ gh_X) × gh_G} {ls : Array Slot} (C : gh_K x cJ4_ensureCapacityInternal "java/lang/AbstractStringBuilder" 3 none "ensureCapacityInternal" 3 82 []) (t0 : Nat) (p1 : Int32) (hl : gh_lv ls 3 [(0, va_rf (some t0)), (1, .int p1)]) (h : gh_run (f_J4_ensureCapacityInternal t0 p1) g = some o) (hk : (gh_K0 x gh_rV) o) : gh_Wd x g (F0 (gh_cm x) 0 ls []) := by
  unfold f_J4_ensureCapacityInternal at h
  refine gr_aload_n (pc := 0) (i := 0) C rfl (gl_at hl 0 rfl) dJ4_ensureCapacityInternal_0 ?_
  refine gr_getr (pc := 1) C gh_bJ5 (k := 0) (Nat.le_of_ble_eq_true rfl) q256 (fun _ h => h) dJ4_ensureCapacityInternal_1 h fun v1 h => ?_
  rcases v1 with _ | a2
  · exact gh_stk_inv h
  replace h := gh_nn_ss h
  refine gr_alen (pc := 4) C dJ4_ensureCapacityInternal_4 h fun v3 h => ?_
  refine gr_aload_n (pc := 5) (i := 0) C rfl (gl_at hl 0 rfl) dJ4_ensureCapacityInternal_5 ?_
  refine gr_geti (pc := 6) C gh_bJ5 (k := 1) (Nat.le_of_ble_eq_true rfl) q257 (fun _ h => h) dJ4_ensureCapacityInternal_6 h fun v4 h => ?_
  refine gr_ishr (pc := 9) C dJ4_ensureCapacityInternal_9 ?_
  refine gr_istore_n (pc := 10) (i := 2) (l' := [(2, .int (v3 >>> (v4 &&& 31))), (0, va_rf (some t0)), (1, .int p1)]) C rfl hl (Nat.le_of_ble_eq_true rfl) rfl dJ4_ensureCapacityInternal_10 fun ls hl => ?_
  refine gr_iload_n (pc := 11) (i := 1) C rfl (gl_at hl 2 rfl) dJ4_ensureCapacityInternal_11 ?_
  refine gr_iload_n (pc := 12) (i := 2) C rfl (gl_at hl 0 rfl) dJ4_ensureCapacityInternal_12 ?_
  refine gr_isub (pc := 13) C dJ4_ensureCapacityInternal_13 ?_
  refine gr_if_le (pc := 14) (tgt := 38) C rfl dJ4_ensureCapacityInternal_14 (fun c9 => ?_) (fun c9 => ?_)
  · replace h := gh_ift h c9
    exact gr_vret (pc := 38) C dJ4_ensureCapacityInternal_38 h hk
  · replace h := gh_iff h c9
    refine gr_aload_n (pc := 17) (i := 0) C rfl (gl_at hl 1 rfl) dJ4_ensureCapacityInternal_17 ?_
    refine gr_aload_n (pc := 18) (i := 0) C rfl (gl_at hl 1 rfl) dJ4_ensureCapacityInternal_18 ?_
    refine gr_getr (pc := 19) C gh_bJ5 (k := 0) (Nat.le_of_ble_eq_true rfl) q256 (fun _ h => h) dJ4_ensureCapacityInternal_19 h fun v5 h => ?_
    refine gr_aload_n (pc := 22) (i := 0) C rfl (gl_at hl 1 rfl) dJ4_ensureCapacityInternal_22 ?_
    refine gr_iload_n (pc := 23) (i := 1) C rfl (gl_at hl 2 rfl) dJ4_ensureCapacityInternal_23 ?_
    obtain ⟨⟨fs9, hg9⟩, h⟩ := gh_is_inv h
    refine gh_callI (pc := 24) (rest := [va_rf v5, va_rf (some t0)]) C (k_J4_newCapacity C.tr t0 p1) (Nat.le_of_ble_eq_true rfl) (Nat.le_of_ble_eq_true rfl) (gh_r4 (Nat.le_of_ble_eq_true rfl)) (fun H9 L9 hp9 => gi_P C hp9 hg9 gh_cJ5 q479 q481 q2719 q480 q482 mh_J4 np6 rfl hl.1.1 dJ4_ensureCapacityInternal_24 rfl) h (gh_K0_b _ hk) (fun v6 g h => ?_) (fun e g h => ?_)
    rotate_left
    ·
      exact gh_out C (fun _ h => nomatch h) h hk
    refine gr_aload_n (pc := 27) (i := 0) C rfl (gl_at hl 1 rfl) dJ4_ensureCapacityInternal_27 ?_
    refine gr_geti (pc := 28) C gh_bJ5 (k := 1) (Nat.le_of_ble_eq_true rfl) q257 (fun _ h => h) dJ4_ensureCapacityInternal_28 h fun v7 h => ?_
    refine gr_ishl (pc := 31) C dJ4_ensureCapacityInternal_31 ?_
    refine gh_callQ (pc := 32) (rest := [va_rf (some t0)]) C (k_J17_copyOf C.tr v5 (v6 <<< (v7 &&& 31))) (Nat.le_of_ble_eq_true rfl) (Nat.le_of_ble_eq_true rfl) (gh_r4 (Nat.le_of_ble_eq_true rfl)) (fun H9 L9 hp9 => gi_S C q494 q495 q97 q496 mh_J17 np28 rfl hl.1.1 dJ4_ensureCapacityInternal_32 rfl) h (gh_K0_b _ hk) (fun v8 g h => ?_) (fun e g h => ?_)
    rotate_left
    ·
      exact gh_out C (fun _ h => nomatch h) h hk
    refine gr_putp (pc := 35) C gh_bJ5 (k := 0) (Nat.le_of_ble_eq_true rfl) q256 (fun _ h => h) rfl dJ4_ensureCapacityInternal_35 h fun g h => ?_
    exact gr_vret (pc := 38) C dJ4_ensureCapacityInternal_38 h hk

theorem k_J4_ensureCapacityInternal {l : Launch} (hst : l.stackTraces = false) (t0 : Nat) (p1 : Int32) : gh_Ct l yJ4_ensureCapacityInternal 3 96 (f_J4_ensureCapacityInternal t0 p1) gh_rV [va_rf (some t0), .int p1] := gh_intro2 (L1 := 82) hst (by decide +kernel) q478 q82 rfl ⟨gh_cat _, rfl, trivial⟩ (Nat.le_of_ble_eq_true rfl) fun x o ls hl C h hk => w_J4_ensureCapacityInternal C t0 p1 hl h hk
-- AbstractStringBuilder.isLatin1()Z
noncomputable def f_J4_isLatin1 (t0 : Nat) : gh_M Int32 :=
  gh_bd (gh_csti 15) fun v1 =>
  if v1 = 0 then
  (gh_rz .boolean (0 : Int32))
  else
  (gh_bd (gh_geti t0 13 1) fun v2 =>
  if v2 = 0 then
  (gh_rz .boolean (1 : Int32))
  else
  (gh_rz .boolean (0 : Int32)))
theorem w_J4_isLatin1 {x : gh_C} {g : gh_G} {o : (Int32 ⊕ gh_X) × gh_G} {ls : Array Slot} (C : gh_K x cJ4_isLatin1 "java/lang/AbstractStringBuilder" 1 (some .boolean) "isLatin1" 0 0 []) (t0 : Nat) (hl : gh_lv ls 1 [(0, va_rf (some t0))]) (h : gh_run (f_J4_isLatin1 t0) g = some o) (hk : (gh_K0 x gh_rI) o) : gh_Wd x g (F0 (gh_cm x) 0 ls []) := by
  unfold f_J4_isLatin1 at h
  refine gr_getsi (pc := 0) C (Cn := "java/lang/String") (n := "COMPACT_STRINGS") (d := "Z") (j := 15) (by decide +kernel) q247 (fun _ h => h) dJ4_isLatin1_0 h fun v1 h => ?_
  refine gr_if_eq (pc := 3) (tgt := 17) C rfl dJ4_isLatin1_3 (fun c9 => ?_) (fun c9 => ?_)
  · replace h := gh_ift h c9
    refine gr_iconst (pc := 17) (v := (0 : Int32)) C rfl dJ4_isLatin1_17 ?_
    exact gr_bret (pc := 18) C dJ4_isLatin1_18 h hk
  · replace h := gh_iff h c9
    refine gr_aload_n (pc := 6) (i := 0) C rfl (gl_at hl 0 rfl) dJ4_isLatin1_6 ?_
    refine gr_geti (pc := 7) C gh_bJ5 (k := 1) (Nat.le_of_ble_eq_true rfl) q257 (fun _ h => h) dJ4_isLatin1_7 h fun v2 h => ?_
    refine gr_if_ne (pc := 10) (tgt := 17) C rfl dJ4_isLatin1_10 (fun c9 => ?_) (fun c9 => ?_)
    · replace h := gh_iff h c9
      refine gr_iconst (pc := 17) (v := (0 : Int32)) C rfl dJ4_isLatin1_17 ?_
      exact gr_bret (pc := 18) C dJ4_isLatin1_18 h hk
    · replace h := gh_ift h c9
      refine gr_iconst (pc := 13) (v := (1 : Int32)) C rfl dJ4_isLatin1_13 ?_
      refine gr_goto (pc := 14) (tgt := 18) C rfl dJ4_isLatin1_14 ?_
      exact gr_bret (pc := 18) C dJ4_isLatin1_18 h hk

theorem k_J4_isLatin1 {l : Launch} (hst : l.stackTraces = false) (t0 : Nat) : gh_Ct l yJ4_isLatin1 0 12 (f_J4_isLatin1 t0) gh_rI [va_rf (some t0)] := gh_intro2 (L1 := 0) hst (by decide +kernel) q514 q82 rfl ⟨gh_cat _, trivial⟩ (Nat.le_of_ble_eq_true rfl) fun x o ls hl C h hk => w_J4_isLatin1 C t0 hl h hk
-- AbstractStringBuilder.setLength(I)V
noncomputable def f_J4_setLength_76 (t0 : Nat) (p1 : Int32) : gh_M Unit :=
  gh_bd (gh_putv t0 13 3 .int (.int p1)) fun _ =>
  gh_ret ()
theorem w_J4_setLength_76 {x : gh_C} {g : gh_G} {o : (Unit ⊕ gh_X) × gh_G} {ls : Array Slot} (C : gh_K x cJ4_setLength "java/lang/AbstractStringBuilder" 2 none "setLength" 4 104 []) (t0 : Nat) (p1 : Int32) (hl : gh_lv ls 2 [(0, va_rf (some t0)), (1, .int p1)]) (h : gh_run (f_J4_setLength_76 t0 p1) g = some o) (hk : (gh_K0 x gh_rV) o) : gh_Wd x g (F0 (gh_cm x) 76 ls []) := by
  unfold f_J4_setLength_76 at h
  refine gr_aload_n (pc := 76) (i := 0) C rfl (gl_at hl 0 rfl) dJ4_setLength_76 ?_
  refine gr_iload_n (pc := 77) (i := 1) C rfl (gl_at hl 1 rfl) dJ4_setLength_77 ?_
  refine gr_putp (pc := 78) C gh_bJ5 (k := 3) (Nat.le_of_ble_eq_true rfl) q260 (fun _ h => h) rfl dJ4_setLength_78 h fun g h => ?_
  exact gr_vret (pc := 81) C dJ4_setLength_81 h hk

noncomputable def f_J4_setLength (t0 : Nat) (p1 : Int32) : gh_M Unit :=
  if 0 ≤ p1 then
  (gh_bd (gh_is t0 13) fun _ =>
  gh_bd (f_J4_ensureCapacityInternal t0 p1) fun _ =>
  gh_bd (gh_geti t0 13 3) fun v2 =>
  if p1 ≤ v2 then
  (gh_bd (gh_geti t0 13 3) fun v3 =>
  if v3 ≤ p1 then
  (f_J4_setLength_76 t0 p1)
  else
  (gh_bd (gh_putv t0 13 2 .boolean (.int (1 : Int32))) fun _ =>
  f_J4_setLength_76 t0 p1))
  else
  (gh_stk))
  else
  (gh_stk)
theorem w_J4_setLength {x : gh_C} {g : gh_G} {o : (Unit ⊕ gh_X) × gh_G} {ls : Array Slot} (C : gh_K x cJ4_setLength "java/lang/AbstractStringBuilder" 2 none "setLength" 4 104 []) (t0 : Nat) (p1 : Int32) (hl : gh_lv ls 2 [(0, va_rf (some t0)), (1, .int p1)]) (h : gh_run (f_J4_setLength t0 p1) g = some o) (hk : (gh_K0 x gh_rV) o) : gh_Wd x g (F0 (gh_cm x) 0 ls []) := by
  unfold f_J4_setLength at h
  refine gr_iload_n (pc := 0) (i := 1) C rfl (gl_at hl 1 rfl) dJ4_setLength_0 ?_
  refine gr_if_ge (pc := 1) (tgt := 13) C rfl dJ4_setLength_1 (fun c9 => ?_) (fun c9 => ?_)
  · replace h := gh_ift h c9
    refine gr_aload_n (pc := 13) (i := 0) C rfl (gl_at hl 0 rfl) dJ4_setLength_13 ?_
    refine gr_iload_n (pc := 14) (i := 1) C rfl (gl_at hl 1 rfl) dJ4_setLength_14 ?_
    obtain ⟨⟨fs9, hg9⟩, h⟩ := gh_is_inv h
    refine gh_callV (pc := 15) (rest := []) C (k_J4_ensureCapacityInternal C.tr t0 p1) (Nat.le_of_ble_eq_true rfl) (Nat.le_of_ble_eq_true rfl) (gh_r4 (Nat.le_of_ble_eq_true rfl)) (fun H9 L9 hp9 => gi_P C hp9 hg9 gh_cJ5 q475 q477 q2718 q476 q478 mh_J4 np4 rfl hl.1.1 dJ4_setLength_15 rfl) h (gh_K0_b _ hk) (fun g h => ?_) (fun e g h => ?_)
    rotate_left
    ·
      exact gh_out C (fun _ h => nomatch h) h hk
    refine gr_aload_n (pc := 18) (i := 0) C rfl (gl_at hl 0 rfl) dJ4_setLength_18 ?_
    refine gr_geti (pc := 19) C gh_bJ5 (k := 3) (Nat.le_of_ble_eq_true rfl) q260 (fun _ h => h) dJ4_setLength_19 h fun v2 h => ?_
    refine gr_iload_n (pc := 22) (i := 1) C rfl (gl_at hl 1 rfl) dJ4_setLength_22 ?_
    refine gr_icmp_ge (pc := 23) (tgt := 63) C rfl dJ4_setLength_23 (fun c9 => ?_) (fun c9 => ?_)
    · replace h := gh_ift h c9
      refine gr_aload_n (pc := 63) (i := 0) C rfl (gl_at hl 0 rfl) dJ4_setLength_63 ?_
      refine gr_geti (pc := 64) C gh_bJ5 (k := 3) (Nat.le_of_ble_eq_true rfl) q260 (fun _ h => h) dJ4_setLength_64 h fun v3 h => ?_
      refine gr_iload_n (pc := 67) (i := 1) C rfl (gl_at hl 1 rfl) dJ4_setLength_67 ?_
      refine gr_icmp_le (pc := 68) (tgt := 76) C rfl dJ4_setLength_68 (fun c9 => ?_) (fun c9 => ?_)
      · replace h := gh_ift h c9
        exact w_J4_setLength_76 C t0 p1 (gl_sub hl [0, 1] rfl) h hk
      · replace h := gh_iff h c9
        refine gr_aload_n (pc := 71) (i := 0) C rfl (gl_at hl 0 rfl) dJ4_setLength_71 ?_
        refine gr_iconst (pc := 72) (v := (1 : Int32)) C rfl dJ4_setLength_72 ?_
        refine gr_putp (pc := 73) C gh_bJ5 (k := 2) (Nat.le_of_ble_eq_true rfl) q258 (fun _ h => h) rfl dJ4_setLength_73 h fun g h => ?_
        exact w_J4_setLength_76 C t0 p1 (gl_sub hl [0, 1] rfl) h hk
    · replace h := gh_iff h c9
      exact gh_stk_inv h
  · replace h := gh_iff h c9
    exact gh_stk_inv h

theorem k_J4_setLength {l : Launch} (hst : l.stackTraces = false) (t0 : Nat) (p1 : Int32) : gh_Ct l yJ4_setLength 4 117 (f_J4_setLength t0 p1) gh_rV [va_rf (some t0), .int p1] := gh_intro2 (L1 := 104) hst (by decide +kernel) q1768 q82 rfl ⟨gh_cat _, rfl, trivial⟩ (Nat.le_of_ble_eq_true rfl) fun x o ls hl C h hk => w_J4_setLength C t0 p1 hl h hk
-- AbstractStringBuilder.getBytes([BIB)V
noncomputable def f_J4_getBytes (t0 : Nat) (p1 : Option Nat) (p2 : Int32) (p3 : Int32) : gh_M Unit :=
  gh_bd (gh_geti t0 13 1) fun v1 =>
  if v1 = p3 then
  (gh_bd (gh_getr t0 13 0) fun v2 =>
  gh_bd (gh_geti t0 13 3) fun v3 =>
  gh_nn p1 fun a4 =>
  gh_nn v2 fun a5 =>
  gh_bd (gh_cpyi 4 a5 (0 : Int32) a4 (p2 <<< (p3 &&& 31)) (v3 <<< (p3 &&& 31))) fun _ =>
  gh_ret ())
  else
  (gh_stk)
theorem w_J4_getBytes {x : gh_C} {g : gh_G} {o : (Unit ⊕ gh_X) × gh_G} {ls : Array Slot} (C : gh_K x cJ4_getBytes "java/lang/AbstractStringBuilder" 4 none "getBytes" 1 60 []) (t0 : Nat) (p1 : Option Nat) (p2 : Int32) (p3 : Int32) (hl : gh_lv ls 4 [(0, va_rf (some t0)), (1, va_rf p1), (2, .int p2), (3, .int p3)]) (h : gh_run (f_J4_getBytes t0 p1 p2 p3) g = some o) (hk : (gh_K0 x gh_rV) o) : gh_Wd x g (F0 (gh_cm x) 0 ls []) := by
  unfold f_J4_getBytes at h
  refine gr_aload_n (pc := 0) (i := 0) C rfl (gl_at hl 0 rfl) dJ4_getBytes_0 ?_
  refine gr_geti (pc := 1) C gh_bJ5 (k := 1) (Nat.le_of_ble_eq_true rfl) q257 (fun _ h => h) dJ4_getBytes_1 h fun v1 h => ?_
  refine gr_iload_n (pc := 4) (i := 3) C rfl (gl_at hl 3 rfl) dJ4_getBytes_4 ?_
  refine gr_icmp_ne (pc := 5) (tgt := 29) C rfl dJ4_getBytes_5 (fun c9 => ?_) (fun c9 => ?_)
  · replace h := gh_iff h c9
    exact gh_stk_inv h
  · replace h := gh_ift h c9
    refine gr_aload_n (pc := 8) (i := 0) C rfl (gl_at hl 0 rfl) dJ4_getBytes_8 ?_
    refine gr_getr (pc := 9) C gh_bJ5 (k := 0) (Nat.le_of_ble_eq_true rfl) q256 (fun _ h => h) dJ4_getBytes_9 h fun v2 h => ?_
    refine gr_iconst (pc := 12) (v := (0 : Int32)) C rfl dJ4_getBytes_12 ?_
    refine gr_aload_n (pc := 13) (i := 1) C rfl (gl_at hl 1 rfl) dJ4_getBytes_13 ?_
    refine gr_iload_n (pc := 14) (i := 2) C rfl (gl_at hl 2 rfl) dJ4_getBytes_14 ?_
    refine gr_iload_n (pc := 15) (i := 3) C rfl (gl_at hl 3 rfl) dJ4_getBytes_15 ?_
    refine gr_ishl (pc := 16) C dJ4_getBytes_16 ?_
    refine gr_aload_n (pc := 17) (i := 0) C rfl (gl_at hl 0 rfl) dJ4_getBytes_17 ?_
    refine gr_geti (pc := 18) C gh_bJ5 (k := 3) (Nat.le_of_ble_eq_true rfl) q260 (fun _ h => h) dJ4_getBytes_18 h fun v3 h => ?_
    refine gr_iload_n (pc := 21) (i := 3) C rfl (gl_at hl 3 rfl) dJ4_getBytes_21 ?_
    refine gr_ishl (pc := 22) C dJ4_getBytes_22 ?_
    rcases p1 with _ | a4
    · exact gh_stk_inv h
    replace h := gh_nn_ss h
    rcases v2 with _ | a5
    · exact gh_stk_inv h
    replace h := gh_nn_ss h
    refine gr_cpyi (pc := 23) C (by decide) q1879 q509 q508 q98 hl.1.1 (Nat.le_of_ble_eq_true rfl) (Nat.le_of_ble_eq_true rfl) (Nat.le_of_ble_eq_true rfl) dJ4_getBytes_23 h fun g h => ?_
    refine gr_goto (pc := 26) (tgt := 43) C rfl dJ4_getBytes_26 ?_
    exact gr_vret (pc := 43) C dJ4_getBytes_43 h hk

theorem k_J4_getBytes {l : Launch} (hst : l.stackTraces = false) (t0 : Nat) (p1 : Option Nat) (p2 : Int32) (p3 : Int32) : gh_Ct l yJ4_getBytes 1 75 (f_J4_getBytes t0 p1 p2 p3) gh_rV [va_rf (some t0), va_rf p1, .int p2, .int p3] := gh_intro2 (L1 := 60) hst (by decide +kernel) q1878 q82 rfl ⟨gh_cat _, gh_cat _, rfl, rfl, trivial⟩ (Nat.le_of_ble_eq_true rfl) fun x o ls hl C h hk => w_J4_getBytes C t0 p1 p2 p3 hl h hk
-- AbstractStringBuilder.getCoder()B
noncomputable def f_J4_getCoder (t0 : Nat) : gh_M Int32 :=
  gh_bd (gh_csti 15) fun v1 =>
  if v1 = 0 then
  (gh_stk)
  else
  (gh_bd (gh_geti t0 13 1) fun v2 =>
  gh_rz .byte v2)
theorem w_J4_getCoder {x : gh_C} {g : gh_G} {o : (Int32 ⊕ gh_X) × gh_G} {ls : Array Slot} (C : gh_K x cJ4_getCoder "java/lang/AbstractStringBuilder" 1 (some .byte) "getCoder" 0 0 []) (t0 : Nat) (hl : gh_lv ls 1 [(0, va_rf (some t0))]) (h : gh_run (f_J4_getCoder t0) g = some o) (hk : (gh_K0 x gh_rI) o) : gh_Wd x g (F0 (gh_cm x) 0 ls []) := by
  unfold f_J4_getCoder at h
  refine gr_getsi (pc := 0) C (Cn := "java/lang/String") (n := "COMPACT_STRINGS") (d := "Z") (j := 15) (by decide +kernel) q247 (fun _ h => h) dJ4_getCoder_0 h fun v1 h => ?_
  refine gr_if_eq (pc := 3) (tgt := 13) C rfl dJ4_getCoder_3 (fun c9 => ?_) (fun c9 => ?_)
  · replace h := gh_ift h c9
    exact gh_stk_inv h
  · replace h := gh_iff h c9
    refine gr_aload_n (pc := 6) (i := 0) C rfl (gl_at hl 0 rfl) dJ4_getCoder_6 ?_
    refine gr_geti (pc := 7) C gh_bJ5 (k := 1) (Nat.le_of_ble_eq_true rfl) q257 (fun _ h => h) dJ4_getCoder_7 h fun v2 h => ?_
    refine gr_goto (pc := 10) (tgt := 14) C rfl dJ4_getCoder_10 ?_
    exact gr_bret (pc := 14) C dJ4_getCoder_14 h hk

theorem k_J4_getCoder {l : Launch} (hst : l.stackTraces = false) (t0 : Nat) : gh_Ct l yJ4_getCoder 0 12 (f_J4_getCoder t0) gh_rI [va_rf (some t0)] := gh_intro2 (L1 := 0) hst (by decide +kernel) q1873 q82 rfl ⟨gh_cat _, trivial⟩ (Nat.le_of_ble_eq_true rfl) fun x o ls hl C h hk => w_J4_getCoder C t0 hl h hk
-- AbstractStringBuilder.length()I
noncomputable def f_J4_length (t0 : Nat) : gh_M Int32 :=
  gh_bd (gh_geti t0 13 3) fun v1 =>
  gh_ret v1
theorem w_J4_length {x : gh_C} {g : gh_G} {o : (Int32 ⊕ gh_X) × gh_G} {ls : Array Slot} (C : gh_K x cJ4_length "java/lang/AbstractStringBuilder" 1 (some .int) "length" 0 0 []) (t0 : Nat) (hl : gh_lv ls 1 [(0, va_rf (some t0))]) (h : gh_run (f_J4_length t0) g = some o) (hk : (gh_K0 x gh_rI) o) : gh_Wd x g (F0 (gh_cm x) 0 ls []) := by
  unfold f_J4_length at h
  refine gr_aload_n (pc := 0) (i := 0) C rfl (gl_at hl 0 rfl) dJ4_length_0 ?_
  refine gr_geti (pc := 1) C gh_bJ5 (k := 3) (Nat.le_of_ble_eq_true rfl) q260 (fun _ h => h) dJ4_length_1 h fun v1 h => ?_
  exact gr_iret (pc := 4) C dJ4_length_4 h hk

theorem k_J4_length {l : Launch} (hst : l.stackTraces = false) (t0 : Nat) : gh_Ct l yJ4_length 0 12 (f_J4_length t0) gh_rI [va_rf (some t0)] := gh_intro2 (L1 := 0) hst (by decide +kernel) q635 q82 rfl ⟨gh_cat _, trivial⟩ (Nat.le_of_ble_eq_true rfl) fun x o ls hl C h hk => w_J4_length C t0 hl h hk
-- String.coder()B
noncomputable def f_J6_coder (t0 : Nat) : gh_M Int32 :=
  gh_bd (gh_csti 15) fun v1 =>
  if v1 = 0 then
  (gh_stk)
  else
  (gh_bd (gh_geti t0 14 1) fun v2 =>
  gh_rz .byte v2)
theorem w_J6_coder {x : gh_C} {g : gh_G} {o : (Int32 ⊕ gh_X) × gh_G} {ls : Array Slot} (C : gh_K x cJ6_coder "java/lang/String" 1 (some .byte) "coder" 0 0 []) (t0 : Nat) (hl : gh_lv ls 1 [(0, va_rf (some t0))]) (h : gh_run (f_J6_coder t0) g = some o) (hk : (gh_K0 x gh_rI) o) : gh_Wd x g (F0 (gh_cm x) 0 ls []) := by
  unfold f_J6_coder at h
  refine gr_getsi (pc := 0) C (Cn := "java/lang/String") (n := "COMPACT_STRINGS") (d := "Z") (j := 15) (by decide +kernel) q549 (fun _ h => h) dJ6_coder_0 h fun v1 h => ?_
  refine gr_if_eq (pc := 3) (tgt := 13) C rfl dJ6_coder_3 (fun c9 => ?_) (fun c9 => ?_)
  · replace h := gh_ift h c9
    exact gh_stk_inv h
  · replace h := gh_iff h c9
    refine gr_aload_n (pc := 6) (i := 0) C rfl (gl_at hl 0 rfl) dJ6_coder_6 ?_
    refine gr_geti (pc := 7) C gh_bJ6 (k := 1) (Nat.le_of_ble_eq_true rfl) q700 (fun _ h => h) dJ6_coder_7 h fun v2 h => ?_
    refine gr_goto (pc := 10) (tgt := 14) C rfl dJ6_coder_10 ?_
    exact gr_bret (pc := 14) C dJ6_coder_14 h hk

theorem k_J6_coder {l : Launch} (hst : l.stackTraces = false) (t0 : Nat) : gh_Ct l yJ6_coder 0 12 (f_J6_coder t0) gh_rI [va_rf (some t0)] := gh_intro2 (L1 := 0) hst (by decide +kernel) q548 q84 rfl ⟨gh_cat _, trivial⟩ (Nat.le_of_ble_eq_true rfl) fun x o ls hl C h hk => w_J6_coder C t0 hl h hk
-- String.length()I
noncomputable def f_J6_length (t0 : Nat) : gh_M Int32 :=
  gh_bd (gh_getr t0 14 0) fun v1 =>
  gh_nn v1 fun a2 =>
  gh_bd (gh_alen a2) fun v3 =>
  gh_bd (gh_is t0 14) fun _ =>
  gh_bd (f_J6_coder t0) fun v4 =>
  gh_ret (v3 >>> (v4 &&& 31))
theorem w_J6_length {x : gh_C} {g : gh_G} {o : (Int32 ⊕ gh_X) × gh_G} {ls : Array Slot} (C : gh_K x cJ6_length "java/lang/String" 1 (some .int) "length" 1 20 []) (t0 : Nat) (hl : gh_lv ls 1 [(0, va_rf (some t0))]) (h : gh_run (f_J6_length t0) g = some o) (hk : (gh_K0 x gh_rI) o) : gh_Wd x g (F0 (gh_cm x) 0 ls []) := by
  unfold f_J6_length at h
  refine gr_aload_n (pc := 0) (i := 0) C rfl (gl_at hl 0 rfl) dJ6_length_0 ?_
  refine gr_getr (pc := 1) C gh_bJ6 (k := 0) (Nat.le_of_ble_eq_true rfl) q699 (fun _ h => h) dJ6_length_1 h fun v1 h => ?_
  rcases v1 with _ | a2
  · exact gh_stk_inv h
  replace h := gh_nn_ss h
  refine gr_alen (pc := 4) C dJ6_length_4 h fun v3 h => ?_
  refine gr_aload_n (pc := 5) (i := 0) C rfl (gl_at hl 0 rfl) dJ6_length_5 ?_
  obtain ⟨⟨fs9, hg9⟩, h⟩ := gh_is_inv h
  refine gh_callI (pc := 6) (rest := [.int v3]) C (k_J6_coder C.tr t0) (Nat.le_of_ble_eq_true rfl) (Nat.le_of_ble_eq_true rfl) (gh_r4 (Nat.le_of_ble_eq_true rfl)) (fun H9 L9 hp9 => gi_V C hp9 hg9 gh_cJ6 q545 q546 q547 q548 mh_J6 np29 rfl hl.1.1 dJ6_length_6 rfl) h (gh_K0_b _ hk) (fun v4 g h => ?_) (fun e g h => ?_)
  rotate_left
  ·
    exact gh_out C (fun _ h => nomatch h) h hk
  refine gr_ishr (pc := 9) C dJ6_length_9 ?_
  exact gr_iret (pc := 10) C dJ6_length_10 h hk

theorem k_J6_length {l : Launch} (hst : l.stackTraces = false) (t0 : Nat) : gh_Ct l yJ6_length 1 32 (f_J6_length t0) gh_rI [va_rf (some t0)] := gh_intro2 (L1 := 20) hst (by decide +kernel) q544 q84 rfl ⟨gh_cat _, trivial⟩ (Nat.le_of_ble_eq_true rfl) fun x o ls hl C h hk => w_J6_length C t0 hl h hk
-- String.hashCode()I
noncomputable def f_J6_hashCode (t0 : Nat) : gh_M Int32 :=
  gh_bd (gh_geti t0 14 2) fun v1 =>
  if v1 = 0 then
  (gh_stk)
  else
  (gh_ret v1)
theorem w_J6_hashCode {x : gh_C} {g : gh_G} {o : (Int32 ⊕ gh_X) × gh_G} {ls : Array Slot} (C : gh_K x cJ6_hashCode "java/lang/String" 2 (some .int) "hashCode" 0 0 []) (t0 : Nat) (hl : gh_lv ls 2 [(0, va_rf (some t0))]) (h : gh_run (f_J6_hashCode t0) g = some o) (hk : (gh_K0 x gh_rI) o) : gh_Wd x g (F0 (gh_cm x) 0 ls []) := by
  unfold f_J6_hashCode at h
  refine gr_aload_n (pc := 0) (i := 0) C rfl (gl_at hl 0 rfl) dJ6_hashCode_0 ?_
  refine gr_geti (pc := 1) C gh_bJ6 (k := 2) (Nat.le_of_ble_eq_true rfl) q701 (fun _ h => h) dJ6_hashCode_1 h fun v1 h => ?_
  refine gr_istore_n (pc := 4) (i := 1) (l' := [(1, .int v1), (0, va_rf (some t0))]) C rfl hl (Nat.le_of_ble_eq_true rfl) rfl dJ6_hashCode_4 fun ls hl => ?_
  refine gr_iload_n (pc := 5) (i := 1) C rfl (gl_at hl 0 rfl) dJ6_hashCode_5 ?_
  refine gr_if_ne (pc := 6) (tgt := 58) C rfl dJ6_hashCode_6 (fun c9 => ?_) (fun c9 => ?_)
  · replace h := gh_iff h c9
    refine gr_iload_n (pc := 58) (i := 1) C rfl (gl_at hl 0 rfl) dJ6_hashCode_58 ?_
    exact gr_iret (pc := 59) C dJ6_hashCode_59 h hk
  · replace h := gh_ift h c9
    exact gh_stk_inv h

theorem k_J6_hashCode {l : Launch} (hst : l.stackTraces = false) (t0 : Nat) : gh_Ct l yJ6_hashCode 0 13 (f_J6_hashCode t0) gh_rI [va_rf (some t0)] := gh_intro2 (L1 := 0) hst (by decide +kernel) q1141 q84 rfl ⟨gh_cat _, trivial⟩ (Nat.le_of_ble_eq_true rfl) fun x o ls hl C h hk => w_J6_hashCode C t0 hl h hk
-- String.equals(Ljava/lang/Object;)Z
noncomputable def f_J6_equals (t0 : Nat) (p1 : Option Nat) : gh_M Int32 :=
  if (some t0) = p1 then
  (gh_rz .boolean (1 : Int32))
  else
  (gh_stk)
theorem w_J6_equals {x : gh_C} {g : gh_G} {o : (Int32 ⊕ gh_X) × gh_G} {ls : Array Slot} (C : gh_K x cJ6_equals "java/lang/String" 3 (some .boolean) "equals" 0 0 []) (t0 : Nat) (p1 : Option Nat) (hl : gh_lv ls 3 [(0, va_rf (some t0)), (1, va_rf p1)]) (h : gh_run (f_J6_equals t0 p1) g = some o) (hk : (gh_K0 x gh_rI) o) : gh_Wd x g (F0 (gh_cm x) 0 ls []) := by
  unfold f_J6_equals at h
  refine gr_aload_n (pc := 0) (i := 0) C rfl (gl_at hl 0 rfl) dJ6_equals_0 ?_
  refine gr_aload_n (pc := 1) (i := 1) C rfl (gl_at hl 1 rfl) dJ6_equals_1 ?_
  refine gr_acmp_ne (pc := 2) (tgt := 7) C rfl dJ6_equals_2 (fun c9 => ?_) (fun c9 => ?_)
  · replace h := gh_iff h c9
    exact gh_stk_inv h
  · replace h := gh_ift h c9
    refine gr_iconst (pc := 5) (v := (1 : Int32)) C rfl dJ6_equals_5 ?_
    exact gr_bret (pc := 6) C dJ6_equals_6 h hk

theorem k_J6_equals {l : Launch} (hst : l.stackTraces = false) (t0 : Nat) (p1 : Option Nat) : gh_Ct l yJ6_equals 0 14 (f_J6_equals t0 p1) gh_rI [va_rf (some t0), va_rf p1] := gh_intro2 (L1 := 0) hst (by decide +kernel) q1203 q84 rfl ⟨gh_cat _, gh_cat _, trivial⟩ (Nat.le_of_ble_eq_true rfl) fun x o ls hl C h hk => w_J6_equals C t0 p1 hl h hk
-- String.getBytes([BIB)V
noncomputable def f_J6_getBytes (t0 : Nat) (p1 : Option Nat) (p2 : Int32) (p3 : Int32) : gh_M Unit :=
  gh_bd (gh_is t0 14) fun _ =>
  gh_bd (f_J6_coder t0) fun v1 =>
  if v1 = p3 then
  (gh_bd (gh_getr t0 14 0) fun v2 =>
  gh_bd (gh_getr t0 14 0) fun v3 =>
  gh_nn v3 fun a4 =>
  gh_bd (gh_alen a4) fun v5 =>
  gh_nn p1 fun a6 =>
  gh_nn v2 fun a7 =>
  gh_bd (gh_cpyi 4 a7 (0 : Int32) a6 (p2 <<< (p3 &&& 31)) v5) fun _ =>
  gh_ret ())
  else
  (gh_stk)
theorem w_J6_getBytes {x : gh_C} {g : gh_G} {o : (Unit ⊕ gh_X) × gh_G} {ls : Array Slot} (C : gh_K x cJ6_getBytes "java/lang/String" 4 none "getBytes" 1 60 []) (t0 : Nat) (p1 : Option Nat) (p2 : Int32) (p3 : Int32) (hl : gh_lv ls 4 [(0, va_rf (some t0)), (1, va_rf p1), (2, .int p2), (3, .int p3)]) (h : gh_run (f_J6_getBytes t0 p1 p2 p3) g = some o) (hk : (gh_K0 x gh_rV) o) : gh_Wd x g (F0 (gh_cm x) 0 ls []) := by
  unfold f_J6_getBytes at h
  refine gr_aload_n (pc := 0) (i := 0) C rfl (gl_at hl 0 rfl) dJ6_getBytes_0 ?_
  obtain ⟨⟨fs9, hg9⟩, h⟩ := gh_is_inv h
  refine gh_callI (pc := 1) (rest := []) C (k_J6_coder C.tr t0) (Nat.le_of_ble_eq_true rfl) (Nat.le_of_ble_eq_true rfl) (gh_r4 (Nat.le_of_ble_eq_true rfl)) (fun H9 L9 hp9 => gi_V C hp9 hg9 gh_cJ6 q545 q546 q547 q548 mh_J6 np29 rfl hl.1.1 dJ6_getBytes_1 rfl) h (gh_K0_b _ hk) (fun v1 g h => ?_) (fun e g h => ?_)
  rotate_left
  ·
    exact gh_out C (fun _ h => nomatch h) h hk
  refine gr_iload_n (pc := 4) (i := 3) C rfl (gl_at hl 3 rfl) dJ6_getBytes_4 ?_
  refine gr_icmp_ne (pc := 5) (tgt := 28) C rfl dJ6_getBytes_5 (fun c9 => ?_) (fun c9 => ?_)
  · replace h := gh_iff h c9
    exact gh_stk_inv h
  · replace h := gh_ift h c9
    refine gr_aload_n (pc := 8) (i := 0) C rfl (gl_at hl 0 rfl) dJ6_getBytes_8 ?_
    refine gr_getr (pc := 9) C gh_bJ6 (k := 0) (Nat.le_of_ble_eq_true rfl) q699 (fun _ h => h) dJ6_getBytes_9 h fun v2 h => ?_
    refine gr_iconst (pc := 12) (v := (0 : Int32)) C rfl dJ6_getBytes_12 ?_
    refine gr_aload_n (pc := 13) (i := 1) C rfl (gl_at hl 1 rfl) dJ6_getBytes_13 ?_
    refine gr_iload_n (pc := 14) (i := 2) C rfl (gl_at hl 2 rfl) dJ6_getBytes_14 ?_
    refine gr_iload_n (pc := 15) (i := 3) C rfl (gl_at hl 3 rfl) dJ6_getBytes_15 ?_
    refine gr_ishl (pc := 16) C dJ6_getBytes_16 ?_
    refine gr_aload_n (pc := 17) (i := 0) C rfl (gl_at hl 0 rfl) dJ6_getBytes_17 ?_
    refine gr_getr (pc := 18) C gh_bJ6 (k := 0) (Nat.le_of_ble_eq_true rfl) q699 (fun _ h => h) dJ6_getBytes_18 h fun v3 h => ?_
    rcases v3 with _ | a4
    · exact gh_stk_inv h
    replace h := gh_nn_ss h
    refine gr_alen (pc := 21) C dJ6_getBytes_21 h fun v5 h => ?_
    rcases p1 with _ | a6
    · exact gh_stk_inv h
    replace h := gh_nn_ss h
    rcases v2 with _ | a7
    · exact gh_stk_inv h
    replace h := gh_nn_ss h
    refine gr_cpyi (pc := 22) C (by decide) q582 q509 q508 q98 hl.1.1 (Nat.le_of_ble_eq_true rfl) (Nat.le_of_ble_eq_true rfl) (Nat.le_of_ble_eq_true rfl) dJ6_getBytes_22 h fun g h => ?_
    refine gr_goto (pc := 25) (tgt := 43) C rfl dJ6_getBytes_25 ?_
    exact gr_vret (pc := 43) C dJ6_getBytes_43 h hk

theorem k_J6_getBytes {l : Launch} (hst : l.stackTraces = false) (t0 : Nat) (p1 : Option Nat) (p2 : Int32) (p3 : Int32) : gh_Ct l yJ6_getBytes 1 75 (f_J6_getBytes t0 p1 p2 p3) gh_rV [va_rf (some t0), va_rf p1, .int p2, .int p3] := gh_intro2 (L1 := 60) hst (by decide +kernel) q581 q84 rfl ⟨gh_cat _, gh_cat _, rfl, rfl, trivial⟩ (Nat.le_of_ble_eq_true rfl) fun x o ls hl C h hk => w_J6_getBytes C t0 p1 p2 p3 hl h hk
-- String.checkIndex(II)V
noncomputable def f_J6_checkIndex (p0 : Int32) (p1 : Int32) : gh_M Unit :=
  gh_bd (gh_cst 20) fun v1 =>
  gh_bd (f_J10_checkIndex p0 p1 v1) fun v2 =>
  gh_ret ()
theorem w_J6_checkIndex {x : gh_C} {g : gh_G} {o : (Unit ⊕ gh_X) × gh_G} {ls : Array Slot} (C : gh_K x cJ6_checkIndex "java/lang/String" 2 none "checkIndex" 1 22 []) (p0 : Int32) (p1 : Int32) (hl : gh_lv ls 2 [(0, .int p0), (1, .int p1)]) (h : gh_run (f_J6_checkIndex p0 p1) g = some o) (hk : (gh_K0 x gh_rV) o) : gh_Wd x g (F0 (gh_cm x) 0 ls []) := by
  unfold f_J6_checkIndex at h
  refine gr_iload_n (pc := 0) (i := 0) C rfl (gl_at hl 0 rfl) dJ6_checkIndex_0 ?_
  refine gr_iload_n (pc := 1) (i := 1) C rfl (gl_at hl 1 rfl) dJ6_checkIndex_1 ?_
  refine gr_gets (pc := 2) C (Cn := "jdk/internal/util/Preconditions") (n := "SIOOBE_FORMATTER") (d := "Ljava/util/function/BiFunction;") (j := 20) (by decide +kernel) q527 (fun _ h => h) dJ6_checkIndex_2 h fun v1 h => ?_
  refine gh_callI (pc := 5) (rest := []) C (k_J10_checkIndex C.tr p0 p1 v1) (Nat.le_of_ble_eq_true rfl) (Nat.le_of_ble_eq_true rfl) (gh_r4 (Nat.le_of_ble_eq_true rfl)) (fun H9 L9 hp9 => gi_S C q1849 q391 q90 q392 mh_J10 np12 rfl hl.1.1 dJ6_checkIndex_5 rfl) h (gh_K0_b _ hk) (fun v2 g h => ?_) (fun e g h => ?_)
  rotate_left
  ·
    exact gh_out C (fun _ h => nomatch h) h hk
  refine gr_pop (pc := 8) C rfl dJ6_checkIndex_8 ?_
  exact gr_vret (pc := 9) C dJ6_checkIndex_9 h hk

theorem k_J6_checkIndex {l : Launch} (hst : l.stackTraces = false) (p0 : Int32) (p1 : Int32) : gh_Ct l yJ6_checkIndex 1 35 (f_J6_checkIndex p0 p1) gh_rV [.int p0, .int p1] := gh_intro2 (L1 := 22) hst (by decide +kernel) q1848 q84 rfl ⟨rfl, rfl, trivial⟩ (Nat.le_of_ble_eq_true rfl) fun x o ls hl C h hk => w_J6_checkIndex C p0 p1 hl h hk
-- String.isLatin1()Z
noncomputable def f_J6_isLatin1 (t0 : Nat) : gh_M Int32 :=
  gh_bd (gh_csti 15) fun v1 =>
  if v1 = 0 then
  (gh_rz .boolean (0 : Int32))
  else
  (gh_bd (gh_geti t0 14 1) fun v2 =>
  if v2 = 0 then
  (gh_rz .boolean (1 : Int32))
  else
  (gh_rz .boolean (0 : Int32)))
theorem w_J6_isLatin1 {x : gh_C} {g : gh_G} {o : (Int32 ⊕ gh_X) × gh_G} {ls : Array Slot} (C : gh_K x cJ6_isLatin1 "java/lang/String" 1 (some .boolean) "isLatin1" 0 0 []) (t0 : Nat) (hl : gh_lv ls 1 [(0, va_rf (some t0))]) (h : gh_run (f_J6_isLatin1 t0) g = some o) (hk : (gh_K0 x gh_rI) o) : gh_Wd x g (F0 (gh_cm x) 0 ls []) := by
  unfold f_J6_isLatin1 at h
  refine gr_getsi (pc := 0) C (Cn := "java/lang/String") (n := "COMPACT_STRINGS") (d := "Z") (j := 15) (by decide +kernel) q549 (fun _ h => h) dJ6_isLatin1_0 h fun v1 h => ?_
  refine gr_if_eq (pc := 3) (tgt := 17) C rfl dJ6_isLatin1_3 (fun c9 => ?_) (fun c9 => ?_)
  · replace h := gh_ift h c9
    refine gr_iconst (pc := 17) (v := (0 : Int32)) C rfl dJ6_isLatin1_17 ?_
    exact gr_bret (pc := 18) C dJ6_isLatin1_18 h hk
  · replace h := gh_iff h c9
    refine gr_aload_n (pc := 6) (i := 0) C rfl (gl_at hl 0 rfl) dJ6_isLatin1_6 ?_
    refine gr_geti (pc := 7) C gh_bJ6 (k := 1) (Nat.le_of_ble_eq_true rfl) q700 (fun _ h => h) dJ6_isLatin1_7 h fun v2 h => ?_
    refine gr_if_ne (pc := 10) (tgt := 17) C rfl dJ6_isLatin1_10 (fun c9 => ?_) (fun c9 => ?_)
    · replace h := gh_iff h c9
      refine gr_iconst (pc := 17) (v := (0 : Int32)) C rfl dJ6_isLatin1_17 ?_
      exact gr_bret (pc := 18) C dJ6_isLatin1_18 h hk
    · replace h := gh_ift h c9
      refine gr_iconst (pc := 13) (v := (1 : Int32)) C rfl dJ6_isLatin1_13 ?_
      refine gr_goto (pc := 14) (tgt := 18) C rfl dJ6_isLatin1_14 ?_
      exact gr_bret (pc := 18) C dJ6_isLatin1_18 h hk

theorem k_J6_isLatin1 {l : Launch} (hst : l.stackTraces = false) (t0 : Nat) : gh_Ct l yJ6_isLatin1 0 12 (f_J6_isLatin1 t0) gh_rI [va_rf (some t0)] := gh_intro2 (L1 := 0) hst (by decide +kernel) q1145 q84 rfl ⟨gh_cat _, trivial⟩ (Nat.le_of_ble_eq_true rfl) fun x o ls hl C h hk => w_J6_isLatin1 C t0 hl h hk
-- String.isEmpty()Z
noncomputable def f_J6_isEmpty (t0 : Nat) : gh_M Int32 :=
  gh_bd (gh_getr t0 14 0) fun v1 =>
  gh_nn v1 fun a2 =>
  gh_bd (gh_alen a2) fun v3 =>
  if v3 = 0 then
  (gh_rz .boolean (1 : Int32))
  else
  (gh_rz .boolean (0 : Int32))
theorem w_J6_isEmpty {x : gh_C} {g : gh_G} {o : (Int32 ⊕ gh_X) × gh_G} {ls : Array Slot} (C : gh_K x cJ6_isEmpty "java/lang/String" 1 (some .boolean) "isEmpty" 0 0 []) (t0 : Nat) (hl : gh_lv ls 1 [(0, va_rf (some t0))]) (h : gh_run (f_J6_isEmpty t0) g = some o) (hk : (gh_K0 x gh_rI) o) : gh_Wd x g (F0 (gh_cm x) 0 ls []) := by
  unfold f_J6_isEmpty at h
  refine gr_aload_n (pc := 0) (i := 0) C rfl (gl_at hl 0 rfl) dJ6_isEmpty_0 ?_
  refine gr_getr (pc := 1) C gh_bJ6 (k := 0) (Nat.le_of_ble_eq_true rfl) q699 (fun _ h => h) dJ6_isEmpty_1 h fun v1 h => ?_
  rcases v1 with _ | a2
  · exact gh_stk_inv h
  replace h := gh_nn_ss h
  refine gr_alen (pc := 4) C dJ6_isEmpty_4 h fun v3 h => ?_
  refine gr_if_ne (pc := 5) (tgt := 12) C rfl dJ6_isEmpty_5 (fun c9 => ?_) (fun c9 => ?_)
  · replace h := gh_iff h c9
    refine gr_iconst (pc := 12) (v := (0 : Int32)) C rfl dJ6_isEmpty_12 ?_
    exact gr_bret (pc := 13) C dJ6_isEmpty_13 h hk
  · replace h := gh_ift h c9
    refine gr_iconst (pc := 8) (v := (1 : Int32)) C rfl dJ6_isEmpty_8 ?_
    refine gr_goto (pc := 9) (tgt := 13) C rfl dJ6_isEmpty_9 ?_
    exact gr_bret (pc := 13) C dJ6_isEmpty_13 h hk

theorem k_J6_isEmpty {l : Launch} (hst : l.stackTraces = false) (t0 : Nat) : gh_Ct l yJ6_isEmpty 0 12 (f_J6_isEmpty t0) gh_rI [va_rf (some t0)] := gh_intro2 (L1 := 0) hst (by decide +kernel) q2100 q84 rfl ⟨gh_cat _, trivial⟩ (Nat.le_of_ble_eq_true rfl) fun x o ls hl C h hk => w_J6_isEmpty C t0 hl h hk
-- StringLatin1.charAt([BI)C
noncomputable def f_J18_charAt (p0 : Option Nat) (p1 : Int32) : gh_M Int32 :=
  gh_nn p0 fun a1 =>
  gh_bd (gh_alen a1) fun v2 =>
  gh_bd (f_J6_checkIndex p1 v2) fun _ =>
  gh_bd (gh_iald 4 a1 p1) fun v4 =>
  gh_rz .char (((v4 &&& (255 : Int32)).toUInt32 % 65536).toInt32)
theorem w_J18_charAt {x : gh_C} {g : gh_G} {o : (Int32 ⊕ gh_X) × gh_G} {ls : Array Slot} (C : gh_K x cJ18_charAt "java/lang/StringLatin1" 2 (some .char) "charAt" 2 43 []) (p0 : Option Nat) (p1 : Int32) (hl : gh_lv ls 2 [(0, va_rf p0), (1, .int p1)]) (h : gh_run (f_J18_charAt p0 p1) g = some o) (hk : (gh_K0 x gh_rI) o) : gh_Wd x g (F0 (gh_cm x) 0 ls []) := by
  unfold f_J18_charAt at h
  refine gr_iload_n (pc := 0) (i := 1) C rfl (gl_at hl 1 rfl) dJ18_charAt_0 ?_
  refine gr_aload_n (pc := 1) (i := 0) C rfl (gl_at hl 0 rfl) dJ18_charAt_1 ?_
  rcases p0 with _ | a1
  · exact gh_stk_inv h
  replace h := gh_nn_ss h
  refine gr_alen (pc := 2) C dJ18_charAt_2 h fun v2 h => ?_
  refine gh_callV (pc := 3) (rest := []) C (k_J6_checkIndex C.tr p1 v2) (Nat.le_of_ble_eq_true rfl) (Nat.le_of_ble_eq_true rfl) (gh_r4 (Nat.le_of_ble_eq_true rfl)) (fun H9 L9 hp9 => gi_S C q1924 q1847 q84 q1848 mh_J6 np30 rfl hl.1.1 dJ18_charAt_3 rfl) h (gh_K0_b _ hk) (fun g h => ?_) (fun e g h => ?_)
  rotate_left
  ·
    exact gh_out C (fun _ h => nomatch h) h hk
  refine gr_aload_n (pc := 6) (i := 0) C rfl (gl_at hl 0 rfl) dJ18_charAt_6 ?_
  refine gr_iload_n (pc := 7) (i := 1) C rfl (gl_at hl 1 rfl) dJ18_charAt_7 ?_
  refine gr_bald (pc := 8) C dJ18_charAt_8 h fun v4 h => ?_
  refine gr_sipush (pc := 9) (v := (255 : Int32)) C rfl dJ18_charAt_9 ?_
  refine gr_iand (pc := 12) C dJ18_charAt_12 ?_
  refine gr_i2c (pc := 13) (v := ((v4 &&& (255 : Int32)).toUInt32 % 65536).toInt32) C rfl dJ18_charAt_13 ?_
  exact gr_bret (pc := 14) C dJ18_charAt_14 h hk

theorem k_J18_charAt {l : Launch} (hst : l.stackTraces = false) (p0 : Option Nat) (p1 : Int32) : gh_Ct l yJ18_charAt 2 56 (f_J18_charAt p0 p1) gh_rI [va_rf p0, .int p1] := gh_intro2 (L1 := 43) hst (by decide +kernel) q1923 q99 rfl ⟨gh_cat _, rfl, trivial⟩ (Nat.le_of_ble_eq_true rfl) fun x o ls hl C h hk => w_J18_charAt C p0 p1 hl h hk
-- StringLatin1.canEncode(C)Z
noncomputable def f_J18_canEncode (p0 : Int32) : gh_M Int32 :=
  if (255 : Int32) < p0 then
  (gh_rz .boolean (0 : Int32))
  else
  (gh_rz .boolean (1 : Int32))
theorem w_J18_canEncode {x : gh_C} {g : gh_G} {o : (Int32 ⊕ gh_X) × gh_G} {ls : Array Slot} (C : gh_K x cJ18_canEncode "java/lang/StringLatin1" 1 (some .boolean) "canEncode" 0 0 []) (p0 : Int32) (hl : gh_lv ls 1 [(0, .int p0)]) (h : gh_run (f_J18_canEncode p0) g = some o) (hk : (gh_K0 x gh_rI) o) : gh_Wd x g (F0 (gh_cm x) 0 ls []) := by
  unfold f_J18_canEncode at h
  refine gr_iload_n (pc := 0) (i := 0) C rfl (gl_at hl 0 rfl) dJ18_canEncode_0 ?_
  refine gr_sipush (pc := 1) (v := (255 : Int32)) C rfl dJ18_canEncode_1 ?_
  refine gr_icmp_gt (pc := 4) (tgt := 11) C rfl dJ18_canEncode_4 (fun c9 => ?_) (fun c9 => ?_)
  · replace h := gh_ift h c9
    refine gr_iconst (pc := 11) (v := (0 : Int32)) C rfl dJ18_canEncode_11 ?_
    exact gr_bret (pc := 12) C dJ18_canEncode_12 h hk
  · replace h := gh_iff h c9
    refine gr_iconst (pc := 7) (v := (1 : Int32)) C rfl dJ18_canEncode_7 ?_
    refine gr_goto (pc := 8) (tgt := 12) C rfl dJ18_canEncode_8 ?_
    exact gr_bret (pc := 12) C dJ18_canEncode_12 h hk

theorem k_J18_canEncode {l : Launch} (hst : l.stackTraces = false) (p0 : Int32) : gh_Ct l yJ18_canEncode 0 12 (f_J18_canEncode p0) gh_rI [.int p0] := gh_intro2 (L1 := 0) hst (by decide +kernel) q1839 q99 rfl ⟨rfl, trivial⟩ (Nat.le_of_ble_eq_true rfl) fun x o ls hl C h hk => w_J18_canEncode C p0 hl h hk
-- Integer.stringSize(I)I
def gp_J19_stringSize_16 (x : gh_C) (u16_0 : Int32) (u16_1 : Int32) (st : Int32 × Int32) (g : gh_G) : Prop := ∀ ls : Array Slot, gh_lv ls 4 [(0, .int u16_0), (1, .int u16_1), (2, .int st.1), (3, .int st.2)] → gh_Wd x g (F0 (gh_cm x) 16 ls [])
noncomputable def f_J19_stringSize_16_l (u16_0 : Int32) (u16_1 : Int32) (p2 : Int32) (p3 : Int32) : gh_M ((Int32 × Int32) ⊕ Int32) :=
  if (10 : Int32) ≤ p3 then
  (gh_up (gh_ret ((10 : Int32) + u16_1)))
  else
  (if u16_0 ≤ p2 then
  (gh_ret (.inl ((10 : Int32) * p2, p3 + (1 : Int32))))
  else
  (gh_up (gh_ret (p3 + u16_1))))
theorem w_J19_stringSize_16_l {x : gh_C} {g : gh_G} {o : (((Int32 × Int32) ⊕ Int32) ⊕ gh_X) × gh_G} {ls : Array Slot} (C : gh_K x cJ19_stringSize "java/lang/Integer" 4 (some .int) "stringSize" 0 0 []) (u16_0 : Int32) (u16_1 : Int32) (p2 : Int32) (p3 : Int32) (hl : gh_lv ls 4 [(0, .int u16_0), (1, .int u16_1), (2, .int p2), (3, .int p3)]) (h : gh_run (f_J19_stringSize_16_l u16_0 u16_1 p2 p3) g = some o) (hk : (gh_K1 x (gh_K0 x gh_rI) (gp_J19_stringSize_16 x u16_0 u16_1)) o) : gh_Wd x g (F0 (gh_cm x) 16 ls []) := by
  unfold f_J19_stringSize_16_l at h
  refine gr_iload_n (pc := 16) (i := 3) C rfl (gl_at hl 3 rfl) dJ19_stringSize_16 ?_
  refine gr_bipush (pc := 17) (v := (10 : Int32)) C rfl dJ19_stringSize_17 ?_
  refine gr_icmp_ge (pc := 19) (tgt := 42) C rfl dJ19_stringSize_19 (fun c9 => ?_) (fun c9 => ?_)
  · replace h := gh_ift h c9
    refine gr_bipush (pc := 42) (v := (10 : Int32)) C rfl dJ19_stringSize_42 ?_
    refine gr_iload_n (pc := 44) (i := 1) C rfl (gl_at hl 1 rfl) dJ19_stringSize_44 ?_
    refine gr_iadd (pc := 45) C dJ19_stringSize_45 ?_
    obtain ⟨o, h, hk⟩ := gh_K1_up h hk
    exact gr_iret (pc := 46) C dJ19_stringSize_46 h hk
  · replace h := gh_iff h c9
    refine gr_iload_n (pc := 22) (i := 0) C rfl (gl_at hl 0 rfl) dJ19_stringSize_22 ?_
    refine gr_iload_n (pc := 23) (i := 2) C rfl (gl_at hl 2 rfl) dJ19_stringSize_23 ?_
    refine gr_icmp_le (pc := 24) (tgt := 31) C rfl dJ19_stringSize_24 (fun c9 => ?_) (fun c9 => ?_)
    · replace h := gh_ift h c9
      refine gr_bipush (pc := 31) (v := (10 : Int32)) C rfl dJ19_stringSize_31 ?_
      refine gr_iload_n (pc := 33) (i := 2) C rfl (gl_at hl 2 rfl) dJ19_stringSize_33 ?_
      refine gr_imul (pc := 34) C dJ19_stringSize_34 ?_
      refine gr_istore_n (pc := 35) (i := 2) (l' := [(2, .int ((10 : Int32) * p2)), (0, .int u16_0), (1, .int u16_1), (3, .int p3)]) C rfl hl (Nat.le_of_ble_eq_true rfl) rfl dJ19_stringSize_35 fun ls hl => ?_
      refine gr_iinc (pc := 36) (i := 3) (z := 3) (v := p3 + (1 : Int32)) (l' := [(3, .int (p3 + (1 : Int32))), (2, .int ((10 : Int32) * p2)), (0, .int u16_0), (1, .int u16_1)]) C hl rfl rfl (Nat.le_of_ble_eq_true rfl) rfl dJ19_stringSize_36 fun ls hl => ?_
      refine gr_goto (pc := 39) (tgt := 16) C rfl dJ19_stringSize_39 ?_
      exact gh_K1_in h hk ls (gl_sub hl [2, 3, 1, 0] rfl)
    · replace h := gh_iff h c9
      refine gr_iload_n (pc := 27) (i := 3) C rfl (gl_at hl 3 rfl) dJ19_stringSize_27 ?_
      refine gr_iload_n (pc := 28) (i := 1) C rfl (gl_at hl 1 rfl) dJ19_stringSize_28 ?_
      refine gr_iadd (pc := 29) C dJ19_stringSize_29 ?_
      obtain ⟨o, h, hk⟩ := gh_K1_up h hk
      exact gr_iret (pc := 30) C dJ19_stringSize_30 h hk

noncomputable def f_J19_stringSize_16 (p0 : Int32) (p1 : Int32) (p2 : Int32) (p3 : Int32) : gh_M Int32 := gh_it (fun st : Int32 × Int32 => f_J19_stringSize_16_l p0 p1 st.1 st.2) (p2, p3)
theorem w_J19_stringSize_16 {x : gh_C} {g : gh_G} {o : (Int32 ⊕ gh_X) × gh_G} {ls : Array Slot} (C : gh_K x cJ19_stringSize "java/lang/Integer" 4 (some .int) "stringSize" 0 0 []) (p0 : Int32) (p1 : Int32) (p2 : Int32) (p3 : Int32) (hl : gh_lv ls 4 [(0, .int p0), (1, .int p1), (2, .int p2), (3, .int p3)]) (h : gh_run (f_J19_stringSize_16 p0 p1 p2 p3) g = some o) (hk : (gh_K0 x gh_rI) o) : gh_Wd x g (F0 (gh_cm x) 16 ls []) := by
  unfold f_J19_stringSize_16 at h
  exact gh_loop gh_K0_b (fun st : Int32 × Int32 => f_J19_stringSize_16_l p0 p1 st.1 st.2) (gp_J19_stringSize_16 x p0 p1) (fun st g o h hk ls hl => w_J19_stringSize_16_l C p0 p1 st.1 st.2 hl h hk) _ g o h hk ls hl
noncomputable def f_J19_stringSize_11 (p0 : Int32) (p1 : Int32) : gh_M Int32 :=
  f_J19_stringSize_16 p0 p1 (-10 : Int32) (1 : Int32)
theorem w_J19_stringSize_11 {x : gh_C} {g : gh_G} {o : (Int32 ⊕ gh_X) × gh_G} {ls : Array Slot} (C : gh_K x cJ19_stringSize "java/lang/Integer" 4 (some .int) "stringSize" 0 0 []) (p0 : Int32) (p1 : Int32) (hl : gh_lv ls 4 [(0, .int p0), (1, .int p1)]) (h : gh_run (f_J19_stringSize_11 p0 p1) g = some o) (hk : (gh_K0 x gh_rI) o) : gh_Wd x g (F0 (gh_cm x) 11 ls []) := by
  unfold f_J19_stringSize_11 at h
  refine gr_bipush (pc := 11) (v := (-10 : Int32)) C rfl dJ19_stringSize_11 ?_
  refine gr_istore_n (pc := 13) (i := 2) (l' := [(2, .int (-10 : Int32)), (0, .int p0), (1, .int p1)]) C rfl hl (Nat.le_of_ble_eq_true rfl) rfl dJ19_stringSize_13 fun ls hl => ?_
  refine gr_iconst (pc := 14) (v := (1 : Int32)) C rfl dJ19_stringSize_14 ?_
  refine gr_istore_n (pc := 15) (i := 3) (l' := [(3, .int (1 : Int32)), (2, .int (-10 : Int32)), (0, .int p0), (1, .int p1)]) C rfl hl (Nat.le_of_ble_eq_true rfl) rfl dJ19_stringSize_15 fun ls hl => ?_
  exact w_J19_stringSize_16 C p0 p1 (-10 : Int32) (1 : Int32) (gl_sub hl [2, 3, 1, 0] rfl) h hk

noncomputable def f_J19_stringSize (p0 : Int32) : gh_M Int32 :=
  if p0 < 0 then
  (f_J19_stringSize_11 p0 (1 : Int32))
  else
  (f_J19_stringSize_11 (-p0) (0 : Int32))
theorem w_J19_stringSize {x : gh_C} {g : gh_G} {o : (Int32 ⊕ gh_X) × gh_G} {ls : Array Slot} (C : gh_K x cJ19_stringSize "java/lang/Integer" 4 (some .int) "stringSize" 0 0 []) (p0 : Int32) (hl : gh_lv ls 4 [(0, .int p0)]) (h : gh_run (f_J19_stringSize p0) g = some o) (hk : (gh_K0 x gh_rI) o) : gh_Wd x g (F0 (gh_cm x) 0 ls []) := by
  unfold f_J19_stringSize at h
  refine gr_iconst (pc := 0) (v := (1 : Int32)) C rfl dJ19_stringSize_0 ?_
  refine gr_istore_n (pc := 1) (i := 1) (l' := [(1, .int (1 : Int32)), (0, .int p0)]) C rfl hl (Nat.le_of_ble_eq_true rfl) rfl dJ19_stringSize_1 fun ls hl => ?_
  refine gr_iload_n (pc := 2) (i := 0) C rfl (gl_at hl 1 rfl) dJ19_stringSize_2 ?_
  refine gr_if_lt (pc := 3) (tgt := 11) C rfl dJ19_stringSize_3 (fun c9 => ?_) (fun c9 => ?_)
  · replace h := gh_ift h c9
    exact w_J19_stringSize_11 C p0 (1 : Int32) (gl_sub hl [1, 0] rfl) h hk
  · replace h := gh_iff h c9
    refine gr_iconst (pc := 6) (v := (0 : Int32)) C rfl dJ19_stringSize_6 ?_
    refine gr_istore_n (pc := 7) (i := 1) (l' := [(1, .int (0 : Int32)), (0, .int p0)]) C rfl hl (Nat.le_of_ble_eq_true rfl) rfl dJ19_stringSize_7 fun ls hl => ?_
    refine gr_iload_n (pc := 8) (i := 0) C rfl (gl_at hl 1 rfl) dJ19_stringSize_8 ?_
    refine gr_ineg (pc := 9) C dJ19_stringSize_9 ?_
    refine gr_istore_n (pc := 10) (i := 0) (l' := [(0, .int (-p0)), (1, .int (0 : Int32))]) C rfl hl (Nat.le_of_ble_eq_true rfl) rfl dJ19_stringSize_10 fun ls hl => ?_
    exact w_J19_stringSize_11 C (-p0) (0 : Int32) (gl_sub hl [0, 1] rfl) h hk

theorem k_J19_stringSize {l : Launch} (hst : l.stackTraces = false) (p0 : Int32) : gh_Ct l yJ19_stringSize 0 15 (f_J19_stringSize p0) gh_rI [.int p0] := gh_intro2 (L1 := 0) hst (by decide +kernel) q593 q101 rfl ⟨rfl, trivial⟩ (Nat.le_of_ble_eq_true rfl) fun x o ls hl C h hk => w_J19_stringSize C p0 hl h hk
-- Integer.getChars(II[B)I
def gp_J19_getChars_22 (x : gh_C) (u22_2 : Option Nat) (u22_6 : Int32) (st : Int32 × Int32) (g : gh_G) : Prop := ∀ ls : Array Slot, gh_lv ls 7 [(0, .int st.1), (2, va_rf u22_2), (5, .int st.2), (6, .int u22_6)] → gh_Wd x g (F0 (gh_cm x) 22 ls [])
noncomputable def f_J19_getChars_104 (p2 : Option Nat) (p5 : Int32) (p6 : Int32) : gh_M Int32 :=
  if p6 = 0 then
  (gh_ret p5)
  else
  (gh_nn p2 fun a1 =>
  gh_bd (gh_iast 4 a1 (p5 + (-1 : Int32)) (45 : Int32)) fun _ =>
  gh_ret (p5 + (-1 : Int32)))
theorem w_J19_getChars_104 {x : gh_C} {g : gh_G} {o : (Int32 ⊕ gh_X) × gh_G} {ls : Array Slot} (C : gh_K x cJ19_getChars "java/lang/Integer" 7 (some .int) "getChars" 0 0 []) (p2 : Option Nat) (p5 : Int32) (p6 : Int32) (hl : gh_lv ls 7 [(2, va_rf p2), (5, .int p5), (6, .int p6)]) (h : gh_run (f_J19_getChars_104 p2 p5 p6) g = some o) (hk : (gh_K0 x gh_rI) o) : gh_Wd x g (F0 (gh_cm x) 104 ls []) := by
  unfold f_J19_getChars_104 at h
  refine gr_iload (pc := 104) (i := 6) C (gl_at hl 2 rfl) dJ19_getChars_104 ?_
  refine gr_if_eq (pc := 106) (tgt := 118) C rfl dJ19_getChars_106 (fun c9 => ?_) (fun c9 => ?_)
  · replace h := gh_ift h c9
    refine gr_iload (pc := 118) (i := 5) C (gl_at hl 1 rfl) dJ19_getChars_118 ?_
    exact gr_iret (pc := 120) C dJ19_getChars_120 h hk
  · replace h := gh_iff h c9
    refine gr_aload_n (pc := 109) (i := 2) C rfl (gl_at hl 0 rfl) dJ19_getChars_109 ?_
    refine gr_iinc (pc := 110) (i := 5) (z := 1) (v := p5 + (-1 : Int32)) (l' := [(5, .int (p5 + (-1 : Int32))), (2, va_rf p2), (6, .int p6)]) C hl rfl (congrArg (fun z9 => p5 + z9) (rfl : Int32.ofInt (-1) = (-1 : Int32))) (Nat.le_of_ble_eq_true rfl) rfl dJ19_getChars_110 fun ls hl => ?_
    refine gr_iload (pc := 113) (i := 5) C (gl_at hl 0 rfl) dJ19_getChars_113 ?_
    refine gr_bipush (pc := 115) (v := (45 : Int32)) C rfl dJ19_getChars_115 ?_
    rcases p2 with _ | a1
    · exact gh_stk_inv h
    replace h := gh_nn_ss h
    refine gr_bast (pc := 117) C dJ19_getChars_117 h fun g h => ?_
    refine gr_iload (pc := 118) (i := 5) C (gl_at hl 0 rfl) dJ19_getChars_118 ?_
    exact gr_iret (pc := 120) C dJ19_getChars_120 h hk

noncomputable def f_J19_getChars_22_l (p0 : Int32) (u22_2 : Option Nat) (p5 : Int32) (u22_6 : Int32) : gh_M ((Int32 × Int32) ⊕ Int32) :=
  if (-100 : Int32) < p0 then
  (gh_bd (gh_cst 18) fun v1 =>
  gh_nn v1 fun a2 =>
  gh_bd (gh_iald 4 a2 (-p0)) fun v3 =>
  gh_nn u22_2 fun a4 =>
  gh_bd (gh_iast 4 a4 (p5 + (-1 : Int32)) v3) fun _ =>
  if (-9 : Int32) ≤ p0 then
  (gh_up (f_J19_getChars_104 (some a4) (p5 + (-1 : Int32)) u22_6))
  else
  (gh_bd (gh_cst 19) fun v5 =>
  gh_nn v5 fun a6 =>
  gh_bd (gh_iald 4 a6 (-p0)) fun v7 =>
  gh_bd (gh_iast 4 a4 ((p5 + (-1 : Int32)) + (-1 : Int32)) v7) fun _ =>
  gh_up (f_J19_getChars_104 (some a4) ((p5 + (-1 : Int32)) + (-1 : Int32)) u22_6)))
  else
  (gh_bd (gh_cst 18) fun v8 =>
  gh_nn v8 fun a9 =>
  gh_bd (gh_iald 4 a9 (((p0 / (100 : Int32)) * (100 : Int32)) - p0)) fun v10 =>
  gh_nn u22_2 fun a11 =>
  gh_bd (gh_iast 4 a11 (p5 + (-1 : Int32)) v10) fun _ =>
  gh_bd (gh_cst 19) fun v12 =>
  gh_nn v12 fun a13 =>
  gh_bd (gh_iald 4 a13 (((p0 / (100 : Int32)) * (100 : Int32)) - p0)) fun v14 =>
  gh_bd (gh_iast 4 a11 ((p5 + (-1 : Int32)) + (-1 : Int32)) v14) fun _ =>
  gh_ret (.inl (p0 / (100 : Int32), (p5 + (-1 : Int32)) + (-1 : Int32))))
theorem w_J19_getChars_22_l {x : gh_C} {g : gh_G} {o : (((Int32 × Int32) ⊕ Int32) ⊕ gh_X) × gh_G} {ls : Array Slot} (C : gh_K x cJ19_getChars "java/lang/Integer" 7 (some .int) "getChars" 0 0 []) (p0 : Int32) (u22_2 : Option Nat) (p5 : Int32) (u22_6 : Int32) (hl : gh_lv ls 7 [(0, .int p0), (2, va_rf u22_2), (5, .int p5), (6, .int u22_6)]) (h : gh_run (f_J19_getChars_22_l p0 u22_2 p5 u22_6) g = some o) (hk : (gh_K1 x (gh_K0 x gh_rI) (gp_J19_getChars_22 x u22_2 u22_6)) o) : gh_Wd x g (F0 (gh_cm x) 22 ls []) := by
  unfold f_J19_getChars_22_l at h
  refine gr_iload_n (pc := 22) (i := 0) C rfl (gl_at hl 0 rfl) dJ19_getChars_22 ?_
  refine gr_bipush (pc := 23) (v := (-100 : Int32)) C rfl dJ19_getChars_23 ?_
  refine gr_icmp_gt (pc := 25) (tgt := 72) C rfl dJ19_getChars_25 (fun c9 => ?_) (fun c9 => ?_)
  · replace h := gh_ift h c9
    refine gr_aload_n (pc := 72) (i := 2) C rfl (gl_at hl 1 rfl) dJ19_getChars_72 ?_
    refine gr_iinc (pc := 73) (i := 5) (z := 2) (v := p5 + (-1 : Int32)) (l' := [(5, .int (p5 + (-1 : Int32))), (0, .int p0), (2, va_rf u22_2), (6, .int u22_6)]) C hl rfl (congrArg (fun z9 => p5 + z9) (rfl : Int32.ofInt (-1) = (-1 : Int32))) (Nat.le_of_ble_eq_true rfl) rfl dJ19_getChars_73 fun ls hl => ?_
    refine gr_iload (pc := 76) (i := 5) C (gl_at hl 0 rfl) dJ19_getChars_76 ?_
    refine gr_gets (pc := 78) C (Cn := "java/lang/Integer") (n := "DigitOnes") (d := "[B") (j := 18) (by decide +kernel) q597 (fun _ h => h) dJ19_getChars_78 h fun v1 h => ?_
    refine gr_iload_n (pc := 81) (i := 0) C rfl (gl_at hl 1 rfl) dJ19_getChars_81 ?_
    refine gr_ineg (pc := 82) C dJ19_getChars_82 ?_
    rcases v1 with _ | a2
    · exact gh_stk_inv h
    replace h := gh_nn_ss h
    refine gr_bald (pc := 83) C dJ19_getChars_83 h fun v3 h => ?_
    rcases u22_2 with _ | a4
    · exact gh_stk_inv h
    replace h := gh_nn_ss h
    refine gr_bast (pc := 84) C dJ19_getChars_84 h fun g h => ?_
    refine gr_iload_n (pc := 85) (i := 0) C rfl (gl_at hl 1 rfl) dJ19_getChars_85 ?_
    refine gr_bipush (pc := 86) (v := (-9 : Int32)) C rfl dJ19_getChars_86 ?_
    refine gr_icmp_ge (pc := 88) (tgt := 104) C rfl dJ19_getChars_88 (fun c9 => ?_) (fun c9 => ?_)
    · replace h := gh_ift h c9
      obtain ⟨o, h, hk⟩ := gh_K1_up h hk
      exact w_J19_getChars_104 C (some a4) (p5 + (-1 : Int32)) u22_6 (gl_sub hl [2, 0, 3] rfl) h hk
    · replace h := gh_iff h c9
      refine gr_aload_n (pc := 91) (i := 2) C rfl (gl_at hl 2 rfl) dJ19_getChars_91 ?_
      refine gr_iinc (pc := 92) (i := 5) (z := 0) (v := (p5 + (-1 : Int32)) + (-1 : Int32)) (l' := [(5, .int ((p5 + (-1 : Int32)) + (-1 : Int32))), (0, .int p0), (2, va_rf (some a4)), (6, .int u22_6)]) C hl rfl (congrArg (fun z9 => (p5 + (-1 : Int32)) + z9) (rfl : Int32.ofInt (-1) = (-1 : Int32))) (Nat.le_of_ble_eq_true rfl) rfl dJ19_getChars_92 fun ls hl => ?_
      refine gr_iload (pc := 95) (i := 5) C (gl_at hl 0 rfl) dJ19_getChars_95 ?_
      refine gr_gets (pc := 97) C (Cn := "java/lang/Integer") (n := "DigitTens") (d := "[B") (j := 19) (by decide +kernel) q599 (fun _ h => h) dJ19_getChars_97 h fun v5 h => ?_
      refine gr_iload_n (pc := 100) (i := 0) C rfl (gl_at hl 1 rfl) dJ19_getChars_100 ?_
      refine gr_ineg (pc := 101) C dJ19_getChars_101 ?_
      rcases v5 with _ | a6
      · exact gh_stk_inv h
      replace h := gh_nn_ss h
      refine gr_bald (pc := 102) C dJ19_getChars_102 h fun v7 h => ?_
      refine gr_bast (pc := 103) C dJ19_getChars_103 h fun g h => ?_
      obtain ⟨o, h, hk⟩ := gh_K1_up h hk
      exact w_J19_getChars_104 C (some a4) ((p5 + (-1 : Int32)) + (-1 : Int32)) u22_6 (gl_sub hl [2, 0, 3] rfl) h hk
  · replace h := gh_iff h c9
    refine gr_iload_n (pc := 28) (i := 0) C rfl (gl_at hl 0 rfl) dJ19_getChars_28 ?_
    refine gr_bipush (pc := 29) (v := (100 : Int32)) C rfl dJ19_getChars_29 ?_
    refine gr_idiv (pc := 31) C (by decide) dJ19_getChars_31 ?_
    refine gr_istore_n (pc := 32) (i := 3) (l' := [(3, .int (p0 / (100 : Int32))), (0, .int p0), (2, va_rf u22_2), (5, .int p5), (6, .int u22_6)]) C rfl hl (Nat.le_of_ble_eq_true rfl) rfl dJ19_getChars_32 fun ls hl => ?_
    refine gr_iload_n (pc := 33) (i := 3) C rfl (gl_at hl 0 rfl) dJ19_getChars_33 ?_
    refine gr_bipush (pc := 34) (v := (100 : Int32)) C rfl dJ19_getChars_34 ?_
    refine gr_imul (pc := 36) C dJ19_getChars_36 ?_
    refine gr_iload_n (pc := 37) (i := 0) C rfl (gl_at hl 1 rfl) dJ19_getChars_37 ?_
    refine gr_isub (pc := 38) C dJ19_getChars_38 ?_
    refine gr_istore (pc := 39) (i := 4) (l' := [(4, .int (((p0 / (100 : Int32)) * (100 : Int32)) - p0)), (3, .int (p0 / (100 : Int32))), (0, .int p0), (2, va_rf u22_2), (5, .int p5), (6, .int u22_6)]) C hl (Nat.le_of_ble_eq_true rfl) rfl dJ19_getChars_39 fun ls hl => ?_
    refine gr_iload_n (pc := 41) (i := 3) C rfl (gl_at hl 1 rfl) dJ19_getChars_41 ?_
    refine gr_istore_n (pc := 42) (i := 0) (l' := [(0, .int (p0 / (100 : Int32))), (4, .int (((p0 / (100 : Int32)) * (100 : Int32)) - p0)), (3, .int (p0 / (100 : Int32))), (2, va_rf u22_2), (5, .int p5), (6, .int u22_6)]) C rfl hl (Nat.le_of_ble_eq_true rfl) rfl dJ19_getChars_42 fun ls hl => ?_
    refine gr_aload_n (pc := 43) (i := 2) C rfl (gl_at hl 3 rfl) dJ19_getChars_43 ?_
    refine gr_iinc (pc := 44) (i := 5) (z := 4) (v := p5 + (-1 : Int32)) (l' := [(5, .int (p5 + (-1 : Int32))), (0, .int (p0 / (100 : Int32))), (4, .int (((p0 / (100 : Int32)) * (100 : Int32)) - p0)), (3, .int (p0 / (100 : Int32))), (2, va_rf u22_2), (6, .int u22_6)]) C hl rfl (congrArg (fun z9 => p5 + z9) (rfl : Int32.ofInt (-1) = (-1 : Int32))) (Nat.le_of_ble_eq_true rfl) rfl dJ19_getChars_44 fun ls hl => ?_
    refine gr_iload (pc := 47) (i := 5) C (gl_at hl 0 rfl) dJ19_getChars_47 ?_
    refine gr_gets (pc := 49) C (Cn := "java/lang/Integer") (n := "DigitOnes") (d := "[B") (j := 18) (by decide +kernel) q597 (fun _ h => h) dJ19_getChars_49 h fun v8 h => ?_
    refine gr_iload (pc := 52) (i := 4) C (gl_at hl 2 rfl) dJ19_getChars_52 ?_
    rcases v8 with _ | a9
    · exact gh_stk_inv h
    replace h := gh_nn_ss h
    refine gr_bald (pc := 54) C dJ19_getChars_54 h fun v10 h => ?_
    rcases u22_2 with _ | a11
    · exact gh_stk_inv h
    replace h := gh_nn_ss h
    refine gr_bast (pc := 55) C dJ19_getChars_55 h fun g h => ?_
    refine gr_aload_n (pc := 56) (i := 2) C rfl (gl_at hl 4 rfl) dJ19_getChars_56 ?_
    refine gr_iinc (pc := 57) (i := 5) (z := 0) (v := (p5 + (-1 : Int32)) + (-1 : Int32)) (l' := [(5, .int ((p5 + (-1 : Int32)) + (-1 : Int32))), (0, .int (p0 / (100 : Int32))), (4, .int (((p0 / (100 : Int32)) * (100 : Int32)) - p0)), (3, .int (p0 / (100 : Int32))), (2, va_rf (some a11)), (6, .int u22_6)]) C hl rfl (congrArg (fun z9 => (p5 + (-1 : Int32)) + z9) (rfl : Int32.ofInt (-1) = (-1 : Int32))) (Nat.le_of_ble_eq_true rfl) rfl dJ19_getChars_57 fun ls hl => ?_
    refine gr_iload (pc := 60) (i := 5) C (gl_at hl 0 rfl) dJ19_getChars_60 ?_
    refine gr_gets (pc := 62) C (Cn := "java/lang/Integer") (n := "DigitTens") (d := "[B") (j := 19) (by decide +kernel) q599 (fun _ h => h) dJ19_getChars_62 h fun v12 h => ?_
    refine gr_iload (pc := 65) (i := 4) C (gl_at hl 2 rfl) dJ19_getChars_65 ?_
    rcases v12 with _ | a13
    · exact gh_stk_inv h
    replace h := gh_nn_ss h
    refine gr_bald (pc := 67) C dJ19_getChars_67 h fun v14 h => ?_
    refine gr_bast (pc := 68) C dJ19_getChars_68 h fun g h => ?_
    refine gr_goto (pc := 69) (tgt := 22) C rfl dJ19_getChars_69 ?_
    exact gh_K1_in h hk ls (gl_sub hl [1, 4, 0, 5] rfl)

noncomputable def f_J19_getChars_22 (p0 : Int32) (p2 : Option Nat) (p5 : Int32) (p6 : Int32) : gh_M Int32 := gh_it (fun st : Int32 × Int32 => f_J19_getChars_22_l st.1 p2 st.2 p6) (p0, p5)
theorem w_J19_getChars_22 {x : gh_C} {g : gh_G} {o : (Int32 ⊕ gh_X) × gh_G} {ls : Array Slot} (C : gh_K x cJ19_getChars "java/lang/Integer" 7 (some .int) "getChars" 0 0 []) (p0 : Int32) (p2 : Option Nat) (p5 : Int32) (p6 : Int32) (hl : gh_lv ls 7 [(0, .int p0), (2, va_rf p2), (5, .int p5), (6, .int p6)]) (h : gh_run (f_J19_getChars_22 p0 p2 p5 p6) g = some o) (hk : (gh_K0 x gh_rI) o) : gh_Wd x g (F0 (gh_cm x) 22 ls []) := by
  unfold f_J19_getChars_22 at h
  exact gh_loop gh_K0_b (fun st : Int32 × Int32 => f_J19_getChars_22_l st.1 p2 st.2 p6) (gp_J19_getChars_22 x p2 p6) (fun st g o h hk ls hl => w_J19_getChars_22_l C st.1 p2 st.2 p6 hl h hk) _ g o h hk ls hl
noncomputable def f_J19_getChars_12 (p0 : Int32) (p2 : Option Nat) (p5 : Int32) (s0 : Int32) : gh_M Int32 :=
  if s0 = 0 then
  (f_J19_getChars_22 (-p0) p2 p5 s0)
  else
  (f_J19_getChars_22 p0 p2 p5 s0)
theorem w_J19_getChars_12 {x : gh_C} {g : gh_G} {o : (Int32 ⊕ gh_X) × gh_G} {ls : Array Slot} (C : gh_K x cJ19_getChars "java/lang/Integer" 7 (some .int) "getChars" 0 0 []) (p0 : Int32) (p2 : Option Nat) (p5 : Int32) (s0 : Int32) (hl : gh_lv ls 7 [(0, .int p0), (2, va_rf p2), (5, .int p5)]) (h : gh_run (f_J19_getChars_12 p0 p2 p5 s0) g = some o) (hk : (gh_K0 x gh_rI) o) : gh_Wd x g (F0 (gh_cm x) 12 ls [.int s0]) := by
  unfold f_J19_getChars_12 at h
  refine gr_istore (pc := 12) (i := 6) (l' := [(6, .int s0), (0, .int p0), (2, va_rf p2), (5, .int p5)]) C hl (Nat.le_of_ble_eq_true rfl) rfl dJ19_getChars_12 fun ls hl => ?_
  refine gr_iload (pc := 14) (i := 6) C (gl_at hl 0 rfl) dJ19_getChars_14 ?_
  refine gr_if_ne (pc := 16) (tgt := 22) C rfl dJ19_getChars_16 (fun c9 => ?_) (fun c9 => ?_)
  · replace h := gh_iff h c9
    exact w_J19_getChars_22 C p0 p2 p5 s0 (gl_sub hl [1, 2, 3, 0] rfl) h hk
  · replace h := gh_ift h c9
    refine gr_iload_n (pc := 19) (i := 0) C rfl (gl_at hl 1 rfl) dJ19_getChars_19 ?_
    refine gr_ineg (pc := 20) C dJ19_getChars_20 ?_
    refine gr_istore_n (pc := 21) (i := 0) (l' := [(0, .int (-p0)), (6, .int s0), (2, va_rf p2), (5, .int p5)]) C rfl hl (Nat.le_of_ble_eq_true rfl) rfl dJ19_getChars_21 fun ls hl => ?_
    exact w_J19_getChars_22 C (-p0) p2 p5 s0 (gl_sub hl [0, 2, 3, 1] rfl) h hk

noncomputable def f_J19_getChars (p0 : Int32) (p1 : Int32) (p2 : Option Nat) : gh_M Int32 :=
  if 0 ≤ p0 then
  (f_J19_getChars_12 p0 p2 p1 (0 : Int32))
  else
  (f_J19_getChars_12 p0 p2 p1 (1 : Int32))
theorem w_J19_getChars {x : gh_C} {g : gh_G} {o : (Int32 ⊕ gh_X) × gh_G} {ls : Array Slot} (C : gh_K x cJ19_getChars "java/lang/Integer" 7 (some .int) "getChars" 0 0 []) (p0 : Int32) (p1 : Int32) (p2 : Option Nat) (hl : gh_lv ls 7 [(0, .int p0), (1, .int p1), (2, va_rf p2)]) (h : gh_run (f_J19_getChars p0 p1 p2) g = some o) (hk : (gh_K0 x gh_rI) o) : gh_Wd x g (F0 (gh_cm x) 0 ls []) := by
  unfold f_J19_getChars at h
  refine gr_iload_n (pc := 0) (i := 1) C rfl (gl_at hl 1 rfl) dJ19_getChars_0 ?_
  refine gr_istore (pc := 1) (i := 5) (l' := [(5, .int p1), (0, .int p0), (1, .int p1), (2, va_rf p2)]) C hl (Nat.le_of_ble_eq_true rfl) rfl dJ19_getChars_1 fun ls hl => ?_
  refine gr_iload_n (pc := 3) (i := 0) C rfl (gl_at hl 1 rfl) dJ19_getChars_3 ?_
  refine gr_if_ge (pc := 4) (tgt := 11) C rfl dJ19_getChars_4 (fun c9 => ?_) (fun c9 => ?_)
  · replace h := gh_ift h c9
    refine gr_iconst (pc := 11) (v := (0 : Int32)) C rfl dJ19_getChars_11 ?_
    exact w_J19_getChars_12 C p0 p2 p1 (0 : Int32) (gl_sub hl [1, 3, 0] rfl) h hk
  · replace h := gh_iff h c9
    refine gr_iconst (pc := 7) (v := (1 : Int32)) C rfl dJ19_getChars_7 ?_
    refine gr_goto (pc := 8) (tgt := 12) C rfl dJ19_getChars_8 ?_
    exact w_J19_getChars_12 C p0 p2 p1 (1 : Int32) (gl_sub hl [1, 3, 0] rfl) h hk

theorem k_J19_getChars {l : Launch} (hst : l.stackTraces = false) (p0 : Int32) (p1 : Int32) (p2 : Option Nat) : gh_Ct l yJ19_getChars 0 18 (f_J19_getChars p0 p1 p2) gh_rI [.int p0, .int p1, va_rf p2] := gh_intro2 (L1 := 0) hst (by decide +kernel) q596 q101 rfl ⟨rfl, rfl, gh_cat _, trivial⟩ (Nat.le_of_ble_eq_true rfl) fun x o ls hl C h hk => w_J19_getChars C p0 p1 p2 hl h hk
-- StringBuilder.<init>()V
noncomputable def f_J5_init (t0 : Nat) : gh_M Unit :=
  gh_bd (f_J4_init t0 (16 : Int32)) fun _ =>
  gh_ret ()
theorem w_J5_init {x : gh_C} {g : gh_G} {o : (Unit ⊕ gh_X) × gh_G} {ls : Array Slot} (C : gh_K x cJ5_init "java/lang/StringBuilder" 1 none "<init>" 2 41 []) (t0 : Nat) (hl : gh_lv ls 1 [(0, va_rf (some t0))]) (h : gh_run (f_J5_init t0) g = some o) (hk : (gh_K0 x gh_rV) o) : gh_Wd x g (F0 (gh_cm x) 0 ls []) := by
  unfold f_J5_init at h
  refine gr_aload_n (pc := 0) (i := 0) C rfl (gl_at hl 0 rfl) dJ5_init_0 ?_
  refine gr_bipush (pc := 1) (v := (16 : Int32)) C rfl dJ5_init_1 ?_
  refine gh_callV (pc := 3) (rest := []) C (k_J4_init C.tr t0 (16 : Int32)) (Nat.le_of_ble_eq_true rfl) (Nat.le_of_ble_eq_true rfl) (gh_r4 (Nat.le_of_ble_eq_true rfl)) (fun H9 L9 hp9 => gi_I C q243 rfl q244 q245 mh_J4 np4 rfl hl.1.1 dJ5_init_3 rfl) h (gh_K0_b _ hk) (fun g h => ?_) (fun e g h => ?_)
  rotate_left
  ·
    exact gh_out C (fun _ h => nomatch h) h hk
  exact gr_vret (pc := 6) C dJ5_init_6 h hk

theorem k_J5_init {l : Launch} (hst : l.stackTraces = false) (t0 : Nat) : gh_Ct l yJ5_init 2 53 (f_J5_init t0) gh_rV [va_rf (some t0)] := gh_intro2 (L1 := 41) hst (by decide +kernel) q242 q83 rfl ⟨gh_cat _, trivial⟩ (Nat.le_of_ble_eq_true rfl) fun x o ls hl C h hk => w_J5_init C t0 hl h hk
-- StringBuilder.length()I
noncomputable def f_J5_length (t0 : Nat) : gh_M Int32 :=
  gh_bd (gh_is t0 13) fun _ =>
  gh_bd (f_J4_length t0) fun v1 =>
  gh_ret v1
theorem w_J5_length {x : gh_C} {g : gh_G} {o : (Int32 ⊕ gh_X) × gh_G} {ls : Array Slot} (C : gh_K x cJ5_length "java/lang/StringBuilder" 1 (some .int) "length" 1 20 []) (t0 : Nat) (hl : gh_lv ls 1 [(0, va_rf (some t0))]) (h : gh_run (f_J5_length t0) g = some o) (hk : (gh_K0 x gh_rI) o) : gh_Wd x g (F0 (gh_cm x) 0 ls []) := by
  unfold f_J5_length at h
  refine gr_aload_n (pc := 0) (i := 0) C rfl (gl_at hl 0 rfl) dJ5_length_0 ?_
  obtain ⟨⟨fs9, hg9⟩, h⟩ := gh_is_inv h
  refine gh_callI (pc := 1) (rest := []) C (k_J4_length C.tr t0) (Nat.le_of_ble_eq_true rfl) (Nat.le_of_ble_eq_true rfl) (gh_r4 (Nat.le_of_ble_eq_true rfl)) (fun H9 L9 hp9 => gi_SU C hp9 hg9 gh_cJ5 q634 q630 q269 q629 q635 (by decide) np0 rfl hl.1.1 dJ5_length_1 rfl) h (gh_K0_b _ hk) (fun v1 g h => ?_) (fun e g h => ?_)
  rotate_left
  ·
    exact gh_out C (fun _ h => nomatch h) h hk
  exact gr_iret (pc := 4) C dJ5_length_4 h hk

theorem k_J5_length {l : Launch} (hst : l.stackTraces = false) (t0 : Nat) : gh_Ct l yJ5_length 1 32 (f_J5_length t0) gh_rI [va_rf (some t0)] := gh_intro2 (L1 := 20) hst (by decide +kernel) q633 q83 rfl ⟨gh_cat _, trivial⟩ (Nat.le_of_ble_eq_true rfl) fun x o ls hl C h hk => w_J5_length C t0 hl h hk
-- StringBuilder.setLength(I)V
noncomputable def f_J5_setLength (t0 : Nat) (p1 : Int32) : gh_M Unit :=
  gh_bd (gh_is t0 13) fun _ =>
  gh_bd (f_J4_setLength t0 p1) fun _ =>
  gh_ret ()
theorem w_J5_setLength {x : gh_C} {g : gh_G} {o : (Unit ⊕ gh_X) × gh_G} {ls : Array Slot} (C : gh_K x cJ5_setLength "java/lang/StringBuilder" 2 none "setLength" 5 125 []) (t0 : Nat) (p1 : Int32) (hl : gh_lv ls 2 [(0, va_rf (some t0)), (1, .int p1)]) (h : gh_run (f_J5_setLength t0 p1) g = some o) (hk : (gh_K0 x gh_rV) o) : gh_Wd x g (F0 (gh_cm x) 0 ls []) := by
  unfold f_J5_setLength at h
  refine gr_aload_n (pc := 0) (i := 0) C rfl (gl_at hl 0 rfl) dJ5_setLength_0 ?_
  refine gr_iload_n (pc := 1) (i := 1) C rfl (gl_at hl 1 rfl) dJ5_setLength_1 ?_
  obtain ⟨⟨fs9, hg9⟩, h⟩ := gh_is_inv h
  refine gh_callV (pc := 2) (rest := []) C (k_J4_setLength C.tr t0 p1) (Nat.le_of_ble_eq_true rfl) (Nat.le_of_ble_eq_true rfl) (gh_r4 (Nat.le_of_ble_eq_true rfl)) (fun H9 L9 hp9 => gi_SU C hp9 hg9 gh_cJ5 q1766 q2729 q269 q1767 q1768 (by decide) np4 rfl hl.1.1 dJ5_setLength_2 rfl) h (gh_K0_b _ hk) (fun g h => ?_) (fun e g h => ?_)
  rotate_left
  ·
    exact gh_out C (fun _ h => nomatch h) h hk
  exact gr_vret (pc := 5) C dJ5_setLength_5 h hk

theorem k_J5_setLength {l : Launch} (hst : l.stackTraces = false) (t0 : Nat) (p1 : Int32) : gh_Ct l yJ5_setLength 5 138 (f_J5_setLength t0 p1) gh_rV [va_rf (some t0), .int p1] := gh_intro2 (L1 := 125) hst (by decide +kernel) q1765 q83 rfl ⟨gh_cat _, rfl, trivial⟩ (Nat.le_of_ble_eq_true rfl) fun x o ls hl C h hk => w_J5_setLength C t0 p1 hl h hk
-- AbstractStringBuilder.inflateIfNeededFor(Ljava/lang/String;)V
noncomputable def f_J4_inflateIfNeededFor (t0 : Nat) (p1 : Option Nat) : gh_M Unit :=
  gh_bd (gh_csti 15) fun v1 =>
  if v1 = 0 then
  (gh_ret ())
  else
  (gh_bd (gh_geti t0 13 1) fun v2 =>
  gh_nn p1 fun a3 =>
  gh_bd (gh_is a3 14) fun _ =>
  gh_bd (f_J6_coder a3) fun v4 =>
  if v2 = v4 then
  (gh_ret ())
  else
  (gh_stk))
theorem w_J4_inflateIfNeededFor {x : gh_C} {g : gh_G} {o : (Unit ⊕ gh_X) × gh_G} {ls : Array Slot} (C : gh_K x cJ4_inflateIfNeededFor "java/lang/AbstractStringBuilder" 2 none "inflateIfNeededFor" 1 20 []) (t0 : Nat) (p1 : Option Nat) (hl : gh_lv ls 2 [(0, va_rf (some t0)), (1, va_rf p1)]) (h : gh_run (f_J4_inflateIfNeededFor t0 p1) g = some o) (hk : (gh_K0 x gh_rV) o) : gh_Wd x g (F0 (gh_cm x) 0 ls []) := by
  unfold f_J4_inflateIfNeededFor at h
  refine gr_getsi (pc := 0) C (Cn := "java/lang/String") (n := "COMPACT_STRINGS") (d := "Z") (j := 15) (by decide +kernel) q247 (fun _ h => h) dJ4_inflateIfNeededFor_0 h fun v1 h => ?_
  refine gr_if_eq (pc := 3) (tgt := 21) C rfl dJ4_inflateIfNeededFor_3 (fun c9 => ?_) (fun c9 => ?_)
  · replace h := gh_ift h c9
    exact gr_vret (pc := 21) C dJ4_inflateIfNeededFor_21 h hk
  · replace h := gh_iff h c9
    refine gr_aload_n (pc := 6) (i := 0) C rfl (gl_at hl 0 rfl) dJ4_inflateIfNeededFor_6 ?_
    refine gr_geti (pc := 7) C gh_bJ5 (k := 1) (Nat.le_of_ble_eq_true rfl) q257 (fun _ h => h) dJ4_inflateIfNeededFor_7 h fun v2 h => ?_
    refine gr_aload_n (pc := 10) (i := 1) C rfl (gl_at hl 1 rfl) dJ4_inflateIfNeededFor_10 ?_
    rcases p1 with _ | a3
    · exact gh_stk_inv h
    replace h := gh_nn_ss h
    obtain ⟨⟨fs9, hg9⟩, h⟩ := gh_is_inv h
    refine gh_callI (pc := 11) (rest := [.int v2]) C (k_J6_coder C.tr a3) (Nat.le_of_ble_eq_true rfl) (Nat.le_of_ble_eq_true rfl) (gh_r4 (Nat.le_of_ble_eq_true rfl)) (fun H9 L9 hp9 => gi_V C hp9 hg9 gh_cJ6 q558 q546 q547 q548 mh_J6 np29 rfl hl.1.1 dJ4_inflateIfNeededFor_11 rfl) h (gh_K0_b _ hk) (fun v4 g h => ?_) (fun e g h => ?_)
    rotate_left
    ·
      exact gh_out C (fun _ h => nomatch h) h hk
    refine gr_icmp_eq (pc := 14) (tgt := 21) C rfl dJ4_inflateIfNeededFor_14 (fun c9 => ?_) (fun c9 => ?_)
    · replace h := gh_ift h c9
      exact gr_vret (pc := 21) C dJ4_inflateIfNeededFor_21 h hk
    · replace h := gh_iff h c9
      exact gh_stk_inv h

theorem k_J4_inflateIfNeededFor {l : Launch} (hst : l.stackTraces = false) (t0 : Nat) (p1 : Option Nat) : gh_Ct l yJ4_inflateIfNeededFor 1 33 (f_J4_inflateIfNeededFor t0 p1) gh_rV [va_rf (some t0), va_rf p1] := gh_intro2 (L1 := 20) hst (by decide +kernel) q557 q82 rfl ⟨gh_cat _, gh_cat _, trivial⟩ (Nat.le_of_ble_eq_true rfl) fun x o ls hl C h hk => w_J4_inflateIfNeededFor C t0 p1 hl h hk
-- AbstractStringBuilder.inflateIfNeededFor(Ljava/lang/AbstractStringBuilder;)V
noncomputable def f_J4_inflateIfNeededFor_2 (t0 : Nat) (p1 : Option Nat) : gh_M Unit :=
  gh_bd (gh_csti 15) fun v1 =>
  if v1 = 0 then
  (gh_ret ())
  else
  (gh_bd (gh_geti t0 13 1) fun v2 =>
  gh_nn p1 fun a3 =>
  gh_bd (gh_is a3 13) fun _ =>
  gh_bd (f_J4_getCoder a3) fun v4 =>
  if v2 = v4 then
  (gh_ret ())
  else
  (gh_stk))
theorem w_J4_inflateIfNeededFor_2 {x : gh_C} {g : gh_G} {o : (Unit ⊕ gh_X) × gh_G} {ls : Array Slot} (C : gh_K x cJ4_inflateIfNeededFor_2 "java/lang/AbstractStringBuilder" 2 none "inflateIfNeededFor" 1 20 []) (t0 : Nat) (p1 : Option Nat) (hl : gh_lv ls 2 [(0, va_rf (some t0)), (1, va_rf p1)]) (h : gh_run (f_J4_inflateIfNeededFor_2 t0 p1) g = some o) (hk : (gh_K0 x gh_rV) o) : gh_Wd x g (F0 (gh_cm x) 0 ls []) := by
  unfold f_J4_inflateIfNeededFor_2 at h
  refine gr_getsi (pc := 0) C (Cn := "java/lang/String") (n := "COMPACT_STRINGS") (d := "Z") (j := 15) (by decide +kernel) q247 (fun _ h => h) dJ4_inflateIfNeededFor_2_0 h fun v1 h => ?_
  refine gr_if_eq (pc := 3) (tgt := 21) C rfl dJ4_inflateIfNeededFor_2_3 (fun c9 => ?_) (fun c9 => ?_)
  · replace h := gh_ift h c9
    exact gr_vret (pc := 21) C dJ4_inflateIfNeededFor_2_21 h hk
  · replace h := gh_iff h c9
    refine gr_aload_n (pc := 6) (i := 0) C rfl (gl_at hl 0 rfl) dJ4_inflateIfNeededFor_2_6 ?_
    refine gr_geti (pc := 7) C gh_bJ5 (k := 1) (Nat.le_of_ble_eq_true rfl) q257 (fun _ h => h) dJ4_inflateIfNeededFor_2_7 h fun v2 h => ?_
    refine gr_aload_n (pc := 10) (i := 1) C rfl (gl_at hl 1 rfl) dJ4_inflateIfNeededFor_2_10 ?_
    rcases p1 with _ | a3
    · exact gh_stk_inv h
    replace h := gh_nn_ss h
    obtain ⟨⟨fs9, hg9⟩, h⟩ := gh_is_inv h
    refine gh_callI (pc := 11) (rest := [.int v2]) C (k_J4_getCoder C.tr a3) (Nat.le_of_ble_eq_true rfl) (Nat.le_of_ble_eq_true rfl) (gh_r4 (Nat.le_of_ble_eq_true rfl)) (fun H9 L9 hp9 => gi_V C hp9 hg9 gh_cJ5 q1869 q1870 q1872 q1873 mh_J4 np29 rfl hl.1.1 dJ4_inflateIfNeededFor_2_11 rfl) h (gh_K0_b _ hk) (fun v4 g h => ?_) (fun e g h => ?_)
    rotate_left
    ·
      exact gh_out C (fun _ h => nomatch h) h hk
    refine gr_icmp_eq (pc := 14) (tgt := 21) C rfl dJ4_inflateIfNeededFor_2_14 (fun c9 => ?_) (fun c9 => ?_)
    · replace h := gh_ift h c9
      exact gr_vret (pc := 21) C dJ4_inflateIfNeededFor_2_21 h hk
    · replace h := gh_iff h c9
      exact gh_stk_inv h

theorem k_J4_inflateIfNeededFor_2 {l : Launch} (hst : l.stackTraces = false) (t0 : Nat) (p1 : Option Nat) : gh_Ct l yJ4_inflateIfNeededFor_2 1 33 (f_J4_inflateIfNeededFor_2 t0 p1) gh_rV [va_rf (some t0), va_rf p1] := gh_intro2 (L1 := 20) hst (by decide +kernel) q1868 q82 rfl ⟨gh_cat _, gh_cat _, trivial⟩ (Nat.le_of_ble_eq_true rfl) fun x o ls hl C h hk => w_J4_inflateIfNeededFor_2 C t0 p1 hl h hk
-- AbstractStringBuilder.append(I)Ljava/lang/AbstractStringBuilder;
noncomputable def f_J4_append_2 (t0 : Nat) (p1 : Int32) : gh_M (Option Nat) :=
  gh_bd (gh_geti t0 13 3) fun v1 =>
  gh_bd (f_J19_stringSize p1) fun v2 =>
  gh_bd (gh_is t0 13) fun _ =>
  gh_bd (f_J4_ensureCapacityInternal t0 (v1 + v2)) fun _ =>
  gh_bd (gh_is t0 13) fun _ =>
  gh_bd (f_J4_isLatin1 t0) fun v4 =>
  if v4 = 0 then
  (gh_stk)
  else
  (gh_bd (gh_getr t0 13 0) fun v5 =>
  gh_bd (f_J19_getChars p1 (v1 + v2) v5) fun v6 =>
  gh_bd (gh_putv t0 13 3 .int (.int (v1 + v2))) fun _ =>
  gh_ret (some t0))
theorem w_J4_append_2 {x : gh_C} {g : gh_G} {o : ((Option Nat) ⊕ gh_X) × gh_G} {ls : Array Slot} (C : gh_K x cJ4_append_2 "java/lang/AbstractStringBuilder" 4 (some (.object "java/lang/AbstractStringBuilder")) "append" 4 104 []) (t0 : Nat) (p1 : Int32) (hl : gh_lv ls 4 [(0, va_rf (some t0)), (1, .int p1)]) (h : gh_run (f_J4_append_2 t0 p1) g = some o) (hk : (gh_K0 x gh_rQ) o) : gh_Wd x g (F0 (gh_cm x) 0 ls []) := by
  unfold f_J4_append_2 at h
  refine gr_aload_n (pc := 0) (i := 0) C rfl (gl_at hl 0 rfl) dJ4_append_2_0 ?_
  refine gr_geti (pc := 1) C gh_bJ5 (k := 3) (Nat.le_of_ble_eq_true rfl) q260 (fun _ h => h) dJ4_append_2_1 h fun v1 h => ?_
  refine gr_istore_n (pc := 4) (i := 2) (l' := [(2, .int v1), (0, va_rf (some t0)), (1, .int p1)]) C rfl hl (Nat.le_of_ble_eq_true rfl) rfl dJ4_append_2_4 fun ls hl => ?_
  refine gr_iload_n (pc := 5) (i := 2) C rfl (gl_at hl 0 rfl) dJ4_append_2_5 ?_
  refine gr_iload_n (pc := 6) (i := 1) C rfl (gl_at hl 2 rfl) dJ4_append_2_6 ?_
  refine gh_callI (pc := 7) (rest := [.int v1]) C (k_J19_stringSize C.tr p1) (Nat.le_of_ble_eq_true rfl) (Nat.le_of_ble_eq_true rfl) (gh_r4 (Nat.le_of_ble_eq_true rfl)) (fun H9 L9 hp9 => gi_S C q591 q592 q101 q593 mh_J19 np6 rfl hl.1.1 dJ4_append_2_7 rfl) h (gh_K0_b _ hk) (fun v2 g h => ?_) (fun e g h => ?_)
  rotate_left
  ·
    exact gh_out C (fun _ h => nomatch h) h hk
  refine gr_iadd (pc := 10) C dJ4_append_2_10 ?_
  refine gr_istore_n (pc := 11) (i := 3) (l' := [(3, .int (v1 + v2)), (2, .int v1), (0, va_rf (some t0)), (1, .int p1)]) C rfl hl (Nat.le_of_ble_eq_true rfl) rfl dJ4_append_2_11 fun ls hl => ?_
  refine gr_aload_n (pc := 12) (i := 0) C rfl (gl_at hl 2 rfl) dJ4_append_2_12 ?_
  refine gr_iload_n (pc := 13) (i := 3) C rfl (gl_at hl 0 rfl) dJ4_append_2_13 ?_
  obtain ⟨⟨fs9, hg9⟩, h⟩ := gh_is_inv h
  refine gh_callV (pc := 14) (rest := []) C (k_J4_ensureCapacityInternal C.tr t0 (v1 + v2)) (Nat.le_of_ble_eq_true rfl) (Nat.le_of_ble_eq_true rfl) (gh_r4 (Nat.le_of_ble_eq_true rfl)) (fun H9 L9 hp9 => gi_P C hp9 hg9 gh_cJ5 q475 q477 q2718 q476 q478 mh_J4 np4 rfl hl.1.1 dJ4_append_2_14 rfl) h (gh_K0_b _ hk) (fun g h => ?_) (fun e g h => ?_)
  rotate_left
  ·
    exact gh_out C (fun _ h => nomatch h) h hk
  refine gr_aload_n (pc := 17) (i := 0) C rfl (gl_at hl 2 rfl) dJ4_append_2_17 ?_
  obtain ⟨⟨fs9, hg9⟩, h⟩ := gh_is_inv h
  refine gh_callI (pc := 18) (rest := []) C (k_J4_isLatin1 C.tr t0) (Nat.le_of_ble_eq_true rfl) (Nat.le_of_ble_eq_true rfl) (gh_r4 (Nat.le_of_ble_eq_true rfl)) (fun H9 L9 hp9 => gi_V C hp9 hg9 gh_cJ5 q510 q511 q513 q514 mh_J4 np7 rfl hl.1.1 dJ4_append_2_18 rfl) h (gh_K0_b _ hk) (fun v4 g h => ?_) (fun e g h => ?_)
  rotate_left
  ·
    exact gh_out C (fun _ h => nomatch h) h hk
  refine gr_if_eq (pc := 21) (tgt := 37) C rfl dJ4_append_2_21 (fun c9 => ?_) (fun c9 => ?_)
  · replace h := gh_ift h c9
    exact gh_stk_inv h
  · replace h := gh_iff h c9
    refine gr_iload_n (pc := 24) (i := 1) C rfl (gl_at hl 3 rfl) dJ4_append_2_24 ?_
    refine gr_iload_n (pc := 25) (i := 3) C rfl (gl_at hl 0 rfl) dJ4_append_2_25 ?_
    refine gr_aload_n (pc := 26) (i := 0) C rfl (gl_at hl 2 rfl) dJ4_append_2_26 ?_
    refine gr_getr (pc := 27) C gh_bJ5 (k := 0) (Nat.le_of_ble_eq_true rfl) q256 (fun _ h => h) dJ4_append_2_27 h fun v5 h => ?_
    refine gh_callI (pc := 30) (rest := []) C (k_J19_getChars C.tr p1 (v1 + v2) v5) (Nat.le_of_ble_eq_true rfl) (Nat.le_of_ble_eq_true rfl) (gh_r4 (Nat.le_of_ble_eq_true rfl)) (fun H9 L9 hp9 => gi_S C q594 q595 q101 q596 mh_J19 np31 rfl hl.1.1 dJ4_append_2_30 rfl) h (gh_K0_b _ hk) (fun v6 g h => ?_) (fun e g h => ?_)
    rotate_left
    ·
      exact gh_out C (fun _ h => nomatch h) h hk
    refine gr_pop (pc := 33) C rfl dJ4_append_2_33 ?_
    refine gr_goto (pc := 34) (tgt := 48) C rfl dJ4_append_2_34 ?_
    refine gr_aload_n (pc := 48) (i := 0) C rfl (gl_at hl 2 rfl) dJ4_append_2_48 ?_
    refine gr_iload_n (pc := 49) (i := 3) C rfl (gl_at hl 0 rfl) dJ4_append_2_49 ?_
    refine gr_putp (pc := 50) C gh_bJ5 (k := 3) (Nat.le_of_ble_eq_true rfl) q260 (fun _ h => h) rfl dJ4_append_2_50 h fun g h => ?_
    refine gr_aload_n (pc := 53) (i := 0) C rfl (gl_at hl 2 rfl) dJ4_append_2_53 ?_
    exact gr_aret (pc := 54) C (Or.inl ⟨_, rfl⟩) dJ4_append_2_54 h hk

theorem k_J4_append_2 {l : Launch} (hst : l.stackTraces = false) (t0 : Nat) (p1 : Int32) : gh_Ct l yJ4_append_2 4 119 (f_J4_append_2 t0 p1) gh_rQ [va_rf (some t0), .int p1] := gh_intro2 (L1 := 104) hst (by decide +kernel) q590 q82 rfl ⟨gh_cat _, rfl, trivial⟩ (Nat.le_of_ble_eq_true rfl) fun x o ls hl C h hk => w_J4_append_2 C t0 p1 hl h hk
-- AbstractStringBuilder.append(C)Ljava/lang/AbstractStringBuilder;
noncomputable def f_J4_append_3 (t0 : Nat) (p1 : Int32) : gh_M (Option Nat) :=
  gh_bd (gh_geti t0 13 3) fun v1 =>
  gh_bd (gh_is t0 13) fun _ =>
  gh_bd (f_J4_ensureCapacityInternal t0 (v1 + (1 : Int32))) fun _ =>
  gh_bd (gh_is t0 13) fun _ =>
  gh_bd (f_J4_isLatin1 t0) fun v3 =>
  if v3 = 0 then
  (gh_stk)
  else
  (gh_bd (f_J18_canEncode p1) fun v4 =>
  if v4 = 0 then
  (gh_stk)
  else
  (gh_bd (gh_getr t0 13 0) fun v5 =>
  gh_bd (gh_geti t0 13 3) fun v6 =>
  gh_bd (gh_putv t0 13 3 .int (.int (v6 + (1 : Int32)))) fun _ =>
  gh_nn v5 fun a7 =>
  gh_bd (gh_iast 4 a7 v6 p1.toInt8.toInt32) fun _ =>
  gh_ret (some t0)))
theorem w_J4_append_3 {x : gh_C} {g : gh_G} {o : ((Option Nat) ⊕ gh_X) × gh_G} {ls : Array Slot} (C : gh_K x cJ4_append_3 "java/lang/AbstractStringBuilder" 2 (some (.object "java/lang/AbstractStringBuilder")) "append" 4 104 []) (t0 : Nat) (p1 : Int32) (hl : gh_lv ls 2 [(0, va_rf (some t0)), (1, .int p1)]) (h : gh_run (f_J4_append_3 t0 p1) g = some o) (hk : (gh_K0 x gh_rQ) o) : gh_Wd x g (F0 (gh_cm x) 0 ls []) := by
  unfold f_J4_append_3 at h
  refine gr_aload_n (pc := 0) (i := 0) C rfl (gl_at hl 0 rfl) dJ4_append_3_0 ?_
  refine gr_aload_n (pc := 1) (i := 0) C rfl (gl_at hl 0 rfl) dJ4_append_3_1 ?_
  refine gr_geti (pc := 2) C gh_bJ5 (k := 3) (Nat.le_of_ble_eq_true rfl) q260 (fun _ h => h) dJ4_append_3_2 h fun v1 h => ?_
  refine gr_iconst (pc := 5) (v := (1 : Int32)) C rfl dJ4_append_3_5 ?_
  refine gr_iadd (pc := 6) C dJ4_append_3_6 ?_
  obtain ⟨⟨fs9, hg9⟩, h⟩ := gh_is_inv h
  refine gh_callV (pc := 7) (rest := []) C (k_J4_ensureCapacityInternal C.tr t0 (v1 + (1 : Int32))) (Nat.le_of_ble_eq_true rfl) (Nat.le_of_ble_eq_true rfl) (gh_r4 (Nat.le_of_ble_eq_true rfl)) (fun H9 L9 hp9 => gi_P C hp9 hg9 gh_cJ5 q475 q477 q2718 q476 q478 mh_J4 np4 rfl hl.1.1 dJ4_append_3_7 rfl) h (gh_K0_b _ hk) (fun g h => ?_) (fun e g h => ?_)
  rotate_left
  ·
    exact gh_out C (fun _ h => nomatch h) h hk
  refine gr_aload_n (pc := 10) (i := 0) C rfl (gl_at hl 0 rfl) dJ4_append_3_10 ?_
  obtain ⟨⟨fs9, hg9⟩, h⟩ := gh_is_inv h
  refine gh_callI (pc := 11) (rest := []) C (k_J4_isLatin1 C.tr t0) (Nat.le_of_ble_eq_true rfl) (Nat.le_of_ble_eq_true rfl) (gh_r4 (Nat.le_of_ble_eq_true rfl)) (fun H9 L9 hp9 => gi_V C hp9 hg9 gh_cJ5 q510 q511 q513 q514 mh_J4 np7 rfl hl.1.1 dJ4_append_3_11 rfl) h (gh_K0_b _ hk) (fun v3 g h => ?_) (fun e g h => ?_)
  rotate_left
  ·
    exact gh_out C (fun _ h => nomatch h) h hk
  refine gr_if_eq (pc := 14) (tgt := 45) C rfl dJ4_append_3_14 (fun c9 => ?_) (fun c9 => ?_)
  · replace h := gh_ift h c9
    exact gh_stk_inv h
  · replace h := gh_iff h c9
    refine gr_iload_n (pc := 17) (i := 1) C rfl (gl_at hl 1 rfl) dJ4_append_3_17 ?_
    refine gh_callI (pc := 18) (rest := []) C (k_J18_canEncode C.tr p1) (Nat.le_of_ble_eq_true rfl) (Nat.le_of_ble_eq_true rfl) (gh_r4 (Nat.le_of_ble_eq_true rfl)) (fun H9 L9 hp9 => gi_S C q1837 q1838 q99 q1839 mh_J18 np32 rfl hl.1.1 dJ4_append_3_18 rfl) h (gh_K0_b _ hk) (fun v4 g h => ?_) (fun e g h => ?_)
    rotate_left
    ·
      exact gh_out C (fun _ h => nomatch h) h hk
    refine gr_if_eq (pc := 21) (tgt := 45) C rfl dJ4_append_3_21 (fun c9 => ?_) (fun c9 => ?_)
    · replace h := gh_ift h c9
      exact gh_stk_inv h
    · replace h := gh_iff h c9
      refine gr_aload_n (pc := 24) (i := 0) C rfl (gl_at hl 0 rfl) dJ4_append_3_24 ?_
      refine gr_getr (pc := 25) C gh_bJ5 (k := 0) (Nat.le_of_ble_eq_true rfl) q256 (fun _ h => h) dJ4_append_3_25 h fun v5 h => ?_
      refine gr_aload_n (pc := 28) (i := 0) C rfl (gl_at hl 0 rfl) dJ4_append_3_28 ?_
      refine gr_dup (pc := 29) C (gh_cat _) dJ4_append_3_29 ?_
      refine gr_geti (pc := 30) C gh_bJ5 (k := 3) (Nat.le_of_ble_eq_true rfl) q260 (fun _ h => h) dJ4_append_3_30 h fun v6 h => ?_
      refine gr_dup_x1 (pc := 33) C rfl (gh_cat _) dJ4_append_3_33 ?_
      refine gr_iconst (pc := 34) (v := (1 : Int32)) C rfl dJ4_append_3_34 ?_
      refine gr_iadd (pc := 35) C dJ4_append_3_35 ?_
      refine gr_putp (pc := 36) C gh_bJ5 (k := 3) (Nat.le_of_ble_eq_true rfl) q260 (fun _ h => h) rfl dJ4_append_3_36 h fun g h => ?_
      refine gr_iload_n (pc := 39) (i := 1) C rfl (gl_at hl 1 rfl) dJ4_append_3_39 ?_
      refine gr_i2b (pc := 40) (v := p1.toInt8.toInt32) C rfl dJ4_append_3_40 ?_
      rcases v5 with _ | a7
      · exact gh_stk_inv h
      replace h := gh_nn_ss h
      refine gr_bast (pc := 41) C dJ4_append_3_41 h fun g h => ?_
      refine gr_goto (pc := 42) (tgt := 75) C rfl dJ4_append_3_42 ?_
      refine gr_aload_n (pc := 75) (i := 0) C rfl (gl_at hl 0 rfl) dJ4_append_3_75 ?_
      exact gr_aret (pc := 76) C (Or.inl ⟨_, rfl⟩) dJ4_append_3_76 h hk

theorem k_J4_append_3 {l : Launch} (hst : l.stackTraces = false) (t0 : Nat) (p1 : Int32) : gh_Ct l yJ4_append_3 4 117 (f_J4_append_3 t0 p1) gh_rQ [va_rf (some t0), .int p1] := gh_intro2 (L1 := 104) hst (by decide +kernel) q1836 q82 rfl ⟨gh_cat _, rfl, trivial⟩ (Nat.le_of_ble_eq_true rfl) fun x o ls hl C h hk => w_J4_append_3 C t0 p1 hl h hk
-- AbstractStringBuilder.append(Ljava/lang/AbstractStringBuilder;)Ljava/lang/AbstractStringBuilder;
noncomputable def f_J4_append_5 (t0 : Nat) (p1 : Option Nat) : gh_M (Option Nat) :=
  gh_on p1
  (gh_stk)
  (fun b1 => gh_bd (gh_is b1 13) fun _ =>
  gh_bd (f_J5_length b1) fun v2 =>
  gh_bd (gh_geti t0 13 3) fun v3 =>
  gh_bd (gh_is t0 13) fun _ =>
  gh_bd (f_J4_ensureCapacityInternal t0 (v3 + v2)) fun _ =>
  gh_bd (gh_is t0 13) fun _ =>
  gh_bd (f_J4_inflateIfNeededFor_2 t0 (some b1)) fun _ =>
  gh_bd (gh_getr t0 13 0) fun v6 =>
  gh_bd (gh_geti t0 13 3) fun v7 =>
  gh_bd (gh_geti t0 13 1) fun v8 =>
  gh_bd (gh_is b1 13) fun _ =>
  gh_bd (f_J4_getBytes b1 v6 v7 v8) fun _ =>
  gh_bd (gh_geti t0 13 3) fun v10 =>
  gh_bd (gh_putv t0 13 3 .int (.int (v10 + v2))) fun _ =>
  gh_bd (gh_geti t0 13 2) fun v11 =>
  gh_bd (gh_geti b1 13 2) fun v12 =>
  gh_bd (gh_putv t0 13 2 .boolean (.int (v11 ||| v12))) fun _ =>
  gh_ret (some t0))
theorem w_J4_append_5 {x : gh_C} {g : gh_G} {o : ((Option Nat) ⊕ gh_X) × gh_G} {ls : Array Slot} (C : gh_K x cJ4_append_5 "java/lang/AbstractStringBuilder" 3 (some (.object "java/lang/AbstractStringBuilder")) "append" 4 104 []) (t0 : Nat) (p1 : Option Nat) (hl : gh_lv ls 3 [(0, va_rf (some t0)), (1, va_rf p1)]) (h : gh_run (f_J4_append_5 t0 p1) g = some o) (hk : (gh_K0 x gh_rQ) o) : gh_Wd x g (F0 (gh_cm x) 0 ls []) := by
  unfold f_J4_append_5 at h
  refine gr_aload_n (pc := 0) (i := 1) C rfl (gl_at hl 1 rfl) dJ4_append_5_0 ?_
  refine gr_ifnonnull (pc := 1) (tgt := 9) C rfl dJ4_append_5_1 (fun b1 c9 => ?_) (fun c9 => ?_)
  · subst c9
    replace h := gh_on_s h
    refine gr_aload_n (pc := 9) (i := 1) C rfl (gl_at hl 1 rfl) dJ4_append_5_9 ?_
    obtain ⟨⟨fs9, hg9⟩, h⟩ := gh_is_inv h
    refine gh_callI (pc := 10) (rest := []) C (k_J5_length C.tr b1) (Nat.le_of_ble_eq_true rfl) (Nat.le_of_ble_eq_true rfl) (gh_r4 (Nat.le_of_ble_eq_true rfl)) (fun H9 L9 hp9 => gi_U C hp9 hg9 gh_cJ5 q1864 q630 (va_Decl.of (C.ts _ q629) (C.ts _ q635)) mh_J4 q632 q631 q633 np0 rfl hl.1.1 dJ4_append_5_10 rfl) h (gh_K0_b _ hk) (fun v2 g h => ?_) (fun e g h => ?_)
    rotate_left
    ·
      exact gh_out C (fun _ h => nomatch h) h hk
    refine gr_istore_n (pc := 13) (i := 2) (l' := [(2, .int v2), (0, va_rf (some t0)), (1, va_rf (some b1))]) C rfl hl (Nat.le_of_ble_eq_true rfl) rfl dJ4_append_5_13 fun ls hl => ?_
    refine gr_aload_n (pc := 14) (i := 0) C rfl (gl_at hl 1 rfl) dJ4_append_5_14 ?_
    refine gr_aload_n (pc := 15) (i := 0) C rfl (gl_at hl 1 rfl) dJ4_append_5_15 ?_
    refine gr_geti (pc := 16) C gh_bJ5 (k := 3) (Nat.le_of_ble_eq_true rfl) q260 (fun _ h => h) dJ4_append_5_16 h fun v3 h => ?_
    refine gr_iload_n (pc := 19) (i := 2) C rfl (gl_at hl 0 rfl) dJ4_append_5_19 ?_
    refine gr_iadd (pc := 20) C dJ4_append_5_20 ?_
    obtain ⟨⟨fs9, hg9⟩, h⟩ := gh_is_inv h
    refine gh_callV (pc := 21) (rest := []) C (k_J4_ensureCapacityInternal C.tr t0 (v3 + v2)) (Nat.le_of_ble_eq_true rfl) (Nat.le_of_ble_eq_true rfl) (gh_r4 (Nat.le_of_ble_eq_true rfl)) (fun H9 L9 hp9 => gi_P C hp9 hg9 gh_cJ5 q475 q477 q2718 q476 q478 mh_J4 np4 rfl hl.1.1 dJ4_append_5_21 rfl) h (gh_K0_b _ hk) (fun g h => ?_) (fun e g h => ?_)
    rotate_left
    ·
      exact gh_out C (fun _ h => nomatch h) h hk
    refine gr_aload_n (pc := 24) (i := 0) C rfl (gl_at hl 1 rfl) dJ4_append_5_24 ?_
    refine gr_aload_n (pc := 25) (i := 1) C rfl (gl_at hl 2 rfl) dJ4_append_5_25 ?_
    obtain ⟨⟨fs9, hg9⟩, h⟩ := gh_is_inv h
    refine gh_callV (pc := 26) (rest := []) C (k_J4_inflateIfNeededFor_2 C.tr t0 (some b1)) (Nat.le_of_ble_eq_true rfl) (Nat.le_of_ble_eq_true rfl) (gh_r4 (Nat.le_of_ble_eq_true rfl)) (fun H9 L9 hp9 => gi_P C hp9 hg9 gh_cJ5 q1865 q1867 q2733 q1866 q1868 mh_J4 np33 rfl hl.1.1 dJ4_append_5_26 rfl) h (gh_K0_b _ hk) (fun g h => ?_) (fun e g h => ?_)
    rotate_left
    ·
      exact gh_out C (fun _ h => nomatch h) h hk
    refine gr_aload_n (pc := 29) (i := 1) C rfl (gl_at hl 2 rfl) dJ4_append_5_29 ?_
    refine gr_aload_n (pc := 30) (i := 0) C rfl (gl_at hl 1 rfl) dJ4_append_5_30 ?_
    refine gr_getr (pc := 31) C gh_bJ5 (k := 0) (Nat.le_of_ble_eq_true rfl) q256 (fun _ h => h) dJ4_append_5_31 h fun v6 h => ?_
    refine gr_aload_n (pc := 34) (i := 0) C rfl (gl_at hl 1 rfl) dJ4_append_5_34 ?_
    refine gr_geti (pc := 35) C gh_bJ5 (k := 3) (Nat.le_of_ble_eq_true rfl) q260 (fun _ h => h) dJ4_append_5_35 h fun v7 h => ?_
    refine gr_aload_n (pc := 38) (i := 0) C rfl (gl_at hl 1 rfl) dJ4_append_5_38 ?_
    refine gr_geti (pc := 39) C gh_bJ5 (k := 1) (Nat.le_of_ble_eq_true rfl) q257 (fun _ h => h) dJ4_append_5_39 h fun v8 h => ?_
    obtain ⟨⟨fs9, hg9⟩, h⟩ := gh_is_inv h
    refine gh_callV (pc := 42) (rest := []) C (k_J4_getBytes C.tr b1 v6 v7 v8) (Nat.le_of_ble_eq_true rfl) (Nat.le_of_ble_eq_true rfl) (gh_r4 (Nat.le_of_ble_eq_true rfl)) (fun H9 L9 hp9 => gi_V C hp9 hg9 gh_cJ5 q1874 q1875 q1877 q1878 mh_J4 np34 rfl hl.1.1 dJ4_append_5_42 rfl) h (gh_K0_b _ hk) (fun g h => ?_) (fun e g h => ?_)
    rotate_left
    ·
      exact gh_out C (fun _ h => nomatch h) h hk
    refine gr_aload_n (pc := 45) (i := 0) C rfl (gl_at hl 1 rfl) dJ4_append_5_45 ?_
    refine gr_dup (pc := 46) C (gh_cat _) dJ4_append_5_46 ?_
    refine gr_geti (pc := 47) C gh_bJ5 (k := 3) (Nat.le_of_ble_eq_true rfl) q260 (fun _ h => h) dJ4_append_5_47 h fun v10 h => ?_
    refine gr_iload_n (pc := 50) (i := 2) C rfl (gl_at hl 0 rfl) dJ4_append_5_50 ?_
    refine gr_iadd (pc := 51) C dJ4_append_5_51 ?_
    refine gr_putp (pc := 52) C gh_bJ5 (k := 3) (Nat.le_of_ble_eq_true rfl) q260 (fun _ h => h) rfl dJ4_append_5_52 h fun g h => ?_
    refine gr_aload_n (pc := 55) (i := 0) C rfl (gl_at hl 1 rfl) dJ4_append_5_55 ?_
    refine gr_dup (pc := 56) C (gh_cat _) dJ4_append_5_56 ?_
    refine gr_geti (pc := 57) C gh_bJ5 (k := 2) (Nat.le_of_ble_eq_true rfl) q258 (fun _ h => h) dJ4_append_5_57 h fun v11 h => ?_
    refine gr_aload_n (pc := 60) (i := 1) C rfl (gl_at hl 2 rfl) dJ4_append_5_60 ?_
    refine gr_geti (pc := 61) C gh_bJ5 (k := 2) (Nat.le_of_ble_eq_true rfl) q258 (fun _ h => h) dJ4_append_5_61 h fun v12 h => ?_
    refine gr_ior (pc := 64) C dJ4_append_5_64 ?_
    refine gr_putp (pc := 65) C gh_bJ5 (k := 2) (Nat.le_of_ble_eq_true rfl) q258 (fun _ h => h) rfl dJ4_append_5_65 h fun g h => ?_
    refine gr_aload_n (pc := 68) (i := 0) C rfl (gl_at hl 1 rfl) dJ4_append_5_68 ?_
    exact gr_aret (pc := 69) C (Or.inl ⟨_, rfl⟩) dJ4_append_5_69 h hk
  · subst c9
    replace h := gh_on_n h
    exact gh_stk_inv h

theorem k_J4_append_5 {l : Launch} (hst : l.stackTraces = false) (t0 : Nat) (p1 : Option Nat) : gh_Ct l yJ4_append_5 4 118 (f_J4_append_5 t0 p1) gh_rQ [va_rf (some t0), va_rf p1] := gh_intro2 (L1 := 104) hst (by decide +kernel) q1863 q82 rfl ⟨gh_cat _, gh_cat _, trivial⟩ (Nat.le_of_ble_eq_true rfl) fun x o ls hl C h hk => w_J4_append_5 C t0 p1 hl h hk
-- AbstractStringBuilder.charAt(I)C
noncomputable def f_J4_charAt (t0 : Nat) (p1 : Int32) : gh_M Int32 :=
  gh_bd (gh_geti t0 13 1) fun v1 =>
  gh_bd (gh_getr t0 13 0) fun v2 =>
  gh_bd (gh_geti t0 13 3) fun v3 =>
  gh_nn v2 fun a4 =>
  gh_bd (gh_alen a4) fun v5 =>
  gh_bd (f_J16_min v3 (v5 >>> (v1 &&& 31))) fun v6 =>
  gh_bd (f_J6_checkIndex p1 v6) fun _ =>
  if v1 = 0 then
  (gh_bd (gh_iald 4 a4 p1) fun v8 =>
  gh_rz .char (((v8 &&& (255 : Int32)).toUInt32 % 65536).toInt32))
  else
  (gh_stk)
theorem w_J4_charAt {x : gh_C} {g : gh_G} {o : (Int32 ⊕ gh_X) × gh_G} {ls : Array Slot} (C : gh_K x cJ4_charAt "java/lang/AbstractStringBuilder" 5 (some .char) "charAt" 2 43 []) (t0 : Nat) (p1 : Int32) (hl : gh_lv ls 5 [(0, va_rf (some t0)), (1, .int p1)]) (h : gh_run (f_J4_charAt t0 p1) g = some o) (hk : (gh_K0 x gh_rI) o) : gh_Wd x g (F0 (gh_cm x) 0 ls []) := by
  unfold f_J4_charAt at h
  refine gr_aload_n (pc := 0) (i := 0) C rfl (gl_at hl 0 rfl) dJ4_charAt_0 ?_
  refine gr_geti (pc := 1) C gh_bJ5 (k := 1) (Nat.le_of_ble_eq_true rfl) q257 (fun _ h => h) dJ4_charAt_1 h fun v1 h => ?_
  refine gr_istore_n (pc := 4) (i := 2) (l' := [(2, .int v1), (0, va_rf (some t0)), (1, .int p1)]) C rfl hl (Nat.le_of_ble_eq_true rfl) rfl dJ4_charAt_4 fun ls hl => ?_
  refine gr_aload_n (pc := 5) (i := 0) C rfl (gl_at hl 1 rfl) dJ4_charAt_5 ?_
  refine gr_getr (pc := 6) C gh_bJ5 (k := 0) (Nat.le_of_ble_eq_true rfl) q256 (fun _ h => h) dJ4_charAt_6 h fun v2 h => ?_
  refine gr_astore_n (pc := 9) (i := 3) (l' := [(3, va_rf v2), (2, .int v1), (0, va_rf (some t0)), (1, .int p1)]) C rfl hl (Nat.le_of_ble_eq_true rfl) rfl dJ4_charAt_9 fun ls hl => ?_
  refine gr_aload_n (pc := 10) (i := 0) C rfl (gl_at hl 2 rfl) dJ4_charAt_10 ?_
  refine gr_geti (pc := 11) C gh_bJ5 (k := 3) (Nat.le_of_ble_eq_true rfl) q260 (fun _ h => h) dJ4_charAt_11 h fun v3 h => ?_
  refine gr_aload_n (pc := 14) (i := 3) C rfl (gl_at hl 0 rfl) dJ4_charAt_14 ?_
  rcases v2 with _ | a4
  · exact gh_stk_inv h
  replace h := gh_nn_ss h
  refine gr_alen (pc := 15) C dJ4_charAt_15 h fun v5 h => ?_
  refine gr_iload_n (pc := 16) (i := 2) C rfl (gl_at hl 1 rfl) dJ4_charAt_16 ?_
  refine gr_ishr (pc := 17) C dJ4_charAt_17 ?_
  refine gh_callI (pc := 18) (rest := []) C (k_J16_min C.tr v3 (v5 >>> (v1 &&& 31))) (Nat.le_of_ble_eq_true rfl) (Nat.le_of_ble_eq_true rfl) (gh_r4 (Nat.le_of_ble_eq_true rfl)) (fun H9 L9 hp9 => gi_S C q1946 q505 q96 q506 mh_J16 np1 rfl hl.1.1 dJ4_charAt_18 rfl) h (gh_K0_b _ hk) (fun v6 g h => ?_) (fun e g h => ?_)
  rotate_left
  ·
    exact gh_out C (fun _ h => nomatch h) h hk
  refine gr_istore (pc := 21) (i := 4) (l' := [(4, .int v6), (3, va_rf (some a4)), (2, .int v1), (0, va_rf (some t0)), (1, .int p1)]) C hl (Nat.le_of_ble_eq_true rfl) rfl dJ4_charAt_21 fun ls hl => ?_
  refine gr_iload_n (pc := 23) (i := 1) C rfl (gl_at hl 4 rfl) dJ4_charAt_23 ?_
  refine gr_iload (pc := 24) (i := 4) C (gl_at hl 0 rfl) dJ4_charAt_24 ?_
  refine gh_callV (pc := 26) (rest := []) C (k_J6_checkIndex C.tr p1 v6) (Nat.le_of_ble_eq_true rfl) (Nat.le_of_ble_eq_true rfl) (gh_r4 (Nat.le_of_ble_eq_true rfl)) (fun H9 L9 hp9 => gi_S C q1947 q1847 q84 q1848 mh_J6 np30 rfl hl.1.1 dJ4_charAt_26 rfl) h (gh_K0_b _ hk) (fun g h => ?_) (fun e g h => ?_)
  rotate_left
  ·
    exact gh_out C (fun _ h => nomatch h) h hk
  refine gr_iload_n (pc := 29) (i := 2) C rfl (gl_at hl 2 rfl) dJ4_charAt_29 ?_
  refine gr_if_ne (pc := 30) (tgt := 42) C rfl dJ4_charAt_30 (fun c9 => ?_) (fun c9 => ?_)
  · replace h := gh_iff h c9
    exact gh_stk_inv h
  · replace h := gh_ift h c9
    refine gr_aload_n (pc := 33) (i := 3) C rfl (gl_at hl 1 rfl) dJ4_charAt_33 ?_
    refine gr_iload_n (pc := 34) (i := 1) C rfl (gl_at hl 4 rfl) dJ4_charAt_34 ?_
    refine gr_bald (pc := 35) C dJ4_charAt_35 h fun v8 h => ?_
    refine gr_sipush (pc := 36) (v := (255 : Int32)) C rfl dJ4_charAt_36 ?_
    refine gr_iand (pc := 39) C dJ4_charAt_39 ?_
    refine gr_i2c (pc := 40) (v := ((v8 &&& (255 : Int32)).toUInt32 % 65536).toInt32) C rfl dJ4_charAt_40 ?_
    exact gr_bret (pc := 41) C dJ4_charAt_41 h hk

theorem k_J4_charAt {l : Launch} (hst : l.stackTraces = false) (t0 : Nat) (p1 : Int32) : gh_Ct l yJ4_charAt 2 59 (f_J4_charAt t0 p1) gh_rI [va_rf (some t0), .int p1] := gh_intro2 (L1 := 43) hst (by decide +kernel) q1945 q82 rfl ⟨gh_cat _, rfl, trivial⟩ (Nat.le_of_ble_eq_true rfl) fun x o ls hl C h hk => w_J4_charAt C t0 p1 hl h hk
-- String.charAt(I)C
noncomputable def f_J6_charAt (t0 : Nat) (p1 : Int32) : gh_M Int32 :=
  gh_bd (gh_is t0 14) fun _ =>
  gh_bd (f_J6_isLatin1 t0) fun v1 =>
  if v1 = 0 then
  (gh_stk)
  else
  (gh_bd (gh_getr t0 14 0) fun v2 =>
  gh_bd (f_J18_charAt v2 p1) fun v3 =>
  gh_rz .char v3)
theorem w_J6_charAt {x : gh_C} {g : gh_G} {o : (Int32 ⊕ gh_X) × gh_G} {ls : Array Slot} (C : gh_K x cJ6_charAt "java/lang/String" 2 (some .char) "charAt" 3 64 []) (t0 : Nat) (p1 : Int32) (hl : gh_lv ls 2 [(0, va_rf (some t0)), (1, .int p1)]) (h : gh_run (f_J6_charAt t0 p1) g = some o) (hk : (gh_K0 x gh_rI) o) : gh_Wd x g (F0 (gh_cm x) 0 ls []) := by
  unfold f_J6_charAt at h
  refine gr_aload_n (pc := 0) (i := 0) C rfl (gl_at hl 0 rfl) dJ6_charAt_0 ?_
  obtain ⟨⟨fs9, hg9⟩, h⟩ := gh_is_inv h
  refine gh_callI (pc := 1) (rest := []) C (k_J6_isLatin1 C.tr t0) (Nat.le_of_ble_eq_true rfl) (Nat.le_of_ble_eq_true rfl) (gh_r4 (Nat.le_of_ble_eq_true rfl)) (fun H9 L9 hp9 => gi_V C hp9 hg9 gh_cJ6 q1142 q1143 q1144 q1145 mh_J6 np7 rfl hl.1.1 dJ6_charAt_1 rfl) h (gh_K0_b _ hk) (fun v1 g h => ?_) (fun e g h => ?_)
  rotate_left
  ·
    exact gh_out C (fun _ h => nomatch h) h hk
  refine gr_if_eq (pc := 4) (tgt := 16) C rfl dJ6_charAt_4 (fun c9 => ?_) (fun c9 => ?_)
  · replace h := gh_ift h c9
    exact gh_stk_inv h
  · replace h := gh_iff h c9
    refine gr_aload_n (pc := 7) (i := 0) C rfl (gl_at hl 0 rfl) dJ6_charAt_7 ?_
    refine gr_getr (pc := 8) C gh_bJ6 (k := 0) (Nat.le_of_ble_eq_true rfl) q699 (fun _ h => h) dJ6_charAt_8 h fun v2 h => ?_
    refine gr_iload_n (pc := 11) (i := 1) C rfl (gl_at hl 1 rfl) dJ6_charAt_11 ?_
    refine gh_callI (pc := 12) (rest := []) C (k_J18_charAt C.tr v2 p1) (Nat.le_of_ble_eq_true rfl) (Nat.le_of_ble_eq_true rfl) (gh_r4 (Nat.le_of_ble_eq_true rfl)) (fun H9 L9 hp9 => gi_S C q1921 q1922 q99 q1923 mh_J18 np35 rfl hl.1.1 dJ6_charAt_12 rfl) h (gh_K0_b _ hk) (fun v3 g h => ?_) (fun e g h => ?_)
    rotate_left
    ·
      exact gh_out C (fun _ h => nomatch h) h hk
    exact gr_bret (pc := 15) C dJ6_charAt_15 h hk

theorem k_J6_charAt {l : Launch} (hst : l.stackTraces = false) (t0 : Nat) (p1 : Int32) : gh_Ct l yJ6_charAt 3 77 (f_J6_charAt t0 p1) gh_rI [va_rf (some t0), .int p1] := gh_intro2 (L1 := 64) hst (by decide +kernel) q1920 q84 rfl ⟨gh_cat _, rfl, trivial⟩ (Nat.le_of_ble_eq_true rfl) fun x o ls hl C h hk => w_J6_charAt C t0 p1 hl h hk
-- StringBuilder.append(I)Ljava/lang/StringBuilder;
noncomputable def f_J5_append_2 (t0 : Nat) (p1 : Int32) : gh_M (Option Nat) :=
  gh_bd (gh_is t0 13) fun _ =>
  gh_bd (f_J4_append_2 t0 p1) fun v1 =>
  gh_ret (some t0)
theorem w_J5_append_2 {x : gh_C} {g : gh_G} {o : ((Option Nat) ⊕ gh_X) × gh_G} {ls : Array Slot} (C : gh_K x cJ5_append_2 "java/lang/StringBuilder" 2 (some (.object "java/lang/StringBuilder")) "append" 5 127 []) (t0 : Nat) (p1 : Int32) (hl : gh_lv ls 2 [(0, va_rf (some t0)), (1, .int p1)]) (h : gh_run (f_J5_append_2 t0 p1) g = some o) (hk : (gh_K0 x gh_rQ) o) : gh_Wd x g (F0 (gh_cm x) 0 ls []) := by
  unfold f_J5_append_2 at h
  refine gr_aload_n (pc := 0) (i := 0) C rfl (gl_at hl 0 rfl) dJ5_append_2_0 ?_
  refine gr_iload_n (pc := 1) (i := 1) C rfl (gl_at hl 1 rfl) dJ5_append_2_1 ?_
  obtain ⟨⟨fs9, hg9⟩, h⟩ := gh_is_inv h
  refine gh_callQ (pc := 2) (rest := []) C (k_J4_append_2 C.tr t0 p1) (Nat.le_of_ble_eq_true rfl) (Nat.le_of_ble_eq_true rfl) (gh_r4 (Nat.le_of_ble_eq_true rfl)) (fun H9 L9 hp9 => gi_SU C hp9 hg9 gh_cJ5 q588 q2723 q269 q589 q590 (by decide) np36 rfl hl.1.1 dJ5_append_2_2 rfl) h (gh_K0_b _ hk) (fun v1 g h => ?_) (fun e g h => ?_)
  rotate_left
  ·
    exact gh_out C (fun _ h => nomatch h) h hk
  refine gr_pop (pc := 5) C (gh_cat _) dJ5_append_2_5 ?_
  refine gr_aload_n (pc := 6) (i := 0) C rfl (gl_at hl 0 rfl) dJ5_append_2_6 ?_
  exact gr_aret (pc := 7) C (Or.inl ⟨_, rfl⟩) dJ5_append_2_7 h hk

theorem k_J5_append_2 {l : Launch} (hst : l.stackTraces = false) (t0 : Nat) (p1 : Int32) : gh_Ct l yJ5_append_2 5 140 (f_J5_append_2 t0 p1) gh_rQ [va_rf (some t0), .int p1] := gh_intro2 (L1 := 127) hst (by decide +kernel) q587 q83 rfl ⟨gh_cat _, rfl, trivial⟩ (Nat.le_of_ble_eq_true rfl) fun x o ls hl C h hk => w_J5_append_2 C t0 p1 hl h hk
-- StringBuilder.append(C)Ljava/lang/StringBuilder;
noncomputable def f_J5_append_4 (t0 : Nat) (p1 : Int32) : gh_M (Option Nat) :=
  gh_bd (gh_is t0 13) fun _ =>
  gh_bd (f_J4_append_3 t0 p1) fun v1 =>
  gh_ret (some t0)
theorem w_J5_append_4 {x : gh_C} {g : gh_G} {o : ((Option Nat) ⊕ gh_X) × gh_G} {ls : Array Slot} (C : gh_K x cJ5_append_4 "java/lang/StringBuilder" 2 (some (.object "java/lang/StringBuilder")) "append" 5 125 []) (t0 : Nat) (p1 : Int32) (hl : gh_lv ls 2 [(0, va_rf (some t0)), (1, .int p1)]) (h : gh_run (f_J5_append_4 t0 p1) g = some o) (hk : (gh_K0 x gh_rQ) o) : gh_Wd x g (F0 (gh_cm x) 0 ls []) := by
  unfold f_J5_append_4 at h
  refine gr_aload_n (pc := 0) (i := 0) C rfl (gl_at hl 0 rfl) dJ5_append_4_0 ?_
  refine gr_iload_n (pc := 1) (i := 1) C rfl (gl_at hl 1 rfl) dJ5_append_4_1 ?_
  obtain ⟨⟨fs9, hg9⟩, h⟩ := gh_is_inv h
  refine gh_callQ (pc := 2) (rest := []) C (k_J4_append_3 C.tr t0 p1) (Nat.le_of_ble_eq_true rfl) (Nat.le_of_ble_eq_true rfl) (gh_r4 (Nat.le_of_ble_eq_true rfl)) (fun H9 L9 hp9 => gi_SU C hp9 hg9 gh_cJ5 q1834 q2731 q269 q1835 q1836 (by decide) np37 rfl hl.1.1 dJ5_append_4_2 rfl) h (gh_K0_b _ hk) (fun v1 g h => ?_) (fun e g h => ?_)
  rotate_left
  ·
    exact gh_out C (fun _ h => nomatch h) h hk
  refine gr_pop (pc := 5) C (gh_cat _) dJ5_append_4_5 ?_
  refine gr_aload_n (pc := 6) (i := 0) C rfl (gl_at hl 0 rfl) dJ5_append_4_6 ?_
  exact gr_aret (pc := 7) C (Or.inl ⟨_, rfl⟩) dJ5_append_4_7 h hk

theorem k_J5_append_4 {l : Launch} (hst : l.stackTraces = false) (t0 : Nat) (p1 : Int32) : gh_Ct l yJ5_append_4 5 138 (f_J5_append_4 t0 p1) gh_rQ [va_rf (some t0), .int p1] := gh_intro2 (L1 := 125) hst (by decide +kernel) q1833 q83 rfl ⟨gh_cat _, rfl, trivial⟩ (Nat.le_of_ble_eq_true rfl) fun x o ls hl C h hk => w_J5_append_4 C t0 p1 hl h hk
-- StringBuilder.charAt(I)C
noncomputable def f_J5_charAt (t0 : Nat) (p1 : Int32) : gh_M Int32 :=
  gh_bd (gh_is t0 13) fun _ =>
  gh_bd (f_J4_charAt t0 p1) fun v1 =>
  gh_rz .char v1
theorem w_J5_charAt {x : gh_C} {g : gh_G} {o : (Int32 ⊕ gh_X) × gh_G} {ls : Array Slot} (C : gh_K x cJ5_charAt "java/lang/StringBuilder" 2 (some .char) "charAt" 3 67 []) (t0 : Nat) (p1 : Int32) (hl : gh_lv ls 2 [(0, va_rf (some t0)), (1, .int p1)]) (h : gh_run (f_J5_charAt t0 p1) g = some o) (hk : (gh_K0 x gh_rI) o) : gh_Wd x g (F0 (gh_cm x) 0 ls []) := by
  unfold f_J5_charAt at h
  refine gr_aload_n (pc := 0) (i := 0) C rfl (gl_at hl 0 rfl) dJ5_charAt_0 ?_
  refine gr_iload_n (pc := 1) (i := 1) C rfl (gl_at hl 1 rfl) dJ5_charAt_1 ?_
  obtain ⟨⟨fs9, hg9⟩, h⟩ := gh_is_inv h
  refine gh_callI (pc := 2) (rest := []) C (k_J4_charAt C.tr t0 p1) (Nat.le_of_ble_eq_true rfl) (Nat.le_of_ble_eq_true rfl) (gh_r4 (Nat.le_of_ble_eq_true rfl)) (fun H9 L9 hp9 => gi_SU C hp9 hg9 gh_cJ5 q1943 q2735 q269 q1944 q1945 (by decide) np38 rfl hl.1.1 dJ5_charAt_2 rfl) h (gh_K0_b _ hk) (fun v1 g h => ?_) (fun e g h => ?_)
  rotate_left
  ·
    exact gh_out C (fun _ h => nomatch h) h hk
  exact gr_bret (pc := 5) C dJ5_charAt_5 h hk

theorem k_J5_charAt {l : Launch} (hst : l.stackTraces = false) (t0 : Nat) (p1 : Int32) : gh_Ct l yJ5_charAt 3 80 (f_J5_charAt t0 p1) gh_rI [va_rf (some t0), .int p1] := gh_intro2 (L1 := 67) hst (by decide +kernel) q1942 q83 rfl ⟨gh_cat _, rfl, trivial⟩ (Nat.le_of_ble_eq_true rfl) fun x o ls hl C h hk => w_J5_charAt C t0 p1 hl h hk
-- AbstractStringBuilder.putStringAt(ILjava/lang/String;)V
noncomputable def f_J4_putStringAt (t0 : Nat) (p1 : Int32) (p2 : Option Nat) : gh_M Unit :=
  gh_bd (gh_is t0 13) fun _ =>
  gh_bd (f_J4_inflateIfNeededFor t0 p2) fun _ =>
  gh_bd (gh_getr t0 13 0) fun v2 =>
  gh_bd (gh_geti t0 13 1) fun v3 =>
  gh_nn p2 fun a4 =>
  gh_bd (gh_is a4 14) fun _ =>
  gh_bd (f_J6_getBytes a4 v2 p1 v3) fun _ =>
  gh_ret ()
theorem w_J4_putStringAt {x : gh_C} {g : gh_G} {o : (Unit ⊕ gh_X) × gh_G} {ls : Array Slot} (C : gh_K x cJ4_putStringAt "java/lang/AbstractStringBuilder" 3 none "putStringAt" 2 83 []) (t0 : Nat) (p1 : Int32) (p2 : Option Nat) (hl : gh_lv ls 3 [(0, va_rf (some t0)), (1, .int p1), (2, va_rf p2)]) (h : gh_run (f_J4_putStringAt t0 p1 p2) g = some o) (hk : (gh_K0 x gh_rV) o) : gh_Wd x g (F0 (gh_cm x) 0 ls []) := by
  unfold f_J4_putStringAt at h
  refine gr_aload_n (pc := 0) (i := 0) C rfl (gl_at hl 0 rfl) dJ4_putStringAt_0 ?_
  refine gr_aload_n (pc := 1) (i := 2) C rfl (gl_at hl 2 rfl) dJ4_putStringAt_1 ?_
  obtain ⟨⟨fs9, hg9⟩, h⟩ := gh_is_inv h
  refine gh_callV (pc := 2) (rest := []) C (k_J4_inflateIfNeededFor C.tr t0 p2) (Nat.le_of_ble_eq_true rfl) (Nat.le_of_ble_eq_true rfl) (gh_r4 (Nat.le_of_ble_eq_true rfl)) (fun H9 L9 hp9 => gi_P C hp9 hg9 gh_cJ5 q554 q556 q2721 q555 q557 mh_J4 np39 rfl hl.1.1 dJ4_putStringAt_2 rfl) h (gh_K0_b _ hk) (fun g h => ?_) (fun e g h => ?_)
  rotate_left
  ·
    exact gh_out C (fun _ h => nomatch h) h hk
  refine gr_aload_n (pc := 5) (i := 2) C rfl (gl_at hl 2 rfl) dJ4_putStringAt_5 ?_
  refine gr_aload_n (pc := 6) (i := 0) C rfl (gl_at hl 0 rfl) dJ4_putStringAt_6 ?_
  refine gr_getr (pc := 7) C gh_bJ5 (k := 0) (Nat.le_of_ble_eq_true rfl) q256 (fun _ h => h) dJ4_putStringAt_7 h fun v2 h => ?_
  refine gr_iload_n (pc := 10) (i := 1) C rfl (gl_at hl 1 rfl) dJ4_putStringAt_10 ?_
  refine gr_aload_n (pc := 11) (i := 0) C rfl (gl_at hl 0 rfl) dJ4_putStringAt_11 ?_
  refine gr_geti (pc := 12) C gh_bJ5 (k := 1) (Nat.le_of_ble_eq_true rfl) q257 (fun _ h => h) dJ4_putStringAt_12 h fun v3 h => ?_
  rcases p2 with _ | a4
  · exact gh_stk_inv h
  replace h := gh_nn_ss h
  obtain ⟨⟨fs9, hg9⟩, h⟩ := gh_is_inv h
  refine gh_callV (pc := 15) (rest := []) C (k_J6_getBytes C.tr a4 v2 p1 v3) (Nat.le_of_ble_eq_true rfl) (Nat.le_of_ble_eq_true rfl) (gh_r4 (Nat.le_of_ble_eq_true rfl)) (fun H9 L9 hp9 => gi_V C hp9 hg9 gh_cJ6 q578 q579 q580 q581 mh_J6 np34 rfl hl.1.1 dJ4_putStringAt_15 rfl) h (gh_K0_b _ hk) (fun g h => ?_) (fun e g h => ?_)
  rotate_left
  ·
    exact gh_out C (fun _ h => nomatch h) h hk
  exact gr_vret (pc := 18) C dJ4_putStringAt_18 h hk

theorem k_J4_putStringAt {l : Launch} (hst : l.stackTraces = false) (t0 : Nat) (p1 : Int32) (p2 : Option Nat) : gh_Ct l yJ4_putStringAt 2 97 (f_J4_putStringAt t0 p1 p2) gh_rV [va_rf (some t0), .int p1, va_rf p2] := gh_intro2 (L1 := 83) hst (by decide +kernel) q553 q82 rfl ⟨gh_cat _, rfl, gh_cat _, trivial⟩ (Nat.le_of_ble_eq_true rfl) fun x o ls hl C h hk => w_J4_putStringAt C t0 p1 p2 hl h hk
-- AbstractStringBuilder.append(Ljava/lang/String;)Ljava/lang/AbstractStringBuilder;
noncomputable def f_J4_append (t0 : Nat) (p1 : Option Nat) : gh_M (Option Nat) :=
  gh_on p1
  (gh_stk)
  (fun b1 => gh_bd (gh_is b1 14) fun _ =>
  gh_bd (f_J6_length b1) fun v2 =>
  gh_bd (gh_geti t0 13 3) fun v3 =>
  gh_bd (gh_is t0 13) fun _ =>
  gh_bd (f_J4_ensureCapacityInternal t0 (v3 + v2)) fun _ =>
  gh_bd (gh_geti t0 13 3) fun v5 =>
  gh_bd (gh_is t0 13) fun _ =>
  gh_bd (f_J4_putStringAt t0 v5 (some b1)) fun _ =>
  gh_bd (gh_geti t0 13 3) fun v7 =>
  gh_bd (gh_putv t0 13 3 .int (.int (v7 + v2))) fun _ =>
  gh_ret (some t0))
theorem w_J4_append {x : gh_C} {g : gh_G} {o : ((Option Nat) ⊕ gh_X) × gh_G} {ls : Array Slot} (C : gh_K x cJ4_append "java/lang/AbstractStringBuilder" 3 (some (.object "java/lang/AbstractStringBuilder")) "append" 4 105 []) (t0 : Nat) (p1 : Option Nat) (hl : gh_lv ls 3 [(0, va_rf (some t0)), (1, va_rf p1)]) (h : gh_run (f_J4_append t0 p1) g = some o) (hk : (gh_K0 x gh_rQ) o) : gh_Wd x g (F0 (gh_cm x) 0 ls []) := by
  unfold f_J4_append at h
  refine gr_aload_n (pc := 0) (i := 1) C rfl (gl_at hl 1 rfl) dJ4_append_0 ?_
  refine gr_ifnonnull (pc := 1) (tgt := 9) C rfl dJ4_append_1 (fun b1 c9 => ?_) (fun c9 => ?_)
  · subst c9
    replace h := gh_on_s h
    refine gr_aload_n (pc := 9) (i := 1) C rfl (gl_at hl 1 rfl) dJ4_append_9 ?_
    obtain ⟨⟨fs9, hg9⟩, h⟩ := gh_is_inv h
    refine gh_callI (pc := 10) (rest := []) C (k_J6_length C.tr b1) (Nat.le_of_ble_eq_true rfl) (Nat.le_of_ble_eq_true rfl) (gh_r4 (Nat.le_of_ble_eq_true rfl)) (fun H9 L9 hp9 => gi_V C hp9 hg9 gh_cJ6 q541 q542 q543 q544 mh_J6 np0 rfl hl.1.1 dJ4_append_10 rfl) h (gh_K0_b _ hk) (fun v2 g h => ?_) (fun e g h => ?_)
    rotate_left
    ·
      exact gh_out C (fun _ h => nomatch h) h hk
    refine gr_istore_n (pc := 13) (i := 2) (l' := [(2, .int v2), (0, va_rf (some t0)), (1, va_rf (some b1))]) C rfl hl (Nat.le_of_ble_eq_true rfl) rfl dJ4_append_13 fun ls hl => ?_
    refine gr_aload_n (pc := 14) (i := 0) C rfl (gl_at hl 1 rfl) dJ4_append_14 ?_
    refine gr_aload_n (pc := 15) (i := 0) C rfl (gl_at hl 1 rfl) dJ4_append_15 ?_
    refine gr_geti (pc := 16) C gh_bJ5 (k := 3) (Nat.le_of_ble_eq_true rfl) q260 (fun _ h => h) dJ4_append_16 h fun v3 h => ?_
    refine gr_iload_n (pc := 19) (i := 2) C rfl (gl_at hl 0 rfl) dJ4_append_19 ?_
    refine gr_iadd (pc := 20) C dJ4_append_20 ?_
    obtain ⟨⟨fs9, hg9⟩, h⟩ := gh_is_inv h
    refine gh_callV (pc := 21) (rest := []) C (k_J4_ensureCapacityInternal C.tr t0 (v3 + v2)) (Nat.le_of_ble_eq_true rfl) (Nat.le_of_ble_eq_true rfl) (gh_r4 (Nat.le_of_ble_eq_true rfl)) (fun H9 L9 hp9 => gi_P C hp9 hg9 gh_cJ5 q475 q477 q2718 q476 q478 mh_J4 np4 rfl hl.1.1 dJ4_append_21 rfl) h (gh_K0_b _ hk) (fun g h => ?_) (fun e g h => ?_)
    rotate_left
    ·
      exact gh_out C (fun _ h => nomatch h) h hk
    refine gr_aload_n (pc := 24) (i := 0) C rfl (gl_at hl 1 rfl) dJ4_append_24 ?_
    refine gr_aload_n (pc := 25) (i := 0) C rfl (gl_at hl 1 rfl) dJ4_append_25 ?_
    refine gr_geti (pc := 26) C gh_bJ5 (k := 3) (Nat.le_of_ble_eq_true rfl) q260 (fun _ h => h) dJ4_append_26 h fun v5 h => ?_
    refine gr_aload_n (pc := 29) (i := 1) C rfl (gl_at hl 2 rfl) dJ4_append_29 ?_
    obtain ⟨⟨fs9, hg9⟩, h⟩ := gh_is_inv h
    refine gh_callV (pc := 30) (rest := []) C (k_J4_putStringAt C.tr t0 v5 (some b1)) (Nat.le_of_ble_eq_true rfl) (Nat.le_of_ble_eq_true rfl) (gh_r4 (Nat.le_of_ble_eq_true rfl)) (fun H9 L9 hp9 => gi_P C hp9 hg9 gh_cJ5 q550 q552 q2720 q551 q553 mh_J4 np40 rfl hl.1.1 dJ4_append_30 rfl) h (gh_K0_b _ hk) (fun g h => ?_) (fun e g h => ?_)
    rotate_left
    ·
      exact gh_out C (fun _ h => nomatch h) h hk
    refine gr_aload_n (pc := 33) (i := 0) C rfl (gl_at hl 1 rfl) dJ4_append_33 ?_
    refine gr_dup (pc := 34) C (gh_cat _) dJ4_append_34 ?_
    refine gr_geti (pc := 35) C gh_bJ5 (k := 3) (Nat.le_of_ble_eq_true rfl) q260 (fun _ h => h) dJ4_append_35 h fun v7 h => ?_
    refine gr_iload_n (pc := 38) (i := 2) C rfl (gl_at hl 0 rfl) dJ4_append_38 ?_
    refine gr_iadd (pc := 39) C dJ4_append_39 ?_
    refine gr_putp (pc := 40) C gh_bJ5 (k := 3) (Nat.le_of_ble_eq_true rfl) q260 (fun _ h => h) rfl dJ4_append_40 h fun g h => ?_
    refine gr_aload_n (pc := 43) (i := 0) C rfl (gl_at hl 1 rfl) dJ4_append_43 ?_
    exact gr_aret (pc := 44) C (Or.inl ⟨_, rfl⟩) dJ4_append_44 h hk
  · subst c9
    replace h := gh_on_n h
    exact gh_stk_inv h

theorem k_J4_append {l : Launch} (hst : l.stackTraces = false) (t0 : Nat) (p1 : Option Nat) : gh_Ct l yJ4_append 4 119 (f_J4_append t0 p1) gh_rQ [va_rf (some t0), va_rf p1] := gh_intro2 (L1 := 105) hst (by decide +kernel) q470 q82 rfl ⟨gh_cat _, gh_cat _, trivial⟩ (Nat.le_of_ble_eq_true rfl) fun x o ls hl C h hk => w_J4_append C t0 p1 hl h hk
-- StringBuilder.append(Ljava/lang/String;)Ljava/lang/StringBuilder;
noncomputable def f_J5_append (t0 : Nat) (p1 : Option Nat) : gh_M (Option Nat) :=
  gh_bd (gh_is t0 13) fun _ =>
  gh_bd (f_J4_append t0 p1) fun v1 =>
  gh_ret (some t0)
theorem w_J5_append {x : gh_C} {g : gh_G} {o : ((Option Nat) ⊕ gh_X) × gh_G} {ls : Array Slot} (C : gh_K x cJ5_append "java/lang/StringBuilder" 2 (some (.object "java/lang/StringBuilder")) "append" 5 127 []) (t0 : Nat) (p1 : Option Nat) (hl : gh_lv ls 2 [(0, va_rf (some t0)), (1, va_rf p1)]) (h : gh_run (f_J5_append t0 p1) g = some o) (hk : (gh_K0 x gh_rQ) o) : gh_Wd x g (F0 (gh_cm x) 0 ls []) := by
  unfold f_J5_append at h
  refine gr_aload_n (pc := 0) (i := 0) C rfl (gl_at hl 0 rfl) dJ5_append_0 ?_
  refine gr_aload_n (pc := 1) (i := 1) C rfl (gl_at hl 1 rfl) dJ5_append_1 ?_
  obtain ⟨⟨fs9, hg9⟩, h⟩ := gh_is_inv h
  refine gh_callQ (pc := 2) (rest := []) C (k_J4_append C.tr t0 p1) (Nat.le_of_ble_eq_true rfl) (Nat.le_of_ble_eq_true rfl) (gh_r4 (Nat.le_of_ble_eq_true rfl)) (fun H9 L9 hp9 => gi_SU C hp9 hg9 gh_cJ5 q468 q2716 q269 q469 q470 (by decide) np41 rfl hl.1.1 dJ5_append_2 rfl) h (gh_K0_b _ hk) (fun v1 g h => ?_) (fun e g h => ?_)
  rotate_left
  ·
    exact gh_out C (fun _ h => nomatch h) h hk
  refine gr_pop (pc := 5) C (gh_cat _) dJ5_append_5 ?_
  refine gr_aload_n (pc := 6) (i := 0) C rfl (gl_at hl 0 rfl) dJ5_append_6 ?_
  exact gr_aret (pc := 7) C (Or.inl ⟨_, rfl⟩) dJ5_append_7 h hk

theorem k_J5_append {l : Launch} (hst : l.stackTraces = false) (t0 : Nat) (p1 : Option Nat) : gh_Ct l yJ5_append 5 140 (f_J5_append t0 p1) gh_rQ [va_rf (some t0), va_rf p1] := gh_intro2 (L1 := 127) hst (by decide +kernel) q467 q83 rfl ⟨gh_cat _, gh_cat _, trivial⟩ (Nat.le_of_ble_eq_true rfl) fun x o ls hl C h hk => w_J5_append C t0 p1 hl h hk
-- StringBuilder.append(Ljava/lang/String;)Ljava/lang/AbstractStringBuilder;
noncomputable def f_J5_append_3 (t0 : Nat) (p1 : Option Nat) : gh_M (Option Nat) :=
  gh_bd (gh_is t0 13) fun _ =>
  gh_bd (f_J5_append t0 p1) fun v1 =>
  gh_ret v1
theorem w_J5_append_3 {x : gh_C} {g : gh_G} {o : ((Option Nat) ⊕ gh_X) × gh_G} {ls : Array Slot} (C : gh_K x cJ5_append_3 "java/lang/StringBuilder" 2 (some (.object "java/lang/AbstractStringBuilder")) "append" 6 148 []) (t0 : Nat) (p1 : Option Nat) (hl : gh_lv ls 2 [(0, va_rf (some t0)), (1, va_rf p1)]) (h : gh_run (f_J5_append_3 t0 p1) g = some o) (hk : (gh_K0 x gh_rQ) o) : gh_Wd x g (F0 (gh_cm x) 0 ls []) := by
  unfold f_J5_append_3 at h
  refine gr_aload_n (pc := 0) (i := 0) C rfl (gl_at hl 0 rfl) dJ5_append_3_0 ?_
  refine gr_aload_n (pc := 1) (i := 1) C rfl (gl_at hl 1 rfl) dJ5_append_3_1 ?_
  obtain ⟨⟨fs9, hg9⟩, h⟩ := gh_is_inv h
  refine gh_callQ (pc := 2) (rest := []) C (k_J5_append C.tr t0 p1) (Nat.le_of_ble_eq_true rfl) (Nat.le_of_ble_eq_true rfl) (gh_r4 (Nat.le_of_ble_eq_true rfl)) (fun H9 L9 hp9 => gi_V C hp9 hg9 gh_cJ5 q1828 q465 q466 q467 mh_J5 np42 rfl hl.1.1 dJ5_append_3_2 rfl) h (gh_K0_b _ hk) (fun v1 g h => ?_) (fun e g h => ?_)
  rotate_left
  ·
    exact gh_out C (fun _ h => nomatch h) h hk
  exact gr_aret (pc := 5) C (Or.inl ⟨_, rfl⟩) dJ5_append_3_5 h hk

theorem k_J5_append_3 {l : Launch} (hst : l.stackTraces = false) (t0 : Nat) (p1 : Option Nat) : gh_Ct l yJ5_append_3 6 161 (f_J5_append_3 t0 p1) gh_rQ [va_rf (some t0), va_rf p1] := gh_intro2 (L1 := 148) hst (by decide +kernel) q1827 q83 rfl ⟨gh_cat _, gh_cat _, trivial⟩ (Nat.le_of_ble_eq_true rfl) fun x o ls hl C h hk => w_J5_append_3 C t0 p1 hl h hk
-- AbstractStringBuilder.append(Ljava/lang/CharSequence;)Ljava/lang/AbstractStringBuilder;
noncomputable def f_J4_append_4 (t0 : Nat) (p1 : Option Nat) : gh_M (Option Nat) :=
  gh_on p1
  (gh_stk)
  (fun b1 => gh_bd (gh_cls b1) fun k2 =>
  if k2 = 14 then (gh_bd (gh_is b1 14) fun _ =>
  gh_bd (gh_is t0 13) fun _ =>
  gh_bd (f_J5_append_3 t0 (some b1)) fun v3 =>
  gh_ret v3) else if k2 = 13 then (gh_bd (gh_cls b1) fun k4 =>
  if k4 = 13 then (gh_bd (gh_is b1 13) fun _ =>
  gh_bd (gh_is t0 13) fun _ =>
  gh_bd (f_J4_append_5 t0 (some b1)) fun v5 =>
  gh_ret v5) else gh_stk) else gh_stk)
theorem w_J4_append_4 {x : gh_C} {g : gh_G} {o : ((Option Nat) ⊕ gh_X) × gh_G} {ls : Array Slot} (C : gh_K x cJ4_append_4 "java/lang/AbstractStringBuilder" 2 (some (.object "java/lang/AbstractStringBuilder")) "append" 7 169 []) (t0 : Nat) (p1 : Option Nat) (hl : gh_lv ls 2 [(0, va_rf (some t0)), (1, va_rf p1)]) (h : gh_run (f_J4_append_4 t0 p1) g = some o) (hk : (gh_K0 x gh_rQ) o) : gh_Wd x g (F0 (gh_cm x) 0 ls []) := by
  unfold f_J4_append_4 at h
  refine gr_aload_n (pc := 0) (i := 1) C rfl (gl_at hl 1 rfl) dJ4_append_4_0 ?_
  refine gr_ifnonnull (pc := 1) (tgt := 9) C rfl dJ4_append_4_1 (fun b1 c9 => ?_) (fun c9 => ?_)
  · subst c9
    replace h := gh_on_s h
    refine gr_aload_n (pc := 9) (i := 1) C rfl (gl_at hl 1 rfl) dJ4_append_4_9 ?_
    obtain ⟨k2, fs9, hg9, h⟩ := gh_cls_inv h
    by_cases c7 : k2 = 14
    · replace h := gh_ift h c7
      subst c7
      refine gr_instY (pc := 10) C gh_cJ6 q1857 (Or.inl rfl) dJ4_append_4_10 hg9 ?_
      refine gr_if_eq (pc := 13) (tgt := 25) C rfl dJ4_append_4_13 (fun c9 => absurd c9 (by decide)) (fun c9 => ?_)
      refine gr_aload_n (pc := 16) (i := 0) C rfl (gl_at hl 0 rfl) dJ4_append_4_16 ?_
      refine gr_aload_n (pc := 17) (i := 1) C rfl (gl_at hl 1 rfl) dJ4_append_4_17 ?_
      obtain ⟨⟨fs9, hg9⟩, h⟩ := gh_is_inv h
      refine gr_castY (pc := 18) C gh_cJ6 q1857 (Or.inl rfl) dJ4_append_4_18 hg9 ?_
      obtain ⟨⟨fs9, hg9⟩, h⟩ := gh_is_inv h
      refine gh_callQ (pc := 21) (rest := []) C (k_J5_append_3 C.tr t0 (some b1)) (Nat.le_of_ble_eq_true rfl) (Nat.le_of_ble_eq_true rfl) (gh_r4 (Nat.le_of_ble_eq_true rfl)) (fun H9 L9 hp9 => gi_U C hp9 hg9 gh_cJ5 q1825 q2716 (va_Decl.of (C.ts _ q469) (C.ts _ q470)) mh_J4 q1826 q2730 q1827 np41 rfl hl.1.1 dJ4_append_4_21 rfl) h (gh_K0_b _ hk) (fun v3 g h => ?_) (fun e g h => ?_)
      rotate_left
      ·
        exact gh_out C (fun _ h => nomatch h) h hk
      exact gr_aret (pc := 24) C (Or.inl ⟨_, rfl⟩) dJ4_append_4_24 h hk
    replace h := gh_iff h c7
    by_cases c7 : k2 = 13
    · replace h := gh_ift h c7
      subst c7
      refine gr_instNo (pc := 10) C gh_cJ5 q1857 (by decide +kernel) dJ4_append_4_10 hg9 ?_
      refine gr_if_eq (pc := 13) (tgt := 25) C rfl dJ4_append_4_13 (fun c9 => ?_) (fun c9 => absurd c9 (by decide))
      refine gr_aload_n (pc := 25) (i := 1) C rfl (gl_at hl 1 rfl) dJ4_append_4_25 ?_
      obtain ⟨k4, fs9, hg9, h⟩ := gh_cls_inv h
      by_cases c7 : k4 = 13
      · replace h := gh_ift h c7
        subst c7
        refine gr_instY (pc := 26) C gh_cJ5 q1858 (Or.inr q2742) dJ4_append_4_26 hg9 ?_
        refine gr_if_eq (pc := 29) (tgt := 41) C rfl dJ4_append_4_29 (fun c9 => absurd c9 (by decide)) (fun c9 => ?_)
        refine gr_aload_n (pc := 32) (i := 0) C rfl (gl_at hl 0 rfl) dJ4_append_4_32 ?_
        refine gr_aload_n (pc := 33) (i := 1) C rfl (gl_at hl 1 rfl) dJ4_append_4_33 ?_
        obtain ⟨⟨fs9, hg9⟩, h⟩ := gh_is_inv h
        refine gr_castY (pc := 34) C gh_cJ5 q1858 (Or.inr q2742) dJ4_append_4_34 hg9 ?_
        obtain ⟨⟨fs9, hg9⟩, h⟩ := gh_is_inv h
        refine gh_callQ (pc := 37) (rest := []) C (k_J4_append_5 C.tr t0 (some b1)) (Nat.le_of_ble_eq_true rfl) (Nat.le_of_ble_eq_true rfl) (gh_r4 (Nat.le_of_ble_eq_true rfl)) (fun H9 L9 hp9 => gi_V C hp9 hg9 gh_cJ5 q1859 q1860 q1862 q1863 mh_J4 np43 rfl hl.1.1 dJ4_append_4_37 rfl) h (gh_K0_b _ hk) (fun v5 g h => ?_) (fun e g h => ?_)
        rotate_left
        ·
          exact gh_out C (fun _ h => nomatch h) h hk
        exact gr_aret (pc := 40) C (Or.inl ⟨_, rfl⟩) dJ4_append_4_40 h hk
      replace h := gh_iff h c7
      exact gh_stk_inv h
    replace h := gh_iff h c7
    exact gh_stk_inv h
  · subst c9
    replace h := gh_on_n h
    exact gh_stk_inv h

theorem k_J4_append_4 {l : Launch} (hst : l.stackTraces = false) (t0 : Nat) (p1 : Option Nat) : gh_Ct l yJ4_append_4 7 182 (f_J4_append_4 t0 p1) gh_rQ [va_rf (some t0), va_rf p1] := gh_intro2 (L1 := 169) hst (by decide +kernel) q1856 q82 rfl ⟨gh_cat _, gh_cat _, trivial⟩ (Nat.le_of_ble_eq_true rfl) fun x o ls hl C h hk => w_J4_append_4 C t0 p1 hl h hk
-- AbstractStringBuilder.<init>(Ljava/lang/String;)V
noncomputable def f_J4_init_2 (t0 : Nat) (p1 : Option Nat) : gh_M Unit :=
  gh_nn p1 fun a1 =>
  gh_bd (gh_is a1 14) fun _ =>
  gh_bd (f_J6_length a1) fun v2 =>
  if (2147483631 : Int32) ≤ v2 then
  (gh_stk)
  else
  (gh_bd (gh_is a1 14) fun _ =>
  gh_bd (f_J6_coder a1) fun v3 =>
  gh_bd (gh_putv t0 13 1 .byte (.int v3)) fun _ =>
  if v3 = 0 then
  (gh_bd (gh_newa 4 (v2 + (16 : Int32))) fun a4 =>
  gh_bd (gh_putv t0 13 0 (.array .byte) (va_rf (some a4))) fun _ =>
  gh_bd (gh_is t0 13) fun _ =>
  gh_bd (f_J5_append_3 t0 (some a1)) fun v5 =>
  gh_ret ())
  else
  (gh_stk))
theorem w_J4_init_2 {x : gh_C} {g : gh_G} {o : (Unit ⊕ gh_X) × gh_G} {ls : Array Slot} (C : gh_K x cJ4_init_2 "java/lang/AbstractStringBuilder" 5 none "<init>" 7 169 []) (t0 : Nat) (p1 : Option Nat) (hl : gh_lv ls 5 [(0, va_rf (some t0)), (1, va_rf p1)]) (h : gh_run (f_J4_init_2 t0 p1) g = some o) (hk : (gh_K0 x gh_rV) o) : gh_Wd x g (F0 (gh_cm x) 0 ls []) := by
  unfold f_J4_init_2 at h
  refine gr_aload_n (pc := 0) (i := 0) C rfl (gl_at hl 0 rfl) dJ4_init_2_0 ?_
  refine gr_oinit (pc := 1) C q246 q130 q131 hl.1.1 (Nat.le_of_ble_eq_true rfl) (Nat.le_of_ble_eq_true rfl) (Nat.le_of_ble_eq_true rfl) dJ4_init_2_1 ?_
  refine gr_aload_n (pc := 4) (i := 1) C rfl (gl_at hl 1 rfl) dJ4_init_2_4 ?_
  rcases p1 with _ | a1
  · exact gh_stk_inv h
  replace h := gh_nn_ss h
  obtain ⟨⟨fs9, hg9⟩, h⟩ := gh_is_inv h
  refine gh_callI (pc := 5) (rest := []) C (k_J6_length C.tr a1) (Nat.le_of_ble_eq_true rfl) (Nat.le_of_ble_eq_true rfl) (gh_r4 (Nat.le_of_ble_eq_true rfl)) (fun H9 L9 hp9 => gi_V C hp9 hg9 gh_cJ6 q541 q542 q543 q544 mh_J6 np0 rfl hl.1.1 dJ4_init_2_5 rfl) h (gh_K0_b _ hk) (fun v2 g h => ?_) (fun e g h => ?_)
  rotate_left
  ·
    exact gh_out C (fun _ h => nomatch h) h hk
  refine gr_istore_n (pc := 8) (i := 2) (l' := [(2, .int v2), (0, va_rf (some t0)), (1, va_rf (some a1))]) C rfl hl (Nat.le_of_ble_eq_true rfl) rfl dJ4_init_2_8 fun ls hl => ?_
  refine gr_iload_n (pc := 9) (i := 2) C rfl (gl_at hl 0 rfl) dJ4_init_2_9 ?_
  refine gr_ldc (pc := 10) (v := (2147483631 : Int32)) C q1824 dJ4_init_2_10 ?_
  refine gr_icmp_ge (pc := 12) (tgt := 22) C rfl dJ4_init_2_12 (fun c9 => ?_) (fun c9 => ?_)
  · replace h := gh_ift h c9
    exact gh_stk_inv h
  · replace h := gh_iff h c9
    refine gr_iload_n (pc := 15) (i := 2) C rfl (gl_at hl 0 rfl) dJ4_init_2_15 ?_
    refine gr_bipush (pc := 16) (v := (16 : Int32)) C rfl dJ4_init_2_16 ?_
    refine gr_iadd (pc := 18) C dJ4_init_2_18 ?_
    refine gr_goto (pc := 19) (tgt := 24) C rfl dJ4_init_2_19 ?_
    refine gr_istore_n (pc := 24) (i := 3) (l' := [(3, .int (v2 + (16 : Int32))), (2, .int v2), (0, va_rf (some t0)), (1, va_rf (some a1))]) C rfl hl (Nat.le_of_ble_eq_true rfl) rfl dJ4_init_2_24 fun ls hl => ?_
    refine gr_aload_n (pc := 25) (i := 1) C rfl (gl_at hl 3 rfl) dJ4_init_2_25 ?_
    obtain ⟨⟨fs9, hg9⟩, h⟩ := gh_is_inv h
    refine gh_callI (pc := 26) (rest := []) C (k_J6_coder C.tr a1) (Nat.le_of_ble_eq_true rfl) (Nat.le_of_ble_eq_true rfl) (gh_r4 (Nat.le_of_ble_eq_true rfl)) (fun H9 L9 hp9 => gi_V C hp9 hg9 gh_cJ6 q558 q546 q547 q548 mh_J6 np29 rfl hl.1.1 dJ4_init_2_26 rfl) h (gh_K0_b _ hk) (fun v3 g h => ?_) (fun e g h => ?_)
    rotate_left
    ·
      exact gh_out C (fun _ h => nomatch h) h hk
    refine gr_istore (pc := 29) (i := 4) (l' := [(4, .int v3), (3, .int (v2 + (16 : Int32))), (2, .int v2), (0, va_rf (some t0)), (1, va_rf (some a1))]) C hl (Nat.le_of_ble_eq_true rfl) rfl dJ4_init_2_29 fun ls hl => ?_
    refine gr_aload_n (pc := 31) (i := 0) C rfl (gl_at hl 3 rfl) dJ4_init_2_31 ?_
    refine gr_iload (pc := 32) (i := 4) C (gl_at hl 0 rfl) dJ4_init_2_32 ?_
    refine gr_putp (pc := 34) C gh_bJ5 (k := 1) (Nat.le_of_ble_eq_true rfl) q257 (fun _ h => h) rfl dJ4_init_2_34 h fun g h => ?_
    refine gr_aload_n (pc := 37) (i := 0) C rfl (gl_at hl 3 rfl) dJ4_init_2_37 ?_
    refine gr_iload (pc := 38) (i := 4) C (gl_at hl 0 rfl) dJ4_init_2_38 ?_
    refine gr_if_ne (pc := 40) (tgt := 49) C rfl dJ4_init_2_40 (fun c9 => ?_) (fun c9 => ?_)
    · replace h := gh_iff h c9
      exact gh_stk_inv h
    · replace h := gh_ift h c9
      refine gr_iload_n (pc := 43) (i := 3) C rfl (gl_at hl 1 rfl) dJ4_init_2_43 ?_
      refine gr_newa (pc := 44) (k := 4) (atype := .byte) C (by decide) q270 dJ4_init_2_44 h (gh_K0_b _ hk) fun a4 g h => ?_
      refine gr_goto (pc := 46) (tgt := 53) C rfl dJ4_init_2_46 ?_
      refine gr_putp (pc := 53) C gh_bJ5 (k := 0) (Nat.le_of_ble_eq_true rfl) q256 (fun _ h => h) rfl dJ4_init_2_53 h fun g h => ?_
      refine gr_aload_n (pc := 56) (i := 0) C rfl (gl_at hl 3 rfl) dJ4_init_2_56 ?_
      refine gr_aload_n (pc := 57) (i := 1) C rfl (gl_at hl 4 rfl) dJ4_init_2_57 ?_
      obtain ⟨⟨fs9, hg9⟩, h⟩ := gh_is_inv h
      refine gh_callQ (pc := 58) (rest := []) C (k_J5_append_3 C.tr t0 (some a1)) (Nat.le_of_ble_eq_true rfl) (Nat.le_of_ble_eq_true rfl) (gh_r4 (Nat.le_of_ble_eq_true rfl)) (fun H9 L9 hp9 => gi_U C hp9 hg9 gh_cJ5 q1825 q2716 (va_Decl.of (C.ts _ q469) (C.ts _ q470)) mh_J4 q1826 q2730 q1827 np41 rfl hl.1.1 dJ4_init_2_58 rfl) h (gh_K0_b _ hk) (fun v5 g h => ?_) (fun e g h => ?_)
      rotate_left
      ·
        exact gh_out C (fun _ h => nomatch h) h hk
      refine gr_pop (pc := 61) C (gh_cat _) dJ4_init_2_61 ?_
      exact gr_vret (pc := 62) C dJ4_init_2_62 h hk

theorem k_J4_init_2 {l : Launch} (hst : l.stackTraces = false) (t0 : Nat) (p1 : Option Nat) : gh_Ct l yJ4_init_2 7 185 (f_J4_init_2 t0 p1) gh_rV [va_rf (some t0), va_rf p1] := gh_intro2 (L1 := 169) hst (by decide +kernel) q1823 q82 rfl ⟨gh_cat _, gh_cat _, trivial⟩ (Nat.le_of_ble_eq_true rfl) fun x o ls hl C h hk => w_J4_init_2 C t0 p1 hl h hk
-- StringBuilder.<init>(Ljava/lang/String;)V
noncomputable def f_J5_init_2 (t0 : Nat) (p1 : Option Nat) : gh_M Unit :=
  gh_bd (f_J4_init_2 t0 p1) fun _ =>
  gh_ret ()
theorem w_J5_init_2 {x : gh_C} {g : gh_G} {o : (Unit ⊕ gh_X) × gh_G} {ls : Array Slot} (C : gh_K x cJ5_init_2 "java/lang/StringBuilder" 2 none "<init>" 8 193 []) (t0 : Nat) (p1 : Option Nat) (hl : gh_lv ls 2 [(0, va_rf (some t0)), (1, va_rf p1)]) (h : gh_run (f_J5_init_2 t0 p1) g = some o) (hk : (gh_K0 x gh_rV) o) : gh_Wd x g (F0 (gh_cm x) 0 ls []) := by
  unfold f_J5_init_2 at h
  refine gr_aload_n (pc := 0) (i := 0) C rfl (gl_at hl 0 rfl) dJ5_init_2_0 ?_
  refine gr_aload_n (pc := 1) (i := 1) C rfl (gl_at hl 1 rfl) dJ5_init_2_1 ?_
  refine gh_callV (pc := 2) (rest := []) C (k_J4_init_2 C.tr t0 p1) (Nat.le_of_ble_eq_true rfl) (Nat.le_of_ble_eq_true rfl) (gh_r4 (Nat.le_of_ble_eq_true rfl)) (fun H9 L9 hp9 => gi_I C q1821 rfl q1822 q1823 mh_J4 np39 rfl hl.1.1 dJ5_init_2_2 rfl) h (gh_K0_b _ hk) (fun g h => ?_) (fun e g h => ?_)
  rotate_left
  ·
    exact gh_out C (fun _ h => nomatch h) h hk
  exact gr_vret (pc := 5) C dJ5_init_2_5 h hk

theorem k_J5_init_2 {l : Launch} (hst : l.stackTraces = false) (t0 : Nat) (p1 : Option Nat) : gh_Ct l yJ5_init_2 8 206 (f_J5_init_2 t0 p1) gh_rV [va_rf (some t0), va_rf p1] := gh_intro2 (L1 := 193) hst (by decide +kernel) q1820 q83 rfl ⟨gh_cat _, gh_cat _, trivial⟩ (Nat.le_of_ble_eq_true rfl) fun x o ls hl C h hk => w_J5_init_2 C t0 p1 hl h hk
-- StringBuilder.append(Ljava/lang/CharSequence;)Ljava/lang/StringBuilder;
noncomputable def f_J5_append_5 (t0 : Nat) (p1 : Option Nat) : gh_M (Option Nat) :=
  gh_bd (gh_is t0 13) fun _ =>
  gh_bd (f_J4_append_4 t0 p1) fun v1 =>
  gh_ret (some t0)
theorem w_J5_append_5 {x : gh_C} {g : gh_G} {o : ((Option Nat) ⊕ gh_X) × gh_G} {ls : Array Slot} (C : gh_K x cJ5_append_5 "java/lang/StringBuilder" 2 (some (.object "java/lang/StringBuilder")) "append" 8 190 []) (t0 : Nat) (p1 : Option Nat) (hl : gh_lv ls 2 [(0, va_rf (some t0)), (1, va_rf p1)]) (h : gh_run (f_J5_append_5 t0 p1) g = some o) (hk : (gh_K0 x gh_rQ) o) : gh_Wd x g (F0 (gh_cm x) 0 ls []) := by
  unfold f_J5_append_5 at h
  refine gr_aload_n (pc := 0) (i := 0) C rfl (gl_at hl 0 rfl) dJ5_append_5_0 ?_
  refine gr_aload_n (pc := 1) (i := 1) C rfl (gl_at hl 1 rfl) dJ5_append_5_1 ?_
  obtain ⟨⟨fs9, hg9⟩, h⟩ := gh_is_inv h
  refine gh_callQ (pc := 2) (rest := []) C (k_J4_append_4 C.tr t0 p1) (Nat.le_of_ble_eq_true rfl) (Nat.le_of_ble_eq_true rfl) (gh_r4 (Nat.le_of_ble_eq_true rfl)) (fun H9 L9 hp9 => gi_SU C hp9 hg9 gh_cJ5 q1854 q2732 q269 q1855 q1856 (by decide) np44 rfl hl.1.1 dJ5_append_5_2 rfl) h (gh_K0_b _ hk) (fun v1 g h => ?_) (fun e g h => ?_)
  rotate_left
  ·
    exact gh_out C (fun _ h => nomatch h) h hk
  refine gr_pop (pc := 5) C (gh_cat _) dJ5_append_5_5 ?_
  refine gr_aload_n (pc := 6) (i := 0) C rfl (gl_at hl 0 rfl) dJ5_append_5_6 ?_
  exact gr_aret (pc := 7) C (Or.inl ⟨_, rfl⟩) dJ5_append_5_7 h hk

theorem k_J5_append_5 {l : Launch} (hst : l.stackTraces = false) (t0 : Nat) (p1 : Option Nat) : gh_Ct l yJ5_append_5 8 203 (f_J5_append_5 t0 p1) gh_rQ [va_rf (some t0), va_rf p1] := gh_intro2 (L1 := 190) hst (by decide +kernel) q1853 q83 rfl ⟨gh_cat _, gh_cat _, trivial⟩ (Nat.le_of_ble_eq_true rfl) fun x o ls hl C h hk => w_J5_append_5 C t0 p1 hl h hk
