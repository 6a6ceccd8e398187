/-! lists: rows of the code, functions, walks, contracts (printed) -/
set_option maxRecDepth 100000
abbrev cJ0_init : ByteArray := prog_43_method_1_code
def yJ0_init : MethodName := ⟨RJ0, "<init>", "()V"⟩
theorem dJ0_init_0 : decode cJ0_init 0 = .ok (.aload_n 0, 1) := by decide +kernel
theorem dJ0_init_1 : decode cJ0_init 1 = .ok (.invokespecial 1, 3) := by decide +kernel
theorem dJ0_init_4 : decode cJ0_init 4 = .ok (.return_, 1) := by decide +kernel
abbrev cJ1_init : ByteArray := prog_44_method_1_code
def yJ1_init : MethodName := ⟨RJ1, "<init>", "()V"⟩
def dkwJ1_init_0 : List UInt8 := [42, 183, 0, 1, 42, 3, 181, 0, 7, 177]
abbrev dktJ1_init_0 : List UInt8 := dkwJ1_init_0 ++ []
theorem dksJ1_init_0 : cJ1_init.data.toList.drop 0 = dktJ1_init_0 := by decide +kernel
theorem dJ1_init_0 : decode cJ1_init 0 = .ok (.aload_n 0, 1) := dk_42 (dk_at dksJ1_init_0 0 rfl rfl)
theorem dJ1_init_1 : decode cJ1_init 1 = .ok (.invokespecial 1, 3) := dk_183 0 1 (dk_at dksJ1_init_0 1 rfl rfl)
theorem dJ1_init_4 : decode cJ1_init 4 = .ok (.aload_n 0, 1) := dk_42 (dk_at dksJ1_init_0 4 rfl rfl)
theorem dJ1_init_5 : decode cJ1_init 5 = .ok (.iconst 0, 1) := dk_3 (dk_at dksJ1_init_0 5 rfl rfl)
theorem dJ1_init_6 : decode cJ1_init 6 = .ok (.putfield 7, 3) := dk_181 0 7 (dk_at dksJ1_init_0 6 rfl rfl)
theorem dJ1_init_9 : decode cJ1_init 9 = .ok (.return_, 1) := dk_177 (dk_at dksJ1_init_0 9 rfl rfl)
abbrev cJ25_init : ByteArray := prog_47_method_1_code
def yJ25_init : MethodName := ⟨RJ25, "<init>", "()V"⟩
theorem dJ25_init_0 : decode cJ25_init 0 = .ok (.aload_n 0, 1) := by decide +kernel
theorem dJ25_init_1 : decode cJ25_init 1 = .ok (.invokespecial 1, 3) := by decide +kernel
theorem dJ25_init_4 : decode cJ25_init 4 = .ok (.return_, 1) := by decide +kernel
abbrev cJ2_init : ByteArray := prog_49_method_2_code
def yJ2_init : MethodName := ⟨RJ2, "<init>", "()V"⟩
def dkwJ2_init_0 : List UInt8 := [42, 183, 0, 1, 42, 178, 0, 39, 181, 0, 9, 177]
abbrev dktJ2_init_0 : List UInt8 := dkwJ2_init_0 ++ []
theorem dksJ2_init_0 : cJ2_init.data.toList.drop 0 = dktJ2_init_0 := by decide +kernel
theorem dJ2_init_0 : decode cJ2_init 0 = .ok (.aload_n 0, 1) := dk_42 (dk_at dksJ2_init_0 0 rfl rfl)
theorem dJ2_init_1 : decode cJ2_init 1 = .ok (.invokespecial 1, 3) := dk_183 0 1 (dk_at dksJ2_init_0 1 rfl rfl)
theorem dJ2_init_4 : decode cJ2_init 4 = .ok (.aload_n 0, 1) := dk_42 (dk_at dksJ2_init_0 4 rfl rfl)
theorem dJ2_init_5 : decode cJ2_init 5 = .ok (.getstatic 39, 3) := dk_178 0 39 (dk_at dksJ2_init_0 5 rfl rfl)
theorem dJ2_init_8 : decode cJ2_init 8 = .ok (.putfield 9, 3) := dk_181 0 9 (dk_at dksJ2_init_0 8 rfl rfl)
theorem dJ2_init_11 : decode cJ2_init 11 = .ok (.return_, 1) := dk_177 (dk_at dksJ2_init_0 11 rfl rfl)
abbrev cJ2_size : ByteArray := prog_49_method_8_code
def yJ2_size : MethodName := ⟨RJ2, "size", "()I"⟩
theorem dJ2_size_0 : decode cJ2_size 0 = .ok (.aload_n 0, 1) := by decide +kernel
theorem dJ2_size_1 : decode cJ2_size 1 = .ok (.getfield 48, 3) := by decide +kernel
theorem dJ2_size_4 : decode cJ2_size 4 = .ok (.ireturn, 1) := by decide +kernel
abbrev cJ2_elementData : ByteArray := prog_49_method_18_code
def yJ2_elementData : MethodName := ⟨RJ2, "elementData", "(I)Ljava/lang/Object;"⟩
def dkwJ2_elementData_0 : List UInt8 := [42, 180, 0, 9, 27, 50, 176]
abbrev dktJ2_elementData_0 : List UInt8 := dkwJ2_elementData_0 ++ []
theorem dksJ2_elementData_0 : cJ2_elementData.data.toList.drop 0 = dktJ2_elementData_0 := by decide +kernel
theorem dJ2_elementData_0 : decode cJ2_elementData 0 = .ok (.aload_n 0, 1) := dk_42 (dk_at dksJ2_elementData_0 0 rfl rfl)
theorem dJ2_elementData_1 : decode cJ2_elementData 1 = .ok (.getfield 9, 3) := dk_180 0 9 (dk_at dksJ2_elementData_0 1 rfl rfl)
theorem dJ2_elementData_4 : decode cJ2_elementData 4 = .ok (.iload_n 1, 1) := dk_27 (dk_at dksJ2_elementData_0 4 rfl rfl)
theorem dJ2_elementData_5 : decode cJ2_elementData 5 = .ok (.aaload, 1) := dk_50 (dk_at dksJ2_elementData_0 5 rfl rfl)
theorem dJ2_elementData_6 : decode cJ2_elementData 6 = .ok (.areturn, 1) := dk_176 (dk_at dksJ2_elementData_0 6 rfl rfl)
abbrev cJ2_isEmpty : ByteArray := prog_49_method_9_code
def yJ2_isEmpty : MethodName := ⟨RJ2, "isEmpty", "()Z"⟩
def dkwJ2_isEmpty_0 : List UInt8 := [42, 180, 0, 48, 154, 0, 7, 4, 167, 0, 4, 3, 172]
abbrev dktJ2_isEmpty_0 : List UInt8 := dkwJ2_isEmpty_0 ++ []
theorem dksJ2_isEmpty_0 : cJ2_isEmpty.data.toList.drop 0 = dktJ2_isEmpty_0 := by decide +kernel
theorem dJ2_isEmpty_0 : decode cJ2_isEmpty 0 = .ok (.aload_n 0, 1) := dk_42 (dk_at dksJ2_isEmpty_0 0 rfl rfl)
theorem dJ2_isEmpty_1 : decode cJ2_isEmpty 1 = .ok (.getfield 48, 3) := dk_180 0 48 (dk_at dksJ2_isEmpty_0 1 rfl rfl)
theorem dJ2_isEmpty_4 : decode cJ2_isEmpty 4 = .ok (.ifCond .ne 7, 3) := dk_154 0 7 (dk_at dksJ2_isEmpty_0 4 rfl rfl)
theorem dJ2_isEmpty_7 : decode cJ2_isEmpty 7 = .ok (.iconst 1, 1) := dk_4 (dk_at dksJ2_isEmpty_0 7 rfl rfl)
theorem dJ2_isEmpty_8 : decode cJ2_isEmpty 8 = .ok (.goto 4, 3) := dk_167 0 4 (dk_at dksJ2_isEmpty_0 8 rfl rfl)
theorem dJ2_isEmpty_11 : decode cJ2_isEmpty 11 = .ok (.iconst 0, 1) := dk_3 (dk_at dksJ2_isEmpty_0 11 rfl rfl)
theorem dJ2_isEmpty_12 : decode cJ2_isEmpty 12 = .ok (.ireturn, 1) := dk_172 (dk_at dksJ2_isEmpty_0 12 rfl rfl)
abbrev cJ8_init : ByteArray := prog_50_method_1_code
def yJ8_init : MethodName := ⟨RJ8, "<init>", "(Ljava/util/ArrayList;)V"⟩
def dkwJ8_init_1 : List UInt8 := [181, 0, 22, 177]
abbrev dktJ8_init_1 : List UInt8 := dkwJ8_init_1 ++ []
def dkwJ8_init_0 : List UInt8 := [42, 43, 181, 0, 1, 42, 183, 0, 7, 42, 2, 181, 0, 13, 42, 42, 180, 0, 1, 180, 0, 17]
abbrev dktJ8_init_0 : List UInt8 := dkwJ8_init_0 ++ dktJ8_init_1
theorem dksJ8_init_0 : cJ8_init.data.toList.drop 0 = dktJ8_init_0 := by decide +kernel
theorem dksJ8_init_1 : cJ8_init.data.toList.drop 22 = dktJ8_init_1 := dk_seg dksJ8_init_0 22 rfl rfl
theorem dJ8_init_0 : decode cJ8_init 0 = .ok (.aload_n 0, 1) := dk_42 (dk_at dksJ8_init_0 0 rfl rfl)
theorem dJ8_init_1 : decode cJ8_init 1 = .ok (.aload_n 1, 1) := dk_43 (dk_at dksJ8_init_0 1 rfl rfl)
theorem dJ8_init_2 : decode cJ8_init 2 = .ok (.putfield 1, 3) := dk_181 0 1 (dk_at dksJ8_init_0 2 rfl rfl)
theorem dJ8_init_5 : decode cJ8_init 5 = .ok (.aload_n 0, 1) := dk_42 (dk_at dksJ8_init_0 5 rfl rfl)
theorem dJ8_init_6 : decode cJ8_init 6 = .ok (.invokespecial 7, 3) := dk_183 0 7 (dk_at dksJ8_init_0 6 rfl rfl)
theorem dJ8_init_9 : decode cJ8_init 9 = .ok (.aload_n 0, 1) := dk_42 (dk_at dksJ8_init_0 9 rfl rfl)
theorem dJ8_init_10 : decode cJ8_init 10 = .ok (.iconst (-1), 1) := dk_2 (dk_at dksJ8_init_0 10 rfl rfl)
theorem dJ8_init_11 : decode cJ8_init 11 = .ok (.putfield 13, 3) := dk_181 0 13 (dk_at dksJ8_init_0 11 rfl rfl)
theorem dJ8_init_14 : decode cJ8_init 14 = .ok (.aload_n 0, 1) := dk_42 (dk_at dksJ8_init_0 14 rfl rfl)
theorem dJ8_init_15 : decode cJ8_init 15 = .ok (.aload_n 0, 1) := dk_42 (dk_at dksJ8_init_0 15 rfl rfl)
theorem dJ8_init_16 : decode cJ8_init 16 = .ok (.getfield 1, 3) := dk_180 0 1 (dk_at dksJ8_init_0 16 rfl rfl)
theorem dJ8_init_19 : decode cJ8_init 19 = .ok (.getfield 17, 3) := dk_180 0 17 (dk_at dksJ8_init_0 19 rfl rfl)
theorem dJ8_init_22 : decode cJ8_init 22 = .ok (.putfield 22, 3) := dk_181 0 22 (dk_at dksJ8_init_1 0 rfl rfl)
theorem dJ8_init_25 : decode cJ8_init 25 = .ok (.return_, 1) := dk_177 (dk_at dksJ8_init_1 3 rfl rfl)
abbrev cJ8_hasNext : ByteArray := prog_50_method_2_code
def yJ8_hasNext : MethodName := ⟨RJ8, "hasNext", "()Z"⟩
def dkwJ8_hasNext_0 : List UInt8 := [42, 180, 0, 25, 42, 180, 0, 1, 180, 0, 28, 159, 0, 7, 4, 167, 0, 4, 3, 172]
abbrev dktJ8_hasNext_0 : List UInt8 := dkwJ8_hasNext_0 ++ []
theorem dksJ8_hasNext_0 : cJ8_hasNext.data.toList.drop 0 = dktJ8_hasNext_0 := by decide +kernel
theorem dJ8_hasNext_0 : decode cJ8_hasNext 0 = .ok (.aload_n 0, 1) := dk_42 (dk_at dksJ8_hasNext_0 0 rfl rfl)
theorem dJ8_hasNext_1 : decode cJ8_hasNext 1 = .ok (.getfield 25, 3) := dk_180 0 25 (dk_at dksJ8_hasNext_0 1 rfl rfl)
theorem dJ8_hasNext_4 : decode cJ8_hasNext 4 = .ok (.aload_n 0, 1) := dk_42 (dk_at dksJ8_hasNext_0 4 rfl rfl)
theorem dJ8_hasNext_5 : decode cJ8_hasNext 5 = .ok (.getfield 1, 3) := dk_180 0 1 (dk_at dksJ8_hasNext_0 5 rfl rfl)
theorem dJ8_hasNext_8 : decode cJ8_hasNext 8 = .ok (.getfield 28, 3) := dk_180 0 28 (dk_at dksJ8_hasNext_0 8 rfl rfl)
theorem dJ8_hasNext_11 : decode cJ8_hasNext 11 = .ok (.if_icmp .eq 7, 3) := dk_159 0 7 (dk_at dksJ8_hasNext_0 11 rfl rfl)
theorem dJ8_hasNext_14 : decode cJ8_hasNext 14 = .ok (.iconst 1, 1) := dk_4 (dk_at dksJ8_hasNext_0 14 rfl rfl)
theorem dJ8_hasNext_15 : decode cJ8_hasNext 15 = .ok (.goto 4, 3) := dk_167 0 4 (dk_at dksJ8_hasNext_0 15 rfl rfl)
theorem dJ8_hasNext_18 : decode cJ8_hasNext 18 = .ok (.iconst 0, 1) := dk_3 (dk_at dksJ8_hasNext_0 18 rfl rfl)
theorem dJ8_hasNext_19 : decode cJ8_hasNext 19 = .ok (.ireturn, 1) := dk_172 (dk_at dksJ8_hasNext_0 19 rfl rfl)
abbrev cJ8_checkForComodification : ByteArray := prog_50_method_6_code
def yJ8_checkForComodification : MethodName := ⟨RJ8, "checkForComodification", "()V"⟩
def dkwJ8_checkForComodification_0 : List UInt8 := [42, 180, 0, 1, 180, 0, 17, 42, 180, 0, 22, 159, 0, 11, 187, 0, 41, 89, 183, 0, 43, 191, 177]
abbrev dktJ8_checkForComodification_0 : List UInt8 := dkwJ8_checkForComodification_0 ++ []
theorem dksJ8_checkForComodification_0 : cJ8_checkForComodification.data.toList.drop 0 = dktJ8_checkForComodification_0 := by decide +kernel
theorem dJ8_checkForComodification_0 : decode cJ8_checkForComodification 0 = .ok (.aload_n 0, 1) := dk_42 (dk_at dksJ8_checkForComodification_0 0 rfl rfl)
theorem dJ8_checkForComodification_1 : decode cJ8_checkForComodification 1 = .ok (.getfield 1, 3) := dk_180 0 1 (dk_at dksJ8_checkForComodification_0 1 rfl rfl)
theorem dJ8_checkForComodification_4 : decode cJ8_checkForComodification 4 = .ok (.getfield 17, 3) := dk_180 0 17 (dk_at dksJ8_checkForComodification_0 4 rfl rfl)
theorem dJ8_checkForComodification_7 : decode cJ8_checkForComodification 7 = .ok (.aload_n 0, 1) := dk_42 (dk_at dksJ8_checkForComodification_0 7 rfl rfl)
theorem dJ8_checkForComodification_8 : decode cJ8_checkForComodification 8 = .ok (.getfield 22, 3) := dk_180 0 22 (dk_at dksJ8_checkForComodification_0 8 rfl rfl)
theorem dJ8_checkForComodification_11 : decode cJ8_checkForComodification 11 = .ok (.if_icmp .eq 11, 3) := dk_159 0 11 (dk_at dksJ8_checkForComodification_0 11 rfl rfl)
theorem dJ8_checkForComodification_14 : decode cJ8_checkForComodification 14 = .ok (.new 41, 3) := dk_187 0 41 (dk_at dksJ8_checkForComodification_0 14 rfl rfl)
theorem dJ8_checkForComodification_17 : decode cJ8_checkForComodification 17 = .ok (.dup, 1) := dk_89 (dk_at dksJ8_checkForComodification_0 17 rfl rfl)
theorem dJ8_checkForComodification_18 : decode cJ8_checkForComodification 18 = .ok (.invokespecial 43, 3) := dk_183 0 43 (dk_at dksJ8_checkForComodification_0 18 rfl rfl)
theorem dJ8_checkForComodification_21 : decode cJ8_checkForComodification 21 = .ok (.athrow, 1) := dk_191 (dk_at dksJ8_checkForComodification_0 21 rfl rfl)
theorem dJ8_checkForComodification_22 : decode cJ8_checkForComodification 22 = .ok (.return_, 1) := dk_177 (dk_at dksJ8_checkForComodification_0 22 rfl rfl)
abbrev cJ10_checkIndex : ByteArray := prog_68_method_11_code
def yJ10_checkIndex : MethodName := ⟨RJ10, "checkIndex", "(IILjava/util/function/BiFunction;)I"⟩
def dkwJ10_checkIndex_0 : List UInt8 := [26, 155, 0, 8, 26, 27, 161, 0, 10, 44, 26, 27, 184, 0, 95, 191, 26, 172]
abbrev dktJ10_checkIndex_0 : List UInt8 := dkwJ10_checkIndex_0 ++ []
theorem dksJ10_checkIndex_0 : cJ10_checkIndex.data.toList.drop 0 = dktJ10_checkIndex_0 := by decide +kernel
theorem dJ10_checkIndex_0 : decode cJ10_checkIndex 0 = .ok (.iload_n 0, 1) := dk_26 (dk_at dksJ10_checkIndex_0 0 rfl rfl)
theorem dJ10_checkIndex_1 : decode cJ10_checkIndex 1 = .ok (.ifCond .lt 8, 3) := dk_155 0 8 (dk_at dksJ10_checkIndex_0 1 rfl rfl)
theorem dJ10_checkIndex_4 : decode cJ10_checkIndex 4 = .ok (.iload_n 0, 1) := dk_26 (dk_at dksJ10_checkIndex_0 4 rfl rfl)
theorem dJ10_checkIndex_5 : decode cJ10_checkIndex 5 = .ok (.iload_n 1, 1) := dk_27 (dk_at dksJ10_checkIndex_0 5 rfl rfl)
theorem dJ10_checkIndex_6 : decode cJ10_checkIndex 6 = .ok (.if_icmp .lt 10, 3) := dk_161 0 10 (dk_at dksJ10_checkIndex_0 6 rfl rfl)
theorem dJ10_checkIndex_9 : decode cJ10_checkIndex 9 = .ok (.aload_n 2, 1) := dk_44 (dk_at dksJ10_checkIndex_0 9 rfl rfl)
theorem dJ10_checkIndex_10 : decode cJ10_checkIndex 10 = .ok (.iload_n 0, 1) := dk_26 (dk_at dksJ10_checkIndex_0 10 rfl rfl)
theorem dJ10_checkIndex_11 : decode cJ10_checkIndex 11 = .ok (.iload_n 1, 1) := dk_27 (dk_at dksJ10_checkIndex_0 11 rfl rfl)
theorem dJ10_checkIndex_12 : decode cJ10_checkIndex 12 = .ok (.invokestatic 95, 3) := dk_184 0 95 (dk_at dksJ10_checkIndex_0 12 rfl rfl)
theorem dJ10_checkIndex_15 : decode cJ10_checkIndex 15 = .ok (.athrow, 1) := dk_191 (dk_at dksJ10_checkIndex_0 15 rfl rfl)
theorem dJ10_checkIndex_16 : decode cJ10_checkIndex 16 = .ok (.iload_n 0, 1) := dk_26 (dk_at dksJ10_checkIndex_0 16 rfl rfl)
theorem dJ10_checkIndex_17 : decode cJ10_checkIndex 17 = .ok (.ireturn, 1) := dk_172 (dk_at dksJ10_checkIndex_0 17 rfl rfl)
abbrev cJ15_newLength : ByteArray := prog_67_method_27_code
def yJ15_newLength : MethodName := ⟨RJ15, "newLength", "(III)I"⟩
def dkwJ15_newLength_1 : List UInt8 := [184, 0, 201, 172]
abbrev dktJ15_newLength_1 : List UInt8 := dkwJ15_newLength_1 ++ []
def dkwJ15_newLength_0 : List UInt8 := [26, 27, 28, 184, 0, 194, 96, 62, 3, 29, 162, 0, 11, 29, 18, 200, 163, 0, 5, 29, 172, 26, 27]
abbrev dktJ15_newLength_0 : List UInt8 := dkwJ15_newLength_0 ++ dktJ15_newLength_1
theorem dksJ15_newLength_0 : cJ15_newLength.data.toList.drop 0 = dktJ15_newLength_0 := by decide +kernel
theorem dksJ15_newLength_1 : cJ15_newLength.data.toList.drop 23 = dktJ15_newLength_1 := dk_seg dksJ15_newLength_0 23 rfl rfl
theorem dJ15_newLength_0 : decode cJ15_newLength 0 = .ok (.iload_n 0, 1) := dk_26 (dk_at dksJ15_newLength_0 0 rfl rfl)
theorem dJ15_newLength_1 : decode cJ15_newLength 1 = .ok (.iload_n 1, 1) := dk_27 (dk_at dksJ15_newLength_0 1 rfl rfl)
theorem dJ15_newLength_2 : decode cJ15_newLength 2 = .ok (.iload_n 2, 1) := dk_28 (dk_at dksJ15_newLength_0 2 rfl rfl)
theorem dJ15_newLength_3 : decode cJ15_newLength 3 = .ok (.invokestatic 194, 3) := dk_184 0 194 (dk_at dksJ15_newLength_0 3 rfl rfl)
theorem dJ15_newLength_6 : decode cJ15_newLength 6 = .ok (.iadd, 1) := dk_96 (dk_at dksJ15_newLength_0 6 rfl rfl)
theorem dJ15_newLength_7 : decode cJ15_newLength 7 = .ok (.istore_n 3, 1) := dk_62 (dk_at dksJ15_newLength_0 7 rfl rfl)
theorem dJ15_newLength_8 : decode cJ15_newLength 8 = .ok (.iconst 0, 1) := dk_3 (dk_at dksJ15_newLength_0 8 rfl rfl)
theorem dJ15_newLength_9 : decode cJ15_newLength 9 = .ok (.iload_n 3, 1) := dk_29 (dk_at dksJ15_newLength_0 9 rfl rfl)
theorem dJ15_newLength_10 : decode cJ15_newLength 10 = .ok (.if_icmp .ge 11, 3) := dk_162 0 11 (dk_at dksJ15_newLength_0 10 rfl rfl)
theorem dJ15_newLength_13 : decode cJ15_newLength 13 = .ok (.iload_n 3, 1) := dk_29 (dk_at dksJ15_newLength_0 13 rfl rfl)
theorem dJ15_newLength_14 : decode cJ15_newLength 14 = .ok (.ldc 200, 2) := dk_18 200 (dk_at dksJ15_newLength_0 14 rfl rfl)
theorem dJ15_newLength_16 : decode cJ15_newLength 16 = .ok (.if_icmp .gt 5, 3) := dk_163 0 5 (dk_at dksJ15_newLength_0 16 rfl rfl)
theorem dJ15_newLength_19 : decode cJ15_newLength 19 = .ok (.iload_n 3, 1) := dk_29 (dk_at dksJ15_newLength_0 19 rfl rfl)
theorem dJ15_newLength_20 : decode cJ15_newLength 20 = .ok (.ireturn, 1) := dk_172 (dk_at dksJ15_newLength_0 20 rfl rfl)
theorem dJ15_newLength_21 : decode cJ15_newLength 21 = .ok (.iload_n 0, 1) := dk_26 (dk_at dksJ15_newLength_0 21 rfl rfl)
theorem dJ15_newLength_22 : decode cJ15_newLength 22 = .ok (.iload_n 1, 1) := dk_27 (dk_at dksJ15_newLength_0 22 rfl rfl)
theorem dJ15_newLength_23 : decode cJ15_newLength 23 = .ok (.invokestatic 201, 3) := dk_184 0 201 (dk_at dksJ15_newLength_1 0 rfl rfl)
theorem dJ15_newLength_26 : decode cJ15_newLength 26 = .ok (.ireturn, 1) := dk_172 (dk_at dksJ15_newLength_1 3 rfl rfl)
abbrev cJ17_copyOf_3 : ByteArray := prog_52_method_120_code
def yJ17_copyOf_3 : MethodName := ⟨RJ17, "copyOf", "([Ljava/lang/Object;ILjava/lang/Class;)[Ljava/lang/Object;"⟩
def dkwJ17_copyOf_3_1 : List UInt8 := [78, 42, 3, 45, 3, 42, 190, 27, 184, 1, 48, 184, 0, 150, 45, 176]
abbrev dktJ17_copyOf_3_1 : List UInt8 := dkwJ17_copyOf_3_1 ++ []
def dkwJ17_copyOf_3_0 : List UInt8 := [44, 18, 110, 166, 0, 10, 27, 189, 0, 2, 167, 0, 14, 44, 182, 0, 90, 27, 184, 0, 95, 192, 0, 110]
abbrev dktJ17_copyOf_3_0 : List UInt8 := dkwJ17_copyOf_3_0 ++ dktJ17_copyOf_3_1
theorem dksJ17_copyOf_3_0 : cJ17_copyOf_3.data.toList.drop 0 = dktJ17_copyOf_3_0 := by decide +kernel
theorem dksJ17_copyOf_3_1 : cJ17_copyOf_3.data.toList.drop 24 = dktJ17_copyOf_3_1 := dk_seg dksJ17_copyOf_3_0 24 rfl rfl
theorem dJ17_copyOf_3_0 : decode cJ17_copyOf_3 0 = .ok (.aload_n 2, 1) := dk_44 (dk_at dksJ17_copyOf_3_0 0 rfl rfl)
theorem dJ17_copyOf_3_1 : decode cJ17_copyOf_3 1 = .ok (.ldc 110, 2) := dk_18 110 (dk_at dksJ17_copyOf_3_0 1 rfl rfl)
theorem dJ17_copyOf_3_3 : decode cJ17_copyOf_3 3 = .ok (.if_acmp .ne 10, 3) := dk_166 0 10 (dk_at dksJ17_copyOf_3_0 3 rfl rfl)
theorem dJ17_copyOf_3_6 : decode cJ17_copyOf_3 6 = .ok (.iload_n 1, 1) := dk_27 (dk_at dksJ17_copyOf_3_0 6 rfl rfl)
theorem dJ17_copyOf_3_7 : decode cJ17_copyOf_3 7 = .ok (.anewarray 2, 3) := dk_189 0 2 (dk_at dksJ17_copyOf_3_0 7 rfl rfl)
theorem dJ17_copyOf_3_10 : decode cJ17_copyOf_3 10 = .ok (.goto 14, 3) := dk_167 0 14 (dk_at dksJ17_copyOf_3_0 10 rfl rfl)
theorem dJ17_copyOf_3_13 : decode cJ17_copyOf_3 13 = .ok (.aload_n 2, 1) := dk_44 (dk_at dksJ17_copyOf_3_0 13 rfl rfl)
theorem dJ17_copyOf_3_14 : decode cJ17_copyOf_3 14 = .ok (.invokevirtual 90, 3) := dk_182 0 90 (dk_at dksJ17_copyOf_3_0 14 rfl rfl)
theorem dJ17_copyOf_3_17 : decode cJ17_copyOf_3 17 = .ok (.iload_n 1, 1) := dk_27 (dk_at dksJ17_copyOf_3_0 17 rfl rfl)
theorem dJ17_copyOf_3_18 : decode cJ17_copyOf_3 18 = .ok (.invokestatic 95, 3) := dk_184 0 95 (dk_at dksJ17_copyOf_3_0 18 rfl rfl)
theorem dJ17_copyOf_3_21 : decode cJ17_copyOf_3 21 = .ok (.checkcast 110, 3) := dk_192 0 110 (dk_at dksJ17_copyOf_3_0 21 rfl rfl)
theorem dJ17_copyOf_3_24 : decode cJ17_copyOf_3 24 = .ok (.astore_n 3, 1) := dk_78 (dk_at dksJ17_copyOf_3_1 0 rfl rfl)
theorem dJ17_copyOf_3_25 : decode cJ17_copyOf_3 25 = .ok (.aload_n 0, 1) := dk_42 (dk_at dksJ17_copyOf_3_1 1 rfl rfl)
theorem dJ17_copyOf_3_26 : decode cJ17_copyOf_3 26 = .ok (.iconst 0, 1) := dk_3 (dk_at dksJ17_copyOf_3_1 2 rfl rfl)
theorem dJ17_copyOf_3_27 : decode cJ17_copyOf_3 27 = .ok (.aload_n 3, 1) := dk_45 (dk_at dksJ17_copyOf_3_1 3 rfl rfl)
theorem dJ17_copyOf_3_28 : decode cJ17_copyOf_3 28 = .ok (.iconst 0, 1) := dk_3 (dk_at dksJ17_copyOf_3_1 4 rfl rfl)
theorem dJ17_copyOf_3_29 : decode cJ17_copyOf_3 29 = .ok (.aload_n 0, 1) := dk_42 (dk_at dksJ17_copyOf_3_1 5 rfl rfl)
theorem dJ17_copyOf_3_30 : decode cJ17_copyOf_3 30 = .ok (.arraylength, 1) := dk_190 (dk_at dksJ17_copyOf_3_1 6 rfl rfl)
theorem dJ17_copyOf_3_31 : decode cJ17_copyOf_3 31 = .ok (.iload_n 1, 1) := dk_27 (dk_at dksJ17_copyOf_3_1 7 rfl rfl)
theorem dJ17_copyOf_3_32 : decode cJ17_copyOf_3 32 = .ok (.invokestatic 304, 3) := dk_184 1 48 (dk_at dksJ17_copyOf_3_1 8 rfl rfl)
theorem dJ17_copyOf_3_35 : decode cJ17_copyOf_3 35 = .ok (.invokestatic 150, 3) := dk_184 0 150 (dk_at dksJ17_copyOf_3_1 11 rfl rfl)
theorem dJ17_copyOf_3_38 : decode cJ17_copyOf_3 38 = .ok (.aload_n 3, 1) := dk_45 (dk_at dksJ17_copyOf_3_1 14 rfl rfl)
theorem dJ17_copyOf_3_39 : decode cJ17_copyOf_3 39 = .ok (.areturn, 1) := dk_176 (dk_at dksJ17_copyOf_3_1 15 rfl rfl)
abbrev cJ3_init : ByteArray := prog_48_method_3_code
def yJ3_init : MethodName := ⟨RJ3, "<init>", "()V"⟩
def dkwJ3_init_0 : List UInt8 := [42, 183, 0, 42, 42, 16, 17, 189, 0, 47, 181, 0, 3, 177]
abbrev dktJ3_init_0 : List UInt8 := dkwJ3_init_0 ++ []
theorem dksJ3_init_0 : cJ3_init.data.toList.drop 0 = dktJ3_init_0 := by decide +kernel
theorem dJ3_init_0 : decode cJ3_init 0 = .ok (.aload_n 0, 1) := dk_42 (dk_at dksJ3_init_0 0 rfl rfl)
theorem dJ3_init_1 : decode cJ3_init 1 = .ok (.invokespecial 42, 3) := dk_183 0 42 (dk_at dksJ3_init_0 1 rfl rfl)
theorem dJ3_init_4 : decode cJ3_init 4 = .ok (.aload_n 0, 1) := dk_42 (dk_at dksJ3_init_0 4 rfl rfl)
theorem dJ3_init_5 : decode cJ3_init 5 = .ok (.bipush 17, 2) := dk_16 17 (dk_at dksJ3_init_0 5 rfl rfl)
theorem dJ3_init_7 : decode cJ3_init 7 = .ok (.anewarray 47, 3) := dk_189 0 47 (dk_at dksJ3_init_0 7 rfl rfl)
theorem dJ3_init_10 : decode cJ3_init 10 = .ok (.putfield 3, 3) := dk_181 0 3 (dk_at dksJ3_init_0 10 rfl rfl)
theorem dJ3_init_13 : decode cJ3_init 13 = .ok (.return_, 1) := dk_177 (dk_at dksJ3_init_0 13 rfl rfl)
abbrev cJ3_isEmpty : ByteArray := prog_48_method_38_code
def yJ3_isEmpty : MethodName := ⟨RJ3, "isEmpty", "()Z"⟩
def dkwJ3_isEmpty_0 : List UInt8 := [42, 180, 0, 24, 42, 180, 0, 20, 160, 0, 7, 4, 167, 0, 4, 3, 172]
abbrev dktJ3_isEmpty_0 : List UInt8 := dkwJ3_isEmpty_0 ++ []
theorem dksJ3_isEmpty_0 : cJ3_isEmpty.data.toList.drop 0 = dktJ3_isEmpty_0 := by decide +kernel
theorem dJ3_isEmpty_0 : decode cJ3_isEmpty 0 = .ok (.aload_n 0, 1) := dk_42 (dk_at dksJ3_isEmpty_0 0 rfl rfl)
theorem dJ3_isEmpty_1 : decode cJ3_isEmpty 1 = .ok (.getfield 24, 3) := dk_180 0 24 (dk_at dksJ3_isEmpty_0 1 rfl rfl)
theorem dJ3_isEmpty_4 : decode cJ3_isEmpty 4 = .ok (.aload_n 0, 1) := dk_42 (dk_at dksJ3_isEmpty_0 4 rfl rfl)
theorem dJ3_isEmpty_5 : decode cJ3_isEmpty 5 = .ok (.getfield 20, 3) := dk_180 0 20 (dk_at dksJ3_isEmpty_0 5 rfl rfl)
theorem dJ3_isEmpty_8 : decode cJ3_isEmpty 8 = .ok (.if_icmp .ne 7, 3) := dk_160 0 7 (dk_at dksJ3_isEmpty_0 8 rfl rfl)
theorem dJ3_isEmpty_11 : decode cJ3_isEmpty 11 = .ok (.iconst 1, 1) := dk_4 (dk_at dksJ3_isEmpty_0 11 rfl rfl)
theorem dJ3_isEmpty_12 : decode cJ3_isEmpty 12 = .ok (.goto 4, 3) := dk_167 0 4 (dk_at dksJ3_isEmpty_0 12 rfl rfl)
theorem dJ3_isEmpty_15 : decode cJ3_isEmpty 15 = .ok (.iconst 0, 1) := dk_3 (dk_at dksJ3_isEmpty_0 15 rfl rfl)
theorem dJ3_isEmpty_16 : decode cJ3_isEmpty 16 = .ok (.ireturn, 1) := dk_172 (dk_at dksJ3_isEmpty_0 16 rfl rfl)
abbrev cJ3_circularClear : ByteArray := prog_48_method_54_code
def yJ3_circularClear : MethodName := ⟨RJ3, "circularClear", "([Ljava/lang/Object;II)V"⟩
def dkwJ3_circularClear_1 : List UInt8 := [167, 255, 244, 29, 28, 160, 0, 6, 167, 0, 10, 3, 60, 28, 62, 167, 255, 229, 177]
abbrev dktJ3_circularClear_1 : List UInt8 := dkwJ3_circularClear_1 ++ []
def dkwJ3_circularClear_0 : List UInt8 := [27, 28, 163, 0, 7, 28, 167, 0, 5, 42, 190, 62, 27, 29, 162, 0, 13, 42, 27, 1, 83, 132, 1, 1]
abbrev dktJ3_circularClear_0 : List UInt8 := dkwJ3_circularClear_0 ++ dktJ3_circularClear_1
theorem dksJ3_circularClear_0 : cJ3_circularClear.data.toList.drop 0 = dktJ3_circularClear_0 := by decide +kernel
theorem dksJ3_circularClear_1 : cJ3_circularClear.data.toList.drop 24 = dktJ3_circularClear_1 := dk_seg dksJ3_circularClear_0 24 rfl rfl
theorem dJ3_circularClear_0 : decode cJ3_circularClear 0 = .ok (.iload_n 1, 1) := dk_27 (dk_at dksJ3_circularClear_0 0 rfl rfl)
theorem dJ3_circularClear_1 : decode cJ3_circularClear 1 = .ok (.iload_n 2, 1) := dk_28 (dk_at dksJ3_circularClear_0 1 rfl rfl)
theorem dJ3_circularClear_2 : decode cJ3_circularClear 2 = .ok (.if_icmp .gt 7, 3) := dk_163 0 7 (dk_at dksJ3_circularClear_0 2 rfl rfl)
theorem dJ3_circularClear_5 : decode cJ3_circularClear 5 = .ok (.iload_n 2, 1) := dk_28 (dk_at dksJ3_circularClear_0 5 rfl rfl)
theorem dJ3_circularClear_6 : decode cJ3_circularClear 6 = .ok (.goto 5, 3) := dk_167 0 5 (dk_at dksJ3_circularClear_0 6 rfl rfl)
theorem dJ3_circularClear_9 : decode cJ3_circularClear 9 = .ok (.aload_n 0, 1) := dk_42 (dk_at dksJ3_circularClear_0 9 rfl rfl)
theorem dJ3_circularClear_10 : decode cJ3_circularClear 10 = .ok (.arraylength, 1) := dk_190 (dk_at dksJ3_circularClear_0 10 rfl rfl)
theorem dJ3_circularClear_11 : decode cJ3_circularClear 11 = .ok (.istore_n 3, 1) := dk_62 (dk_at dksJ3_circularClear_0 11 rfl rfl)
theorem dJ3_circularClear_12 : decode cJ3_circularClear 12 = .ok (.iload_n 1, 1) := dk_27 (dk_at dksJ3_circularClear_0 12 rfl rfl)
theorem dJ3_circularClear_13 : decode cJ3_circularClear 13 = .ok (.iload_n 3, 1) := dk_29 (dk_at dksJ3_circularClear_0 13 rfl rfl)
theorem dJ3_circularClear_14 : decode cJ3_circularClear 14 = .ok (.if_icmp .ge 13, 3) := dk_162 0 13 (dk_at dksJ3_circularClear_0 14 rfl rfl)
theorem dJ3_circularClear_17 : decode cJ3_circularClear 17 = .ok (.aload_n 0, 1) := dk_42 (dk_at dksJ3_circularClear_0 17 rfl rfl)
theorem dJ3_circularClear_18 : decode cJ3_circularClear 18 = .ok (.iload_n 1, 1) := dk_27 (dk_at dksJ3_circularClear_0 18 rfl rfl)
theorem dJ3_circularClear_19 : decode cJ3_circularClear 19 = .ok (.aconst_null, 1) := dk_1 (dk_at dksJ3_circularClear_0 19 rfl rfl)
theorem dJ3_circularClear_20 : decode cJ3_circularClear 20 = .ok (.aastore, 1) := dk_83 (dk_at dksJ3_circularClear_0 20 rfl rfl)
theorem dJ3_circularClear_21 : decode cJ3_circularClear 21 = .ok (.iinc 1 1, 3) := dk_132 1 1 (dk_at dksJ3_circularClear_0 21 rfl rfl)
theorem dJ3_circularClear_24 : decode cJ3_circularClear 24 = .ok (.goto (-12), 3) := dk_167 255 244 (dk_at dksJ3_circularClear_1 0 rfl rfl)
theorem dJ3_circularClear_27 : decode cJ3_circularClear 27 = .ok (.iload_n 3, 1) := dk_29 (dk_at dksJ3_circularClear_1 3 rfl rfl)
theorem dJ3_circularClear_28 : decode cJ3_circularClear 28 = .ok (.iload_n 2, 1) := dk_28 (dk_at dksJ3_circularClear_1 4 rfl rfl)
theorem dJ3_circularClear_29 : decode cJ3_circularClear 29 = .ok (.if_icmp .ne 6, 3) := dk_160 0 6 (dk_at dksJ3_circularClear_1 5 rfl rfl)
theorem dJ3_circularClear_32 : decode cJ3_circularClear 32 = .ok (.goto 10, 3) := dk_167 0 10 (dk_at dksJ3_circularClear_1 8 rfl rfl)
theorem dJ3_circularClear_35 : decode cJ3_circularClear 35 = .ok (.iconst 0, 1) := dk_3 (dk_at dksJ3_circularClear_1 11 rfl rfl)
theorem dJ3_circularClear_36 : decode cJ3_circularClear 36 = .ok (.istore_n 1, 1) := dk_60 (dk_at dksJ3_circularClear_1 12 rfl rfl)
theorem dJ3_circularClear_37 : decode cJ3_circularClear 37 = .ok (.iload_n 2, 1) := dk_28 (dk_at dksJ3_circularClear_1 13 rfl rfl)
theorem dJ3_circularClear_38 : decode cJ3_circularClear 38 = .ok (.istore_n 3, 1) := dk_62 (dk_at dksJ3_circularClear_1 14 rfl rfl)
theorem dJ3_circularClear_39 : decode cJ3_circularClear 39 = .ok (.goto (-27), 3) := dk_167 255 229 (dk_at dksJ3_circularClear_1 15 rfl rfl)
theorem dJ3_circularClear_42 : decode cJ3_circularClear 42 = .ok (.return_, 1) := dk_177 (dk_at dksJ3_circularClear_1 18 rfl rfl)
abbrev cJ3_sub : ByteArray := prog_48_method_9_code
def yJ3_sub : MethodName := ⟨RJ3, "sub", "(III)I"⟩
def dkwJ3_sub_0 : List UInt8 := [26, 27, 100, 89, 59, 156, 0, 7, 26, 28, 96, 59, 26, 172]
abbrev dktJ3_sub_0 : List UInt8 := dkwJ3_sub_0 ++ []
theorem dksJ3_sub_0 : cJ3_sub.data.toList.drop 0 = dktJ3_sub_0 := by decide +kernel
theorem dJ3_sub_0 : decode cJ3_sub 0 = .ok (.iload_n 0, 1) := dk_26 (dk_at dksJ3_sub_0 0 rfl rfl)
theorem dJ3_sub_1 : decode cJ3_sub 1 = .ok (.iload_n 1, 1) := dk_27 (dk_at dksJ3_sub_0 1 rfl rfl)
theorem dJ3_sub_2 : decode cJ3_sub 2 = .ok (.isub, 1) := dk_100 (dk_at dksJ3_sub_0 2 rfl rfl)
theorem dJ3_sub_3 : decode cJ3_sub 3 = .ok (.dup, 1) := dk_89 (dk_at dksJ3_sub_0 3 rfl rfl)
theorem dJ3_sub_4 : decode cJ3_sub 4 = .ok (.istore_n 0, 1) := dk_59 (dk_at dksJ3_sub_0 4 rfl rfl)
theorem dJ3_sub_5 : decode cJ3_sub 5 = .ok (.ifCond .ge 7, 3) := dk_156 0 7 (dk_at dksJ3_sub_0 5 rfl rfl)
theorem dJ3_sub_8 : decode cJ3_sub 8 = .ok (.iload_n 0, 1) := dk_26 (dk_at dksJ3_sub_0 8 rfl rfl)
theorem dJ3_sub_9 : decode cJ3_sub 9 = .ok (.iload_n 2, 1) := dk_28 (dk_at dksJ3_sub_0 9 rfl rfl)
theorem dJ3_sub_10 : decode cJ3_sub 10 = .ok (.iadd, 1) := dk_96 (dk_at dksJ3_sub_0 10 rfl rfl)
theorem dJ3_sub_11 : decode cJ3_sub 11 = .ok (.istore_n 0, 1) := dk_59 (dk_at dksJ3_sub_0 11 rfl rfl)
theorem dJ3_sub_12 : decode cJ3_sub 12 = .ok (.iload_n 0, 1) := dk_26 (dk_at dksJ3_sub_0 12 rfl rfl)
theorem dJ3_sub_13 : decode cJ3_sub 13 = .ok (.ireturn, 1) := dk_172 (dk_at dksJ3_sub_0 13 rfl rfl)
abbrev cJ3_inc : ByteArray := prog_48_method_6_code
def yJ3_inc : MethodName := ⟨RJ3, "inc", "(II)I"⟩
def dkwJ3_inc_0 : List UInt8 := [132, 0, 1, 26, 27, 161, 0, 5, 3, 59, 26, 172]
abbrev dktJ3_inc_0 : List UInt8 := dkwJ3_inc_0 ++ []
theorem dksJ3_inc_0 : cJ3_inc.data.toList.drop 0 = dktJ3_inc_0 := by decide +kernel
theorem dJ3_inc_0 : decode cJ3_inc 0 = .ok (.iinc 0 1, 3) := dk_132 0 1 (dk_at dksJ3_inc_0 0 rfl rfl)
theorem dJ3_inc_3 : decode cJ3_inc 3 = .ok (.iload_n 0, 1) := dk_26 (dk_at dksJ3_inc_0 3 rfl rfl)
theorem dJ3_inc_4 : decode cJ3_inc 4 = .ok (.iload_n 1, 1) := dk_27 (dk_at dksJ3_inc_0 4 rfl rfl)
theorem dJ3_inc_5 : decode cJ3_inc 5 = .ok (.if_icmp .lt 5, 3) := dk_161 0 5 (dk_at dksJ3_inc_0 5 rfl rfl)
theorem dJ3_inc_8 : decode cJ3_inc 8 = .ok (.iconst 0, 1) := dk_3 (dk_at dksJ3_inc_0 8 rfl rfl)
theorem dJ3_inc_9 : decode cJ3_inc 9 = .ok (.istore_n 0, 1) := dk_59 (dk_at dksJ3_inc_0 9 rfl rfl)
theorem dJ3_inc_10 : decode cJ3_inc 10 = .ok (.iload_n 0, 1) := dk_26 (dk_at dksJ3_inc_0 10 rfl rfl)
theorem dJ3_inc_11 : decode cJ3_inc 11 = .ok (.ireturn, 1) := dk_172 (dk_at dksJ3_inc_0 11 rfl rfl)
abbrev cJ3_dec : ByteArray := prog_48_method_7_code
def yJ3_dec : MethodName := ⟨RJ3, "dec", "(II)I"⟩
def dkwJ3_dec_0 : List UInt8 := [132, 0, 255, 26, 156, 0, 7, 27, 4, 100, 59, 26, 172]
abbrev dktJ3_dec_0 : List UInt8 := dkwJ3_dec_0 ++ []
theorem dksJ3_dec_0 : cJ3_dec.data.toList.drop 0 = dktJ3_dec_0 := by decide +kernel
theorem dJ3_dec_0 : decode cJ3_dec 0 = .ok (.iinc 0 (-1), 3) := dk_132 0 255 (dk_at dksJ3_dec_0 0 rfl rfl)
theorem dJ3_dec_3 : decode cJ3_dec 3 = .ok (.iload_n 0, 1) := dk_26 (dk_at dksJ3_dec_0 3 rfl rfl)
theorem dJ3_dec_4 : decode cJ3_dec 4 = .ok (.ifCond .ge 7, 3) := dk_156 0 7 (dk_at dksJ3_dec_0 4 rfl rfl)
theorem dJ3_dec_7 : decode cJ3_dec 7 = .ok (.iload_n 1, 1) := dk_27 (dk_at dksJ3_dec_0 7 rfl rfl)
theorem dJ3_dec_8 : decode cJ3_dec 8 = .ok (.iconst 1, 1) := dk_4 (dk_at dksJ3_dec_0 8 rfl rfl)
theorem dJ3_dec_9 : decode cJ3_dec 9 = .ok (.isub, 1) := dk_100 (dk_at dksJ3_dec_0 9 rfl rfl)
theorem dJ3_dec_10 : decode cJ3_dec 10 = .ok (.istore_n 0, 1) := dk_59 (dk_at dksJ3_dec_0 10 rfl rfl)
theorem dJ3_dec_11 : decode cJ3_dec 11 = .ok (.iload_n 0, 1) := dk_26 (dk_at dksJ3_dec_0 11 rfl rfl)
theorem dJ3_dec_12 : decode cJ3_dec 12 = .ok (.ireturn, 1) := dk_172 (dk_at dksJ3_dec_0 12 rfl rfl)
abbrev cJ3_elementAt : ByteArray := prog_48_method_10_code
def yJ3_elementAt : MethodName := ⟨RJ3, "elementAt", "([Ljava/lang/Object;I)Ljava/lang/Object;"⟩
def dkwJ3_elementAt_0 : List UInt8 := [42, 27, 50, 176]
abbrev dktJ3_elementAt_0 : List UInt8 := dkwJ3_elementAt_0 ++ []
theorem dksJ3_elementAt_0 : cJ3_elementAt.data.toList.drop 0 = dktJ3_elementAt_0 := by decide +kernel
theorem dJ3_elementAt_0 : decode cJ3_elementAt 0 = .ok (.aload_n 0, 1) := dk_42 (dk_at dksJ3_elementAt_0 0 rfl rfl)
theorem dJ3_elementAt_1 : decode cJ3_elementAt 1 = .ok (.iload_n 1, 1) := dk_27 (dk_at dksJ3_elementAt_0 1 rfl rfl)
theorem dJ3_elementAt_2 : decode cJ3_elementAt 2 = .ok (.aaload, 1) := dk_50 (dk_at dksJ3_elementAt_0 2 rfl rfl)
theorem dJ3_elementAt_3 : decode cJ3_elementAt 3 = .ok (.areturn, 1) := dk_176 (dk_at dksJ3_elementAt_0 3 rfl rfl)
abbrev cJ26_init : ByteArray := prog_56_method_1_code
def yJ26_init : MethodName := ⟨RJ26, "<init>", "()V"⟩
def dkwJ26_init_0 : List UInt8 := [42, 183, 0, 1, 42, 3, 181, 0, 7, 177]
abbrev dktJ26_init_0 : List UInt8 := dkwJ26_init_0 ++ []
theorem dksJ26_init_0 : cJ26_init.data.toList.drop 0 = dktJ26_init_0 := by decide +kernel
theorem dJ26_init_0 : decode cJ26_init 0 = .ok (.aload_n 0, 1) := dk_42 (dk_at dksJ26_init_0 0 rfl rfl)
theorem dJ26_init_1 : decode cJ26_init 1 = .ok (.invokespecial 1, 3) := dk_183 0 1 (dk_at dksJ26_init_0 1 rfl rfl)
theorem dJ26_init_4 : decode cJ26_init 4 = .ok (.aload_n 0, 1) := dk_42 (dk_at dksJ26_init_0 4 rfl rfl)
theorem dJ26_init_5 : decode cJ26_init 5 = .ok (.iconst 0, 1) := dk_3 (dk_at dksJ26_init_0 5 rfl rfl)
theorem dJ26_init_6 : decode cJ26_init 6 = .ok (.putfield 7, 3) := dk_181 0 7 (dk_at dksJ26_init_0 6 rfl rfl)
theorem dJ26_init_9 : decode cJ26_init 9 = .ok (.return_, 1) := dk_177 (dk_at dksJ26_init_0 9 rfl rfl)
abbrev cJ26_size : ByteArray := prog_56_method_16_code
def yJ26_size : MethodName := ⟨RJ26, "size", "()I"⟩
theorem dJ26_size_0 : decode cJ26_size 0 = .ok (.aload_n 0, 1) := by decide +kernel
theorem dJ26_size_1 : decode cJ26_size 1 = .ok (.getfield 7, 3) := by decide +kernel
theorem dJ26_size_4 : decode cJ26_size 4 = .ok (.ireturn, 1) := by decide +kernel
abbrev cJ26_isElementIndex : ByteArray := prog_56_method_26_code
def yJ26_isElementIndex : MethodName := ⟨RJ26, "isElementIndex", "(I)Z"⟩
def dkwJ26_isElementIndex_0 : List UInt8 := [27, 155, 0, 15, 27, 42, 180, 0, 7, 162, 0, 7, 4, 167, 0, 4, 3, 172]
abbrev dktJ26_isElementIndex_0 : List UInt8 := dkwJ26_isElementIndex_0 ++ []
theorem dksJ26_isElementIndex_0 : cJ26_isElementIndex.data.toList.drop 0 = dktJ26_isElementIndex_0 := by decide +kernel
theorem dJ26_isElementIndex_0 : decode cJ26_isElementIndex 0 = .ok (.iload_n 1, 1) := dk_27 (dk_at dksJ26_isElementIndex_0 0 rfl rfl)
theorem dJ26_isElementIndex_1 : decode cJ26_isElementIndex 1 = .ok (.ifCond .lt 15, 3) := dk_155 0 15 (dk_at dksJ26_isElementIndex_0 1 rfl rfl)
theorem dJ26_isElementIndex_4 : decode cJ26_isElementIndex 4 = .ok (.iload_n 1, 1) := dk_27 (dk_at dksJ26_isElementIndex_0 4 rfl rfl)
theorem dJ26_isElementIndex_5 : decode cJ26_isElementIndex 5 = .ok (.aload_n 0, 1) := dk_42 (dk_at dksJ26_isElementIndex_0 5 rfl rfl)
theorem dJ26_isElementIndex_6 : decode cJ26_isElementIndex 6 = .ok (.getfield 7, 3) := dk_180 0 7 (dk_at dksJ26_isElementIndex_0 6 rfl rfl)
theorem dJ26_isElementIndex_9 : decode cJ26_isElementIndex 9 = .ok (.if_icmp .ge 7, 3) := dk_162 0 7 (dk_at dksJ26_isElementIndex_0 9 rfl rfl)
theorem dJ26_isElementIndex_12 : decode cJ26_isElementIndex 12 = .ok (.iconst 1, 1) := dk_4 (dk_at dksJ26_isElementIndex_0 12 rfl rfl)
theorem dJ26_isElementIndex_13 : decode cJ26_isElementIndex 13 = .ok (.goto 4, 3) := dk_167 0 4 (dk_at dksJ26_isElementIndex_0 13 rfl rfl)
theorem dJ26_isElementIndex_16 : decode cJ26_isElementIndex 16 = .ok (.iconst 0, 1) := dk_3 (dk_at dksJ26_isElementIndex_0 16 rfl rfl)
theorem dJ26_isElementIndex_17 : decode cJ26_isElementIndex 17 = .ok (.ireturn, 1) := dk_172 (dk_at dksJ26_isElementIndex_0 17 rfl rfl)
abbrev cJ26_node : ByteArray := prog_56_method_31_code
def yJ26_node : MethodName := ⟨RJ26, "node", "(I)Ljava/util/LinkedList$Node;"⟩
def dkwJ26_node_2 : List UInt8 := [29, 27, 164, 0, 14, 44, 180, 0, 30, 77, 132, 3, 255, 167, 255, 243, 44, 176]
abbrev dktJ26_node_2 : List UInt8 := dkwJ26_node_2 ++ []
def dkwJ26_node_1 : List UInt8 := [180, 0, 36, 77, 132, 3, 1, 167, 255, 243, 44, 176, 42, 180, 0, 27, 77, 42, 180, 0, 7, 4, 100, 62]
abbrev dktJ26_node_1 : List UInt8 := dkwJ26_node_1 ++ dktJ26_node_2
def dkwJ26_node_0 : List UInt8 := [27, 42, 180, 0, 7, 4, 122, 162, 0, 28, 42, 180, 0, 18, 77, 3, 62, 29, 27, 162, 0, 14, 44]
abbrev dktJ26_node_0 : List UInt8 := dkwJ26_node_0 ++ dktJ26_node_1
theorem dksJ26_node_0 : cJ26_node.data.toList.drop 0 = dktJ26_node_0 := by decide +kernel
theorem dksJ26_node_1 : cJ26_node.data.toList.drop 23 = dktJ26_node_1 := dk_seg dksJ26_node_0 23 rfl rfl
theorem dksJ26_node_2 : cJ26_node.data.toList.drop 47 = dktJ26_node_2 := dk_seg dksJ26_node_1 24 rfl rfl
theorem dJ26_node_0 : decode cJ26_node 0 = .ok (.iload_n 1, 1) := dk_27 (dk_at dksJ26_node_0 0 rfl rfl)
theorem dJ26_node_1 : decode cJ26_node 1 = .ok (.aload_n 0, 1) := dk_42 (dk_at dksJ26_node_0 1 rfl rfl)
theorem dJ26_node_2 : decode cJ26_node 2 = .ok (.getfield 7, 3) := dk_180 0 7 (dk_at dksJ26_node_0 2 rfl rfl)
theorem dJ26_node_5 : decode cJ26_node 5 = .ok (.iconst 1, 1) := dk_4 (dk_at dksJ26_node_0 5 rfl rfl)
theorem dJ26_node_6 : decode cJ26_node 6 = .ok (.ishr, 1) := dk_122 (dk_at dksJ26_node_0 6 rfl rfl)
theorem dJ26_node_7 : decode cJ26_node 7 = .ok (.if_icmp .ge 28, 3) := dk_162 0 28 (dk_at dksJ26_node_0 7 rfl rfl)
theorem dJ26_node_10 : decode cJ26_node 10 = .ok (.aload_n 0, 1) := dk_42 (dk_at dksJ26_node_0 10 rfl rfl)
theorem dJ26_node_11 : decode cJ26_node 11 = .ok (.getfield 18, 3) := dk_180 0 18 (dk_at dksJ26_node_0 11 rfl rfl)
theorem dJ26_node_14 : decode cJ26_node 14 = .ok (.astore_n 2, 1) := dk_77 (dk_at dksJ26_node_0 14 rfl rfl)
theorem dJ26_node_15 : decode cJ26_node 15 = .ok (.iconst 0, 1) := dk_3 (dk_at dksJ26_node_0 15 rfl rfl)
theorem dJ26_node_16 : decode cJ26_node 16 = .ok (.istore_n 3, 1) := dk_62 (dk_at dksJ26_node_0 16 rfl rfl)
theorem dJ26_node_17 : decode cJ26_node 17 = .ok (.iload_n 3, 1) := dk_29 (dk_at dksJ26_node_0 17 rfl rfl)
theorem dJ26_node_18 : decode cJ26_node 18 = .ok (.iload_n 1, 1) := dk_27 (dk_at dksJ26_node_0 18 rfl rfl)
theorem dJ26_node_19 : decode cJ26_node 19 = .ok (.if_icmp .ge 14, 3) := dk_162 0 14 (dk_at dksJ26_node_0 19 rfl rfl)
theorem dJ26_node_22 : decode cJ26_node 22 = .ok (.aload_n 2, 1) := dk_44 (dk_at dksJ26_node_0 22 rfl rfl)
theorem dJ26_node_23 : decode cJ26_node 23 = .ok (.getfield 36, 3) := dk_180 0 36 (dk_at dksJ26_node_1 0 rfl rfl)
theorem dJ26_node_26 : decode cJ26_node 26 = .ok (.astore_n 2, 1) := dk_77 (dk_at dksJ26_node_1 3 rfl rfl)
theorem dJ26_node_27 : decode cJ26_node 27 = .ok (.iinc 3 1, 3) := dk_132 3 1 (dk_at dksJ26_node_1 4 rfl rfl)
theorem dJ26_node_30 : decode cJ26_node 30 = .ok (.goto (-13), 3) := dk_167 255 243 (dk_at dksJ26_node_1 7 rfl rfl)
theorem dJ26_node_33 : decode cJ26_node 33 = .ok (.aload_n 2, 1) := dk_44 (dk_at dksJ26_node_1 10 rfl rfl)
theorem dJ26_node_34 : decode cJ26_node 34 = .ok (.areturn, 1) := dk_176 (dk_at dksJ26_node_1 11 rfl rfl)
theorem dJ26_node_35 : decode cJ26_node 35 = .ok (.aload_n 0, 1) := dk_42 (dk_at dksJ26_node_1 12 rfl rfl)
theorem dJ26_node_36 : decode cJ26_node 36 = .ok (.getfield 27, 3) := dk_180 0 27 (dk_at dksJ26_node_1 13 rfl rfl)
theorem dJ26_node_39 : decode cJ26_node 39 = .ok (.astore_n 2, 1) := dk_77 (dk_at dksJ26_node_1 16 rfl rfl)
theorem dJ26_node_40 : decode cJ26_node 40 = .ok (.aload_n 0, 1) := dk_42 (dk_at dksJ26_node_1 17 rfl rfl)
theorem dJ26_node_41 : decode cJ26_node 41 = .ok (.getfield 7, 3) := dk_180 0 7 (dk_at dksJ26_node_1 18 rfl rfl)
theorem dJ26_node_44 : decode cJ26_node 44 = .ok (.iconst 1, 1) := dk_4 (dk_at dksJ26_node_1 21 rfl rfl)
theorem dJ26_node_45 : decode cJ26_node 45 = .ok (.isub, 1) := dk_100 (dk_at dksJ26_node_1 22 rfl rfl)
theorem dJ26_node_46 : decode cJ26_node 46 = .ok (.istore_n 3, 1) := dk_62 (dk_at dksJ26_node_1 23 rfl rfl)
theorem dJ26_node_47 : decode cJ26_node 47 = .ok (.iload_n 3, 1) := dk_29 (dk_at dksJ26_node_2 0 rfl rfl)
theorem dJ26_node_48 : decode cJ26_node 48 = .ok (.iload_n 1, 1) := dk_27 (dk_at dksJ26_node_2 1 rfl rfl)
theorem dJ26_node_49 : decode cJ26_node 49 = .ok (.if_icmp .le 14, 3) := dk_164 0 14 (dk_at dksJ26_node_2 2 rfl rfl)
theorem dJ26_node_52 : decode cJ26_node 52 = .ok (.aload_n 2, 1) := dk_44 (dk_at dksJ26_node_2 5 rfl rfl)
theorem dJ26_node_53 : decode cJ26_node 53 = .ok (.getfield 30, 3) := dk_180 0 30 (dk_at dksJ26_node_2 6 rfl rfl)
theorem dJ26_node_56 : decode cJ26_node 56 = .ok (.astore_n 2, 1) := dk_77 (dk_at dksJ26_node_2 9 rfl rfl)
theorem dJ26_node_57 : decode cJ26_node 57 = .ok (.iinc 3 (-1), 3) := dk_132 3 255 (dk_at dksJ26_node_2 10 rfl rfl)
theorem dJ26_node_60 : decode cJ26_node 60 = .ok (.goto (-13), 3) := dk_167 255 243 (dk_at dksJ26_node_2 13 rfl rfl)
theorem dJ26_node_63 : decode cJ26_node 63 = .ok (.aload_n 2, 1) := dk_44 (dk_at dksJ26_node_2 16 rfl rfl)
theorem dJ26_node_64 : decode cJ26_node 64 = .ok (.areturn, 1) := dk_176 (dk_at dksJ26_node_2 17 rfl rfl)
abbrev cJ26_isPositionIndex : ByteArray := prog_56_method_27_code
def yJ26_isPositionIndex : MethodName := ⟨RJ26, "isPositionIndex", "(I)Z"⟩
def dkwJ26_isPositionIndex_0 : List UInt8 := [27, 155, 0, 15, 27, 42, 180, 0, 7, 163, 0, 7, 4, 167, 0, 4, 3, 172]
abbrev dktJ26_isPositionIndex_0 : List UInt8 := dkwJ26_isPositionIndex_0 ++ []
theorem dksJ26_isPositionIndex_0 : cJ26_isPositionIndex.data.toList.drop 0 = dktJ26_isPositionIndex_0 := by decide +kernel
theorem dJ26_isPositionIndex_0 : decode cJ26_isPositionIndex 0 = .ok (.iload_n 1, 1) := dk_27 (dk_at dksJ26_isPositionIndex_0 0 rfl rfl)
theorem dJ26_isPositionIndex_1 : decode cJ26_isPositionIndex 1 = .ok (.ifCond .lt 15, 3) := dk_155 0 15 (dk_at dksJ26_isPositionIndex_0 1 rfl rfl)
theorem dJ26_isPositionIndex_4 : decode cJ26_isPositionIndex 4 = .ok (.iload_n 1, 1) := dk_27 (dk_at dksJ26_isPositionIndex_0 4 rfl rfl)
theorem dJ26_isPositionIndex_5 : decode cJ26_isPositionIndex 5 = .ok (.aload_n 0, 1) := dk_42 (dk_at dksJ26_isPositionIndex_0 5 rfl rfl)
theorem dJ26_isPositionIndex_6 : decode cJ26_isPositionIndex 6 = .ok (.getfield 7, 3) := dk_180 0 7 (dk_at dksJ26_isPositionIndex_0 6 rfl rfl)
theorem dJ26_isPositionIndex_9 : decode cJ26_isPositionIndex 9 = .ok (.if_icmp .gt 7, 3) := dk_163 0 7 (dk_at dksJ26_isPositionIndex_0 9 rfl rfl)
theorem dJ26_isPositionIndex_12 : decode cJ26_isPositionIndex 12 = .ok (.iconst 1, 1) := dk_4 (dk_at dksJ26_isPositionIndex_0 12 rfl rfl)
theorem dJ26_isPositionIndex_13 : decode cJ26_isPositionIndex 13 = .ok (.goto 4, 3) := dk_167 0 4 (dk_at dksJ26_isPositionIndex_0 13 rfl rfl)
theorem dJ26_isPositionIndex_16 : decode cJ26_isPositionIndex 16 = .ok (.iconst 0, 1) := dk_3 (dk_at dksJ26_isPositionIndex_0 16 rfl rfl)
theorem dJ26_isPositionIndex_17 : decode cJ26_isPositionIndex 17 = .ok (.ireturn, 1) := dk_172 (dk_at dksJ26_isPositionIndex_0 17 rfl rfl)
abbrev cJ27_init : ByteArray := prog_58_method_1_code
def yJ27_init : MethodName := ⟨RJ27, "<init>", "(Ljava/util/LinkedList$Node;Ljava/lang/Object;Ljava/util/LinkedList$Node;)V"⟩
def dkwJ27_init_0 : List UInt8 := [42, 183, 0, 1, 42, 44, 181, 0, 7, 42, 45, 181, 0, 13, 42, 43, 181, 0, 17, 177]
abbrev dktJ27_init_0 : List UInt8 := dkwJ27_init_0 ++ []
theorem dksJ27_init_0 : cJ27_init.data.toList.drop 0 = dktJ27_init_0 := by decide +kernel
theorem dJ27_init_0 : decode cJ27_init 0 = .ok (.aload_n 0, 1) := dk_42 (dk_at dksJ27_init_0 0 rfl rfl)
theorem dJ27_init_1 : decode cJ27_init 1 = .ok (.invokespecial 1, 3) := dk_183 0 1 (dk_at dksJ27_init_0 1 rfl rfl)
theorem dJ27_init_4 : decode cJ27_init 4 = .ok (.aload_n 0, 1) := dk_42 (dk_at dksJ27_init_0 4 rfl rfl)
theorem dJ27_init_5 : decode cJ27_init 5 = .ok (.aload_n 2, 1) := dk_44 (dk_at dksJ27_init_0 5 rfl rfl)
theorem dJ27_init_6 : decode cJ27_init 6 = .ok (.putfield 7, 3) := dk_181 0 7 (dk_at dksJ27_init_0 6 rfl rfl)
theorem dJ27_init_9 : decode cJ27_init 9 = .ok (.aload_n 0, 1) := dk_42 (dk_at dksJ27_init_0 9 rfl rfl)
theorem dJ27_init_10 : decode cJ27_init 10 = .ok (.aload_n 3, 1) := dk_45 (dk_at dksJ27_init_0 10 rfl rfl)
theorem dJ27_init_11 : decode cJ27_init 11 = .ok (.putfield 13, 3) := dk_181 0 13 (dk_at dksJ27_init_0 11 rfl rfl)
theorem dJ27_init_14 : decode cJ27_init 14 = .ok (.aload_n 0, 1) := dk_42 (dk_at dksJ27_init_0 14 rfl rfl)
theorem dJ27_init_15 : decode cJ27_init 15 = .ok (.aload_n 1, 1) := dk_43 (dk_at dksJ27_init_0 15 rfl rfl)
theorem dJ27_init_16 : decode cJ27_init 16 = .ok (.putfield 17, 3) := dk_181 0 17 (dk_at dksJ27_init_0 16 rfl rfl)
theorem dJ27_init_19 : decode cJ27_init 19 = .ok (.return_, 1) := dk_177 (dk_at dksJ27_init_0 19 rfl rfl)
abbrev cJ32_hasNext : ByteArray := prog_57_method_2_code
def yJ32_hasNext : MethodName := ⟨RJ32, "hasNext", "()Z"⟩
def dkwJ32_hasNext_0 : List UInt8 := [42, 180, 0, 33, 42, 180, 0, 1, 180, 0, 22, 162, 0, 7, 4, 167, 0, 4, 3, 172]
abbrev dktJ32_hasNext_0 : List UInt8 := dkwJ32_hasNext_0 ++ []
theorem dksJ32_hasNext_0 : cJ32_hasNext.data.toList.drop 0 = dktJ32_hasNext_0 := by decide +kernel
theorem dJ32_hasNext_0 : decode cJ32_hasNext 0 = .ok (.aload_n 0, 1) := dk_42 (dk_at dksJ32_hasNext_0 0 rfl rfl)
theorem dJ32_hasNext_1 : decode cJ32_hasNext 1 = .ok (.getfield 33, 3) := dk_180 0 33 (dk_at dksJ32_hasNext_0 1 rfl rfl)
theorem dJ32_hasNext_4 : decode cJ32_hasNext 4 = .ok (.aload_n 0, 1) := dk_42 (dk_at dksJ32_hasNext_0 4 rfl rfl)
theorem dJ32_hasNext_5 : decode cJ32_hasNext 5 = .ok (.getfield 1, 3) := dk_180 0 1 (dk_at dksJ32_hasNext_0 5 rfl rfl)
theorem dJ32_hasNext_8 : decode cJ32_hasNext 8 = .ok (.getfield 22, 3) := dk_180 0 22 (dk_at dksJ32_hasNext_0 8 rfl rfl)
theorem dJ32_hasNext_11 : decode cJ32_hasNext 11 = .ok (.if_icmp .ge 7, 3) := dk_162 0 7 (dk_at dksJ32_hasNext_0 11 rfl rfl)
theorem dJ32_hasNext_14 : decode cJ32_hasNext 14 = .ok (.iconst 1, 1) := dk_4 (dk_at dksJ32_hasNext_0 14 rfl rfl)
theorem dJ32_hasNext_15 : decode cJ32_hasNext 15 = .ok (.goto 4, 3) := dk_167 0 4 (dk_at dksJ32_hasNext_0 15 rfl rfl)
theorem dJ32_hasNext_18 : decode cJ32_hasNext 18 = .ok (.iconst 0, 1) := dk_3 (dk_at dksJ32_hasNext_0 18 rfl rfl)
theorem dJ32_hasNext_19 : decode cJ32_hasNext 19 = .ok (.ireturn, 1) := dk_172 (dk_at dksJ32_hasNext_0 19 rfl rfl)
abbrev cJ32_checkForComodification : ByteArray := prog_57_method_12_code
def yJ32_checkForComodification : MethodName := ⟨RJ32, "checkForComodification", "()V"⟩
def dkwJ32_checkForComodification_0 : List UInt8 := [42, 180, 0, 1, 180, 0, 13, 42, 180, 0, 19, 159, 0, 11, 187, 0, 91, 89, 183, 0, 93, 191, 177]
abbrev dktJ32_checkForComodification_0 : List UInt8 := dkwJ32_checkForComodification_0 ++ []
theorem dksJ32_checkForComodification_0 : cJ32_checkForComodification.data.toList.drop 0 = dktJ32_checkForComodification_0 := by decide +kernel
theorem dJ32_checkForComodification_0 : decode cJ32_checkForComodification 0 = .ok (.aload_n 0, 1) := dk_42 (dk_at dksJ32_checkForComodification_0 0 rfl rfl)
theorem dJ32_checkForComodification_1 : decode cJ32_checkForComodification 1 = .ok (.getfield 1, 3) := dk_180 0 1 (dk_at dksJ32_checkForComodification_0 1 rfl rfl)
theorem dJ32_checkForComodification_4 : decode cJ32_checkForComodification 4 = .ok (.getfield 13, 3) := dk_180 0 13 (dk_at dksJ32_checkForComodification_0 4 rfl rfl)
theorem dJ32_checkForComodification_7 : decode cJ32_checkForComodification 7 = .ok (.aload_n 0, 1) := dk_42 (dk_at dksJ32_checkForComodification_0 7 rfl rfl)
theorem dJ32_checkForComodification_8 : decode cJ32_checkForComodification 8 = .ok (.getfield 19, 3) := dk_180 0 19 (dk_at dksJ32_checkForComodification_0 8 rfl rfl)
theorem dJ32_checkForComodification_11 : decode cJ32_checkForComodification 11 = .ok (.if_icmp .eq 11, 3) := dk_159 0 11 (dk_at dksJ32_checkForComodification_0 11 rfl rfl)
theorem dJ32_checkForComodification_14 : decode cJ32_checkForComodification 14 = .ok (.new 91, 3) := dk_187 0 91 (dk_at dksJ32_checkForComodification_0 14 rfl rfl)
theorem dJ32_checkForComodification_17 : decode cJ32_checkForComodification 17 = .ok (.dup, 1) := dk_89 (dk_at dksJ32_checkForComodification_0 17 rfl rfl)
theorem dJ32_checkForComodification_18 : decode cJ32_checkForComodification 18 = .ok (.invokespecial 93, 3) := dk_183 0 93 (dk_at dksJ32_checkForComodification_0 18 rfl rfl)
theorem dJ32_checkForComodification_21 : decode cJ32_checkForComodification 21 = .ok (.athrow, 1) := dk_191 (dk_at dksJ32_checkForComodification_0 21 rfl rfl)
theorem dJ32_checkForComodification_22 : decode cJ32_checkForComodification 22 = .ok (.return_, 1) := dk_177 (dk_at dksJ32_checkForComodification_0 22 rfl rfl)
abbrev cJ32_init : ByteArray := prog_57_method_1_code
def yJ32_init : MethodName := ⟨RJ32, "<init>", "(Ljava/util/LinkedList;I)V"⟩
def dkwJ32_init_1 : List UInt8 := [180, 0, 22, 160, 0, 7, 1, 167, 0, 8, 43, 28, 182, 0, 25, 181, 0, 29, 42, 28, 181, 0, 33, 177]
abbrev dktJ32_init_1 : List UInt8 := dkwJ32_init_1 ++ []
def dkwJ32_init_0 : List UInt8 := [42, 43, 181, 0, 1, 42, 183, 0, 7, 42, 42, 180, 0, 1, 180, 0, 13, 181, 0, 19, 42, 28, 43]
abbrev dktJ32_init_0 : List UInt8 := dkwJ32_init_0 ++ dktJ32_init_1
theorem dksJ32_init_0 : cJ32_init.data.toList.drop 0 = dktJ32_init_0 := by decide +kernel
theorem dksJ32_init_1 : cJ32_init.data.toList.drop 23 = dktJ32_init_1 := dk_seg dksJ32_init_0 23 rfl rfl
theorem dJ32_init_0 : decode cJ32_init 0 = .ok (.aload_n 0, 1) := dk_42 (dk_at dksJ32_init_0 0 rfl rfl)
theorem dJ32_init_1 : decode cJ32_init 1 = .ok (.aload_n 1, 1) := dk_43 (dk_at dksJ32_init_0 1 rfl rfl)
theorem dJ32_init_2 : decode cJ32_init 2 = .ok (.putfield 1, 3) := dk_181 0 1 (dk_at dksJ32_init_0 2 rfl rfl)
theorem dJ32_init_5 : decode cJ32_init 5 = .ok (.aload_n 0, 1) := dk_42 (dk_at dksJ32_init_0 5 rfl rfl)
theorem dJ32_init_6 : decode cJ32_init 6 = .ok (.invokespecial 7, 3) := dk_183 0 7 (dk_at dksJ32_init_0 6 rfl rfl)
theorem dJ32_init_9 : decode cJ32_init 9 = .ok (.aload_n 0, 1) := dk_42 (dk_at dksJ32_init_0 9 rfl rfl)
theorem dJ32_init_10 : decode cJ32_init 10 = .ok (.aload_n 0, 1) := dk_42 (dk_at dksJ32_init_0 10 rfl rfl)
theorem dJ32_init_11 : decode cJ32_init 11 = .ok (.getfield 1, 3) := dk_180 0 1 (dk_at dksJ32_init_0 11 rfl rfl)
theorem dJ32_init_14 : decode cJ32_init 14 = .ok (.getfield 13, 3) := dk_180 0 13 (dk_at dksJ32_init_0 14 rfl rfl)
theorem dJ32_init_17 : decode cJ32_init 17 = .ok (.putfield 19, 3) := dk_181 0 19 (dk_at dksJ32_init_0 17 rfl rfl)
theorem dJ32_init_20 : decode cJ32_init 20 = .ok (.aload_n 0, 1) := dk_42 (dk_at dksJ32_init_0 20 rfl rfl)
theorem dJ32_init_21 : decode cJ32_init 21 = .ok (.iload_n 2, 1) := dk_28 (dk_at dksJ32_init_0 21 rfl rfl)
theorem dJ32_init_22 : decode cJ32_init 22 = .ok (.aload_n 1, 1) := dk_43 (dk_at dksJ32_init_0 22 rfl rfl)
theorem dJ32_init_23 : decode cJ32_init 23 = .ok (.getfield 22, 3) := dk_180 0 22 (dk_at dksJ32_init_1 0 rfl rfl)
theorem dJ32_init_26 : decode cJ32_init 26 = .ok (.if_icmp .ne 7, 3) := dk_160 0 7 (dk_at dksJ32_init_1 3 rfl rfl)
theorem dJ32_init_29 : decode cJ32_init 29 = .ok (.aconst_null, 1) := dk_1 (dk_at dksJ32_init_1 6 rfl rfl)
theorem dJ32_init_30 : decode cJ32_init 30 = .ok (.goto 8, 3) := dk_167 0 8 (dk_at dksJ32_init_1 7 rfl rfl)
theorem dJ32_init_33 : decode cJ32_init 33 = .ok (.aload_n 1, 1) := dk_43 (dk_at dksJ32_init_1 10 rfl rfl)
theorem dJ32_init_34 : decode cJ32_init 34 = .ok (.iload_n 2, 1) := dk_28 (dk_at dksJ32_init_1 11 rfl rfl)
theorem dJ32_init_35 : decode cJ32_init 35 = .ok (.invokevirtual 25, 3) := dk_182 0 25 (dk_at dksJ32_init_1 12 rfl rfl)
theorem dJ32_init_38 : decode cJ32_init 38 = .ok (.putfield 29, 3) := dk_181 0 29 (dk_at dksJ32_init_1 15 rfl rfl)
theorem dJ32_init_41 : decode cJ32_init 41 = .ok (.aload_n 0, 1) := dk_42 (dk_at dksJ32_init_1 18 rfl rfl)
theorem dJ32_init_42 : decode cJ32_init 42 = .ok (.iload_n 2, 1) := dk_28 (dk_at dksJ32_init_1 19 rfl rfl)
theorem dJ32_init_43 : decode cJ32_init 43 = .ok (.putfield 33, 3) := dk_181 0 33 (dk_at dksJ32_init_1 20 rfl rfl)
theorem dJ32_init_46 : decode cJ32_init 46 = .ok (.return_, 1) := dk_177 (dk_at dksJ32_init_1 23 rfl rfl)
abbrev cJ2_iterator : ByteArray := prog_49_method_55_code
def yJ2_iterator : MethodName := ⟨RJ2, "iterator", "()Ljava/util/Iterator;"⟩
def dkwJ2_iterator_0 : List UInt8 := [187, 1, 11, 89, 42, 183, 1, 13, 176]
abbrev dktJ2_iterator_0 : List UInt8 := dkwJ2_iterator_0 ++ []
theorem dksJ2_iterator_0 : cJ2_iterator.data.toList.drop 0 = dktJ2_iterator_0 := by decide +kernel
theorem dJ2_iterator_0 : decode cJ2_iterator 0 = .ok (.new 267, 3) := dk_187 1 11 (dk_at dksJ2_iterator_0 0 rfl rfl)
theorem dJ2_iterator_3 : decode cJ2_iterator 3 = .ok (.dup, 1) := dk_89 (dk_at dksJ2_iterator_0 3 rfl rfl)
theorem dJ2_iterator_4 : decode cJ2_iterator 4 = .ok (.aload_n 0, 1) := dk_42 (dk_at dksJ2_iterator_0 4 rfl rfl)
theorem dJ2_iterator_5 : decode cJ2_iterator 5 = .ok (.invokespecial 269, 3) := dk_183 1 13 (dk_at dksJ2_iterator_0 5 rfl rfl)
theorem dJ2_iterator_8 : decode cJ2_iterator 8 = .ok (.areturn, 1) := dk_176 (dk_at dksJ2_iterator_0 8 rfl rfl)
abbrev cJ8_next : ByteArray := prog_50_method_3_code
def yJ8_next : MethodName := ⟨RJ8, "next", "()Ljava/lang/Object;"⟩
def dkwJ8_next_2 : List UInt8 := [183, 0, 43, 191, 42, 27, 4, 96, 181, 0, 25, 44, 42, 27, 90, 181, 0, 13, 50, 176]
abbrev dktJ8_next_2 : List UInt8 := dkwJ8_next_2 ++ []
def dkwJ8_next_1 : List UInt8 := [183, 0, 36, 191, 42, 180, 0, 1, 180, 0, 37, 77, 27, 44, 190, 161, 0, 11, 187, 0, 41, 89]
abbrev dktJ8_next_1 : List UInt8 := dkwJ8_next_1 ++ dktJ8_next_2
def dkwJ8_next_0 : List UInt8 := [42, 182, 0, 31, 42, 180, 0, 25, 60, 27, 42, 180, 0, 1, 180, 0, 28, 161, 0, 11, 187, 0, 34, 89]
abbrev dktJ8_next_0 : List UInt8 := dkwJ8_next_0 ++ dktJ8_next_1
theorem dksJ8_next_0 : cJ8_next.data.toList.drop 0 = dktJ8_next_0 := by decide +kernel
theorem dksJ8_next_1 : cJ8_next.data.toList.drop 24 = dktJ8_next_1 := dk_seg dksJ8_next_0 24 rfl rfl
theorem dksJ8_next_2 : cJ8_next.data.toList.drop 46 = dktJ8_next_2 := dk_seg dksJ8_next_1 22 rfl rfl
theorem dJ8_next_0 : decode cJ8_next 0 = .ok (.aload_n 0, 1) := dk_42 (dk_at dksJ8_next_0 0 rfl rfl)
theorem dJ8_next_1 : decode cJ8_next 1 = .ok (.invokevirtual 31, 3) := dk_182 0 31 (dk_at dksJ8_next_0 1 rfl rfl)
theorem dJ8_next_4 : decode cJ8_next 4 = .ok (.aload_n 0, 1) := dk_42 (dk_at dksJ8_next_0 4 rfl rfl)
theorem dJ8_next_5 : decode cJ8_next 5 = .ok (.getfield 25, 3) := dk_180 0 25 (dk_at dksJ8_next_0 5 rfl rfl)
theorem dJ8_next_8 : decode cJ8_next 8 = .ok (.istore_n 1, 1) := dk_60 (dk_at dksJ8_next_0 8 rfl rfl)
theorem dJ8_next_9 : decode cJ8_next 9 = .ok (.iload_n 1, 1) := dk_27 (dk_at dksJ8_next_0 9 rfl rfl)
theorem dJ8_next_10 : decode cJ8_next 10 = .ok (.aload_n 0, 1) := dk_42 (dk_at dksJ8_next_0 10 rfl rfl)
theorem dJ8_next_11 : decode cJ8_next 11 = .ok (.getfield 1, 3) := dk_180 0 1 (dk_at dksJ8_next_0 11 rfl rfl)
theorem dJ8_next_14 : decode cJ8_next 14 = .ok (.getfield 28, 3) := dk_180 0 28 (dk_at dksJ8_next_0 14 rfl rfl)
theorem dJ8_next_17 : decode cJ8_next 17 = .ok (.if_icmp .lt 11, 3) := dk_161 0 11 (dk_at dksJ8_next_0 17 rfl rfl)
theorem dJ8_next_20 : decode cJ8_next 20 = .ok (.new 34, 3) := dk_187 0 34 (dk_at dksJ8_next_0 20 rfl rfl)
theorem dJ8_next_23 : decode cJ8_next 23 = .ok (.dup, 1) := dk_89 (dk_at dksJ8_next_0 23 rfl rfl)
theorem dJ8_next_24 : decode cJ8_next 24 = .ok (.invokespecial 36, 3) := dk_183 0 36 (dk_at dksJ8_next_1 0 rfl rfl)
theorem dJ8_next_27 : decode cJ8_next 27 = .ok (.athrow, 1) := dk_191 (dk_at dksJ8_next_1 3 rfl rfl)
theorem dJ8_next_28 : decode cJ8_next 28 = .ok (.aload_n 0, 1) := dk_42 (dk_at dksJ8_next_1 4 rfl rfl)
theorem dJ8_next_29 : decode cJ8_next 29 = .ok (.getfield 1, 3) := dk_180 0 1 (dk_at dksJ8_next_1 5 rfl rfl)
theorem dJ8_next_32 : decode cJ8_next 32 = .ok (.getfield 37, 3) := dk_180 0 37 (dk_at dksJ8_next_1 8 rfl rfl)
theorem dJ8_next_35 : decode cJ8_next 35 = .ok (.astore_n 2, 1) := dk_77 (dk_at dksJ8_next_1 11 rfl rfl)
theorem dJ8_next_36 : decode cJ8_next 36 = .ok (.iload_n 1, 1) := dk_27 (dk_at dksJ8_next_1 12 rfl rfl)
theorem dJ8_next_37 : decode cJ8_next 37 = .ok (.aload_n 2, 1) := dk_44 (dk_at dksJ8_next_1 13 rfl rfl)
theorem dJ8_next_38 : decode cJ8_next 38 = .ok (.arraylength, 1) := dk_190 (dk_at dksJ8_next_1 14 rfl rfl)
theorem dJ8_next_39 : decode cJ8_next 39 = .ok (.if_icmp .lt 11, 3) := dk_161 0 11 (dk_at dksJ8_next_1 15 rfl rfl)
theorem dJ8_next_42 : decode cJ8_next 42 = .ok (.new 41, 3) := dk_187 0 41 (dk_at dksJ8_next_1 18 rfl rfl)
theorem dJ8_next_45 : decode cJ8_next 45 = .ok (.dup, 1) := dk_89 (dk_at dksJ8_next_1 21 rfl rfl)
theorem dJ8_next_46 : decode cJ8_next 46 = .ok (.invokespecial 43, 3) := dk_183 0 43 (dk_at dksJ8_next_2 0 rfl rfl)
theorem dJ8_next_49 : decode cJ8_next 49 = .ok (.athrow, 1) := dk_191 (dk_at dksJ8_next_2 3 rfl rfl)
theorem dJ8_next_50 : decode cJ8_next 50 = .ok (.aload_n 0, 1) := dk_42 (dk_at dksJ8_next_2 4 rfl rfl)
theorem dJ8_next_51 : decode cJ8_next 51 = .ok (.iload_n 1, 1) := dk_27 (dk_at dksJ8_next_2 5 rfl rfl)
theorem dJ8_next_52 : decode cJ8_next 52 = .ok (.iconst 1, 1) := dk_4 (dk_at dksJ8_next_2 6 rfl rfl)
theorem dJ8_next_53 : decode cJ8_next 53 = .ok (.iadd, 1) := dk_96 (dk_at dksJ8_next_2 7 rfl rfl)
theorem dJ8_next_54 : decode cJ8_next 54 = .ok (.putfield 25, 3) := dk_181 0 25 (dk_at dksJ8_next_2 8 rfl rfl)
theorem dJ8_next_57 : decode cJ8_next 57 = .ok (.aload_n 2, 1) := dk_44 (dk_at dksJ8_next_2 11 rfl rfl)
theorem dJ8_next_58 : decode cJ8_next 58 = .ok (.aload_n 0, 1) := dk_42 (dk_at dksJ8_next_2 12 rfl rfl)
theorem dJ8_next_59 : decode cJ8_next 59 = .ok (.iload_n 1, 1) := dk_27 (dk_at dksJ8_next_2 13 rfl rfl)
theorem dJ8_next_60 : decode cJ8_next 60 = .ok (.dup_x1, 1) := dk_90 (dk_at dksJ8_next_2 14 rfl rfl)
theorem dJ8_next_61 : decode cJ8_next 61 = .ok (.putfield 13, 3) := dk_181 0 13 (dk_at dksJ8_next_2 15 rfl rfl)
theorem dJ8_next_64 : decode cJ8_next 64 = .ok (.aaload, 1) := dk_50 (dk_at dksJ8_next_2 18 rfl rfl)
theorem dJ8_next_65 : decode cJ8_next 65 = .ok (.areturn, 1) := dk_176 (dk_at dksJ8_next_2 19 rfl rfl)
abbrev cJ9_checkIndex : ByteArray := prog_62_method_17_code
def yJ9_checkIndex : MethodName := ⟨RJ9, "checkIndex", "(II)I"⟩
def dkwJ9_checkIndex_0 : List UInt8 := [26, 27, 1, 184, 0, 105, 172]
abbrev dktJ9_checkIndex_0 : List UInt8 := dkwJ9_checkIndex_0 ++ []
theorem dksJ9_checkIndex_0 : cJ9_checkIndex.data.toList.drop 0 = dktJ9_checkIndex_0 := by decide +kernel
theorem dJ9_checkIndex_0 : decode cJ9_checkIndex 0 = .ok (.iload_n 0, 1) := dk_26 (dk_at dksJ9_checkIndex_0 0 rfl rfl)
theorem dJ9_checkIndex_1 : decode cJ9_checkIndex 1 = .ok (.iload_n 1, 1) := dk_27 (dk_at dksJ9_checkIndex_0 1 rfl rfl)
theorem dJ9_checkIndex_2 : decode cJ9_checkIndex 2 = .ok (.aconst_null, 1) := dk_1 (dk_at dksJ9_checkIndex_0 2 rfl rfl)
theorem dJ9_checkIndex_3 : decode cJ9_checkIndex 3 = .ok (.invokestatic 105, 3) := dk_184 0 105 (dk_at dksJ9_checkIndex_0 3 rfl rfl)
theorem dJ9_checkIndex_6 : decode cJ9_checkIndex 6 = .ok (.ireturn, 1) := dk_172 (dk_at dksJ9_checkIndex_0 6 rfl rfl)
abbrev cJ17_copyOf_2 : ByteArray := prog_52_method_119_code
def yJ17_copyOf_2 : MethodName := ⟨RJ17, "copyOf", "([Ljava/lang/Object;I)[Ljava/lang/Object;"⟩
def dkwJ17_copyOf_2_0 : List UInt8 := [42, 27, 42, 182, 0, 86, 184, 1, 44, 176]
abbrev dktJ17_copyOf_2_0 : List UInt8 := dkwJ17_copyOf_2_0 ++ []
theorem dksJ17_copyOf_2_0 : cJ17_copyOf_2.data.toList.drop 0 = dktJ17_copyOf_2_0 := by decide +kernel
theorem dJ17_copyOf_2_0 : decode cJ17_copyOf_2 0 = .ok (.aload_n 0, 1) := dk_42 (dk_at dksJ17_copyOf_2_0 0 rfl rfl)
theorem dJ17_copyOf_2_1 : decode cJ17_copyOf_2 1 = .ok (.iload_n 1, 1) := dk_27 (dk_at dksJ17_copyOf_2_0 1 rfl rfl)
theorem dJ17_copyOf_2_2 : decode cJ17_copyOf_2 2 = .ok (.aload_n 0, 1) := dk_42 (dk_at dksJ17_copyOf_2_0 2 rfl rfl)
theorem dJ17_copyOf_2_3 : decode cJ17_copyOf_2 3 = .ok (.invokevirtual 86, 3) := dk_182 0 86 (dk_at dksJ17_copyOf_2_0 3 rfl rfl)
theorem dJ17_copyOf_2_6 : decode cJ17_copyOf_2 6 = .ok (.invokestatic 300, 3) := dk_184 1 44 (dk_at dksJ17_copyOf_2_0 6 rfl rfl)
theorem dJ17_copyOf_2_9 : decode cJ17_copyOf_2 9 = .ok (.areturn, 1) := dk_176 (dk_at dksJ17_copyOf_2_0 9 rfl rfl)
abbrev cJ3_addLast : ByteArray := prog_48_method_13_code
def yJ3_addLast : MethodName := ⟨RJ3, "addLast", "(Ljava/lang/Object;)V"⟩
def dkwJ3_addLast_2 : List UInt8 := [182, 0, 71, 177]
abbrev dktJ3_addLast_2 : List UInt8 := dkwJ3_addLast_2 ++ []
def dkwJ3_addLast_1 : List UInt8 := [42, 180, 0, 24, 42, 42, 180, 0, 20, 44, 190, 184, 0, 74, 90, 181, 0, 20, 160, 0, 8, 42, 4]
abbrev dktJ3_addLast_1 : List UInt8 := dkwJ3_addLast_1 ++ dktJ3_addLast_2
def dkwJ3_addLast_0 : List UInt8 := [43, 199, 0, 11, 187, 0, 65, 89, 183, 0, 67, 191, 42, 180, 0, 3, 77, 44, 42, 180, 0, 20, 43, 83]
abbrev dktJ3_addLast_0 : List UInt8 := dkwJ3_addLast_0 ++ dktJ3_addLast_1
theorem dksJ3_addLast_0 : cJ3_addLast.data.toList.drop 0 = dktJ3_addLast_0 := by decide +kernel
theorem dksJ3_addLast_1 : cJ3_addLast.data.toList.drop 24 = dktJ3_addLast_1 := dk_seg dksJ3_addLast_0 24 rfl rfl
theorem dksJ3_addLast_2 : cJ3_addLast.data.toList.drop 47 = dktJ3_addLast_2 := dk_seg dksJ3_addLast_1 23 rfl rfl
theorem dJ3_addLast_0 : decode cJ3_addLast 0 = .ok (.aload_n 1, 1) := dk_43 (dk_at dksJ3_addLast_0 0 rfl rfl)
theorem dJ3_addLast_1 : decode cJ3_addLast 1 = .ok (.ifnonnull 11, 3) := dk_199 0 11 (dk_at dksJ3_addLast_0 1 rfl rfl)
theorem dJ3_addLast_4 : decode cJ3_addLast 4 = .ok (.new 65, 3) := dk_187 0 65 (dk_at dksJ3_addLast_0 4 rfl rfl)
theorem dJ3_addLast_7 : decode cJ3_addLast 7 = .ok (.dup, 1) := dk_89 (dk_at dksJ3_addLast_0 7 rfl rfl)
theorem dJ3_addLast_8 : decode cJ3_addLast 8 = .ok (.invokespecial 67, 3) := dk_183 0 67 (dk_at dksJ3_addLast_0 8 rfl rfl)
theorem dJ3_addLast_11 : decode cJ3_addLast 11 = .ok (.athrow, 1) := dk_191 (dk_at dksJ3_addLast_0 11 rfl rfl)
theorem dJ3_addLast_12 : decode cJ3_addLast 12 = .ok (.aload_n 0, 1) := dk_42 (dk_at dksJ3_addLast_0 12 rfl rfl)
theorem dJ3_addLast_13 : decode cJ3_addLast 13 = .ok (.getfield 3, 3) := dk_180 0 3 (dk_at dksJ3_addLast_0 13 rfl rfl)
theorem dJ3_addLast_16 : decode cJ3_addLast 16 = .ok (.astore_n 2, 1) := dk_77 (dk_at dksJ3_addLast_0 16 rfl rfl)
theorem dJ3_addLast_17 : decode cJ3_addLast 17 = .ok (.aload_n 2, 1) := dk_44 (dk_at dksJ3_addLast_0 17 rfl rfl)
theorem dJ3_addLast_18 : decode cJ3_addLast 18 = .ok (.aload_n 0, 1) := dk_42 (dk_at dksJ3_addLast_0 18 rfl rfl)
theorem dJ3_addLast_19 : decode cJ3_addLast 19 = .ok (.getfield 20, 3) := dk_180 0 20 (dk_at dksJ3_addLast_0 19 rfl rfl)
theorem dJ3_addLast_22 : decode cJ3_addLast 22 = .ok (.aload_n 1, 1) := dk_43 (dk_at dksJ3_addLast_0 22 rfl rfl)
theorem dJ3_addLast_23 : decode cJ3_addLast 23 = .ok (.aastore, 1) := dk_83 (dk_at dksJ3_addLast_0 23 rfl rfl)
theorem dJ3_addLast_24 : decode cJ3_addLast 24 = .ok (.aload_n 0, 1) := dk_42 (dk_at dksJ3_addLast_1 0 rfl rfl)
theorem dJ3_addLast_25 : decode cJ3_addLast 25 = .ok (.getfield 24, 3) := dk_180 0 24 (dk_at dksJ3_addLast_1 1 rfl rfl)
theorem dJ3_addLast_28 : decode cJ3_addLast 28 = .ok (.aload_n 0, 1) := dk_42 (dk_at dksJ3_addLast_1 4 rfl rfl)
theorem dJ3_addLast_29 : decode cJ3_addLast 29 = .ok (.aload_n 0, 1) := dk_42 (dk_at dksJ3_addLast_1 5 rfl rfl)
theorem dJ3_addLast_30 : decode cJ3_addLast 30 = .ok (.getfield 20, 3) := dk_180 0 20 (dk_at dksJ3_addLast_1 6 rfl rfl)
theorem dJ3_addLast_33 : decode cJ3_addLast 33 = .ok (.aload_n 2, 1) := dk_44 (dk_at dksJ3_addLast_1 9 rfl rfl)
theorem dJ3_addLast_34 : decode cJ3_addLast 34 = .ok (.arraylength, 1) := dk_190 (dk_at dksJ3_addLast_1 10 rfl rfl)
theorem dJ3_addLast_35 : decode cJ3_addLast 35 = .ok (.invokestatic 74, 3) := dk_184 0 74 (dk_at dksJ3_addLast_1 11 rfl rfl)
theorem dJ3_addLast_38 : decode cJ3_addLast 38 = .ok (.dup_x1, 1) := dk_90 (dk_at dksJ3_addLast_1 14 rfl rfl)
theorem dJ3_addLast_39 : decode cJ3_addLast 39 = .ok (.putfield 20, 3) := dk_181 0 20 (dk_at dksJ3_addLast_1 15 rfl rfl)
theorem dJ3_addLast_42 : decode cJ3_addLast 42 = .ok (.if_icmp .ne 8, 3) := dk_160 0 8 (dk_at dksJ3_addLast_1 18 rfl rfl)
theorem dJ3_addLast_45 : decode cJ3_addLast 45 = .ok (.aload_n 0, 1) := dk_42 (dk_at dksJ3_addLast_1 21 rfl rfl)
theorem dJ3_addLast_46 : decode cJ3_addLast 46 = .ok (.iconst 1, 1) := dk_4 (dk_at dksJ3_addLast_1 22 rfl rfl)
theorem dJ3_addLast_47 : decode cJ3_addLast 47 = .ok (.invokevirtual 71, 3) := dk_182 0 71 (dk_at dksJ3_addLast_2 0 rfl rfl)
theorem dJ3_addLast_50 : decode cJ3_addLast 50 = .ok (.return_, 1) := dk_177 (dk_at dksJ3_addLast_2 3 rfl rfl)
abbrev cJ3_pollFirst : ByteArray := prog_48_method_20_code
def yJ3_pollFirst : MethodName := ⟨RJ3, "pollFirst", "()Ljava/lang/Object;"⟩
def dkwJ3_pollFirst_1 : List UInt8 := [42, 28, 43, 190, 184, 0, 74, 181, 0, 24, 45, 176]
abbrev dktJ3_pollFirst_1 : List UInt8 := dkwJ3_pollFirst_1 ++ []
def dkwJ3_pollFirst_0 : List UInt8 := [42, 180, 0, 3, 89, 76, 42, 180, 0, 24, 89, 61, 184, 0, 103, 78, 45, 198, 0, 17, 43, 28, 1, 83]
abbrev dktJ3_pollFirst_0 : List UInt8 := dkwJ3_pollFirst_0 ++ dktJ3_pollFirst_1
theorem dksJ3_pollFirst_0 : cJ3_pollFirst.data.toList.drop 0 = dktJ3_pollFirst_0 := by decide +kernel
theorem dksJ3_pollFirst_1 : cJ3_pollFirst.data.toList.drop 24 = dktJ3_pollFirst_1 := dk_seg dksJ3_pollFirst_0 24 rfl rfl
theorem dJ3_pollFirst_0 : decode cJ3_pollFirst 0 = .ok (.aload_n 0, 1) := dk_42 (dk_at dksJ3_pollFirst_0 0 rfl rfl)
theorem dJ3_pollFirst_1 : decode cJ3_pollFirst 1 = .ok (.getfield 3, 3) := dk_180 0 3 (dk_at dksJ3_pollFirst_0 1 rfl rfl)
theorem dJ3_pollFirst_4 : decode cJ3_pollFirst 4 = .ok (.dup, 1) := dk_89 (dk_at dksJ3_pollFirst_0 4 rfl rfl)
theorem dJ3_pollFirst_5 : decode cJ3_pollFirst 5 = .ok (.astore_n 1, 1) := dk_76 (dk_at dksJ3_pollFirst_0 5 rfl rfl)
theorem dJ3_pollFirst_6 : decode cJ3_pollFirst 6 = .ok (.aload_n 0, 1) := dk_42 (dk_at dksJ3_pollFirst_0 6 rfl rfl)
theorem dJ3_pollFirst_7 : decode cJ3_pollFirst 7 = .ok (.getfield 24, 3) := dk_180 0 24 (dk_at dksJ3_pollFirst_0 7 rfl rfl)
theorem dJ3_pollFirst_10 : decode cJ3_pollFirst 10 = .ok (.dup, 1) := dk_89 (dk_at dksJ3_pollFirst_0 10 rfl rfl)
theorem dJ3_pollFirst_11 : decode cJ3_pollFirst 11 = .ok (.istore_n 2, 1) := dk_61 (dk_at dksJ3_pollFirst_0 11 rfl rfl)
theorem dJ3_pollFirst_12 : decode cJ3_pollFirst 12 = .ok (.invokestatic 103, 3) := dk_184 0 103 (dk_at dksJ3_pollFirst_0 12 rfl rfl)
theorem dJ3_pollFirst_15 : decode cJ3_pollFirst 15 = .ok (.astore_n 3, 1) := dk_78 (dk_at dksJ3_pollFirst_0 15 rfl rfl)
theorem dJ3_pollFirst_16 : decode cJ3_pollFirst 16 = .ok (.aload_n 3, 1) := dk_45 (dk_at dksJ3_pollFirst_0 16 rfl rfl)
theorem dJ3_pollFirst_17 : decode cJ3_pollFirst 17 = .ok (.ifnull 17, 3) := dk_198 0 17 (dk_at dksJ3_pollFirst_0 17 rfl rfl)
theorem dJ3_pollFirst_20 : decode cJ3_pollFirst 20 = .ok (.aload_n 1, 1) := dk_43 (dk_at dksJ3_pollFirst_0 20 rfl rfl)
theorem dJ3_pollFirst_21 : decode cJ3_pollFirst 21 = .ok (.iload_n 2, 1) := dk_28 (dk_at dksJ3_pollFirst_0 21 rfl rfl)
theorem dJ3_pollFirst_22 : decode cJ3_pollFirst 22 = .ok (.aconst_null, 1) := dk_1 (dk_at dksJ3_pollFirst_0 22 rfl rfl)
theorem dJ3_pollFirst_23 : decode cJ3_pollFirst 23 = .ok (.aastore, 1) := dk_83 (dk_at dksJ3_pollFirst_0 23 rfl rfl)
theorem dJ3_pollFirst_24 : decode cJ3_pollFirst 24 = .ok (.aload_n 0, 1) := dk_42 (dk_at dksJ3_pollFirst_1 0 rfl rfl)
theorem dJ3_pollFirst_25 : decode cJ3_pollFirst 25 = .ok (.iload_n 2, 1) := dk_28 (dk_at dksJ3_pollFirst_1 1 rfl rfl)
theorem dJ3_pollFirst_26 : decode cJ3_pollFirst 26 = .ok (.aload_n 1, 1) := dk_43 (dk_at dksJ3_pollFirst_1 2 rfl rfl)
theorem dJ3_pollFirst_27 : decode cJ3_pollFirst 27 = .ok (.arraylength, 1) := dk_190 (dk_at dksJ3_pollFirst_1 3 rfl rfl)
theorem dJ3_pollFirst_28 : decode cJ3_pollFirst 28 = .ok (.invokestatic 74, 3) := dk_184 0 74 (dk_at dksJ3_pollFirst_1 4 rfl rfl)
theorem dJ3_pollFirst_31 : decode cJ3_pollFirst 31 = .ok (.putfield 24, 3) := dk_181 0 24 (dk_at dksJ3_pollFirst_1 7 rfl rfl)
theorem dJ3_pollFirst_34 : decode cJ3_pollFirst 34 = .ok (.aload_n 3, 1) := dk_45 (dk_at dksJ3_pollFirst_1 10 rfl rfl)
theorem dJ3_pollFirst_35 : decode cJ3_pollFirst 35 = .ok (.areturn, 1) := dk_176 (dk_at dksJ3_pollFirst_1 11 rfl rfl)
abbrev cJ3_pollLast : ByteArray := prog_48_method_21_code
def yJ3_pollLast : MethodName := ⟨RJ3, "pollLast", "()Ljava/lang/Object;"⟩
def dkwJ3_pollLast_1 : List UInt8 := [198, 0, 12, 43, 42, 28, 90, 181, 0, 20, 1, 83, 45, 176]
abbrev dktJ3_pollLast_1 : List UInt8 := dkwJ3_pollLast_1 ++ []
def dkwJ3_pollLast_0 : List UInt8 := [42, 180, 0, 3, 89, 76, 42, 180, 0, 20, 43, 190, 184, 0, 68, 89, 61, 184, 0, 103, 78, 45]
abbrev dktJ3_pollLast_0 : List UInt8 := dkwJ3_pollLast_0 ++ dktJ3_pollLast_1
theorem dksJ3_pollLast_0 : cJ3_pollLast.data.toList.drop 0 = dktJ3_pollLast_0 := by decide +kernel
theorem dksJ3_pollLast_1 : cJ3_pollLast.data.toList.drop 22 = dktJ3_pollLast_1 := dk_seg dksJ3_pollLast_0 22 rfl rfl
theorem dJ3_pollLast_0 : decode cJ3_pollLast 0 = .ok (.aload_n 0, 1) := dk_42 (dk_at dksJ3_pollLast_0 0 rfl rfl)
theorem dJ3_pollLast_1 : decode cJ3_pollLast 1 = .ok (.getfield 3, 3) := dk_180 0 3 (dk_at dksJ3_pollLast_0 1 rfl rfl)
theorem dJ3_pollLast_4 : decode cJ3_pollLast 4 = .ok (.dup, 1) := dk_89 (dk_at dksJ3_pollLast_0 4 rfl rfl)
theorem dJ3_pollLast_5 : decode cJ3_pollLast 5 = .ok (.astore_n 1, 1) := dk_76 (dk_at dksJ3_pollLast_0 5 rfl rfl)
theorem dJ3_pollLast_6 : decode cJ3_pollLast 6 = .ok (.aload_n 0, 1) := dk_42 (dk_at dksJ3_pollLast_0 6 rfl rfl)
theorem dJ3_pollLast_7 : decode cJ3_pollLast 7 = .ok (.getfield 20, 3) := dk_180 0 20 (dk_at dksJ3_pollLast_0 7 rfl rfl)
theorem dJ3_pollLast_10 : decode cJ3_pollLast 10 = .ok (.aload_n 1, 1) := dk_43 (dk_at dksJ3_pollLast_0 10 rfl rfl)
theorem dJ3_pollLast_11 : decode cJ3_pollLast 11 = .ok (.arraylength, 1) := dk_190 (dk_at dksJ3_pollLast_0 11 rfl rfl)
theorem dJ3_pollLast_12 : decode cJ3_pollLast 12 = .ok (.invokestatic 68, 3) := dk_184 0 68 (dk_at dksJ3_pollLast_0 12 rfl rfl)
theorem dJ3_pollLast_15 : decode cJ3_pollLast 15 = .ok (.dup, 1) := dk_89 (dk_at dksJ3_pollLast_0 15 rfl rfl)
theorem dJ3_pollLast_16 : decode cJ3_pollLast 16 = .ok (.istore_n 2, 1) := dk_61 (dk_at dksJ3_pollLast_0 16 rfl rfl)
theorem dJ3_pollLast_17 : decode cJ3_pollLast 17 = .ok (.invokestatic 103, 3) := dk_184 0 103 (dk_at dksJ3_pollLast_0 17 rfl rfl)
theorem dJ3_pollLast_20 : decode cJ3_pollLast 20 = .ok (.astore_n 3, 1) := dk_78 (dk_at dksJ3_pollLast_0 20 rfl rfl)
theorem dJ3_pollLast_21 : decode cJ3_pollLast 21 = .ok (.aload_n 3, 1) := dk_45 (dk_at dksJ3_pollLast_0 21 rfl rfl)
theorem dJ3_pollLast_22 : decode cJ3_pollLast 22 = .ok (.ifnull 12, 3) := dk_198 0 12 (dk_at dksJ3_pollLast_1 0 rfl rfl)
theorem dJ3_pollLast_25 : decode cJ3_pollLast 25 = .ok (.aload_n 1, 1) := dk_43 (dk_at dksJ3_pollLast_1 3 rfl rfl)
theorem dJ3_pollLast_26 : decode cJ3_pollLast 26 = .ok (.aload_n 0, 1) := dk_42 (dk_at dksJ3_pollLast_1 4 rfl rfl)
theorem dJ3_pollLast_27 : decode cJ3_pollLast 27 = .ok (.iload_n 2, 1) := dk_28 (dk_at dksJ3_pollLast_1 5 rfl rfl)
theorem dJ3_pollLast_28 : decode cJ3_pollLast 28 = .ok (.dup_x1, 1) := dk_90 (dk_at dksJ3_pollLast_1 6 rfl rfl)
theorem dJ3_pollLast_29 : decode cJ3_pollLast 29 = .ok (.putfield 20, 3) := dk_181 0 20 (dk_at dksJ3_pollLast_1 7 rfl rfl)
theorem dJ3_pollLast_32 : decode cJ3_pollLast 32 = .ok (.aconst_null, 1) := dk_1 (dk_at dksJ3_pollLast_1 10 rfl rfl)
theorem dJ3_pollLast_33 : decode cJ3_pollLast 33 = .ok (.aastore, 1) := dk_83 (dk_at dksJ3_pollLast_1 11 rfl rfl)
theorem dJ3_pollLast_34 : decode cJ3_pollLast 34 = .ok (.aload_n 3, 1) := dk_45 (dk_at dksJ3_pollLast_1 12 rfl rfl)
theorem dJ3_pollLast_35 : decode cJ3_pollLast 35 = .ok (.areturn, 1) := dk_176 (dk_at dksJ3_pollLast_1 13 rfl rfl)
abbrev cJ3_clear : ByteArray := prog_48_method_53_code
def yJ3_clear : MethodName := ⟨RJ3, "clear", "()V"⟩
def dkwJ3_clear_1 : List UInt8 := [181, 0, 24, 177]
abbrev dktJ3_clear_1 : List UInt8 := dkwJ3_clear_1 ++ []
def dkwJ3_clear_0 : List UInt8 := [42, 180, 0, 3, 42, 180, 0, 24, 42, 180, 0, 20, 184, 0, 181, 42, 42, 3, 90, 181, 0, 20]
abbrev dktJ3_clear_0 : List UInt8 := dkwJ3_clear_0 ++ dktJ3_clear_1
theorem dksJ3_clear_0 : cJ3_clear.data.toList.drop 0 = dktJ3_clear_0 := by decide +kernel
theorem dksJ3_clear_1 : cJ3_clear.data.toList.drop 22 = dktJ3_clear_1 := dk_seg dksJ3_clear_0 22 rfl rfl
theorem dJ3_clear_0 : decode cJ3_clear 0 = .ok (.aload_n 0, 1) := dk_42 (dk_at dksJ3_clear_0 0 rfl rfl)
theorem dJ3_clear_1 : decode cJ3_clear 1 = .ok (.getfield 3, 3) := dk_180 0 3 (dk_at dksJ3_clear_0 1 rfl rfl)
theorem dJ3_clear_4 : decode cJ3_clear 4 = .ok (.aload_n 0, 1) := dk_42 (dk_at dksJ3_clear_0 4 rfl rfl)
theorem dJ3_clear_5 : decode cJ3_clear 5 = .ok (.getfield 24, 3) := dk_180 0 24 (dk_at dksJ3_clear_0 5 rfl rfl)
theorem dJ3_clear_8 : decode cJ3_clear 8 = .ok (.aload_n 0, 1) := dk_42 (dk_at dksJ3_clear_0 8 rfl rfl)
theorem dJ3_clear_9 : decode cJ3_clear 9 = .ok (.getfield 20, 3) := dk_180 0 20 (dk_at dksJ3_clear_0 9 rfl rfl)
theorem dJ3_clear_12 : decode cJ3_clear 12 = .ok (.invokestatic 181, 3) := dk_184 0 181 (dk_at dksJ3_clear_0 12 rfl rfl)
theorem dJ3_clear_15 : decode cJ3_clear 15 = .ok (.aload_n 0, 1) := dk_42 (dk_at dksJ3_clear_0 15 rfl rfl)
theorem dJ3_clear_16 : decode cJ3_clear 16 = .ok (.aload_n 0, 1) := dk_42 (dk_at dksJ3_clear_0 16 rfl rfl)
theorem dJ3_clear_17 : decode cJ3_clear 17 = .ok (.iconst 0, 1) := dk_3 (dk_at dksJ3_clear_0 17 rfl rfl)
theorem dJ3_clear_18 : decode cJ3_clear 18 = .ok (.dup_x1, 1) := dk_90 (dk_at dksJ3_clear_0 18 rfl rfl)
theorem dJ3_clear_19 : decode cJ3_clear 19 = .ok (.putfield 20, 3) := dk_181 0 20 (dk_at dksJ3_clear_0 19 rfl rfl)
theorem dJ3_clear_22 : decode cJ3_clear 22 = .ok (.putfield 24, 3) := dk_181 0 24 (dk_at dksJ3_clear_1 0 rfl rfl)
theorem dJ3_clear_25 : decode cJ3_clear 25 = .ok (.return_, 1) := dk_177 (dk_at dksJ3_clear_1 3 rfl rfl)
abbrev cJ3_size : ByteArray := prog_48_method_37_code
def yJ3_size : MethodName := ⟨RJ3, "size", "()I"⟩
def dkwJ3_size_0 : List UInt8 := [42, 180, 0, 20, 42, 180, 0, 24, 42, 180, 0, 3, 190, 184, 0, 127, 172]
abbrev dktJ3_size_0 : List UInt8 := dkwJ3_size_0 ++ []
theorem dksJ3_size_0 : cJ3_size.data.toList.drop 0 = dktJ3_size_0 := by decide +kernel
theorem dJ3_size_0 : decode cJ3_size 0 = .ok (.aload_n 0, 1) := dk_42 (dk_at dksJ3_size_0 0 rfl rfl)
theorem dJ3_size_1 : decode cJ3_size 1 = .ok (.getfield 20, 3) := dk_180 0 20 (dk_at dksJ3_size_0 1 rfl rfl)
theorem dJ3_size_4 : decode cJ3_size 4 = .ok (.aload_n 0, 1) := dk_42 (dk_at dksJ3_size_0 4 rfl rfl)
theorem dJ3_size_5 : decode cJ3_size 5 = .ok (.getfield 24, 3) := dk_180 0 24 (dk_at dksJ3_size_0 5 rfl rfl)
theorem dJ3_size_8 : decode cJ3_size 8 = .ok (.aload_n 0, 1) := dk_42 (dk_at dksJ3_size_0 8 rfl rfl)
theorem dJ3_size_9 : decode cJ3_size 9 = .ok (.getfield 3, 3) := dk_180 0 3 (dk_at dksJ3_size_0 9 rfl rfl)
theorem dJ3_size_12 : decode cJ3_size 12 = .ok (.arraylength, 1) := dk_190 (dk_at dksJ3_size_0 12 rfl rfl)
theorem dJ3_size_13 : decode cJ3_size 13 = .ok (.invokestatic 127, 3) := dk_184 0 127 (dk_at dksJ3_size_0 13 rfl rfl)
theorem dJ3_size_16 : decode cJ3_size 16 = .ok (.ireturn, 1) := dk_172 (dk_at dksJ3_size_0 16 rfl rfl)
abbrev cJ26_checkElementIndex : ByteArray := prog_56_method_29_code
def yJ26_checkElementIndex : MethodName := ⟨RJ26, "checkElementIndex", "(I)V"⟩
def dkwJ26_checkElementIndex_0 : List UInt8 := [42, 27, 182, 0, 115, 154, 0, 16, 187, 0, 119, 89, 42, 27, 182, 0, 121, 183, 0, 125, 191, 177]
abbrev dktJ26_checkElementIndex_0 : List UInt8 := dkwJ26_checkElementIndex_0 ++ []
theorem dksJ26_checkElementIndex_0 : cJ26_checkElementIndex.data.toList.drop 0 = dktJ26_checkElementIndex_0 := by decide +kernel
theorem dJ26_checkElementIndex_0 : decode cJ26_checkElementIndex 0 = .ok (.aload_n 0, 1) := dk_42 (dk_at dksJ26_checkElementIndex_0 0 rfl rfl)
theorem dJ26_checkElementIndex_1 : decode cJ26_checkElementIndex 1 = .ok (.iload_n 1, 1) := dk_27 (dk_at dksJ26_checkElementIndex_0 1 rfl rfl)
theorem dJ26_checkElementIndex_2 : decode cJ26_checkElementIndex 2 = .ok (.invokevirtual 115, 3) := dk_182 0 115 (dk_at dksJ26_checkElementIndex_0 2 rfl rfl)
theorem dJ26_checkElementIndex_5 : decode cJ26_checkElementIndex 5 = .ok (.ifCond .ne 16, 3) := dk_154 0 16 (dk_at dksJ26_checkElementIndex_0 5 rfl rfl)
theorem dJ26_checkElementIndex_8 : decode cJ26_checkElementIndex 8 = .ok (.new 119, 3) := dk_187 0 119 (dk_at dksJ26_checkElementIndex_0 8 rfl rfl)
theorem dJ26_checkElementIndex_11 : decode cJ26_checkElementIndex 11 = .ok (.dup, 1) := dk_89 (dk_at dksJ26_checkElementIndex_0 11 rfl rfl)
theorem dJ26_checkElementIndex_12 : decode cJ26_checkElementIndex 12 = .ok (.aload_n 0, 1) := dk_42 (dk_at dksJ26_checkElementIndex_0 12 rfl rfl)
theorem dJ26_checkElementIndex_13 : decode cJ26_checkElementIndex 13 = .ok (.iload_n 1, 1) := dk_27 (dk_at dksJ26_checkElementIndex_0 13 rfl rfl)
theorem dJ26_checkElementIndex_14 : decode cJ26_checkElementIndex 14 = .ok (.invokevirtual 121, 3) := dk_182 0 121 (dk_at dksJ26_checkElementIndex_0 14 rfl rfl)
theorem dJ26_checkElementIndex_17 : decode cJ26_checkElementIndex 17 = .ok (.invokespecial 125, 3) := dk_183 0 125 (dk_at dksJ26_checkElementIndex_0 17 rfl rfl)
theorem dJ26_checkElementIndex_20 : decode cJ26_checkElementIndex 20 = .ok (.athrow, 1) := dk_191 (dk_at dksJ26_checkElementIndex_0 20 rfl rfl)
theorem dJ26_checkElementIndex_21 : decode cJ26_checkElementIndex 21 = .ok (.return_, 1) := dk_177 (dk_at dksJ26_checkElementIndex_0 21 rfl rfl)
abbrev cJ26_checkPositionIndex : ByteArray := prog_56_method_30_code
def yJ26_checkPositionIndex : MethodName := ⟨RJ26, "checkPositionIndex", "(I)V"⟩
def dkwJ26_checkPositionIndex_0 : List UInt8 := [42, 27, 182, 0, 128, 154, 0, 16, 187, 0, 119, 89, 42, 27, 182, 0, 121, 183, 0, 125, 191, 177]
abbrev dktJ26_checkPositionIndex_0 : List UInt8 := dkwJ26_checkPositionIndex_0 ++ []
theorem dksJ26_checkPositionIndex_0 : cJ26_checkPositionIndex.data.toList.drop 0 = dktJ26_checkPositionIndex_0 := by decide +kernel
theorem dJ26_checkPositionIndex_0 : decode cJ26_checkPositionIndex 0 = .ok (.aload_n 0, 1) := dk_42 (dk_at dksJ26_checkPositionIndex_0 0 rfl rfl)
theorem dJ26_checkPositionIndex_1 : decode cJ26_checkPositionIndex 1 = .ok (.iload_n 1, 1) := dk_27 (dk_at dksJ26_checkPositionIndex_0 1 rfl rfl)
theorem dJ26_checkPositionIndex_2 : decode cJ26_checkPositionIndex 2 = .ok (.invokevirtual 128, 3) := dk_182 0 128 (dk_at dksJ26_checkPositionIndex_0 2 rfl rfl)
theorem dJ26_checkPositionIndex_5 : decode cJ26_checkPositionIndex 5 = .ok (.ifCond .ne 16, 3) := dk_154 0 16 (dk_at dksJ26_checkPositionIndex_0 5 rfl rfl)
theorem dJ26_checkPositionIndex_8 : decode cJ26_checkPositionIndex 8 = .ok (.new 119, 3) := dk_187 0 119 (dk_at dksJ26_checkPositionIndex_0 8 rfl rfl)
theorem dJ26_checkPositionIndex_11 : decode cJ26_checkPositionIndex 11 = .ok (.dup, 1) := dk_89 (dk_at dksJ26_checkPositionIndex_0 11 rfl rfl)
theorem dJ26_checkPositionIndex_12 : decode cJ26_checkPositionIndex 12 = .ok (.aload_n 0, 1) := dk_42 (dk_at dksJ26_checkPositionIndex_0 12 rfl rfl)
theorem dJ26_checkPositionIndex_13 : decode cJ26_checkPositionIndex 13 = .ok (.iload_n 1, 1) := dk_27 (dk_at dksJ26_checkPositionIndex_0 13 rfl rfl)
theorem dJ26_checkPositionIndex_14 : decode cJ26_checkPositionIndex 14 = .ok (.invokevirtual 121, 3) := dk_182 0 121 (dk_at dksJ26_checkPositionIndex_0 14 rfl rfl)
theorem dJ26_checkPositionIndex_17 : decode cJ26_checkPositionIndex 17 = .ok (.invokespecial 125, 3) := dk_183 0 125 (dk_at dksJ26_checkPositionIndex_0 17 rfl rfl)
theorem dJ26_checkPositionIndex_20 : decode cJ26_checkPositionIndex 20 = .ok (.athrow, 1) := dk_191 (dk_at dksJ26_checkPositionIndex_0 20 rfl rfl)
theorem dJ26_checkPositionIndex_21 : decode cJ26_checkPositionIndex 21 = .ok (.return_, 1) := dk_177 (dk_at dksJ26_checkPositionIndex_0 21 rfl rfl)
abbrev cJ26_linkLast : ByteArray := prog_56_method_4_code
def yJ26_linkLast : MethodName := ⟨RJ26, "linkLast", "(Ljava/lang/Object;)V"⟩
def dkwJ26_linkLast_2 : List UInt8 := [181, 0, 7, 42, 89, 180, 0, 33, 4, 96, 181, 0, 33, 177]
abbrev dktJ26_linkLast_2 : List UInt8 := dkwJ26_linkLast_2 ++ []
def dkwJ26_linkLast_1 : List UInt8 := [199, 0, 11, 42, 45, 181, 0, 18, 167, 0, 8, 44, 45, 181, 0, 36, 42, 89, 180, 0, 7, 4, 96]
abbrev dktJ26_linkLast_1 : List UInt8 := dkwJ26_linkLast_1 ++ dktJ26_linkLast_2
def dkwJ26_linkLast_0 : List UInt8 := [42, 180, 0, 27, 77, 187, 0, 22, 89, 44, 43, 1, 183, 0, 24, 78, 42, 45, 181, 0, 27, 44]
abbrev dktJ26_linkLast_0 : List UInt8 := dkwJ26_linkLast_0 ++ dktJ26_linkLast_1
theorem dksJ26_linkLast_0 : cJ26_linkLast.data.toList.drop 0 = dktJ26_linkLast_0 := by decide +kernel
theorem dksJ26_linkLast_1 : cJ26_linkLast.data.toList.drop 22 = dktJ26_linkLast_1 := dk_seg dksJ26_linkLast_0 22 rfl rfl
theorem dksJ26_linkLast_2 : cJ26_linkLast.data.toList.drop 45 = dktJ26_linkLast_2 := dk_seg dksJ26_linkLast_1 23 rfl rfl
theorem dJ26_linkLast_0 : decode cJ26_linkLast 0 = .ok (.aload_n 0, 1) := dk_42 (dk_at dksJ26_linkLast_0 0 rfl rfl)
theorem dJ26_linkLast_1 : decode cJ26_linkLast 1 = .ok (.getfield 27, 3) := dk_180 0 27 (dk_at dksJ26_linkLast_0 1 rfl rfl)
theorem dJ26_linkLast_4 : decode cJ26_linkLast 4 = .ok (.astore_n 2, 1) := dk_77 (dk_at dksJ26_linkLast_0 4 rfl rfl)
theorem dJ26_linkLast_5 : decode cJ26_linkLast 5 = .ok (.new 22, 3) := dk_187 0 22 (dk_at dksJ26_linkLast_0 5 rfl rfl)
theorem dJ26_linkLast_8 : decode cJ26_linkLast 8 = .ok (.dup, 1) := dk_89 (dk_at dksJ26_linkLast_0 8 rfl rfl)
theorem dJ26_linkLast_9 : decode cJ26_linkLast 9 = .ok (.aload_n 2, 1) := dk_44 (dk_at dksJ26_linkLast_0 9 rfl rfl)
theorem dJ26_linkLast_10 : decode cJ26_linkLast 10 = .ok (.aload_n 1, 1) := dk_43 (dk_at dksJ26_linkLast_0 10 rfl rfl)
theorem dJ26_linkLast_11 : decode cJ26_linkLast 11 = .ok (.aconst_null, 1) := dk_1 (dk_at dksJ26_linkLast_0 11 rfl rfl)
theorem dJ26_linkLast_12 : decode cJ26_linkLast 12 = .ok (.invokespecial 24, 3) := dk_183 0 24 (dk_at dksJ26_linkLast_0 12 rfl rfl)
theorem dJ26_linkLast_15 : decode cJ26_linkLast 15 = .ok (.astore_n 3, 1) := dk_78 (dk_at dksJ26_linkLast_0 15 rfl rfl)
theorem dJ26_linkLast_16 : decode cJ26_linkLast 16 = .ok (.aload_n 0, 1) := dk_42 (dk_at dksJ26_linkLast_0 16 rfl rfl)
theorem dJ26_linkLast_17 : decode cJ26_linkLast 17 = .ok (.aload_n 3, 1) := dk_45 (dk_at dksJ26_linkLast_0 17 rfl rfl)
theorem dJ26_linkLast_18 : decode cJ26_linkLast 18 = .ok (.putfield 27, 3) := dk_181 0 27 (dk_at dksJ26_linkLast_0 18 rfl rfl)
theorem dJ26_linkLast_21 : decode cJ26_linkLast 21 = .ok (.aload_n 2, 1) := dk_44 (dk_at dksJ26_linkLast_0 21 rfl rfl)
theorem dJ26_linkLast_22 : decode cJ26_linkLast 22 = .ok (.ifnonnull 11, 3) := dk_199 0 11 (dk_at dksJ26_linkLast_1 0 rfl rfl)
theorem dJ26_linkLast_25 : decode cJ26_linkLast 25 = .ok (.aload_n 0, 1) := dk_42 (dk_at dksJ26_linkLast_1 3 rfl rfl)
theorem dJ26_linkLast_26 : decode cJ26_linkLast 26 = .ok (.aload_n 3, 1) := dk_45 (dk_at dksJ26_linkLast_1 4 rfl rfl)
theorem dJ26_linkLast_27 : decode cJ26_linkLast 27 = .ok (.putfield 18, 3) := dk_181 0 18 (dk_at dksJ26_linkLast_1 5 rfl rfl)
theorem dJ26_linkLast_30 : decode cJ26_linkLast 30 = .ok (.goto 8, 3) := dk_167 0 8 (dk_at dksJ26_linkLast_1 8 rfl rfl)
theorem dJ26_linkLast_33 : decode cJ26_linkLast 33 = .ok (.aload_n 2, 1) := dk_44 (dk_at dksJ26_linkLast_1 11 rfl rfl)
theorem dJ26_linkLast_34 : decode cJ26_linkLast 34 = .ok (.aload_n 3, 1) := dk_45 (dk_at dksJ26_linkLast_1 12 rfl rfl)
theorem dJ26_linkLast_35 : decode cJ26_linkLast 35 = .ok (.putfield 36, 3) := dk_181 0 36 (dk_at dksJ26_linkLast_1 13 rfl rfl)
theorem dJ26_linkLast_38 : decode cJ26_linkLast 38 = .ok (.aload_n 0, 1) := dk_42 (dk_at dksJ26_linkLast_1 16 rfl rfl)
theorem dJ26_linkLast_39 : decode cJ26_linkLast 39 = .ok (.dup, 1) := dk_89 (dk_at dksJ26_linkLast_1 17 rfl rfl)
theorem dJ26_linkLast_40 : decode cJ26_linkLast 40 = .ok (.getfield 7, 3) := dk_180 0 7 (dk_at dksJ26_linkLast_1 18 rfl rfl)
theorem dJ26_linkLast_43 : decode cJ26_linkLast 43 = .ok (.iconst 1, 1) := dk_4 (dk_at dksJ26_linkLast_1 21 rfl rfl)
theorem dJ26_linkLast_44 : decode cJ26_linkLast 44 = .ok (.iadd, 1) := dk_96 (dk_at dksJ26_linkLast_1 22 rfl rfl)
theorem dJ26_linkLast_45 : decode cJ26_linkLast 45 = .ok (.putfield 7, 3) := dk_181 0 7 (dk_at dksJ26_linkLast_2 0 rfl rfl)
theorem dJ26_linkLast_48 : decode cJ26_linkLast 48 = .ok (.aload_n 0, 1) := dk_42 (dk_at dksJ26_linkLast_2 3 rfl rfl)
theorem dJ26_linkLast_49 : decode cJ26_linkLast 49 = .ok (.dup, 1) := dk_89 (dk_at dksJ26_linkLast_2 4 rfl rfl)
theorem dJ26_linkLast_50 : decode cJ26_linkLast 50 = .ok (.getfield 33, 3) := dk_180 0 33 (dk_at dksJ26_linkLast_2 5 rfl rfl)
theorem dJ26_linkLast_53 : decode cJ26_linkLast 53 = .ok (.iconst 1, 1) := dk_4 (dk_at dksJ26_linkLast_2 8 rfl rfl)
theorem dJ26_linkLast_54 : decode cJ26_linkLast 54 = .ok (.iadd, 1) := dk_96 (dk_at dksJ26_linkLast_2 9 rfl rfl)
theorem dJ26_linkLast_55 : decode cJ26_linkLast 55 = .ok (.putfield 33, 3) := dk_181 0 33 (dk_at dksJ26_linkLast_2 10 rfl rfl)
theorem dJ26_linkLast_58 : decode cJ26_linkLast 58 = .ok (.return_, 1) := dk_177 (dk_at dksJ26_linkLast_2 13 rfl rfl)
abbrev cJ26_linkBefore : ByteArray := prog_56_method_5_code
def yJ26_linkBefore : MethodName := ⟨RJ26, "linkBefore", "(Ljava/lang/Object;Ljava/util/LinkedList$Node;)V"⟩
def dkwJ26_linkBefore_2 : List UInt8 := [96, 181, 0, 7, 42, 89, 180, 0, 33, 4, 96, 181, 0, 33, 177]
abbrev dktJ26_linkBefore_2 : List UInt8 := dkwJ26_linkBefore_2 ++ []
def dkwJ26_linkBefore_1 : List UInt8 := [199, 0, 12, 42, 25, 4, 181, 0, 18, 167, 0, 9, 45, 25, 4, 181, 0, 36, 42, 89, 180, 0, 7, 4]
abbrev dktJ26_linkBefore_1 : List UInt8 := dkwJ26_linkBefore_1 ++ dktJ26_linkBefore_2
def dkwJ26_linkBefore_0 : List UInt8 := [44, 180, 0, 30, 78, 187, 0, 22, 89, 45, 43, 44, 183, 0, 24, 58, 4, 44, 25, 4, 181, 0, 30, 45]
abbrev dktJ26_linkBefore_0 : List UInt8 := dkwJ26_linkBefore_0 ++ dktJ26_linkBefore_1
theorem dksJ26_linkBefore_0 : cJ26_linkBefore.data.toList.drop 0 = dktJ26_linkBefore_0 := by decide +kernel
theorem dksJ26_linkBefore_1 : cJ26_linkBefore.data.toList.drop 24 = dktJ26_linkBefore_1 := dk_seg dksJ26_linkBefore_0 24 rfl rfl
theorem dksJ26_linkBefore_2 : cJ26_linkBefore.data.toList.drop 48 = dktJ26_linkBefore_2 := dk_seg dksJ26_linkBefore_1 24 rfl rfl
theorem dJ26_linkBefore_0 : decode cJ26_linkBefore 0 = .ok (.aload_n 2, 1) := dk_44 (dk_at dksJ26_linkBefore_0 0 rfl rfl)
theorem dJ26_linkBefore_1 : decode cJ26_linkBefore 1 = .ok (.getfield 30, 3) := dk_180 0 30 (dk_at dksJ26_linkBefore_0 1 rfl rfl)
theorem dJ26_linkBefore_4 : decode cJ26_linkBefore 4 = .ok (.astore_n 3, 1) := dk_78 (dk_at dksJ26_linkBefore_0 4 rfl rfl)
theorem dJ26_linkBefore_5 : decode cJ26_linkBefore 5 = .ok (.new 22, 3) := dk_187 0 22 (dk_at dksJ26_linkBefore_0 5 rfl rfl)
theorem dJ26_linkBefore_8 : decode cJ26_linkBefore 8 = .ok (.dup, 1) := dk_89 (dk_at dksJ26_linkBefore_0 8 rfl rfl)
theorem dJ26_linkBefore_9 : decode cJ26_linkBefore 9 = .ok (.aload_n 3, 1) := dk_45 (dk_at dksJ26_linkBefore_0 9 rfl rfl)
theorem dJ26_linkBefore_10 : decode cJ26_linkBefore 10 = .ok (.aload_n 1, 1) := dk_43 (dk_at dksJ26_linkBefore_0 10 rfl rfl)
theorem dJ26_linkBefore_11 : decode cJ26_linkBefore 11 = .ok (.aload_n 2, 1) := dk_44 (dk_at dksJ26_linkBefore_0 11 rfl rfl)
theorem dJ26_linkBefore_12 : decode cJ26_linkBefore 12 = .ok (.invokespecial 24, 3) := dk_183 0 24 (dk_at dksJ26_linkBefore_0 12 rfl rfl)
theorem dJ26_linkBefore_15 : decode cJ26_linkBefore 15 = .ok (.astore 4, 2) := dk_58 4 (dk_at dksJ26_linkBefore_0 15 rfl rfl)
theorem dJ26_linkBefore_17 : decode cJ26_linkBefore 17 = .ok (.aload_n 2, 1) := dk_44 (dk_at dksJ26_linkBefore_0 17 rfl rfl)
theorem dJ26_linkBefore_18 : decode cJ26_linkBefore 18 = .ok (.aload 4, 2) := dk_25 4 (dk_at dksJ26_linkBefore_0 18 rfl rfl)
theorem dJ26_linkBefore_20 : decode cJ26_linkBefore 20 = .ok (.putfield 30, 3) := dk_181 0 30 (dk_at dksJ26_linkBefore_0 20 rfl rfl)
theorem dJ26_linkBefore_23 : decode cJ26_linkBefore 23 = .ok (.aload_n 3, 1) := dk_45 (dk_at dksJ26_linkBefore_0 23 rfl rfl)
theorem dJ26_linkBefore_24 : decode cJ26_linkBefore 24 = .ok (.ifnonnull 12, 3) := dk_199 0 12 (dk_at dksJ26_linkBefore_1 0 rfl rfl)
theorem dJ26_linkBefore_27 : decode cJ26_linkBefore 27 = .ok (.aload_n 0, 1) := dk_42 (dk_at dksJ26_linkBefore_1 3 rfl rfl)
theorem dJ26_linkBefore_28 : decode cJ26_linkBefore 28 = .ok (.aload 4, 2) := dk_25 4 (dk_at dksJ26_linkBefore_1 4 rfl rfl)
theorem dJ26_linkBefore_30 : decode cJ26_linkBefore 30 = .ok (.putfield 18, 3) := dk_181 0 18 (dk_at dksJ26_linkBefore_1 6 rfl rfl)
theorem dJ26_linkBefore_33 : decode cJ26_linkBefore 33 = .ok (.goto 9, 3) := dk_167 0 9 (dk_at dksJ26_linkBefore_1 9 rfl rfl)
theorem dJ26_linkBefore_36 : decode cJ26_linkBefore 36 = .ok (.aload_n 3, 1) := dk_45 (dk_at dksJ26_linkBefore_1 12 rfl rfl)
theorem dJ26_linkBefore_37 : decode cJ26_linkBefore 37 = .ok (.aload 4, 2) := dk_25 4 (dk_at dksJ26_linkBefore_1 13 rfl rfl)
theorem dJ26_linkBefore_39 : decode cJ26_linkBefore 39 = .ok (.putfield 36, 3) := dk_181 0 36 (dk_at dksJ26_linkBefore_1 15 rfl rfl)
theorem dJ26_linkBefore_42 : decode cJ26_linkBefore 42 = .ok (.aload_n 0, 1) := dk_42 (dk_at dksJ26_linkBefore_1 18 rfl rfl)
theorem dJ26_linkBefore_43 : decode cJ26_linkBefore 43 = .ok (.dup, 1) := dk_89 (dk_at dksJ26_linkBefore_1 19 rfl rfl)
theorem dJ26_linkBefore_44 : decode cJ26_linkBefore 44 = .ok (.getfield 7, 3) := dk_180 0 7 (dk_at dksJ26_linkBefore_1 20 rfl rfl)
theorem dJ26_linkBefore_47 : decode cJ26_linkBefore 47 = .ok (.iconst 1, 1) := dk_4 (dk_at dksJ26_linkBefore_1 23 rfl rfl)
theorem dJ26_linkBefore_48 : decode cJ26_linkBefore 48 = .ok (.iadd, 1) := dk_96 (dk_at dksJ26_linkBefore_2 0 rfl rfl)
theorem dJ26_linkBefore_49 : decode cJ26_linkBefore 49 = .ok (.putfield 7, 3) := dk_181 0 7 (dk_at dksJ26_linkBefore_2 1 rfl rfl)
theorem dJ26_linkBefore_52 : decode cJ26_linkBefore 52 = .ok (.aload_n 0, 1) := dk_42 (dk_at dksJ26_linkBefore_2 4 rfl rfl)
theorem dJ26_linkBefore_53 : decode cJ26_linkBefore 53 = .ok (.dup, 1) := dk_89 (dk_at dksJ26_linkBefore_2 5 rfl rfl)
theorem dJ26_linkBefore_54 : decode cJ26_linkBefore 54 = .ok (.getfield 33, 3) := dk_180 0 33 (dk_at dksJ26_linkBefore_2 6 rfl rfl)
theorem dJ26_linkBefore_57 : decode cJ26_linkBefore 57 = .ok (.iconst 1, 1) := dk_4 (dk_at dksJ26_linkBefore_2 9 rfl rfl)
theorem dJ26_linkBefore_58 : decode cJ26_linkBefore 58 = .ok (.iadd, 1) := dk_96 (dk_at dksJ26_linkBefore_2 10 rfl rfl)
theorem dJ26_linkBefore_59 : decode cJ26_linkBefore 59 = .ok (.putfield 33, 3) := dk_181 0 33 (dk_at dksJ26_linkBefore_2 11 rfl rfl)
theorem dJ26_linkBefore_62 : decode cJ26_linkBefore 62 = .ok (.return_, 1) := dk_177 (dk_at dksJ26_linkBefore_2 14 rfl rfl)
abbrev cJ26_addLast : ByteArray := prog_56_method_14_code
def yJ26_addLast : MethodName := ⟨RJ26, "addLast", "(Ljava/lang/Object;)V"⟩
def dkwJ26_addLast_0 : List UInt8 := [42, 43, 182, 0, 57, 177]
abbrev dktJ26_addLast_0 : List UInt8 := dkwJ26_addLast_0 ++ []
theorem dksJ26_addLast_0 : cJ26_addLast.data.toList.drop 0 = dktJ26_addLast_0 := by decide +kernel
theorem dJ26_addLast_0 : decode cJ26_addLast 0 = .ok (.aload_n 0, 1) := dk_42 (dk_at dksJ26_addLast_0 0 rfl rfl)
theorem dJ26_addLast_1 : decode cJ26_addLast 1 = .ok (.aload_n 1, 1) := dk_43 (dk_at dksJ26_addLast_0 1 rfl rfl)
theorem dJ26_addLast_2 : decode cJ26_addLast 2 = .ok (.invokevirtual 57, 3) := dk_182 0 57 (dk_at dksJ26_addLast_0 2 rfl rfl)
theorem dJ26_addLast_5 : decode cJ26_addLast 5 = .ok (.return_, 1) := dk_177 (dk_at dksJ26_addLast_0 5 rfl rfl)
abbrev cJ26_listIterator : ByteArray := prog_56_method_49_code
def yJ26_listIterator : MethodName := ⟨RJ26, "listIterator", "(I)Ljava/util/ListIterator;"⟩
def dkwJ26_listIterator_0 : List UInt8 := [42, 27, 182, 0, 76, 187, 0, 150, 89, 42, 27, 183, 0, 152, 176]
abbrev dktJ26_listIterator_0 : List UInt8 := dkwJ26_listIterator_0 ++ []
theorem dksJ26_listIterator_0 : cJ26_listIterator.data.toList.drop 0 = dktJ26_listIterator_0 := by decide +kernel
theorem dJ26_listIterator_0 : decode cJ26_listIterator 0 = .ok (.aload_n 0, 1) := dk_42 (dk_at dksJ26_listIterator_0 0 rfl rfl)
theorem dJ26_listIterator_1 : decode cJ26_listIterator 1 = .ok (.iload_n 1, 1) := dk_27 (dk_at dksJ26_listIterator_0 1 rfl rfl)
theorem dJ26_listIterator_2 : decode cJ26_listIterator 2 = .ok (.invokevirtual 76, 3) := dk_182 0 76 (dk_at dksJ26_listIterator_0 2 rfl rfl)
theorem dJ26_listIterator_5 : decode cJ26_listIterator 5 = .ok (.new 150, 3) := dk_187 0 150 (dk_at dksJ26_listIterator_0 5 rfl rfl)
theorem dJ26_listIterator_8 : decode cJ26_listIterator 8 = .ok (.dup, 1) := dk_89 (dk_at dksJ26_listIterator_0 8 rfl rfl)
theorem dJ26_listIterator_9 : decode cJ26_listIterator 9 = .ok (.aload_n 0, 1) := dk_42 (dk_at dksJ26_listIterator_0 9 rfl rfl)
theorem dJ26_listIterator_10 : decode cJ26_listIterator 10 = .ok (.iload_n 1, 1) := dk_27 (dk_at dksJ26_listIterator_0 10 rfl rfl)
theorem dJ26_listIterator_11 : decode cJ26_listIterator 11 = .ok (.invokespecial 152, 3) := dk_183 0 152 (dk_at dksJ26_listIterator_0 11 rfl rfl)
theorem dJ26_listIterator_14 : decode cJ26_listIterator 14 = .ok (.areturn, 1) := dk_176 (dk_at dksJ26_listIterator_0 14 rfl rfl)
abbrev cJ32_next : ByteArray := prog_57_method_3_code
def yJ32_next : MethodName := ⟨RJ32, "next", "()Ljava/lang/Object;"⟩
def dkwJ32_next_2 : List UInt8 := [42, 180, 0, 46, 180, 0, 52, 176]
abbrev dktJ32_next_2 : List UInt8 := dkwJ32_next_2 ++ []
def dkwJ32_next_1 : List UInt8 := [181, 0, 46, 42, 42, 180, 0, 29, 180, 0, 49, 181, 0, 29, 42, 89, 180, 0, 33, 4, 96, 181, 0, 33]
abbrev dktJ32_next_1 : List UInt8 := dkwJ32_next_1 ++ dktJ32_next_2
def dkwJ32_next_0 : List UInt8 := [42, 182, 0, 36, 42, 182, 0, 39, 154, 0, 11, 187, 0, 43, 89, 183, 0, 45, 191, 42, 42, 180, 0, 29]
abbrev dktJ32_next_0 : List UInt8 := dkwJ32_next_0 ++ dktJ32_next_1
theorem dksJ32_next_0 : cJ32_next.data.toList.drop 0 = dktJ32_next_0 := by decide +kernel
theorem dksJ32_next_1 : cJ32_next.data.toList.drop 24 = dktJ32_next_1 := dk_seg dksJ32_next_0 24 rfl rfl
theorem dksJ32_next_2 : cJ32_next.data.toList.drop 48 = dktJ32_next_2 := dk_seg dksJ32_next_1 24 rfl rfl
theorem dJ32_next_0 : decode cJ32_next 0 = .ok (.aload_n 0, 1) := dk_42 (dk_at dksJ32_next_0 0 rfl rfl)
theorem dJ32_next_1 : decode cJ32_next 1 = .ok (.invokevirtual 36, 3) := dk_182 0 36 (dk_at dksJ32_next_0 1 rfl rfl)
theorem dJ32_next_4 : decode cJ32_next 4 = .ok (.aload_n 0, 1) := dk_42 (dk_at dksJ32_next_0 4 rfl rfl)
theorem dJ32_next_5 : decode cJ32_next 5 = .ok (.invokevirtual 39, 3) := dk_182 0 39 (dk_at dksJ32_next_0 5 rfl rfl)
theorem dJ32_next_8 : decode cJ32_next 8 = .ok (.ifCond .ne 11, 3) := dk_154 0 11 (dk_at dksJ32_next_0 8 rfl rfl)
theorem dJ32_next_11 : decode cJ32_next 11 = .ok (.new 43, 3) := dk_187 0 43 (dk_at dksJ32_next_0 11 rfl rfl)
theorem dJ32_next_14 : decode cJ32_next 14 = .ok (.dup, 1) := dk_89 (dk_at dksJ32_next_0 14 rfl rfl)
theorem dJ32_next_15 : decode cJ32_next 15 = .ok (.invokespecial 45, 3) := dk_183 0 45 (dk_at dksJ32_next_0 15 rfl rfl)
theorem dJ32_next_18 : decode cJ32_next 18 = .ok (.athrow, 1) := dk_191 (dk_at dksJ32_next_0 18 rfl rfl)
theorem dJ32_next_19 : decode cJ32_next 19 = .ok (.aload_n 0, 1) := dk_42 (dk_at dksJ32_next_0 19 rfl rfl)
theorem dJ32_next_20 : decode cJ32_next 20 = .ok (.aload_n 0, 1) := dk_42 (dk_at dksJ32_next_0 20 rfl rfl)
theorem dJ32_next_21 : decode cJ32_next 21 = .ok (.getfield 29, 3) := dk_180 0 29 (dk_at dksJ32_next_0 21 rfl rfl)
theorem dJ32_next_24 : decode cJ32_next 24 = .ok (.putfield 46, 3) := dk_181 0 46 (dk_at dksJ32_next_1 0 rfl rfl)
theorem dJ32_next_27 : decode cJ32_next 27 = .ok (.aload_n 0, 1) := dk_42 (dk_at dksJ32_next_1 3 rfl rfl)
theorem dJ32_next_28 : decode cJ32_next 28 = .ok (.aload_n 0, 1) := dk_42 (dk_at dksJ32_next_1 4 rfl rfl)
theorem dJ32_next_29 : decode cJ32_next 29 = .ok (.getfield 29, 3) := dk_180 0 29 (dk_at dksJ32_next_1 5 rfl rfl)
theorem dJ32_next_32 : decode cJ32_next 32 = .ok (.getfield 49, 3) := dk_180 0 49 (dk_at dksJ32_next_1 8 rfl rfl)
theorem dJ32_next_35 : decode cJ32_next 35 = .ok (.putfield 29, 3) := dk_181 0 29 (dk_at dksJ32_next_1 11 rfl rfl)
theorem dJ32_next_38 : decode cJ32_next 38 = .ok (.aload_n 0, 1) := dk_42 (dk_at dksJ32_next_1 14 rfl rfl)
theorem dJ32_next_39 : decode cJ32_next 39 = .ok (.dup, 1) := dk_89 (dk_at dksJ32_next_1 15 rfl rfl)
theorem dJ32_next_40 : decode cJ32_next 40 = .ok (.getfield 33, 3) := dk_180 0 33 (dk_at dksJ32_next_1 16 rfl rfl)
theorem dJ32_next_43 : decode cJ32_next 43 = .ok (.iconst 1, 1) := dk_4 (dk_at dksJ32_next_1 19 rfl rfl)
theorem dJ32_next_44 : decode cJ32_next 44 = .ok (.iadd, 1) := dk_96 (dk_at dksJ32_next_1 20 rfl rfl)
theorem dJ32_next_45 : decode cJ32_next 45 = .ok (.putfield 33, 3) := dk_181 0 33 (dk_at dksJ32_next_1 21 rfl rfl)
theorem dJ32_next_48 : decode cJ32_next 48 = .ok (.aload_n 0, 1) := dk_42 (dk_at dksJ32_next_2 0 rfl rfl)
theorem dJ32_next_49 : decode cJ32_next 49 = .ok (.getfield 46, 3) := dk_180 0 46 (dk_at dksJ32_next_2 1 rfl rfl)
theorem dJ32_next_52 : decode cJ32_next 52 = .ok (.getfield 52, 3) := dk_180 0 52 (dk_at dksJ32_next_2 4 rfl rfl)
theorem dJ32_next_55 : decode cJ32_next 55 = .ok (.areturn, 1) := dk_176 (dk_at dksJ32_next_2 7 rfl rfl)
abbrev cJ1_listIterator : ByteArray := prog_44_method_12_code
def yJ1_listIterator : MethodName := ⟨RJ1, "listIterator", "()Ljava/util/ListIterator;"⟩
def dkwJ1_listIterator_0 : List UInt8 := [42, 3, 182, 0, 47, 176]
abbrev dktJ1_listIterator_0 : List UInt8 := dkwJ1_listIterator_0 ++ []
theorem dksJ1_listIterator_0 : cJ1_listIterator.data.toList.drop 0 = dktJ1_listIterator_0 := by decide +kernel
theorem dJ1_listIterator_0 : decode cJ1_listIterator 0 = .ok (.aload_n 0, 1) := dk_42 (dk_at dksJ1_listIterator_0 0 rfl rfl)
theorem dJ1_listIterator_1 : decode cJ1_listIterator 1 = .ok (.iconst 0, 1) := dk_3 (dk_at dksJ1_listIterator_0 1 rfl rfl)
theorem dJ1_listIterator_2 : decode cJ1_listIterator 2 = .ok (.invokevirtual 47, 3) := dk_182 0 47 (dk_at dksJ1_listIterator_0 2 rfl rfl)
theorem dJ1_listIterator_5 : decode cJ1_listIterator 5 = .ok (.areturn, 1) := dk_176 (dk_at dksJ1_listIterator_0 5 rfl rfl)
abbrev cJ25_iterator : ByteArray := prog_47_method_7_code
def yJ25_iterator : MethodName := ⟨RJ25, "iterator", "()Ljava/util/Iterator;"⟩
theorem dJ25_iterator_0 : decode cJ25_iterator 0 = .ok (.aload_n 0, 1) := by decide +kernel
theorem dJ25_iterator_1 : decode cJ25_iterator 1 = .ok (.invokevirtual 65, 3) := by decide +kernel
theorem dJ25_iterator_4 : decode cJ25_iterator 4 = .ok (.areturn, 1) := by decide +kernel
abbrev cJ2_get : ByteArray := prog_49_method_20_code
def yJ2_get : MethodName := ⟨RJ2, "get", "(I)Ljava/lang/Object;"⟩
def dkwJ2_get_0 : List UInt8 := [27, 42, 180, 0, 48, 184, 0, 118, 87, 42, 27, 182, 0, 123, 176]
abbrev dktJ2_get_0 : List UInt8 := dkwJ2_get_0 ++ []
theorem dksJ2_get_0 : cJ2_get.data.toList.drop 0 = dktJ2_get_0 := by decide +kernel
theorem dJ2_get_0 : decode cJ2_get 0 = .ok (.iload_n 1, 1) := dk_27 (dk_at dksJ2_get_0 0 rfl rfl)
theorem dJ2_get_1 : decode cJ2_get 1 = .ok (.aload_n 0, 1) := dk_42 (dk_at dksJ2_get_0 1 rfl rfl)
theorem dJ2_get_2 : decode cJ2_get 2 = .ok (.getfield 48, 3) := dk_180 0 48 (dk_at dksJ2_get_0 2 rfl rfl)
theorem dJ2_get_5 : decode cJ2_get 5 = .ok (.invokestatic 118, 3) := dk_184 0 118 (dk_at dksJ2_get_0 5 rfl rfl)
theorem dJ2_get_8 : decode cJ2_get 8 = .ok (.pop, 1) := dk_87 (dk_at dksJ2_get_0 8 rfl rfl)
theorem dJ2_get_9 : decode cJ2_get 9 = .ok (.aload_n 0, 1) := dk_42 (dk_at dksJ2_get_0 9 rfl rfl)
theorem dJ2_get_10 : decode cJ2_get 10 = .ok (.iload_n 1, 1) := dk_27 (dk_at dksJ2_get_0 10 rfl rfl)
theorem dJ2_get_11 : decode cJ2_get 11 = .ok (.invokevirtual 123, 3) := dk_182 0 123 (dk_at dksJ2_get_0 11 rfl rfl)
theorem dJ2_get_14 : decode cJ2_get 14 = .ok (.areturn, 1) := dk_176 (dk_at dksJ2_get_0 14 rfl rfl)
abbrev cJ2_grow_2 : ByteArray := prog_49_method_6_code
def yJ2_grow_2 : MethodName := ⟨RJ2, "grow", "(I)[Ljava/lang/Object;"⟩
def dkwJ2_grow_2_2 : List UInt8 := [27, 184, 0, 79, 189, 0, 7, 90, 181, 0, 9, 176]
abbrev dktJ2_grow_2_2 : List UInt8 := dkwJ2_grow_2_2 ++ []
def dkwJ2_grow_2_1 : List UInt8 := [28, 4, 122, 184, 0, 73, 62, 42, 42, 180, 0, 9, 29, 184, 0, 66, 90, 181, 0, 9, 176, 42, 16, 10]
abbrev dktJ2_grow_2_1 : List UInt8 := dkwJ2_grow_2_1 ++ dktJ2_grow_2_2
def dkwJ2_grow_2_0 : List UInt8 := [42, 180, 0, 9, 190, 61, 28, 157, 0, 13, 42, 180, 0, 9, 178, 0, 39, 165, 0, 28, 28, 27, 28, 100]
abbrev dktJ2_grow_2_0 : List UInt8 := dkwJ2_grow_2_0 ++ dktJ2_grow_2_1
theorem dksJ2_grow_2_0 : cJ2_grow_2.data.toList.drop 0 = dktJ2_grow_2_0 := by decide +kernel
theorem dksJ2_grow_2_1 : cJ2_grow_2.data.toList.drop 24 = dktJ2_grow_2_1 := dk_seg dksJ2_grow_2_0 24 rfl rfl
theorem dksJ2_grow_2_2 : cJ2_grow_2.data.toList.drop 48 = dktJ2_grow_2_2 := dk_seg dksJ2_grow_2_1 24 rfl rfl
theorem dJ2_grow_2_0 : decode cJ2_grow_2 0 = .ok (.aload_n 0, 1) := dk_42 (dk_at dksJ2_grow_2_0 0 rfl rfl)
theorem dJ2_grow_2_1 : decode cJ2_grow_2 1 = .ok (.getfield 9, 3) := dk_180 0 9 (dk_at dksJ2_grow_2_0 1 rfl rfl)
theorem dJ2_grow_2_4 : decode cJ2_grow_2 4 = .ok (.arraylength, 1) := dk_190 (dk_at dksJ2_grow_2_0 4 rfl rfl)
theorem dJ2_grow_2_5 : decode cJ2_grow_2 5 = .ok (.istore_n 2, 1) := dk_61 (dk_at dksJ2_grow_2_0 5 rfl rfl)
theorem dJ2_grow_2_6 : decode cJ2_grow_2 6 = .ok (.iload_n 2, 1) := dk_28 (dk_at dksJ2_grow_2_0 6 rfl rfl)
theorem dJ2_grow_2_7 : decode cJ2_grow_2 7 = .ok (.ifCond .gt 13, 3) := dk_157 0 13 (dk_at dksJ2_grow_2_0 7 rfl rfl)
theorem dJ2_grow_2_10 : decode cJ2_grow_2 10 = .ok (.aload_n 0, 1) := dk_42 (dk_at dksJ2_grow_2_0 10 rfl rfl)
theorem dJ2_grow_2_11 : decode cJ2_grow_2 11 = .ok (.getfield 9, 3) := dk_180 0 9 (dk_at dksJ2_grow_2_0 11 rfl rfl)
theorem dJ2_grow_2_14 : decode cJ2_grow_2 14 = .ok (.getstatic 39, 3) := dk_178 0 39 (dk_at dksJ2_grow_2_0 14 rfl rfl)
theorem dJ2_grow_2_17 : decode cJ2_grow_2 17 = .ok (.if_acmp .eq 28, 3) := dk_165 0 28 (dk_at dksJ2_grow_2_0 17 rfl rfl)
theorem dJ2_grow_2_20 : decode cJ2_grow_2 20 = .ok (.iload_n 2, 1) := dk_28 (dk_at dksJ2_grow_2_0 20 rfl rfl)
theorem dJ2_grow_2_21 : decode cJ2_grow_2 21 = .ok (.iload_n 1, 1) := dk_27 (dk_at dksJ2_grow_2_0 21 rfl rfl)
theorem dJ2_grow_2_22 : decode cJ2_grow_2 22 = .ok (.iload_n 2, 1) := dk_28 (dk_at dksJ2_grow_2_0 22 rfl rfl)
theorem dJ2_grow_2_23 : decode cJ2_grow_2 23 = .ok (.isub, 1) := dk_100 (dk_at dksJ2_grow_2_0 23 rfl rfl)
theorem dJ2_grow_2_24 : decode cJ2_grow_2 24 = .ok (.iload_n 2, 1) := dk_28 (dk_at dksJ2_grow_2_1 0 rfl rfl)
theorem dJ2_grow_2_25 : decode cJ2_grow_2 25 = .ok (.iconst 1, 1) := dk_4 (dk_at dksJ2_grow_2_1 1 rfl rfl)
theorem dJ2_grow_2_26 : decode cJ2_grow_2 26 = .ok (.ishr, 1) := dk_122 (dk_at dksJ2_grow_2_1 2 rfl rfl)
theorem dJ2_grow_2_27 : decode cJ2_grow_2 27 = .ok (.invokestatic 73, 3) := dk_184 0 73 (dk_at dksJ2_grow_2_1 3 rfl rfl)
theorem dJ2_grow_2_30 : decode cJ2_grow_2 30 = .ok (.istore_n 3, 1) := dk_62 (dk_at dksJ2_grow_2_1 6 rfl rfl)
theorem dJ2_grow_2_31 : decode cJ2_grow_2 31 = .ok (.aload_n 0, 1) := dk_42 (dk_at dksJ2_grow_2_1 7 rfl rfl)
theorem dJ2_grow_2_32 : decode cJ2_grow_2 32 = .ok (.aload_n 0, 1) := dk_42 (dk_at dksJ2_grow_2_1 8 rfl rfl)
theorem dJ2_grow_2_33 : decode cJ2_grow_2 33 = .ok (.getfield 9, 3) := dk_180 0 9 (dk_at dksJ2_grow_2_1 9 rfl rfl)
theorem dJ2_grow_2_36 : decode cJ2_grow_2 36 = .ok (.iload_n 3, 1) := dk_29 (dk_at dksJ2_grow_2_1 12 rfl rfl)
theorem dJ2_grow_2_37 : decode cJ2_grow_2 37 = .ok (.invokestatic 66, 3) := dk_184 0 66 (dk_at dksJ2_grow_2_1 13 rfl rfl)
theorem dJ2_grow_2_40 : decode cJ2_grow_2 40 = .ok (.dup_x1, 1) := dk_90 (dk_at dksJ2_grow_2_1 16 rfl rfl)
theorem dJ2_grow_2_41 : decode cJ2_grow_2 41 = .ok (.putfield 9, 3) := dk_181 0 9 (dk_at dksJ2_grow_2_1 17 rfl rfl)
theorem dJ2_grow_2_44 : decode cJ2_grow_2 44 = .ok (.areturn, 1) := dk_176 (dk_at dksJ2_grow_2_1 20 rfl rfl)
theorem dJ2_grow_2_45 : decode cJ2_grow_2 45 = .ok (.aload_n 0, 1) := dk_42 (dk_at dksJ2_grow_2_1 21 rfl rfl)
theorem dJ2_grow_2_46 : decode cJ2_grow_2 46 = .ok (.bipush 10, 2) := dk_16 10 (dk_at dksJ2_grow_2_1 22 rfl rfl)
theorem dJ2_grow_2_48 : decode cJ2_grow_2 48 = .ok (.iload_n 1, 1) := dk_27 (dk_at dksJ2_grow_2_2 0 rfl rfl)
theorem dJ2_grow_2_49 : decode cJ2_grow_2 49 = .ok (.invokestatic 79, 3) := dk_184 0 79 (dk_at dksJ2_grow_2_2 1 rfl rfl)
theorem dJ2_grow_2_52 : decode cJ2_grow_2 52 = .ok (.anewarray 7, 3) := dk_189 0 7 (dk_at dksJ2_grow_2_2 4 rfl rfl)
theorem dJ2_grow_2_55 : decode cJ2_grow_2 55 = .ok (.dup_x1, 1) := dk_90 (dk_at dksJ2_grow_2_2 7 rfl rfl)
theorem dJ2_grow_2_56 : decode cJ2_grow_2 56 = .ok (.putfield 9, 3) := dk_181 0 9 (dk_at dksJ2_grow_2_2 8 rfl rfl)
theorem dJ2_grow_2_59 : decode cJ2_grow_2 59 = .ok (.areturn, 1) := dk_176 (dk_at dksJ2_grow_2_2 11 rfl rfl)
abbrev cJ3_removeFirst : ByteArray := prog_48_method_18_code
def yJ3_removeFirst : MethodName := ⟨RJ3, "removeFirst", "()Ljava/lang/Object;"⟩
def dkwJ3_removeFirst_0 : List UInt8 := [42, 182, 0, 93, 76, 43, 199, 0, 11, 187, 0, 97, 89, 183, 0, 99, 191, 43, 176]
abbrev dktJ3_removeFirst_0 : List UInt8 := dkwJ3_removeFirst_0 ++ []
theorem dksJ3_removeFirst_0 : cJ3_removeFirst.data.toList.drop 0 = dktJ3_removeFirst_0 := by decide +kernel
theorem dJ3_removeFirst_0 : decode cJ3_removeFirst 0 = .ok (.aload_n 0, 1) := dk_42 (dk_at dksJ3_removeFirst_0 0 rfl rfl)
theorem dJ3_removeFirst_1 : decode cJ3_removeFirst 1 = .ok (.invokevirtual 93, 3) := dk_182 0 93 (dk_at dksJ3_removeFirst_0 1 rfl rfl)
theorem dJ3_removeFirst_4 : decode cJ3_removeFirst 4 = .ok (.astore_n 1, 1) := dk_76 (dk_at dksJ3_removeFirst_0 4 rfl rfl)
theorem dJ3_removeFirst_5 : decode cJ3_removeFirst 5 = .ok (.aload_n 1, 1) := dk_43 (dk_at dksJ3_removeFirst_0 5 rfl rfl)
theorem dJ3_removeFirst_6 : decode cJ3_removeFirst 6 = .ok (.ifnonnull 11, 3) := dk_199 0 11 (dk_at dksJ3_removeFirst_0 6 rfl rfl)
theorem dJ3_removeFirst_9 : decode cJ3_removeFirst 9 = .ok (.new 97, 3) := dk_187 0 97 (dk_at dksJ3_removeFirst_0 9 rfl rfl)
theorem dJ3_removeFirst_12 : decode cJ3_removeFirst 12 = .ok (.dup, 1) := dk_89 (dk_at dksJ3_removeFirst_0 12 rfl rfl)
theorem dJ3_removeFirst_13 : decode cJ3_removeFirst 13 = .ok (.invokespecial 99, 3) := dk_183 0 99 (dk_at dksJ3_removeFirst_0 13 rfl rfl)
theorem dJ3_removeFirst_16 : decode cJ3_removeFirst 16 = .ok (.athrow, 1) := dk_191 (dk_at dksJ3_removeFirst_0 16 rfl rfl)
theorem dJ3_removeFirst_17 : decode cJ3_removeFirst 17 = .ok (.aload_n 1, 1) := dk_43 (dk_at dksJ3_removeFirst_0 17 rfl rfl)
theorem dJ3_removeFirst_18 : decode cJ3_removeFirst 18 = .ok (.areturn, 1) := dk_176 (dk_at dksJ3_removeFirst_0 18 rfl rfl)
abbrev cJ3_removeLast : ByteArray := prog_48_method_19_code
def yJ3_removeLast : MethodName := ⟨RJ3, "removeLast", "()Ljava/lang/Object;"⟩
def dkwJ3_removeLast_0 : List UInt8 := [42, 182, 0, 100, 76, 43, 199, 0, 11, 187, 0, 97, 89, 183, 0, 99, 191, 43, 176]
abbrev dktJ3_removeLast_0 : List UInt8 := dkwJ3_removeLast_0 ++ []
theorem dksJ3_removeLast_0 : cJ3_removeLast.data.toList.drop 0 = dktJ3_removeLast_0 := by decide +kernel
theorem dJ3_removeLast_0 : decode cJ3_removeLast 0 = .ok (.aload_n 0, 1) := dk_42 (dk_at dksJ3_removeLast_0 0 rfl rfl)
theorem dJ3_removeLast_1 : decode cJ3_removeLast 1 = .ok (.invokevirtual 100, 3) := dk_182 0 100 (dk_at dksJ3_removeLast_0 1 rfl rfl)
theorem dJ3_removeLast_4 : decode cJ3_removeLast 4 = .ok (.astore_n 1, 1) := dk_76 (dk_at dksJ3_removeLast_0 4 rfl rfl)
theorem dJ3_removeLast_5 : decode cJ3_removeLast 5 = .ok (.aload_n 1, 1) := dk_43 (dk_at dksJ3_removeLast_0 5 rfl rfl)
theorem dJ3_removeLast_6 : decode cJ3_removeLast 6 = .ok (.ifnonnull 11, 3) := dk_199 0 11 (dk_at dksJ3_removeLast_0 6 rfl rfl)
theorem dJ3_removeLast_9 : decode cJ3_removeLast 9 = .ok (.new 97, 3) := dk_187 0 97 (dk_at dksJ3_removeLast_0 9 rfl rfl)
theorem dJ3_removeLast_12 : decode cJ3_removeLast 12 = .ok (.dup, 1) := dk_89 (dk_at dksJ3_removeLast_0 12 rfl rfl)
theorem dJ3_removeLast_13 : decode cJ3_removeLast 13 = .ok (.invokespecial 99, 3) := dk_183 0 99 (dk_at dksJ3_removeLast_0 13 rfl rfl)
theorem dJ3_removeLast_16 : decode cJ3_removeLast 16 = .ok (.athrow, 1) := dk_191 (dk_at dksJ3_removeLast_0 16 rfl rfl)
theorem dJ3_removeLast_17 : decode cJ3_removeLast 17 = .ok (.aload_n 1, 1) := dk_43 (dk_at dksJ3_removeLast_0 17 rfl rfl)
theorem dJ3_removeLast_18 : decode cJ3_removeLast 18 = .ok (.areturn, 1) := dk_176 (dk_at dksJ3_removeLast_0 18 rfl rfl)
abbrev cJ26_get : ByteArray := prog_56_method_22_code
def yJ26_get : MethodName := ⟨RJ26, "get", "(I)Ljava/lang/Object;"⟩
def dkwJ26_get_0 : List UInt8 := [42, 27, 182, 0, 90, 42, 27, 182, 0, 86, 180, 0, 39, 176]
abbrev dktJ26_get_0 : List UInt8 := dkwJ26_get_0 ++ []
theorem dksJ26_get_0 : cJ26_get.data.toList.drop 0 = dktJ26_get_0 := by decide +kernel
theorem dJ26_get_0 : decode cJ26_get 0 = .ok (.aload_n 0, 1) := dk_42 (dk_at dksJ26_get_0 0 rfl rfl)
theorem dJ26_get_1 : decode cJ26_get 1 = .ok (.iload_n 1, 1) := dk_27 (dk_at dksJ26_get_0 1 rfl rfl)
theorem dJ26_get_2 : decode cJ26_get 2 = .ok (.invokevirtual 90, 3) := dk_182 0 90 (dk_at dksJ26_get_0 2 rfl rfl)
theorem dJ26_get_5 : decode cJ26_get 5 = .ok (.aload_n 0, 1) := dk_42 (dk_at dksJ26_get_0 5 rfl rfl)
theorem dJ26_get_6 : decode cJ26_get 6 = .ok (.iload_n 1, 1) := dk_27 (dk_at dksJ26_get_0 6 rfl rfl)
theorem dJ26_get_7 : decode cJ26_get 7 = .ok (.invokevirtual 86, 3) := dk_182 0 86 (dk_at dksJ26_get_0 7 rfl rfl)
theorem dJ26_get_10 : decode cJ26_get 10 = .ok (.getfield 39, 3) := dk_180 0 39 (dk_at dksJ26_get_0 10 rfl rfl)
theorem dJ26_get_13 : decode cJ26_get 13 = .ok (.areturn, 1) := dk_176 (dk_at dksJ26_get_0 13 rfl rfl)
abbrev cJ26_add : ByteArray := prog_56_method_24_code
def yJ26_add : MethodName := ⟨RJ26, "add", "(ILjava/lang/Object;)V"⟩
def dkwJ26_add_1 : List UInt8 := [27, 182, 0, 86, 182, 0, 93, 177]
abbrev dktJ26_add_1 : List UInt8 := dkwJ26_add_1 ++ []
def dkwJ26_add_0 : List UInt8 := [42, 27, 182, 0, 76, 27, 42, 180, 0, 7, 160, 0, 11, 42, 44, 182, 0, 57, 167, 0, 13, 42, 44, 42]
abbrev dktJ26_add_0 : List UInt8 := dkwJ26_add_0 ++ dktJ26_add_1
theorem dksJ26_add_0 : cJ26_add.data.toList.drop 0 = dktJ26_add_0 := by decide +kernel
theorem dksJ26_add_1 : cJ26_add.data.toList.drop 24 = dktJ26_add_1 := dk_seg dksJ26_add_0 24 rfl rfl
theorem dJ26_add_0 : decode cJ26_add 0 = .ok (.aload_n 0, 1) := dk_42 (dk_at dksJ26_add_0 0 rfl rfl)
theorem dJ26_add_1 : decode cJ26_add 1 = .ok (.iload_n 1, 1) := dk_27 (dk_at dksJ26_add_0 1 rfl rfl)
theorem dJ26_add_2 : decode cJ26_add 2 = .ok (.invokevirtual 76, 3) := dk_182 0 76 (dk_at dksJ26_add_0 2 rfl rfl)
theorem dJ26_add_5 : decode cJ26_add 5 = .ok (.iload_n 1, 1) := dk_27 (dk_at dksJ26_add_0 5 rfl rfl)
theorem dJ26_add_6 : decode cJ26_add 6 = .ok (.aload_n 0, 1) := dk_42 (dk_at dksJ26_add_0 6 rfl rfl)
theorem dJ26_add_7 : decode cJ26_add 7 = .ok (.getfield 7, 3) := dk_180 0 7 (dk_at dksJ26_add_0 7 rfl rfl)
theorem dJ26_add_10 : decode cJ26_add 10 = .ok (.if_icmp .ne 11, 3) := dk_160 0 11 (dk_at dksJ26_add_0 10 rfl rfl)
theorem dJ26_add_13 : decode cJ26_add 13 = .ok (.aload_n 0, 1) := dk_42 (dk_at dksJ26_add_0 13 rfl rfl)
theorem dJ26_add_14 : decode cJ26_add 14 = .ok (.aload_n 2, 1) := dk_44 (dk_at dksJ26_add_0 14 rfl rfl)
theorem dJ26_add_15 : decode cJ26_add 15 = .ok (.invokevirtual 57, 3) := dk_182 0 57 (dk_at dksJ26_add_0 15 rfl rfl)
theorem dJ26_add_18 : decode cJ26_add 18 = .ok (.goto 13, 3) := dk_167 0 13 (dk_at dksJ26_add_0 18 rfl rfl)
theorem dJ26_add_21 : decode cJ26_add 21 = .ok (.aload_n 0, 1) := dk_42 (dk_at dksJ26_add_0 21 rfl rfl)
theorem dJ26_add_22 : decode cJ26_add 22 = .ok (.aload_n 2, 1) := dk_44 (dk_at dksJ26_add_0 22 rfl rfl)
theorem dJ26_add_23 : decode cJ26_add 23 = .ok (.aload_n 0, 1) := dk_42 (dk_at dksJ26_add_0 23 rfl rfl)
theorem dJ26_add_24 : decode cJ26_add 24 = .ok (.iload_n 1, 1) := dk_27 (dk_at dksJ26_add_1 0 rfl rfl)
theorem dJ26_add_25 : decode cJ26_add 25 = .ok (.invokevirtual 86, 3) := dk_182 0 86 (dk_at dksJ26_add_1 1 rfl rfl)
theorem dJ26_add_28 : decode cJ26_add 28 = .ok (.invokevirtual 93, 3) := dk_182 0 93 (dk_at dksJ26_add_1 4 rfl rfl)
theorem dJ26_add_31 : decode cJ26_add 31 = .ok (.return_, 1) := dk_177 (dk_at dksJ26_add_1 7 rfl rfl)
abbrev cJ2_grow : ByteArray := prog_49_method_7_code
def yJ2_grow : MethodName := ⟨RJ2, "grow", "()[Ljava/lang/Object;"⟩
def dkwJ2_grow_0 : List UInt8 := [42, 42, 180, 0, 48, 4, 96, 182, 0, 69, 176]
abbrev dktJ2_grow_0 : List UInt8 := dkwJ2_grow_0 ++ []
theorem dksJ2_grow_0 : cJ2_grow.data.toList.drop 0 = dktJ2_grow_0 := by decide +kernel
theorem dJ2_grow_0 : decode cJ2_grow 0 = .ok (.aload_n 0, 1) := dk_42 (dk_at dksJ2_grow_0 0 rfl rfl)
theorem dJ2_grow_1 : decode cJ2_grow 1 = .ok (.aload_n 0, 1) := dk_42 (dk_at dksJ2_grow_0 1 rfl rfl)
theorem dJ2_grow_2 : decode cJ2_grow 2 = .ok (.getfield 48, 3) := dk_180 0 48 (dk_at dksJ2_grow_0 2 rfl rfl)
theorem dJ2_grow_5 : decode cJ2_grow 5 = .ok (.iconst 1, 1) := dk_4 (dk_at dksJ2_grow_0 5 rfl rfl)
theorem dJ2_grow_6 : decode cJ2_grow 6 = .ok (.iadd, 1) := dk_96 (dk_at dksJ2_grow_0 6 rfl rfl)
theorem dJ2_grow_7 : decode cJ2_grow 7 = .ok (.invokevirtual 69, 3) := dk_182 0 69 (dk_at dksJ2_grow_0 7 rfl rfl)
theorem dJ2_grow_10 : decode cJ2_grow 10 = .ok (.areturn, 1) := dk_176 (dk_at dksJ2_grow_0 10 rfl rfl)
abbrev cJ2_add_2 : ByteArray := prog_49_method_24_code
def yJ2_add_2 : MethodName := ⟨RJ2, "add", "(Ljava/lang/Object;[Ljava/lang/Object;I)V"⟩
def dkwJ2_add_2_0 : List UInt8 := [29, 44, 190, 160, 0, 8, 42, 182, 0, 129, 77, 44, 29, 43, 83, 42, 29, 4, 96, 181, 0, 48, 177]
abbrev dktJ2_add_2_0 : List UInt8 := dkwJ2_add_2_0 ++ []
theorem dksJ2_add_2_0 : cJ2_add_2.data.toList.drop 0 = dktJ2_add_2_0 := by decide +kernel
theorem dJ2_add_2_0 : decode cJ2_add_2 0 = .ok (.iload_n 3, 1) := dk_29 (dk_at dksJ2_add_2_0 0 rfl rfl)
theorem dJ2_add_2_1 : decode cJ2_add_2 1 = .ok (.aload_n 2, 1) := dk_44 (dk_at dksJ2_add_2_0 1 rfl rfl)
theorem dJ2_add_2_2 : decode cJ2_add_2 2 = .ok (.arraylength, 1) := dk_190 (dk_at dksJ2_add_2_0 2 rfl rfl)
theorem dJ2_add_2_3 : decode cJ2_add_2 3 = .ok (.if_icmp .ne 8, 3) := dk_160 0 8 (dk_at dksJ2_add_2_0 3 rfl rfl)
theorem dJ2_add_2_6 : decode cJ2_add_2 6 = .ok (.aload_n 0, 1) := dk_42 (dk_at dksJ2_add_2_0 6 rfl rfl)
theorem dJ2_add_2_7 : decode cJ2_add_2 7 = .ok (.invokevirtual 129, 3) := dk_182 0 129 (dk_at dksJ2_add_2_0 7 rfl rfl)
theorem dJ2_add_2_10 : decode cJ2_add_2 10 = .ok (.astore_n 2, 1) := dk_77 (dk_at dksJ2_add_2_0 10 rfl rfl)
theorem dJ2_add_2_11 : decode cJ2_add_2 11 = .ok (.aload_n 2, 1) := dk_44 (dk_at dksJ2_add_2_0 11 rfl rfl)
theorem dJ2_add_2_12 : decode cJ2_add_2 12 = .ok (.iload_n 3, 1) := dk_29 (dk_at dksJ2_add_2_0 12 rfl rfl)
theorem dJ2_add_2_13 : decode cJ2_add_2 13 = .ok (.aload_n 1, 1) := dk_43 (dk_at dksJ2_add_2_0 13 rfl rfl)
theorem dJ2_add_2_14 : decode cJ2_add_2 14 = .ok (.aastore, 1) := dk_83 (dk_at dksJ2_add_2_0 14 rfl rfl)
theorem dJ2_add_2_15 : decode cJ2_add_2 15 = .ok (.aload_n 0, 1) := dk_42 (dk_at dksJ2_add_2_0 15 rfl rfl)
theorem dJ2_add_2_16 : decode cJ2_add_2 16 = .ok (.iload_n 3, 1) := dk_29 (dk_at dksJ2_add_2_0 16 rfl rfl)
theorem dJ2_add_2_17 : decode cJ2_add_2 17 = .ok (.iconst 1, 1) := dk_4 (dk_at dksJ2_add_2_0 17 rfl rfl)
theorem dJ2_add_2_18 : decode cJ2_add_2 18 = .ok (.iadd, 1) := dk_96 (dk_at dksJ2_add_2_0 18 rfl rfl)
theorem dJ2_add_2_19 : decode cJ2_add_2 19 = .ok (.putfield 48, 3) := dk_181 0 48 (dk_at dksJ2_add_2_0 19 rfl rfl)
theorem dJ2_add_2_22 : decode cJ2_add_2 22 = .ok (.return_, 1) := dk_177 (dk_at dksJ2_add_2_0 22 rfl rfl)
abbrev cJ2_add : ByteArray := prog_49_method_25_code
def yJ2_add : MethodName := ⟨RJ2, "add", "(Ljava/lang/Object;)Z"⟩
def dkwJ2_add_1 : List UInt8 := [172]
abbrev dktJ2_add_1 : List UInt8 := dkwJ2_add_1 ++ []
def dkwJ2_add_0 : List UInt8 := [42, 89, 180, 0, 63, 4, 96, 181, 0, 63, 42, 43, 42, 180, 0, 9, 42, 180, 0, 48, 182, 0, 131, 4]
abbrev dktJ2_add_0 : List UInt8 := dkwJ2_add_0 ++ dktJ2_add_1
theorem dksJ2_add_0 : cJ2_add.data.toList.drop 0 = dktJ2_add_0 := by decide +kernel
theorem dksJ2_add_1 : cJ2_add.data.toList.drop 24 = dktJ2_add_1 := dk_seg dksJ2_add_0 24 rfl rfl
theorem dJ2_add_0 : decode cJ2_add 0 = .ok (.aload_n 0, 1) := dk_42 (dk_at dksJ2_add_0 0 rfl rfl)
theorem dJ2_add_1 : decode cJ2_add 1 = .ok (.dup, 1) := dk_89 (dk_at dksJ2_add_0 1 rfl rfl)
theorem dJ2_add_2 : decode cJ2_add 2 = .ok (.getfield 63, 3) := dk_180 0 63 (dk_at dksJ2_add_0 2 rfl rfl)
theorem dJ2_add_5 : decode cJ2_add 5 = .ok (.iconst 1, 1) := dk_4 (dk_at dksJ2_add_0 5 rfl rfl)
theorem dJ2_add_6 : decode cJ2_add 6 = .ok (.iadd, 1) := dk_96 (dk_at dksJ2_add_0 6 rfl rfl)
theorem dJ2_add_7 : decode cJ2_add 7 = .ok (.putfield 63, 3) := dk_181 0 63 (dk_at dksJ2_add_0 7 rfl rfl)
theorem dJ2_add_10 : decode cJ2_add 10 = .ok (.aload_n 0, 1) := dk_42 (dk_at dksJ2_add_0 10 rfl rfl)
theorem dJ2_add_11 : decode cJ2_add 11 = .ok (.aload_n 1, 1) := dk_43 (dk_at dksJ2_add_0 11 rfl rfl)
theorem dJ2_add_12 : decode cJ2_add 12 = .ok (.aload_n 0, 1) := dk_42 (dk_at dksJ2_add_0 12 rfl rfl)
theorem dJ2_add_13 : decode cJ2_add 13 = .ok (.getfield 9, 3) := dk_180 0 9 (dk_at dksJ2_add_0 13 rfl rfl)
theorem dJ2_add_16 : decode cJ2_add 16 = .ok (.aload_n 0, 1) := dk_42 (dk_at dksJ2_add_0 16 rfl rfl)
theorem dJ2_add_17 : decode cJ2_add 17 = .ok (.getfield 48, 3) := dk_180 0 48 (dk_at dksJ2_add_0 17 rfl rfl)
theorem dJ2_add_20 : decode cJ2_add 20 = .ok (.invokevirtual 131, 3) := dk_182 0 131 (dk_at dksJ2_add_0 20 rfl rfl)
theorem dJ2_add_23 : decode cJ2_add 23 = .ok (.iconst 1, 1) := dk_4 (dk_at dksJ2_add_0 23 rfl rfl)
theorem dJ2_add_24 : decode cJ2_add 24 = .ok (.ireturn, 1) := dk_172 (dk_at dksJ2_add_1 0 rfl rfl)
theorem q77 : (Jvm.Cond.initialized "java/util/AbstractCollection") ∈ lw_all := lw_g (lw_at lw_m1 3 rfl) rfl
theorem q78 : (Jvm.Cond.initialized "java/util/AbstractList") ∈ lw_all := lw_g (lw_at lw_m1 4 rfl) rfl
theorem q79 : (Jvm.Cond.initialized "java/util/ArrayList") ∈ lw_all := lw_g (lw_at lw_m1 5 rfl) rfl
theorem q81 : (Jvm.Cond.initialized "java/util/ArrayDeque") ∈ lw_all := lw_g (lw_at lw_m1 7 rfl) rfl
theorem q88 : (Jvm.Cond.initialized "java/util/ArrayList$Itr") ∈ lw_all := lw_g (lw_at lw_m1 14 rfl) rfl
theorem q89 : (Jvm.Cond.initialized "java/util/Objects") ∈ lw_all := lw_g (lw_at lw_m1 15 rfl) rfl
theorem q90 : (Jvm.Cond.initialized "jdk/internal/util/Preconditions") ∈ lw_all := lw_g (lw_at lw_m1 16 rfl) rfl
theorem q95 : (Jvm.Cond.initialized "jdk/internal/util/ArraysSupport") ∈ lw_all := lw_g (lw_at lw_m1 21 rfl) rfl
theorem q97 : (Jvm.Cond.initialized "java/util/Arrays") ∈ lw_all := lw_g (lw_at lw_m1 23 rfl) rfl
theorem q98 : (Jvm.Cond.initialized "java/lang/System") ∈ lw_all := lw_g (lw_at lw_m1 24 rfl) rfl
theorem q113 : (Jvm.Cond.initialized "java/util/AbstractSequentialList") ∈ lw_all := lw_g (lw_at lw_m1 39 rfl) rfl
theorem q114 : (Jvm.Cond.initialized "java/util/LinkedList") ∈ lw_all := lw_g (lw_at lw_m1 40 rfl) rfl
theorem q115 : (Jvm.Cond.initialized "java/util/LinkedList$Node") ∈ lw_all := lw_g (lw_at lw_m1 41 rfl) rfl
theorem q123 : (Jvm.Cond.initialized "java/util/LinkedList$ListItr") ∈ lw_all := lw_g (lw_at lw_m1 49 rfl) rfl
theorem q142 : (Jvm.Cond.code ({ cls := "java/util/ArrayList", name := "<init>", desc := "()V" } : Jvm.MethodName) prog_49_method_2_code (1 : Nat) (Option.none : Option Jvm.ClassFile.FieldType)) ∈ lw_all := lw_g (lw_at lw_m1 68 rfl) rfl
theorem q143 : (Jvm.Cond.methodLink "java/util/ArrayList" (1 : Nat) ({ cls := "java/util/AbstractList", name := "<init>", desc := "()V" } : Jvm.MethodName)) ∈ lw_all := lw_g (lw_at lw_m1 69 rfl) rfl
theorem q144 : (Jvm.Cond.instanceMethod ({ cls := "java/util/AbstractList", name := "<init>", desc := "()V" } : Jvm.MethodName)) ∈ lw_all := lw_g (lw_at lw_m1 70 rfl) rfl
theorem q145 : (Jvm.Cond.code ({ cls := "java/util/AbstractList", name := "<init>", desc := "()V" } : Jvm.MethodName) prog_44_method_1_code (1 : Nat) (Option.none : Option Jvm.ClassFile.FieldType)) ∈ lw_all := lw_g (lw_at lw_m1 71 rfl) rfl
theorem q146 : (Jvm.Cond.methodLink "java/util/AbstractList" (1 : Nat) ({ cls := "java/util/AbstractCollection", name := "<init>", desc := "()V" } : Jvm.MethodName)) ∈ lw_all := lw_g (lw_at lw_m1 72 rfl) rfl
theorem q147 : (Jvm.Cond.instanceMethod ({ cls := "java/util/AbstractCollection", name := "<init>", desc := "()V" } : Jvm.MethodName)) ∈ lw_all := lw_g (lw_at lw_m1 73 rfl) rfl
theorem q148 : (Jvm.Cond.code ({ cls := "java/util/AbstractCollection", name := "<init>", desc := "()V" } : Jvm.MethodName) prog_43_method_1_code (1 : Nat) (Option.none : Option Jvm.ClassFile.FieldType)) ∈ lw_all := lw_g (lw_at lw_m1 74 rfl) rfl
theorem q149 : (Jvm.Cond.methodLink "java/util/AbstractCollection" (1 : Nat) ({ cls := "java/lang/Object", name := "<init>", desc := "()V" } : Jvm.MethodName)) ∈ lw_all := lw_g (lw_at lw_m1 75 rfl) rfl
theorem q150 : (Jvm.Cond.fieldLink "java/util/ArrayList" (39 : Nat) "java/util/ArrayList" "DEFAULTCAPACITY_EMPTY_ELEMENTDATA" "[Ljava/lang/Object;") ∈ lw_all := lw_g (lw_at lw_m1 76 rfl) rfl
theorem q152 : (Jvm.Cond.fieldLink "java/util/ArrayList" (9 : Nat) "java/util/ArrayList" "elementData" "[Ljava/lang/Object;") ∈ lw_all := lw_g (lw_at lw_m1 78 rfl) rfl
theorem q153 : (Jvm.Cond.fieldLink "java/util/ArrayList$Itr" (37 : Nat) "java/util/ArrayList" "elementData" "[Ljava/lang/Object;") ∈ lw_all := lw_g (lw_at lw_m1 79 rfl) rfl
theorem q154 : (Jvm.Cond.fieldLinkNest "java/util/ArrayList$Itr" (28 : Nat) "java/util/ArrayList" "size" "I" "java/util/ArrayList") ∈ lw_tbl := lw_at lw_m1 80 rfl
theorem q155 : (Jvm.Cond.fieldLink "java/util/ArrayList" (48 : Nat) "java/util/ArrayList" "size" "I") ∈ lw_all := lw_g (lw_at lw_m1 81 rfl) rfl
theorem q156 : (Jvm.Cond.fieldLink "java/util/AbstractList" (7 : Nat) "java/util/AbstractList" "modCount" "I") ∈ lw_all := lw_g (lw_at lw_m1 82 rfl) rfl
theorem q157 : (Jvm.Cond.fieldLink "java/util/LinkedList$ListItr" (13 : Nat) "java/util/LinkedList" "modCount" "I") ∈ lw_all := lw_g (lw_at lw_m1 83 rfl) rfl
theorem q158 : (Jvm.Cond.sameField "java/util/LinkedList" "java/util/AbstractList" "modCount" "I") ∈ lw_all := lw_g (lw_at lw_m1 84 rfl) rfl
theorem q159 : (Jvm.Cond.fieldLink "java/util/ArrayList$Itr" (17 : Nat) "java/util/ArrayList" "modCount" "I") ∈ lw_all := lw_g (lw_at lw_m1 85 rfl) rfl
theorem q160 : (Jvm.Cond.sameField "java/util/ArrayList" "java/util/AbstractList" "modCount" "I") ∈ lw_all := lw_g (lw_at lw_m1 86 rfl) rfl
theorem q162 : (Jvm.Cond.fieldLink "java/util/LinkedList" (33 : Nat) "java/util/LinkedList" "modCount" "I") ∈ lw_all := lw_g (lw_at lw_m1 88 rfl) rfl
theorem q163 : (Jvm.Cond.fieldLink "java/util/ArrayList" (63 : Nat) "java/util/ArrayList" "modCount" "I") ∈ lw_all := lw_g (lw_at lw_m1 89 rfl) rfl
theorem q224 : (Jvm.Cond.code ({ cls := "java/util/ArrayDeque", name := "<init>", desc := "()V" } : Jvm.MethodName) prog_48_method_3_code (1 : Nat) (Option.none : Option Jvm.ClassFile.FieldType)) ∈ lw_all := lw_g (lw_at lw_m1 150 rfl) rfl
theorem q225 : (Jvm.Cond.methodLink "java/util/ArrayDeque" (42 : Nat) ({ cls := "java/util/AbstractCollection", name := "<init>", desc := "()V" } : Jvm.MethodName)) ∈ lw_all := lw_g (lw_at lw_m1 151 rfl) rfl
theorem q226 : (Jvm.Cond.classLink "java/util/ArrayDeque" (47 : Nat) "java/lang/Object") ∈ lw_all := lw_g (lw_at lw_m1 152 rfl) rfl
theorem q228 : (Jvm.Cond.fieldLink "java/util/ArrayDeque" (3 : Nat) "java/util/ArrayDeque" "elements" "[Ljava/lang/Object;") ∈ lw_all := lw_g (lw_at lw_m1 154 rfl) rfl
theorem q229 : (Jvm.Cond.fieldLink "java/util/ArrayDeque" (24 : Nat) "java/util/ArrayDeque" "head" "I") ∈ lw_all := lw_g (lw_at lw_m1 155 rfl) rfl
theorem q230 : (Jvm.Cond.fieldLink "java/util/ArrayDeque" (20 : Nat) "java/util/ArrayDeque" "tail" "I") ∈ lw_all := lw_g (lw_at lw_m1 156 rfl) rfl
theorem q311 : (Jvm.Cond.code ({ cls := "java/util/ArrayList", name := "iterator", desc := "()Ljava/util/Iterator;" } : Jvm.MethodName) prog_49_method_55_code (1 : Nat) (Option.some (Jvm.ClassFile.FieldType.object "java/util/Iterator"))) ∈ lw_all := lw_g (lw_at lw_m1 237 rfl) rfl
theorem q312 : (Jvm.Cond.classLink "java/util/ArrayList" (267 : Nat) "java/util/ArrayList$Itr") ∈ lw_all := lw_g (lw_at lw_m1 238 rfl) rfl
theorem q313 : (Jvm.Cond.instantiable "java/util/ArrayList$Itr" (4 : Nat)) ∈ lw_all := lw_g (lw_at lw_m1 239 rfl) rfl
theorem q314 : (Jvm.Cond.methodLink "java/util/ArrayList" (269 : Nat) ({ cls := "java/util/ArrayList$Itr", name := "<init>", desc := "(Ljava/util/ArrayList;)V" } : Jvm.MethodName)) ∈ lw_all := lw_g (lw_at lw_m2 0 rfl) rfl
theorem q315 : (Jvm.Cond.instanceMethod ({ cls := "java/util/ArrayList$Itr", name := "<init>", desc := "(Ljava/util/ArrayList;)V" } : Jvm.MethodName)) ∈ lw_all := lw_g (lw_at lw_m2 1 rfl) rfl
theorem q316 : (Jvm.Cond.code ({ cls := "java/util/ArrayList$Itr", name := "<init>", desc := "(Ljava/util/ArrayList;)V" } : Jvm.MethodName) prog_50_method_1_code (2 : Nat) (Option.none : Option Jvm.ClassFile.FieldType)) ∈ lw_all := lw_g (lw_at lw_m2 2 rfl) rfl
theorem q317 : (Jvm.Cond.methodLink "java/util/ArrayList$Itr" (7 : Nat) ({ cls := "java/lang/Object", name := "<init>", desc := "()V" } : Jvm.MethodName)) ∈ lw_all := lw_g (lw_at lw_m2 3 rfl) rfl
theorem q320 : (Jvm.Cond.fieldLink "java/util/ArrayList$Itr" (25 : Nat) "java/util/ArrayList$Itr" "cursor" "I") ∈ lw_all := lw_g (lw_at lw_m2 6 rfl) rfl
theorem q321 : (Jvm.Cond.fieldLink "java/util/ArrayList$Itr" (13 : Nat) "java/util/ArrayList$Itr" "lastRet" "I") ∈ lw_all := lw_g (lw_at lw_m2 7 rfl) rfl
theorem q322 : (Jvm.Cond.fieldLink "java/util/ArrayList$Itr" (22 : Nat) "java/util/ArrayList$Itr" "expectedModCount" "I") ∈ lw_all := lw_g (lw_at lw_m2 8 rfl) rfl
theorem q323 : (Jvm.Cond.fieldLink "java/util/ArrayList$Itr" (1 : Nat) "java/util/ArrayList$Itr" "this$0" "Ljava/util/ArrayList;") ∈ lw_all := lw_g (lw_at lw_m2 9 rfl) rfl
theorem q348 : (Jvm.Cond.code ({ cls := "java/util/ArrayList", name := "size", desc := "()I" } : Jvm.MethodName) prog_49_method_8_code (1 : Nat) (Option.some Jvm.ClassFile.FieldType.int)) ∈ lw_all := lw_g (lw_at lw_m2 34 rfl) rfl
theorem q351 : (Jvm.Cond.code ({ cls := "java/util/LinkedList", name := "size", desc := "()I" } : Jvm.MethodName) prog_56_method_16_code (1 : Nat) (Option.some Jvm.ClassFile.FieldType.int)) ∈ lw_all := lw_g (lw_at lw_m2 37 rfl) rfl
theorem q357 : (Jvm.Cond.code ({ cls := "java/util/ArrayList$Itr", name := "hasNext", desc := "()Z" } : Jvm.MethodName) prog_50_method_2_code (1 : Nat) (Option.some Jvm.ClassFile.FieldType.boolean)) ∈ lw_all := lw_g (lw_at lw_m2 43 rfl) rfl
theorem q364 : (Jvm.Cond.instanceMethod ({ cls := "java/util/LinkedList$ListItr", name := "hasNext", desc := "()Z" } : Jvm.MethodName)) ∈ lw_all := lw_g (lw_at lw_m2 50 rfl) rfl
theorem q366 : (Jvm.Cond.code ({ cls := "java/util/LinkedList$ListItr", name := "hasNext", desc := "()Z" } : Jvm.MethodName) prog_57_method_2_code (1 : Nat) (Option.some Jvm.ClassFile.FieldType.boolean)) ∈ lw_all := lw_g (lw_at lw_m2 52 rfl) rfl
theorem q386 : (Jvm.Cond.code ({ cls := "java/util/ArrayList", name := "get", desc := "(I)Ljava/lang/Object;" } : Jvm.MethodName) prog_49_method_20_code (2 : Nat) (Option.some (Jvm.ClassFile.FieldType.object "java/lang/Object"))) ∈ lw_all := lw_g (lw_at lw_m2 72 rfl) rfl
theorem q387 : (Jvm.Cond.methodLink "java/util/ArrayList" (118 : Nat) ({ cls := "java/util/Objects", name := "checkIndex", desc := "(II)I" } : Jvm.MethodName)) ∈ lw_all := lw_g (lw_at lw_m2 73 rfl) rfl
theorem q388 : (Jvm.Cond.static ({ cls := "java/util/Objects", name := "checkIndex", desc := "(II)I" } : Jvm.MethodName)) ∈ lw_all := lw_g (lw_at lw_m2 74 rfl) rfl
theorem q389 : (Jvm.Cond.code ({ cls := "java/util/Objects", name := "checkIndex", desc := "(II)I" } : Jvm.MethodName) prog_62_method_17_code (2 : Nat) (Option.some Jvm.ClassFile.FieldType.int)) ∈ lw_all := lw_g (lw_at lw_m2 75 rfl) rfl
theorem q390 : (Jvm.Cond.methodLink "java/util/Objects" (105 : Nat) ({ cls := "jdk/internal/util/Preconditions", name := "checkIndex", desc := "(IILjava/util/function/BiFunction;)I" } : Jvm.MethodName)) ∈ lw_all := lw_g (lw_at lw_m2 76 rfl) rfl
theorem q391 : (Jvm.Cond.static ({ cls := "jdk/internal/util/Preconditions", name := "checkIndex", desc := "(IILjava/util/function/BiFunction;)I" } : Jvm.MethodName)) ∈ lw_all := lw_g (lw_at lw_m2 77 rfl) rfl
theorem q392 : (Jvm.Cond.code ({ cls := "jdk/internal/util/Preconditions", name := "checkIndex", desc := "(IILjava/util/function/BiFunction;)I" } : Jvm.MethodName) prog_68_method_11_code (3 : Nat) (Option.some Jvm.ClassFile.FieldType.int)) ∈ lw_all := lw_g (lw_at lw_m2 78 rfl) rfl
theorem q393 : (Jvm.Cond.methodLink "java/util/ArrayList" (123 : Nat) ({ cls := "java/util/ArrayList", name := "elementData", desc := "(I)Ljava/lang/Object;" } : Jvm.MethodName)) ∈ lw_all := lw_g (lw_at lw_m2 79 rfl) rfl
theorem q394 : (Jvm.Cond.instanceMethod ({ cls := "java/util/ArrayList", name := "elementData", desc := "(I)Ljava/lang/Object;" } : Jvm.MethodName)) ∈ lw_all := lw_g (lw_at lw_m2 80 rfl) rfl
theorem q395 : (Jvm.Cond.selects "java/util/ArrayList" ({ cls := "java/util/ArrayList", name := "elementData", desc := "(I)Ljava/lang/Object;" } : Jvm.MethodName) ({ cls := "java/util/ArrayList", name := "elementData", desc := "(I)Ljava/lang/Object;" } : Jvm.MethodName)) ∈ lw_all := lw_g (lw_at lw_m2 81 rfl) rfl
theorem q396 : (Jvm.Cond.code ({ cls := "java/util/ArrayList", name := "elementData", desc := "(I)Ljava/lang/Object;" } : Jvm.MethodName) prog_49_method_18_code (2 : Nat) (Option.some (Jvm.ClassFile.FieldType.object "java/lang/Object"))) ∈ lw_all := lw_g (lw_at lw_m2 82 rfl) rfl
theorem q399 : (Jvm.Cond.code ({ cls := "java/util/LinkedList", name := "get", desc := "(I)Ljava/lang/Object;" } : Jvm.MethodName) prog_56_method_22_code (2 : Nat) (Option.some (Jvm.ClassFile.FieldType.object "java/lang/Object"))) ∈ lw_all := lw_g (lw_at lw_m2 85 rfl) rfl
theorem q400 : (Jvm.Cond.methodLink "java/util/LinkedList" (90 : Nat) ({ cls := "java/util/LinkedList", name := "checkElementIndex", desc := "(I)V" } : Jvm.MethodName)) ∈ lw_all := lw_g (lw_at lw_m2 86 rfl) rfl
theorem q402 : (Jvm.Cond.instanceMethod ({ cls := "java/util/LinkedList", name := "checkElementIndex", desc := "(I)V" } : Jvm.MethodName)) ∈ lw_all := lw_g (lw_at lw_m2 88 rfl) rfl
theorem q404 : (Jvm.Cond.code ({ cls := "java/util/LinkedList", name := "checkElementIndex", desc := "(I)V" } : Jvm.MethodName) prog_56_method_29_code (2 : Nat) (Option.none : Option Jvm.ClassFile.FieldType)) ∈ lw_all := lw_g (lw_at lw_m2 90 rfl) rfl
theorem q405 : (Jvm.Cond.methodLink "java/util/LinkedList" (115 : Nat) ({ cls := "java/util/LinkedList", name := "isElementIndex", desc := "(I)Z" } : Jvm.MethodName)) ∈ lw_all := lw_g (lw_at lw_m2 91 rfl) rfl
theorem q407 : (Jvm.Cond.instanceMethod ({ cls := "java/util/LinkedList", name := "isElementIndex", desc := "(I)Z" } : Jvm.MethodName)) ∈ lw_all := lw_g (lw_at lw_m2 93 rfl) rfl
theorem q408 : (Jvm.Cond.code ({ cls := "java/util/LinkedList", name := "isElementIndex", desc := "(I)Z" } : Jvm.MethodName) prog_56_method_26_code (2 : Nat) (Option.some Jvm.ClassFile.FieldType.boolean)) ∈ lw_all := lw_g (lw_at lw_m2 94 rfl) rfl
theorem q484 : (Jvm.Cond.static ({ cls := "jdk/internal/util/ArraysSupport", name := "newLength", desc := "(III)I" } : Jvm.MethodName)) ∈ lw_all := lw_g (lw_at lw_m2 170 rfl) rfl
theorem q485 : (Jvm.Cond.code ({ cls := "jdk/internal/util/ArraysSupport", name := "newLength", desc := "(III)I" } : Jvm.MethodName) prog_67_method_27_code (4 : Nat) (Option.some Jvm.ClassFile.FieldType.int)) ∈ lw_all := lw_g (lw_at lw_m2 171 rfl) rfl
theorem q486 : (Jvm.Cond.methodLink "jdk/internal/util/ArraysSupport" (194 : Nat) ({ cls := "java/lang/Math", name := "max", desc := "(II)I" } : Jvm.MethodName)) ∈ lw_all := lw_g (lw_at lw_m2 172 rfl) rfl
theorem q489 : (Jvm.Cond.constant "jdk/internal/util/ArraysSupport" (200 : Nat) (2147483639 : Int32)) ∈ lw_all := lw_g (lw_at lw_m2 175 rfl) rfl
theorem q504 : (Jvm.Cond.methodLink "java/util/Arrays" (304 : Nat) ({ cls := "java/lang/Math", name := "min", desc := "(II)I" } : Jvm.MethodName)) ∈ lw_all := lw_g (lw_at lw_m2 190 rfl) rfl
theorem q505 : (Jvm.Cond.static ({ cls := "java/lang/Math", name := "min", desc := "(II)I" } : Jvm.MethodName)) ∈ lw_all := lw_g (lw_at lw_m2 191 rfl) rfl
theorem q507 : (Jvm.Cond.methodLink "java/util/Arrays" (150 : Nat) ({ cls := "java/lang/System", name := "arraycopy", desc := "(Ljava/lang/Object;ILjava/lang/Object;II)V" } : Jvm.MethodName)) ∈ lw_all := lw_g (lw_at lw_m2 193 rfl) rfl
theorem q508 : (Jvm.Cond.static ({ cls := "java/lang/System", name := "arraycopy", desc := "(Ljava/lang/Object;ILjava/lang/Object;II)V" } : Jvm.MethodName)) ∈ lw_all := lw_g (lw_at lw_m2 194 rfl) rfl
theorem q509 : (Jvm.Cond.native ({ cls := "java/lang/System", name := "arraycopy", desc := "(Ljava/lang/Object;ILjava/lang/Object;II)V" } : Jvm.MethodName)) ∈ lw_all := lw_g (lw_at lw_m2 195 rfl) rfl
theorem q718 : (Jvm.Cond.methodLink "java/util/LinkedList" (86 : Nat) ({ cls := "java/util/LinkedList", name := "node", desc := "(I)Ljava/util/LinkedList$Node;" } : Jvm.MethodName)) ∈ lw_all := lw_g (lw_at lw_m3 164 rfl) rfl
theorem q719 : (Jvm.Cond.instanceMethod ({ cls := "java/util/LinkedList", name := "node", desc := "(I)Ljava/util/LinkedList$Node;" } : Jvm.MethodName)) ∈ lw_all := lw_g (lw_at lw_m3 165 rfl) rfl
theorem q720 : (Jvm.Cond.selects "java/util/LinkedList" ({ cls := "java/util/LinkedList", name := "node", desc := "(I)Ljava/util/LinkedList$Node;" } : Jvm.MethodName) ({ cls := "java/util/LinkedList", name := "node", desc := "(I)Ljava/util/LinkedList$Node;" } : Jvm.MethodName)) ∈ lw_all := lw_g (lw_at lw_m3 166 rfl) rfl
theorem q721 : (Jvm.Cond.code ({ cls := "java/util/LinkedList", name := "node", desc := "(I)Ljava/util/LinkedList$Node;" } : Jvm.MethodName) prog_56_method_31_code (4 : Nat) (Option.some (Jvm.ClassFile.FieldType.object "java/util/LinkedList$Node"))) ∈ lw_all := lw_g (lw_at lw_m3 167 rfl) rfl
theorem q758 : (Jvm.Cond.instanceMethod ({ cls := "java/lang/Object", name := "getClass", desc := "()Ljava/lang/Class;" } : Jvm.MethodName)) ∈ lw_all := lw_g (lw_at lw_m3 204 rfl) rfl
theorem q790 : (Jvm.Cond.native ({ cls := "java/lang/Object", name := "getClass", desc := "()Ljava/lang/Class;" } : Jvm.MethodName)) ∈ lw_all := lw_g (lw_at lw_m3 236 rfl) rfl
theorem q830 : (Jvm.Cond.code ({ cls := "java/util/ArrayList$Itr", name := "next", desc := "()Ljava/lang/Object;" } : Jvm.MethodName) prog_50_method_3_code (3 : Nat) (Option.some (Jvm.ClassFile.FieldType.object "java/lang/Object"))) ∈ lw_all := lw_g (lw_at lw_m4 36 rfl) rfl
theorem q831 : (Jvm.Cond.methodLink "java/util/ArrayList$Itr" (31 : Nat) ({ cls := "java/util/ArrayList$Itr", name := "checkForComodification", desc := "()V" } : Jvm.MethodName)) ∈ lw_all := lw_g (lw_at lw_m4 37 rfl) rfl
theorem q832 : (Jvm.Cond.instanceMethod ({ cls := "java/util/ArrayList$Itr", name := "checkForComodification", desc := "()V" } : Jvm.MethodName)) ∈ lw_all := lw_g (lw_at lw_m4 38 rfl) rfl
theorem q833 : (Jvm.Cond.selects "java/util/ArrayList$Itr" ({ cls := "java/util/ArrayList$Itr", name := "checkForComodification", desc := "()V" } : Jvm.MethodName) ({ cls := "java/util/ArrayList$Itr", name := "checkForComodification", desc := "()V" } : Jvm.MethodName)) ∈ lw_all := lw_g (lw_at lw_m4 39 rfl) rfl
theorem q836 : (Jvm.Cond.code ({ cls := "java/util/ArrayList$Itr", name := "checkForComodification", desc := "()V" } : Jvm.MethodName) prog_50_method_6_code (1 : Nat) (Option.none : Option Jvm.ClassFile.FieldType)) ∈ lw_all := lw_g (lw_at lw_m4 42 rfl) rfl
theorem q854 : (Jvm.Cond.code ({ cls := "java/util/LinkedList$ListItr", name := "next", desc := "()Ljava/lang/Object;" } : Jvm.MethodName) prog_57_method_3_code (1 : Nat) (Option.some (Jvm.ClassFile.FieldType.object "java/lang/Object"))) ∈ lw_all := lw_g (lw_at lw_m4 60 rfl) rfl
theorem q855 : (Jvm.Cond.methodLink "java/util/LinkedList$ListItr" (36 : Nat) ({ cls := "java/util/LinkedList$ListItr", name := "checkForComodification", desc := "()V" } : Jvm.MethodName)) ∈ lw_all := lw_g (lw_at lw_m4 61 rfl) rfl
theorem q856 : (Jvm.Cond.instanceMethod ({ cls := "java/util/LinkedList$ListItr", name := "checkForComodification", desc := "()V" } : Jvm.MethodName)) ∈ lw_all := lw_g (lw_at lw_m4 62 rfl) rfl
theorem q857 : (Jvm.Cond.selects "java/util/LinkedList$ListItr" ({ cls := "java/util/LinkedList$ListItr", name := "checkForComodification", desc := "()V" } : Jvm.MethodName) ({ cls := "java/util/LinkedList$ListItr", name := "checkForComodification", desc := "()V" } : Jvm.MethodName)) ∈ lw_all := lw_g (lw_at lw_m4 63 rfl) rfl
theorem q858 : (Jvm.Cond.code ({ cls := "java/util/LinkedList$ListItr", name := "checkForComodification", desc := "()V" } : Jvm.MethodName) prog_57_method_12_code (1 : Nat) (Option.none : Option Jvm.ClassFile.FieldType)) ∈ lw_all := lw_g (lw_at lw_m4 64 rfl) rfl
theorem q859 : (Jvm.Cond.methodLink "java/util/LinkedList$ListItr" (39 : Nat) ({ cls := "java/util/LinkedList$ListItr", name := "hasNext", desc := "()Z" } : Jvm.MethodName)) ∈ lw_all := lw_g (lw_at lw_m4 65 rfl) rfl
theorem q1017 : (Jvm.Cond.code ({ cls := "java/util/ArrayList", name := "add", desc := "(Ljava/lang/Object;)Z" } : Jvm.MethodName) prog_49_method_25_code (2 : Nat) (Option.some Jvm.ClassFile.FieldType.boolean)) ∈ lw_all := lw_g (lw_at lw_m4 223 rfl) rfl
theorem q1018 : (Jvm.Cond.methodLink "java/util/ArrayList" (131 : Nat) ({ cls := "java/util/ArrayList", name := "add", desc := "(Ljava/lang/Object;[Ljava/lang/Object;I)V" } : Jvm.MethodName)) ∈ lw_all := lw_g (lw_at lw_m4 224 rfl) rfl
theorem q1020 : (Jvm.Cond.instanceMethod ({ cls := "java/util/ArrayList", name := "add", desc := "(Ljava/lang/Object;[Ljava/lang/Object;I)V" } : Jvm.MethodName)) ∈ lw_all := lw_g (lw_at lw_m4 226 rfl) rfl
theorem q1021 : (Jvm.Cond.code ({ cls := "java/util/ArrayList", name := "add", desc := "(Ljava/lang/Object;[Ljava/lang/Object;I)V" } : Jvm.MethodName) prog_49_method_24_code (4 : Nat) (Option.none : Option Jvm.ClassFile.FieldType)) ∈ lw_all := lw_g (lw_at lw_m4 227 rfl) rfl
theorem q1022 : (Jvm.Cond.methodLink "java/util/ArrayList" (129 : Nat) ({ cls := "java/util/ArrayList", name := "grow", desc := "()[Ljava/lang/Object;" } : Jvm.MethodName)) ∈ lw_all := lw_g (lw_at lw_m4 228 rfl) rfl
theorem q1024 : (Jvm.Cond.instanceMethod ({ cls := "java/util/ArrayList", name := "grow", desc := "()[Ljava/lang/Object;" } : Jvm.MethodName)) ∈ lw_all := lw_g (lw_at lw_m4 230 rfl) rfl
theorem q1025 : (Jvm.Cond.code ({ cls := "java/util/ArrayList", name := "grow", desc := "()[Ljava/lang/Object;" } : Jvm.MethodName) prog_49_method_7_code (1 : Nat) (Option.some (Jvm.ClassFile.FieldType.array (Jvm.ClassFile.FieldType.object "java/lang/Object")))) ∈ lw_all := lw_g (lw_at lw_m4 231 rfl) rfl
theorem q1026 : (Jvm.Cond.methodLink "java/util/ArrayList" (69 : Nat) ({ cls := "java/util/ArrayList", name := "grow", desc := "(I)[Ljava/lang/Object;" } : Jvm.MethodName)) ∈ lw_all := lw_g (lw_at lw_m4 232 rfl) rfl
theorem q1028 : (Jvm.Cond.instanceMethod ({ cls := "java/util/ArrayList", name := "grow", desc := "(I)[Ljava/lang/Object;" } : Jvm.MethodName)) ∈ lw_all := lw_g (lw_at lw_m4 234 rfl) rfl
theorem q1029 : (Jvm.Cond.code ({ cls := "java/util/ArrayList", name := "grow", desc := "(I)[Ljava/lang/Object;" } : Jvm.MethodName) prog_49_method_6_code (4 : Nat) (Option.some (Jvm.ClassFile.FieldType.array (Jvm.ClassFile.FieldType.object "java/lang/Object")))) ∈ lw_all := lw_g (lw_at lw_m4 235 rfl) rfl
theorem q1030 : (Jvm.Cond.methodLink "java/util/ArrayList" (73 : Nat) ({ cls := "jdk/internal/util/ArraysSupport", name := "newLength", desc := "(III)I" } : Jvm.MethodName)) ∈ lw_all := lw_g (lw_at lw_m4 236 rfl) rfl
theorem q1031 : (Jvm.Cond.methodLink "java/util/ArrayList" (66 : Nat) ({ cls := "java/util/Arrays", name := "copyOf", desc := "([Ljava/lang/Object;I)[Ljava/lang/Object;" } : Jvm.MethodName)) ∈ lw_all := lw_g (lw_at lw_m4 237 rfl) rfl
theorem q1032 : (Jvm.Cond.static ({ cls := "java/util/Arrays", name := "copyOf", desc := "([Ljava/lang/Object;I)[Ljava/lang/Object;" } : Jvm.MethodName)) ∈ lw_all := lw_g (lw_at lw_m4 238 rfl) rfl
theorem q1033 : (Jvm.Cond.code ({ cls := "java/util/Arrays", name := "copyOf", desc := "([Ljava/lang/Object;I)[Ljava/lang/Object;" } : Jvm.MethodName) prog_52_method_119_code (2 : Nat) (Option.some (Jvm.ClassFile.FieldType.array (Jvm.ClassFile.FieldType.object "java/lang/Object")))) ∈ lw_all := lw_g (lw_at lw_m4 239 rfl) rfl
theorem q1034 : (Jvm.Cond.methodLink "java/util/Arrays" (86 : Nat) ({ cls := "java/lang/Object", name := "getClass", desc := "()Ljava/lang/Class;" } : Jvm.MethodName)) ∈ lw_all := lw_g (lw_at lw_m5 0 rfl) rfl
theorem q1035 : (Jvm.Cond.methodLink "java/util/Arrays" (300 : Nat) ({ cls := "java/util/Arrays", name := "copyOf", desc := "([Ljava/lang/Object;ILjava/lang/Class;)[Ljava/lang/Object;" } : Jvm.MethodName)) ∈ lw_all := lw_g (lw_at lw_m5 1 rfl) rfl
theorem q1036 : (Jvm.Cond.static ({ cls := "java/util/Arrays", name := "copyOf", desc := "([Ljava/lang/Object;ILjava/lang/Class;)[Ljava/lang/Object;" } : Jvm.MethodName)) ∈ lw_all := lw_g (lw_at lw_m5 2 rfl) rfl
theorem q1037 : (Jvm.Cond.code ({ cls := "java/util/Arrays", name := "copyOf", desc := "([Ljava/lang/Object;ILjava/lang/Class;)[Ljava/lang/Object;" } : Jvm.MethodName) prog_52_method_120_code (4 : Nat) (Option.some (Jvm.ClassFile.FieldType.array (Jvm.ClassFile.FieldType.object "java/lang/Object")))) ∈ lw_all := lw_g (lw_at lw_m5 3 rfl) rfl
theorem q1038 : (Jvm.Cond.classLink "java/util/Arrays" (110 : Nat) "[Ljava/lang/Object;") ∈ lw_all := lw_g (lw_at lw_m5 4 rfl) rfl
theorem q1039 : (Jvm.Cond.classLink "java/util/Arrays" (2 : Nat) "java/lang/Object") ∈ lw_all := lw_g (lw_at lw_m5 5 rfl) rfl
theorem q1040 : (Jvm.Cond.methodLink "java/util/ArrayList" (79 : Nat) ({ cls := "java/lang/Math", name := "max", desc := "(II)I" } : Jvm.MethodName)) ∈ lw_all := lw_g (lw_at lw_m5 6 rfl) rfl
theorem q1041 : (Jvm.Cond.classLink "java/util/ArrayList" (7 : Nat) "java/lang/Object") ∈ lw_all := lw_g (lw_at lw_m5 7 rfl) rfl
theorem q1408 : (Jvm.Cond.code ({ cls := "java/util/ArrayDeque", name := "size", desc := "()I" } : Jvm.MethodName) prog_48_method_37_code (1 : Nat) (Option.some Jvm.ClassFile.FieldType.int)) ∈ lw_all := lw_g (lw_at lw_m6 134 rfl) rfl
theorem q1409 : (Jvm.Cond.methodLink "java/util/ArrayDeque" (127 : Nat) ({ cls := "java/util/ArrayDeque", name := "sub", desc := "(III)I" } : Jvm.MethodName)) ∈ lw_all := lw_g (lw_at lw_m6 135 rfl) rfl
theorem q1410 : (Jvm.Cond.static ({ cls := "java/util/ArrayDeque", name := "sub", desc := "(III)I" } : Jvm.MethodName)) ∈ lw_all := lw_g (lw_at lw_m6 136 rfl) rfl
theorem q1411 : (Jvm.Cond.code ({ cls := "java/util/ArrayDeque", name := "sub", desc := "(III)I" } : Jvm.MethodName) prog_48_method_9_code (3 : Nat) (Option.some Jvm.ClassFile.FieldType.int)) ∈ lw_all := lw_g (lw_at lw_m6 137 rfl) rfl
theorem q1415 : (Jvm.Cond.code ({ cls := "java/util/ArrayDeque", name := "removeFirst", desc := "()Ljava/lang/Object;" } : Jvm.MethodName) prog_48_method_18_code (2 : Nat) (Option.some (Jvm.ClassFile.FieldType.object "java/lang/Object"))) ∈ lw_all := lw_g (lw_at lw_m6 141 rfl) rfl
theorem q1416 : (Jvm.Cond.methodLink "java/util/ArrayDeque" (93 : Nat) ({ cls := "java/util/ArrayDeque", name := "pollFirst", desc := "()Ljava/lang/Object;" } : Jvm.MethodName)) ∈ lw_all := lw_g (lw_at lw_m6 142 rfl) rfl
theorem q1417 : (Jvm.Cond.instanceMethod ({ cls := "java/util/ArrayDeque", name := "pollFirst", desc := "()Ljava/lang/Object;" } : Jvm.MethodName)) ∈ lw_all := lw_g (lw_at lw_m6 143 rfl) rfl
theorem q1418 : (Jvm.Cond.selects "java/util/ArrayDeque" ({ cls := "java/util/ArrayDeque", name := "pollFirst", desc := "()Ljava/lang/Object;" } : Jvm.MethodName) ({ cls := "java/util/ArrayDeque", name := "pollFirst", desc := "()Ljava/lang/Object;" } : Jvm.MethodName)) ∈ lw_all := lw_g (lw_at lw_m6 144 rfl) rfl
theorem q1419 : (Jvm.Cond.code ({ cls := "java/util/ArrayDeque", name := "pollFirst", desc := "()Ljava/lang/Object;" } : Jvm.MethodName) prog_48_method_20_code (4 : Nat) (Option.some (Jvm.ClassFile.FieldType.object "java/lang/Object"))) ∈ lw_all := lw_g (lw_at lw_m6 145 rfl) rfl
theorem q1420 : (Jvm.Cond.methodLink "java/util/ArrayDeque" (103 : Nat) ({ cls := "java/util/ArrayDeque", name := "elementAt", desc := "([Ljava/lang/Object;I)Ljava/lang/Object;" } : Jvm.MethodName)) ∈ lw_all := lw_g (lw_at lw_m6 146 rfl) rfl
theorem q1421 : (Jvm.Cond.static ({ cls := "java/util/ArrayDeque", name := "elementAt", desc := "([Ljava/lang/Object;I)Ljava/lang/Object;" } : Jvm.MethodName)) ∈ lw_all := lw_g (lw_at lw_m6 147 rfl) rfl
theorem q1422 : (Jvm.Cond.code ({ cls := "java/util/ArrayDeque", name := "elementAt", desc := "([Ljava/lang/Object;I)Ljava/lang/Object;" } : Jvm.MethodName) prog_48_method_10_code (2 : Nat) (Option.some (Jvm.ClassFile.FieldType.object "java/lang/Object"))) ∈ lw_all := lw_g (lw_at lw_m6 148 rfl) rfl
theorem q1423 : (Jvm.Cond.methodLink "java/util/ArrayDeque" (74 : Nat) ({ cls := "java/util/ArrayDeque", name := "inc", desc := "(II)I" } : Jvm.MethodName)) ∈ lw_all := lw_g (lw_at lw_m6 149 rfl) rfl
theorem q1424 : (Jvm.Cond.static ({ cls := "java/util/ArrayDeque", name := "inc", desc := "(II)I" } : Jvm.MethodName)) ∈ lw_all := lw_g (lw_at lw_m6 150 rfl) rfl
theorem q1425 : (Jvm.Cond.code ({ cls := "java/util/ArrayDeque", name := "inc", desc := "(II)I" } : Jvm.MethodName) prog_48_method_6_code (2 : Nat) (Option.some Jvm.ClassFile.FieldType.int)) ∈ lw_all := lw_g (lw_at lw_m6 151 rfl) rfl
theorem q1431 : (Jvm.Cond.code ({ cls := "java/util/ArrayDeque", name := "addLast", desc := "(Ljava/lang/Object;)V" } : Jvm.MethodName) prog_48_method_13_code (3 : Nat) (Option.none : Option Jvm.ClassFile.FieldType)) ∈ lw_all := lw_g (lw_at lw_m6 157 rfl) rfl
theorem q1531 : (Jvm.Cond.code ({ cls := "java/util/LinkedList", name := "<init>", desc := "()V" } : Jvm.MethodName) prog_56_method_1_code (1 : Nat) (Option.none : Option Jvm.ClassFile.FieldType)) ∈ lw_all := lw_g (lw_at lw_m7 17 rfl) rfl
theorem q1532 : (Jvm.Cond.methodLink "java/util/LinkedList" (1 : Nat) ({ cls := "java/util/AbstractSequentialList", name := "<init>", desc := "()V" } : Jvm.MethodName)) ∈ lw_all := lw_g (lw_at lw_m7 18 rfl) rfl
theorem q1533 : (Jvm.Cond.instanceMethod ({ cls := "java/util/AbstractSequentialList", name := "<init>", desc := "()V" } : Jvm.MethodName)) ∈ lw_all := lw_g (lw_at lw_m7 19 rfl) rfl
theorem q1534 : (Jvm.Cond.code ({ cls := "java/util/AbstractSequentialList", name := "<init>", desc := "()V" } : Jvm.MethodName) prog_47_method_1_code (1 : Nat) (Option.none : Option Jvm.ClassFile.FieldType)) ∈ lw_all := lw_g (lw_at lw_m7 20 rfl) rfl
theorem q1535 : (Jvm.Cond.methodLink "java/util/AbstractSequentialList" (1 : Nat) ({ cls := "java/util/AbstractList", name := "<init>", desc := "()V" } : Jvm.MethodName)) ∈ lw_all := lw_g (lw_at lw_m7 21 rfl) rfl
theorem q1536 : (Jvm.Cond.fieldLink "java/util/LinkedList" (7 : Nat) "java/util/LinkedList" "size" "I") ∈ lw_all := lw_g (lw_at lw_m7 22 rfl) rfl
theorem q1537 : (Jvm.Cond.fieldLink "java/util/LinkedList$ListItr" (22 : Nat) "java/util/LinkedList" "size" "I") ∈ lw_all := lw_g (lw_at lw_m7 23 rfl) rfl
theorem q1538 : (Jvm.Cond.fieldLink "java/util/LinkedList" (18 : Nat) "java/util/LinkedList" "first" "Ljava/util/LinkedList$Node;") ∈ lw_all := lw_g (lw_at lw_m7 24 rfl) rfl
theorem q1539 : (Jvm.Cond.fieldLink "java/util/LinkedList" (27 : Nat) "java/util/LinkedList" "last" "Ljava/util/LinkedList$Node;") ∈ lw_all := lw_g (lw_at lw_m7 25 rfl) rfl
theorem q1556 : (Jvm.Cond.code ({ cls := "java/util/LinkedList", name := "add", desc := "(ILjava/lang/Object;)V" } : Jvm.MethodName) prog_56_method_24_code (3 : Nat) (Option.none : Option Jvm.ClassFile.FieldType)) ∈ lw_all := lw_g (lw_at lw_m7 42 rfl) rfl
theorem q1557 : (Jvm.Cond.methodLink "java/util/LinkedList" (76 : Nat) ({ cls := "java/util/LinkedList", name := "checkPositionIndex", desc := "(I)V" } : Jvm.MethodName)) ∈ lw_all := lw_g (lw_at lw_m7 43 rfl) rfl
theorem q1559 : (Jvm.Cond.instanceMethod ({ cls := "java/util/LinkedList", name := "checkPositionIndex", desc := "(I)V" } : Jvm.MethodName)) ∈ lw_all := lw_g (lw_at lw_m7 45 rfl) rfl
theorem q1560 : (Jvm.Cond.code ({ cls := "java/util/LinkedList", name := "checkPositionIndex", desc := "(I)V" } : Jvm.MethodName) prog_56_method_30_code (2 : Nat) (Option.none : Option Jvm.ClassFile.FieldType)) ∈ lw_all := lw_g (lw_at lw_m7 46 rfl) rfl
theorem q1561 : (Jvm.Cond.methodLink "java/util/LinkedList" (128 : Nat) ({ cls := "java/util/LinkedList", name := "isPositionIndex", desc := "(I)Z" } : Jvm.MethodName)) ∈ lw_all := lw_g (lw_at lw_m7 47 rfl) rfl
theorem q1563 : (Jvm.Cond.instanceMethod ({ cls := "java/util/LinkedList", name := "isPositionIndex", desc := "(I)Z" } : Jvm.MethodName)) ∈ lw_all := lw_g (lw_at lw_m7 49 rfl) rfl
theorem q1564 : (Jvm.Cond.code ({ cls := "java/util/LinkedList", name := "isPositionIndex", desc := "(I)Z" } : Jvm.MethodName) prog_56_method_27_code (2 : Nat) (Option.some Jvm.ClassFile.FieldType.boolean)) ∈ lw_all := lw_g (lw_at lw_m7 50 rfl) rfl
theorem q1565 : (Jvm.Cond.methodLink "java/util/LinkedList" (57 : Nat) ({ cls := "java/util/LinkedList", name := "linkLast", desc := "(Ljava/lang/Object;)V" } : Jvm.MethodName)) ∈ lw_all := lw_g (lw_at lw_m7 51 rfl) rfl
theorem q1566 : (Jvm.Cond.instanceMethod ({ cls := "java/util/LinkedList", name := "linkLast", desc := "(Ljava/lang/Object;)V" } : Jvm.MethodName)) ∈ lw_all := lw_g (lw_at lw_m7 52 rfl) rfl
theorem q1567 : (Jvm.Cond.selects "java/util/LinkedList" ({ cls := "java/util/LinkedList", name := "linkLast", desc := "(Ljava/lang/Object;)V" } : Jvm.MethodName) ({ cls := "java/util/LinkedList", name := "linkLast", desc := "(Ljava/lang/Object;)V" } : Jvm.MethodName)) ∈ lw_all := lw_g (lw_at lw_m7 53 rfl) rfl
theorem q1568 : (Jvm.Cond.code ({ cls := "java/util/LinkedList", name := "linkLast", desc := "(Ljava/lang/Object;)V" } : Jvm.MethodName) prog_56_method_4_code (4 : Nat) (Option.none : Option Jvm.ClassFile.FieldType)) ∈ lw_all := lw_g (lw_at lw_m7 54 rfl) rfl
theorem q1569 : (Jvm.Cond.classLink "java/util/LinkedList" (22 : Nat) "java/util/LinkedList$Node") ∈ lw_all := lw_g (lw_at lw_m7 55 rfl) rfl
theorem q1570 : (Jvm.Cond.instantiable "java/util/LinkedList$Node" (3 : Nat)) ∈ lw_all := lw_g (lw_at lw_m7 56 rfl) rfl
theorem q1571 : (Jvm.Cond.methodLink "java/util/LinkedList" (24 : Nat) ({ cls := "java/util/LinkedList$Node", name := "<init>", desc := "(Ljava/util/LinkedList$Node;Ljava/lang/Object;Ljava/util/LinkedList$Node;)V" } : Jvm.MethodName)) ∈ lw_all := lw_g (lw_at lw_m7 57 rfl) rfl
theorem q1572 : (Jvm.Cond.instanceMethod ({ cls := "java/util/LinkedList$Node", name := "<init>", desc := "(Ljava/util/LinkedList$Node;Ljava/lang/Object;Ljava/util/LinkedList$Node;)V" } : Jvm.MethodName)) ∈ lw_all := lw_g (lw_at lw_m7 58 rfl) rfl
theorem q1573 : (Jvm.Cond.code ({ cls := "java/util/LinkedList$Node", name := "<init>", desc := "(Ljava/util/LinkedList$Node;Ljava/lang/Object;Ljava/util/LinkedList$Node;)V" } : Jvm.MethodName) prog_58_method_1_code (4 : Nat) (Option.none : Option Jvm.ClassFile.FieldType)) ∈ lw_all := lw_g (lw_at lw_m7 59 rfl) rfl
theorem q1574 : (Jvm.Cond.methodLink "java/util/LinkedList$Node" (1 : Nat) ({ cls := "java/lang/Object", name := "<init>", desc := "()V" } : Jvm.MethodName)) ∈ lw_all := lw_g (lw_at lw_m7 60 rfl) rfl
theorem q1575 : (Jvm.Cond.fieldLink "java/util/LinkedList$Node" (7 : Nat) "java/util/LinkedList$Node" "item" "Ljava/lang/Object;") ∈ lw_all := lw_g (lw_at lw_m7 61 rfl) rfl
theorem q1576 : (Jvm.Cond.fieldLink "java/util/LinkedList$ListItr" (52 : Nat) "java/util/LinkedList$Node" "item" "Ljava/lang/Object;") ∈ lw_all := lw_g (lw_at lw_m7 62 rfl) rfl
theorem q1577 : (Jvm.Cond.fieldLink "java/util/LinkedList" (39 : Nat) "java/util/LinkedList$Node" "item" "Ljava/lang/Object;") ∈ lw_all := lw_g (lw_at lw_m7 63 rfl) rfl
theorem q1578 : (Jvm.Cond.fieldLink "java/util/LinkedList$Node" (13 : Nat) "java/util/LinkedList$Node" "next" "Ljava/util/LinkedList$Node;") ∈ lw_all := lw_g (lw_at lw_m7 64 rfl) rfl
theorem q1579 : (Jvm.Cond.fieldLink "java/util/LinkedList$ListItr" (49 : Nat) "java/util/LinkedList$Node" "next" "Ljava/util/LinkedList$Node;") ∈ lw_all := lw_g (lw_at lw_m7 65 rfl) rfl
theorem q1580 : (Jvm.Cond.fieldLink "java/util/LinkedList" (36 : Nat) "java/util/LinkedList$Node" "next" "Ljava/util/LinkedList$Node;") ∈ lw_all := lw_g (lw_at lw_m7 66 rfl) rfl
theorem q1581 : (Jvm.Cond.fieldLink "java/util/LinkedList$Node" (17 : Nat) "java/util/LinkedList$Node" "prev" "Ljava/util/LinkedList$Node;") ∈ lw_all := lw_g (lw_at lw_m7 67 rfl) rfl
theorem q1582 : (Jvm.Cond.fieldLink "java/util/LinkedList" (30 : Nat) "java/util/LinkedList$Node" "prev" "Ljava/util/LinkedList$Node;") ∈ lw_all := lw_g (lw_at lw_m7 68 rfl) rfl
theorem q1590 : (Jvm.Cond.methodLink "java/util/LinkedList" (93 : Nat) ({ cls := "java/util/LinkedList", name := "linkBefore", desc := "(Ljava/lang/Object;Ljava/util/LinkedList$Node;)V" } : Jvm.MethodName)) ∈ lw_all := lw_g (lw_at lw_m7 76 rfl) rfl
theorem q1591 : (Jvm.Cond.instanceMethod ({ cls := "java/util/LinkedList", name := "linkBefore", desc := "(Ljava/lang/Object;Ljava/util/LinkedList$Node;)V" } : Jvm.MethodName)) ∈ lw_all := lw_g (lw_at lw_m7 77 rfl) rfl
theorem q1592 : (Jvm.Cond.selects "java/util/LinkedList" ({ cls := "java/util/LinkedList", name := "linkBefore", desc := "(Ljava/lang/Object;Ljava/util/LinkedList$Node;)V" } : Jvm.MethodName) ({ cls := "java/util/LinkedList", name := "linkBefore", desc := "(Ljava/lang/Object;Ljava/util/LinkedList$Node;)V" } : Jvm.MethodName)) ∈ lw_all := lw_g (lw_at lw_m7 78 rfl) rfl
theorem q1593 : (Jvm.Cond.code ({ cls := "java/util/LinkedList", name := "linkBefore", desc := "(Ljava/lang/Object;Ljava/util/LinkedList$Node;)V" } : Jvm.MethodName) prog_56_method_5_code (5 : Nat) (Option.none : Option Jvm.ClassFile.FieldType)) ∈ lw_all := lw_g (lw_at lw_m7 79 rfl) rfl
theorem q2004 : (Jvm.Cond.code ({ cls := "java/util/ArrayList", name := "isEmpty", desc := "()Z" } : Jvm.MethodName) prog_49_method_9_code (1 : Nat) (Option.some Jvm.ClassFile.FieldType.boolean)) ∈ lw_all := lw_g (lw_at lw_m9 10 rfl) rfl
theorem q2170 : (Jvm.Cond.code ({ cls := "java/util/LinkedList", name := "addLast", desc := "(Ljava/lang/Object;)V" } : Jvm.MethodName) prog_56_method_14_code (2 : Nat) (Option.none : Option Jvm.ClassFile.FieldType)) ∈ lw_all := lw_g (lw_at lw_m9 176 rfl) rfl
theorem q2180 : (Jvm.Cond.code ({ cls := "java/util/AbstractSequentialList", name := "iterator", desc := "()Ljava/util/Iterator;" } : Jvm.MethodName) prog_47_method_7_code (1 : Nat) (Option.some (Jvm.ClassFile.FieldType.object "java/util/Iterator"))) ∈ lw_all := lw_g (lw_at lw_m9 186 rfl) rfl
theorem q2181 : (Jvm.Cond.methodLink "java/util/AbstractSequentialList" (65 : Nat) ({ cls := "java/util/AbstractSequentialList", name := "listIterator", desc := "()Ljava/util/ListIterator;" } : Jvm.MethodName)) ∈ lw_all := lw_g (lw_at lw_m9 187 rfl) rfl
theorem q2182 : (Jvm.Cond.sameMethod "java/util/AbstractSequentialList" "java/util/AbstractList" "listIterator" "()Ljava/util/ListIterator;") ∈ lw_all := lw_g (lw_at lw_m9 188 rfl) rfl
theorem q2184 : (Jvm.Cond.selects "java/util/LinkedList" ({ cls := "java/util/AbstractSequentialList", name := "listIterator", desc := "()Ljava/util/ListIterator;" } : Jvm.MethodName) ({ cls := "java/util/AbstractList", name := "listIterator", desc := "()Ljava/util/ListIterator;" } : Jvm.MethodName)) ∈ lw_all := lw_g (lw_at lw_m9 190 rfl) rfl
theorem q2185 : (Jvm.Cond.instanceMethod ({ cls := "java/util/AbstractList", name := "listIterator", desc := "()Ljava/util/ListIterator;" } : Jvm.MethodName)) ∈ lw_all := lw_g (lw_at lw_m9 191 rfl) rfl
theorem q2186 : (Jvm.Cond.code ({ cls := "java/util/AbstractList", name := "listIterator", desc := "()Ljava/util/ListIterator;" } : Jvm.MethodName) prog_44_method_12_code (1 : Nat) (Option.some (Jvm.ClassFile.FieldType.object "java/util/ListIterator"))) ∈ lw_all := lw_g (lw_at lw_m9 192 rfl) rfl
theorem q2187 : (Jvm.Cond.methodLink "java/util/AbstractList" (47 : Nat) ({ cls := "java/util/AbstractList", name := "listIterator", desc := "(I)Ljava/util/ListIterator;" } : Jvm.MethodName)) ∈ lw_all := lw_g (lw_at lw_m9 193 rfl) rfl
theorem q2189 : (Jvm.Cond.sameMethod "java/util/AbstractList" "java/util/AbstractList" "listIterator" "(I)Ljava/util/ListIterator;") ∈ lw_all := lw_g (lw_at lw_m9 195 rfl) rfl
theorem q2224 : (Jvm.Cond.selects "java/util/LinkedList" ({ cls := "java/util/AbstractList", name := "listIterator", desc := "(I)Ljava/util/ListIterator;" } : Jvm.MethodName) ({ cls := "java/util/LinkedList", name := "listIterator", desc := "(I)Ljava/util/ListIterator;" } : Jvm.MethodName)) ∈ lw_all := lw_g (lw_at lw_m9 230 rfl) rfl
theorem q2225 : (Jvm.Cond.instanceMethod ({ cls := "java/util/LinkedList", name := "listIterator", desc := "(I)Ljava/util/ListIterator;" } : Jvm.MethodName)) ∈ lw_all := lw_g (lw_at lw_m9 231 rfl) rfl
theorem q2226 : (Jvm.Cond.code ({ cls := "java/util/LinkedList", name := "listIterator", desc := "(I)Ljava/util/ListIterator;" } : Jvm.MethodName) prog_56_method_49_code (2 : Nat) (Option.some (Jvm.ClassFile.FieldType.object "java/util/ListIterator"))) ∈ lw_all := lw_g (lw_at lw_m9 232 rfl) rfl
theorem q2227 : (Jvm.Cond.classLink "java/util/LinkedList" (150 : Nat) "java/util/LinkedList$ListItr") ∈ lw_all := lw_g (lw_at lw_m9 233 rfl) rfl
theorem q2228 : (Jvm.Cond.instantiable "java/util/LinkedList$ListItr" (5 : Nat)) ∈ lw_all := lw_g (lw_at lw_m9 234 rfl) rfl
theorem q2229 : (Jvm.Cond.methodLink "java/util/LinkedList" (152 : Nat) ({ cls := "java/util/LinkedList$ListItr", name := "<init>", desc := "(Ljava/util/LinkedList;I)V" } : Jvm.MethodName)) ∈ lw_all := lw_g (lw_at lw_m9 235 rfl) rfl
theorem q2230 : (Jvm.Cond.instanceMethod ({ cls := "java/util/LinkedList$ListItr", name := "<init>", desc := "(Ljava/util/LinkedList;I)V" } : Jvm.MethodName)) ∈ lw_all := lw_g (lw_at lw_m9 236 rfl) rfl
theorem q2231 : (Jvm.Cond.code ({ cls := "java/util/LinkedList$ListItr", name := "<init>", desc := "(Ljava/util/LinkedList;I)V" } : Jvm.MethodName) prog_57_method_1_code (3 : Nat) (Option.none : Option Jvm.ClassFile.FieldType)) ∈ lw_all := lw_g (lw_at lw_m9 237 rfl) rfl
theorem q2232 : (Jvm.Cond.methodLink "java/util/LinkedList$ListItr" (7 : Nat) ({ cls := "java/lang/Object", name := "<init>", desc := "()V" } : Jvm.MethodName)) ∈ lw_all := lw_g (lw_at lw_m9 238 rfl) rfl
theorem q2233 : (Jvm.Cond.methodLink "java/util/LinkedList$ListItr" (25 : Nat) ({ cls := "java/util/LinkedList", name := "node", desc := "(I)Ljava/util/LinkedList$Node;" } : Jvm.MethodName)) ∈ lw_all := lw_g (lw_at lw_m9 239 rfl) rfl
theorem q2234 : (Jvm.Cond.fieldLink "java/util/LinkedList$ListItr" (46 : Nat) "java/util/LinkedList$ListItr" "lastReturned" "Ljava/util/LinkedList$Node;") ∈ lw_all := lw_g (lw_at lw_m10 0 rfl) rfl
theorem q2235 : (Jvm.Cond.fieldLink "java/util/LinkedList$ListItr" (29 : Nat) "java/util/LinkedList$ListItr" "next" "Ljava/util/LinkedList$Node;") ∈ lw_all := lw_g (lw_at lw_m10 1 rfl) rfl
theorem q2236 : (Jvm.Cond.fieldLink "java/util/LinkedList$ListItr" (33 : Nat) "java/util/LinkedList$ListItr" "nextIndex" "I") ∈ lw_all := lw_g (lw_at lw_m10 2 rfl) rfl
theorem q2237 : (Jvm.Cond.fieldLink "java/util/LinkedList$ListItr" (19 : Nat) "java/util/LinkedList$ListItr" "expectedModCount" "I") ∈ lw_all := lw_g (lw_at lw_m10 3 rfl) rfl
theorem q2238 : (Jvm.Cond.fieldLink "java/util/LinkedList$ListItr" (1 : Nat) "java/util/LinkedList$ListItr" "this$0" "Ljava/util/LinkedList;") ∈ lw_all := lw_g (lw_at lw_m10 4 rfl) rfl
theorem q2250 : (Jvm.Cond.declares ({ cls := "java/util/AbstractList", name := "listIterator", desc := "(I)Ljava/util/ListIterator;" } : Jvm.MethodName)) ∈ lw_tbl := lw_at lw_m10 16 rfl
theorem q2271 : (Jvm.Cond.code ({ cls := "java/util/ArrayDeque", name := "isEmpty", desc := "()Z" } : Jvm.MethodName) prog_48_method_38_code (1 : Nat) (Option.some Jvm.ClassFile.FieldType.boolean)) ∈ lw_all := lw_g (lw_at lw_m10 37 rfl) rfl
theorem q2275 : (Jvm.Cond.code ({ cls := "java/util/ArrayDeque", name := "removeLast", desc := "()Ljava/lang/Object;" } : Jvm.MethodName) prog_48_method_19_code (2 : Nat) (Option.some (Jvm.ClassFile.FieldType.object "java/lang/Object"))) ∈ lw_all := lw_g (lw_at lw_m10 41 rfl) rfl
theorem q2276 : (Jvm.Cond.methodLink "java/util/ArrayDeque" (100 : Nat) ({ cls := "java/util/ArrayDeque", name := "pollLast", desc := "()Ljava/lang/Object;" } : Jvm.MethodName)) ∈ lw_all := lw_g (lw_at lw_m10 42 rfl) rfl
theorem q2277 : (Jvm.Cond.instanceMethod ({ cls := "java/util/ArrayDeque", name := "pollLast", desc := "()Ljava/lang/Object;" } : Jvm.MethodName)) ∈ lw_all := lw_g (lw_at lw_m10 43 rfl) rfl
theorem q2278 : (Jvm.Cond.selects "java/util/ArrayDeque" ({ cls := "java/util/ArrayDeque", name := "pollLast", desc := "()Ljava/lang/Object;" } : Jvm.MethodName) ({ cls := "java/util/ArrayDeque", name := "pollLast", desc := "()Ljava/lang/Object;" } : Jvm.MethodName)) ∈ lw_all := lw_g (lw_at lw_m10 44 rfl) rfl
theorem q2279 : (Jvm.Cond.code ({ cls := "java/util/ArrayDeque", name := "pollLast", desc := "()Ljava/lang/Object;" } : Jvm.MethodName) prog_48_method_21_code (4 : Nat) (Option.some (Jvm.ClassFile.FieldType.object "java/lang/Object"))) ∈ lw_all := lw_g (lw_at lw_m10 45 rfl) rfl
theorem q2280 : (Jvm.Cond.methodLink "java/util/ArrayDeque" (68 : Nat) ({ cls := "java/util/ArrayDeque", name := "dec", desc := "(II)I" } : Jvm.MethodName)) ∈ lw_all := lw_g (lw_at lw_m10 46 rfl) rfl
theorem q2281 : (Jvm.Cond.static ({ cls := "java/util/ArrayDeque", name := "dec", desc := "(II)I" } : Jvm.MethodName)) ∈ lw_all := lw_g (lw_at lw_m10 47 rfl) rfl
theorem q2282 : (Jvm.Cond.code ({ cls := "java/util/ArrayDeque", name := "dec", desc := "(II)I" } : Jvm.MethodName) prog_48_method_7_code (2 : Nat) (Option.some Jvm.ClassFile.FieldType.int)) ∈ lw_all := lw_g (lw_at lw_m10 48 rfl) rfl
theorem q2293 : (Jvm.Cond.code ({ cls := "java/util/ArrayDeque", name := "clear", desc := "()V" } : Jvm.MethodName) prog_48_method_53_code (1 : Nat) (Option.none : Option Jvm.ClassFile.FieldType)) ∈ lw_all := lw_g (lw_at lw_m10 59 rfl) rfl
theorem q2294 : (Jvm.Cond.methodLink "java/util/ArrayDeque" (181 : Nat) ({ cls := "java/util/ArrayDeque", name := "circularClear", desc := "([Ljava/lang/Object;II)V" } : Jvm.MethodName)) ∈ lw_all := lw_g (lw_at lw_m10 60 rfl) rfl
theorem q2295 : (Jvm.Cond.static ({ cls := "java/util/ArrayDeque", name := "circularClear", desc := "([Ljava/lang/Object;II)V" } : Jvm.MethodName)) ∈ lw_all := lw_g (lw_at lw_m10 61 rfl) rfl
theorem q2296 : (Jvm.Cond.code ({ cls := "java/util/ArrayDeque", name := "circularClear", desc := "([Ljava/lang/Object;II)V" } : Jvm.MethodName) prog_48_method_54_code (4 : Nat) (Option.none : Option Jvm.ClassFile.FieldType)) ∈ lw_all := lw_g (lw_at lw_m10 62 rfl) rfl
theorem q2724 : (Jvm.Cond.selects "java/util/LinkedList$ListItr" ({ cls := "java/util/LinkedList$ListItr", name := "hasNext", desc := "()Z" } : Jvm.MethodName) ({ cls := "java/util/LinkedList$ListItr", name := "hasNext", desc := "()Z" } : Jvm.MethodName)) ∈ lw_all := lw_g (lw_at lw_m12 10 rfl) rfl
theorem q2775 : (Jvm.Cond.selects "[Ljava/lang/Object;" ({ cls := "java/lang/Object", name := "getClass", desc := "()Ljava/lang/Class;" } : Jvm.MethodName) ({ cls := "java/lang/Object", name := "getClass", desc := "()Ljava/lang/Class;" } : Jvm.MethodName)) ∈ lw_all := lw_g (lw_at lw_m12 61 rfl) rfl
theorem q2776 : (Jvm.Cond.declares ({ cls := "java/lang/Object", name := "getClass", desc := "()Ljava/lang/Class;" } : Jvm.MethodName)) ∈ lw_tbl := lw_at lw_m12 62 rfl
theorem np8 : gh_np "()V" 0 := by unfold gh_np; decide +kernel
theorem np9 : gh_np "(I)Ljava/util/LinkedList$Node;" 1 := by unfold gh_np; decide +kernel
theorem np10 : gh_np "(Ljava/util/ArrayList;)V" 1 := by unfold gh_np; decide +kernel
theorem np11 : gh_np "(III)I" 3 := by unfold gh_np; decide +kernel
theorem np12 : gh_np "(IILjava/util/function/BiFunction;)I" 3 := by unfold gh_np; decide +kernel
theorem np13 : gh_np "([Ljava/lang/Object;ILjava/lang/Class;)[Ljava/lang/Object;" 3 := by unfold gh_np; decide +kernel
theorem np14 : gh_np "([Ljava/lang/Object;I)Ljava/lang/Object;" 2 := by unfold gh_np; decide +kernel
theorem np15 : gh_np "([Ljava/lang/Object;II)V" 3 := by unfold gh_np; decide +kernel
theorem np16 : gh_np "(Ljava/util/LinkedList$Node;Ljava/lang/Object;Ljava/util/LinkedList$Node;)V" 3 := by unfold gh_np; decide +kernel
theorem np17 : gh_np "(Ljava/lang/Object;)V" 1 := by unfold gh_np; decide +kernel
theorem np18 : gh_np "(Ljava/util/LinkedList;I)V" 2 := by unfold gh_np; decide +kernel
theorem np19 : gh_np "(I)Ljava/util/ListIterator;" 1 := by unfold gh_np; decide +kernel
theorem np20 : gh_np "()Ljava/util/ListIterator;" 0 := by unfold gh_np; decide +kernel
theorem np21 : gh_np "(I)Ljava/lang/Object;" 1 := by unfold gh_np; decide +kernel
theorem np22 : gh_np "([Ljava/lang/Object;I)[Ljava/lang/Object;" 2 := by unfold gh_np; decide +kernel
theorem np23 : gh_np "()Ljava/lang/Object;" 0 := by unfold gh_np; decide +kernel
theorem np24 : gh_np "(Ljava/lang/Object;Ljava/util/LinkedList$Node;)V" 2 := by unfold gh_np; decide +kernel
theorem np25 : gh_np "(I)[Ljava/lang/Object;" 1 := by unfold gh_np; decide +kernel
theorem np26 : gh_np "()[Ljava/lang/Object;" 0 := by unfold gh_np; decide +kernel
theorem np27 : gh_np "(Ljava/lang/Object;[Ljava/lang/Object;I)V" 3 := by unfold gh_np; decide +kernel
theorem mh_J0 : gh_mh "java/util/AbstractCollection" := ⟨by decide, by decide⟩
theorem mh_J1 : gh_mh "java/util/AbstractList" := ⟨by decide, by decide⟩
theorem mh_J25 : gh_mh "java/util/AbstractSequentialList" := ⟨by decide, by decide⟩
theorem mh_J3 : gh_mh "java/util/ArrayDeque" := ⟨by decide, by decide⟩
theorem mh_J2 : gh_mh "java/util/ArrayList" := ⟨by decide, by decide⟩
theorem mh_J8 : gh_mh "java/util/ArrayList$Itr" := ⟨by decide, by decide⟩
theorem mh_J17 : gh_mh "java/util/Arrays" := ⟨by decide, by decide⟩
theorem mh_J26 : gh_mh "java/util/LinkedList" := ⟨by decide, by decide⟩
theorem mh_J32 : gh_mh "java/util/LinkedList$ListItr" := ⟨by decide, by decide⟩
theorem mh_J27 : gh_mh "java/util/LinkedList$Node" := ⟨by decide, by decide⟩
theorem mh_J9 : gh_mh "java/util/Objects" := ⟨by decide, by decide⟩
theorem mh_J15 : gh_mh "jdk/internal/util/ArraysSupport" := ⟨by decide, by decide⟩
theorem mh_J10 : gh_mh "jdk/internal/util/Preconditions" := ⟨by decide, by decide⟩
-- AbstractCollection.<init>()V of java/util/ArrayList
noncomputable def f_J0_init_J2 (t0 : Nat) : gh_M Unit :=
  gh_ret ()
theorem w_J0_init_J2 {x : gh_C} {g : gh_G} {o : (Unit ⊕ gh_X) × gh_G} {ls : Array Slot} (C : gh_K x cJ0_init "java/util/AbstractCollection" 1 none "<init>" 1 20 []) (t0 : Nat) (hl : gh_lv ls 1 [(0, va_rf (some t0))]) (h : gh_run (f_J0_init_J2 t0) g = some o) (hk : (gh_K0 x gh_rV) o) : gh_Wd x g (F0 (gh_cm x) 0 ls []) := by
  unfold f_J0_init_J2 at h
  refine gr_aload_n (pc := 0) (i := 0) C rfl (gl_at hl 0 rfl) dJ0_init_0 ?_
  refine gr_oinit (pc := 1) C q149 q130 q131 hl.1.1 (Nat.le_of_ble_eq_true rfl) (Nat.le_of_ble_eq_true rfl) (Nat.le_of_ble_eq_true rfl) dJ0_init_1 ?_
  exact gr_vret (pc := 4) C dJ0_init_4 h hk

theorem k_J0_init_J2 {l : Launch} (hst : l.stackTraces = false) (t0 : Nat) : gh_Ct l yJ0_init 1 32 (f_J0_init_J2 t0) gh_rV [va_rf (some t0)] := gh_intro2 (L1 := 20) hst (by decide +kernel) q148 q77 rfl ⟨gh_cat _, trivial⟩ (Nat.le_of_ble_eq_true rfl) fun x o ls hl C h hk => w_J0_init_J2 C t0 hl h hk
-- AbstractCollection.<init>()V of java/util/LinkedList
noncomputable def f_J0_init_J26 (t0 : Nat) : gh_M Unit :=
  gh_ret ()
theorem w_J0_init_J26 {x : gh_C} {g : gh_G} {o : (Unit ⊕ gh_X) × gh_G} {ls : Array Slot} (C : gh_K x cJ0_init "java/util/AbstractCollection" 1 none "<init>" 1 20 []) (t0 : Nat) (hl : gh_lv ls 1 [(0, va_rf (some t0))]) (h : gh_run (f_J0_init_J26 t0) g = some o) (hk : (gh_K0 x gh_rV) o) : gh_Wd x g (F0 (gh_cm x) 0 ls []) := by
  unfold f_J0_init_J26 at h
  refine gr_aload_n (pc := 0) (i := 0) C rfl (gl_at hl 0 rfl) dJ0_init_0 ?_
  refine gr_oinit (pc := 1) C q149 q130 q131 hl.1.1 (Nat.le_of_ble_eq_true rfl) (Nat.le_of_ble_eq_true rfl) (Nat.le_of_ble_eq_true rfl) dJ0_init_1 ?_
  exact gr_vret (pc := 4) C dJ0_init_4 h hk

theorem k_J0_init_J26 {l : Launch} (hst : l.stackTraces = false) (t0 : Nat) : gh_Ct l yJ0_init 1 32 (f_J0_init_J26 t0) gh_rV [va_rf (some t0)] := gh_intro2 (L1 := 20) hst (by decide +kernel) q148 q77 rfl ⟨gh_cat _, trivial⟩ (Nat.le_of_ble_eq_true rfl) fun x o ls hl C h hk => w_J0_init_J26 C t0 hl h hk
-- AbstractCollection.<init>()V of java/util/ArrayDeque
noncomputable def f_J0_init_J3 (t0 : Nat) : gh_M Unit :=
  gh_ret ()
theorem w_J0_init_J3 {x : gh_C} {g : gh_G} {o : (Unit ⊕ gh_X) × gh_G} {ls : Array Slot} (C : gh_K x cJ0_init "java/util/AbstractCollection" 1 none "<init>" 1 20 []) (t0 : Nat) (hl : gh_lv ls 1 [(0, va_rf (some t0))]) (h : gh_run (f_J0_init_J3 t0) g = some o) (hk : (gh_K0 x gh_rV) o) : gh_Wd x g (F0 (gh_cm x) 0 ls []) := by
  unfold f_J0_init_J3 at h
  refine gr_aload_n (pc := 0) (i := 0) C rfl (gl_at hl 0 rfl) dJ0_init_0 ?_
  refine gr_oinit (pc := 1) C q149 q130 q131 hl.1.1 (Nat.le_of_ble_eq_true rfl) (Nat.le_of_ble_eq_true rfl) (Nat.le_of_ble_eq_true rfl) dJ0_init_1 ?_
  exact gr_vret (pc := 4) C dJ0_init_4 h hk

theorem k_J0_init_J3 {l : Launch} (hst : l.stackTraces = false) (t0 : Nat) : gh_Ct l yJ0_init 1 32 (f_J0_init_J3 t0) gh_rV [va_rf (some t0)] := gh_intro2 (L1 := 20) hst (by decide +kernel) q148 q77 rfl ⟨gh_cat _, trivial⟩ (Nat.le_of_ble_eq_true rfl) fun x o ls hl C h hk => w_J0_init_J3 C t0 hl h hk
-- AbstractList.<init>()V of java/util/ArrayList
noncomputable def f_J1_init_J2 (t0 : Nat) : gh_M Unit :=
  gh_bd (f_J0_init_J2 t0) fun _ =>
  gh_bd (gh_putv t0 11 0 .int (.int (0 : Int32))) fun _ =>
  gh_ret ()
theorem w_J1_init_J2 {x : gh_C} {g : gh_G} {o : (Unit ⊕ gh_X) × gh_G} {ls : Array Slot} (C : gh_K x cJ1_init "java/util/AbstractList" 1 none "<init>" 2 40 []) (t0 : Nat) (hl : gh_lv ls 1 [(0, va_rf (some t0))]) (h : gh_run (f_J1_init_J2 t0) g = some o) (hk : (gh_K0 x gh_rV) o) : gh_Wd x g (F0 (gh_cm x) 0 ls []) := by
  unfold f_J1_init_J2 at h
  refine gr_aload_n (pc := 0) (i := 0) C rfl (gl_at hl 0 rfl) dJ1_init_0 ?_
  refine gh_callV (pc := 1) (rest := []) C (k_J0_init_J2 C.tr t0) (Nat.le_of_ble_eq_true rfl) (Nat.le_of_ble_eq_true rfl) (gh_r4 (Nat.le_of_ble_eq_true rfl)) (fun H9 L9 hp9 => gi_I C q146 rfl q147 q148 mh_J0 np8 rfl hl.1.1 dJ1_init_1 rfl) h (gh_K0_b _ hk) (fun g h => ?_) (fun e g h => ?_)
  rotate_left
  ·
    exact gh_out C (fun _ h => nomatch h) h hk
  refine gr_aload_n (pc := 4) (i := 0) C rfl (gl_at hl 0 rfl) dJ1_init_4 ?_
  refine gr_iconst (pc := 5) (v := (0 : Int32)) C rfl dJ1_init_5 ?_
  refine gr_putp (pc := 6) C gh_bJ2 (k := 0) (Nat.le_of_ble_eq_true rfl) q156 (fun _ h => h) rfl dJ1_init_6 h fun g h => ?_
  exact gr_vret (pc := 9) C dJ1_init_9 h hk

theorem k_J1_init_J2 {l : Launch} (hst : l.stackTraces = false) (t0 : Nat) : gh_Ct l yJ1_init 2 52 (f_J1_init_J2 t0) gh_rV [va_rf (some t0)] := gh_intro2 (L1 := 40) hst (by decide +kernel) q145 q78 rfl ⟨gh_cat _, trivial⟩ (Nat.le_of_ble_eq_true rfl) fun x o ls hl C h hk => w_J1_init_J2 C t0 hl h hk
-- AbstractList.<init>()V of java/util/LinkedList
noncomputable def f_J1_init_J26 (t0 : Nat) : gh_M Unit :=
  gh_bd (f_J0_init_J26 t0) fun _ =>
  gh_bd (gh_putv t0 21 0 .int (.int (0 : Int32))) fun _ =>
  gh_ret ()
theorem w_J1_init_J26 {x : gh_C} {g : gh_G} {o : (Unit ⊕ gh_X) × gh_G} {ls : Array Slot} (C : gh_K x cJ1_init "java/util/AbstractList" 1 none "<init>" 2 40 []) (t0 : Nat) (hl : gh_lv ls 1 [(0, va_rf (some t0))]) (h : gh_run (f_J1_init_J26 t0) g = some o) (hk : (gh_K0 x gh_rV) o) : gh_Wd x g (F0 (gh_cm x) 0 ls []) := by
  unfold f_J1_init_J26 at h
  refine gr_aload_n (pc := 0) (i := 0) C rfl (gl_at hl 0 rfl) dJ1_init_0 ?_
  refine gh_callV (pc := 1) (rest := []) C (k_J0_init_J26 C.tr t0) (Nat.le_of_ble_eq_true rfl) (Nat.le_of_ble_eq_true rfl) (gh_r4 (Nat.le_of_ble_eq_true rfl)) (fun H9 L9 hp9 => gi_I C q146 rfl q147 q148 mh_J0 np8 rfl hl.1.1 dJ1_init_1 rfl) h (gh_K0_b _ hk) (fun g h => ?_) (fun e g h => ?_)
  rotate_left
  ·
    exact gh_out C (fun _ h => nomatch h) h hk
  refine gr_aload_n (pc := 4) (i := 0) C rfl (gl_at hl 0 rfl) dJ1_init_4 ?_
  refine gr_iconst (pc := 5) (v := (0 : Int32)) C rfl dJ1_init_5 ?_
  refine gr_putp (pc := 6) C gh_bJ26 (k := 0) (Nat.le_of_ble_eq_true rfl) q156 (fun _ h => h) rfl dJ1_init_6 h fun g h => ?_
  exact gr_vret (pc := 9) C dJ1_init_9 h hk

theorem k_J1_init_J26 {l : Launch} (hst : l.stackTraces = false) (t0 : Nat) : gh_Ct l yJ1_init 2 52 (f_J1_init_J26 t0) gh_rV [va_rf (some t0)] := gh_intro2 (L1 := 40) hst (by decide +kernel) q145 q78 rfl ⟨gh_cat _, trivial⟩ (Nat.le_of_ble_eq_true rfl) fun x o ls hl C h hk => w_J1_init_J26 C t0 hl h hk
-- AbstractSequentialList.<init>()V of java/util/LinkedList
noncomputable def f_J25_init_J26 (t0 : Nat) : gh_M Unit :=
  gh_bd (f_J1_init_J26 t0) fun _ =>
  gh_ret ()
theorem w_J25_init_J26 {x : gh_C} {g : gh_G} {o : (Unit ⊕ gh_X) × gh_G} {ls : Array Slot} (C : gh_K x cJ25_init "java/util/AbstractSequentialList" 1 none "<init>" 3 60 []) (t0 : Nat) (hl : gh_lv ls 1 [(0, va_rf (some t0))]) (h : gh_run (f_J25_init_J26 t0) g = some o) (hk : (gh_K0 x gh_rV) o) : gh_Wd x g (F0 (gh_cm x) 0 ls []) := by
  unfold f_J25_init_J26 at h
  refine gr_aload_n (pc := 0) (i := 0) C rfl (gl_at hl 0 rfl) dJ25_init_0 ?_
  refine gh_callV (pc := 1) (rest := []) C (k_J1_init_J26 C.tr t0) (Nat.le_of_ble_eq_true rfl) (Nat.le_of_ble_eq_true rfl) (gh_r4 (Nat.le_of_ble_eq_true rfl)) (fun H9 L9 hp9 => gi_I C q1535 rfl q144 q145 mh_J1 np8 rfl hl.1.1 dJ25_init_1 rfl) h (gh_K0_b _ hk) (fun g h => ?_) (fun e g h => ?_)
  rotate_left
  ·
    exact gh_out C (fun _ h => nomatch h) h hk
  exact gr_vret (pc := 4) C dJ25_init_4 h hk

theorem k_J25_init_J26 {l : Launch} (hst : l.stackTraces = false) (t0 : Nat) : gh_Ct l yJ25_init 3 72 (f_J25_init_J26 t0) gh_rV [va_rf (some t0)] := gh_intro2 (L1 := 60) hst (by decide +kernel) q1534 q113 rfl ⟨gh_cat _, trivial⟩ (Nat.le_of_ble_eq_true rfl) fun x o ls hl C h hk => w_J25_init_J26 C t0 hl h hk
-- ArrayList.<init>()V
noncomputable def f_J2_init (t0 : Nat) : gh_M Unit :=
  gh_bd (f_J1_init_J2 t0) fun _ =>
  gh_bd (gh_cst 14) fun v2 =>
  gh_bd (gh_putv t0 11 1 (.array (.object "java/lang/Object")) (va_rf v2)) fun _ =>
  gh_ret ()
theorem w_J2_init {x : gh_C} {g : gh_G} {o : (Unit ⊕ gh_X) × gh_G} {ls : Array Slot} (C : gh_K x cJ2_init "java/util/ArrayList" 1 none "<init>" 3 60 []) (t0 : Nat) (hl : gh_lv ls 1 [(0, va_rf (some t0))]) (h : gh_run (f_J2_init t0) g = some o) (hk : (gh_K0 x gh_rV) o) : gh_Wd x g (F0 (gh_cm x) 0 ls []) := by
  unfold f_J2_init at h
  refine gr_aload_n (pc := 0) (i := 0) C rfl (gl_at hl 0 rfl) dJ2_init_0 ?_
  refine gh_callV (pc := 1) (rest := []) C (k_J1_init_J2 C.tr t0) (Nat.le_of_ble_eq_true rfl) (Nat.le_of_ble_eq_true rfl) (gh_r4 (Nat.le_of_ble_eq_true rfl)) (fun H9 L9 hp9 => gi_I C q143 rfl q144 q145 mh_J1 np8 rfl hl.1.1 dJ2_init_1 rfl) h (gh_K0_b _ hk) (fun g h => ?_) (fun e g h => ?_)
  rotate_left
  ·
    exact gh_out C (fun _ h => nomatch h) h hk
  refine gr_aload_n (pc := 4) (i := 0) C rfl (gl_at hl 0 rfl) dJ2_init_4 ?_
  refine gr_gets (pc := 5) C (Cn := "java/util/ArrayList") (n := "DEFAULTCAPACITY_EMPTY_ELEMENTDATA") (d := "[Ljava/lang/Object;") (j := 14) (by decide +kernel) q150 (fun _ h => h) dJ2_init_5 h fun v2 h => ?_
  refine gr_putp (pc := 8) C gh_bJ2 (k := 1) (Nat.le_of_ble_eq_true rfl) q152 (fun _ h => h) rfl dJ2_init_8 h fun g h => ?_
  exact gr_vret (pc := 11) C dJ2_init_11 h hk

theorem k_J2_init {l : Launch} (hst : l.stackTraces = false) (t0 : Nat) : gh_Ct l yJ2_init 3 72 (f_J2_init t0) gh_rV [va_rf (some t0)] := gh_intro2 (L1 := 60) hst (by decide +kernel) q142 q79 rfl ⟨gh_cat _, trivial⟩ (Nat.le_of_ble_eq_true rfl) fun x o ls hl C h hk => w_J2_init C t0 hl h hk
-- ArrayList.size()I
noncomputable def f_J2_size (t0 : Nat) : gh_M Int32 :=
  gh_bd (gh_geti t0 11 2) fun v1 =>
  gh_ret v1
theorem w_J2_size {x : gh_C} {g : gh_G} {o : (Int32 ⊕ gh_X) × gh_G} {ls : Array Slot} (C : gh_K x cJ2_size "java/util/ArrayList" 1 (some .int) "size" 0 0 []) (t0 : Nat) (hl : gh_lv ls 1 [(0, va_rf (some t0))]) (h : gh_run (f_J2_size t0) g = some o) (hk : (gh_K0 x gh_rI) o) : gh_Wd x g (F0 (gh_cm x) 0 ls []) := by
  unfold f_J2_size at h
  refine gr_aload_n (pc := 0) (i := 0) C rfl (gl_at hl 0 rfl) dJ2_size_0 ?_
  refine gr_geti (pc := 1) C gh_bJ2 (k := 2) (Nat.le_of_ble_eq_true rfl) q155 (fun _ h => h) dJ2_size_1 h fun v1 h => ?_
  exact gr_iret (pc := 4) C dJ2_size_4 h hk

theorem k_J2_size {l : Launch} (hst : l.stackTraces = false) (t0 : Nat) : gh_Ct l yJ2_size 0 12 (f_J2_size t0) gh_rI [va_rf (some t0)] := gh_intro2 (L1 := 0) hst (by decide +kernel) q348 q79 rfl ⟨gh_cat _, trivial⟩ (Nat.le_of_ble_eq_true rfl) fun x o ls hl C h hk => w_J2_size C t0 hl h hk
-- ArrayList.elementData(I)Ljava/lang/Object;
noncomputable def f_J2_elementData (t0 : Nat) (p1 : Int32) : gh_M (Option Nat) :=
  gh_bd (gh_getr t0 11 1) fun v1 =>
  gh_nn v1 fun a2 =>
  gh_bd (gh_aald a2 p1) fun v3 =>
  gh_ret v3
theorem w_J2_elementData {x : gh_C} {g : gh_G} {o : ((Option Nat) ⊕ gh_X) × gh_G} {ls : Array Slot} (C : gh_K x cJ2_elementData "java/util/ArrayList" 2 (some (.object "java/lang/Object")) "elementData" 0 0 []) (t0 : Nat) (p1 : Int32) (hl : gh_lv ls 2 [(0, va_rf (some t0)), (1, .int p1)]) (h : gh_run (f_J2_elementData t0 p1) g = some o) (hk : (gh_K0 x gh_rQ) o) : gh_Wd x g (F0 (gh_cm x) 0 ls []) := by
  unfold f_J2_elementData at h
  refine gr_aload_n (pc := 0) (i := 0) C rfl (gl_at hl 0 rfl) dJ2_elementData_0 ?_
  refine gr_getr (pc := 1) C gh_bJ2 (k := 1) (Nat.le_of_ble_eq_true rfl) q152 (fun _ h => h) dJ2_elementData_1 h fun v1 h => ?_
  refine gr_iload_n (pc := 4) (i := 1) C rfl (gl_at hl 1 rfl) dJ2_elementData_4 ?_
  rcases v1 with _ | a2
  · exact gh_stk_inv h
  replace h := gh_nn_ss h
  refine gr_aald (pc := 5) C dJ2_elementData_5 h fun v3 h => ?_
  exact gr_aret (pc := 6) C (Or.inl ⟨_, rfl⟩) dJ2_elementData_6 h hk

theorem k_J2_elementData {l : Launch} (hst : l.stackTraces = false) (t0 : Nat) (p1 : Int32) : gh_Ct l yJ2_elementData 0 13 (f_J2_elementData t0 p1) gh_rQ [va_rf (some t0), .int p1] := gh_intro2 (L1 := 0) hst (by decide +kernel) q396 q79 rfl ⟨gh_cat _, rfl, trivial⟩ (Nat.le_of_ble_eq_true rfl) fun x o ls hl C h hk => w_J2_elementData C t0 p1 hl h hk
-- ArrayList.isEmpty()Z
noncomputable def f_J2_isEmpty (t0 : Nat) : gh_M Int32 :=
  gh_bd (gh_geti t0 11 2) fun v1 =>
  if v1 = 0 then
  (gh_rz .boolean (1 : Int32))
  else
  (gh_rz .boolean (0 : Int32))
theorem w_J2_isEmpty {x : gh_C} {g : gh_G} {o : (Int32 ⊕ gh_X) × gh_G} {ls : Array Slot} (C : gh_K x cJ2_isEmpty "java/util/ArrayList" 1 (some .boolean) "isEmpty" 0 0 []) (t0 : Nat) (hl : gh_lv ls 1 [(0, va_rf (some t0))]) (h : gh_run (f_J2_isEmpty t0) g = some o) (hk : (gh_K0 x gh_rI) o) : gh_Wd x g (F0 (gh_cm x) 0 ls []) := by
  unfold f_J2_isEmpty at h
  refine gr_aload_n (pc := 0) (i := 0) C rfl (gl_at hl 0 rfl) dJ2_isEmpty_0 ?_
  refine gr_geti (pc := 1) C gh_bJ2 (k := 2) (Nat.le_of_ble_eq_true rfl) q155 (fun _ h => h) dJ2_isEmpty_1 h fun v1 h => ?_
  refine gr_if_ne (pc := 4) (tgt := 11) C rfl dJ2_isEmpty_4 (fun c9 => ?_) (fun c9 => ?_)
  · replace h := gh_iff h c9
    refine gr_iconst (pc := 11) (v := (0 : Int32)) C rfl dJ2_isEmpty_11 ?_
    exact gr_bret (pc := 12) C dJ2_isEmpty_12 h hk
  · replace h := gh_ift h c9
    refine gr_iconst (pc := 7) (v := (1 : Int32)) C rfl dJ2_isEmpty_7 ?_
    refine gr_goto (pc := 8) (tgt := 12) C rfl dJ2_isEmpty_8 ?_
    exact gr_bret (pc := 12) C dJ2_isEmpty_12 h hk

theorem k_J2_isEmpty {l : Launch} (hst : l.stackTraces = false) (t0 : Nat) : gh_Ct l yJ2_isEmpty 0 12 (f_J2_isEmpty t0) gh_rI [va_rf (some t0)] := gh_intro2 (L1 := 0) hst (by decide +kernel) q2004 q79 rfl ⟨gh_cat _, trivial⟩ (Nat.le_of_ble_eq_true rfl) fun x o ls hl C h hk => w_J2_isEmpty C t0 hl h hk
-- ArrayList$Itr.<init>(Ljava/util/ArrayList;)V
noncomputable def f_J8_init (t0 : Nat) (p1 : Option Nat) : gh_M Unit :=
  gh_bd (gh_putv t0 15 3 (.object "java/util/ArrayList") (va_rf p1)) fun _ =>
  gh_bd (gh_putv t0 15 1 .int (.int (-1 : Int32))) fun _ =>
  gh_bd (gh_getr t0 15 3) fun v1 =>
  gh_nn v1 fun a2 =>
  gh_bd (gh_geti a2 11 0) fun v3 =>
  gh_bd (gh_putv t0 15 2 .int (.int v3)) fun _ =>
  gh_ret ()
theorem w_J8_init {x : gh_C} {g : gh_G} {o : (Unit ⊕ gh_X) × gh_G} {ls : Array Slot} (C : gh_K x cJ8_init "java/util/ArrayList$Itr" 2 none "<init>" 1 20 []) (t0 : Nat) (p1 : Option Nat) (hl : gh_lv ls 2 [(0, va_rf (some t0)), (1, va_rf p1)]) (h : gh_run (f_J8_init t0 p1) g = some o) (hk : (gh_K0 x gh_rV) o) : gh_Wd x g (F0 (gh_cm x) 0 ls []) := by
  unfold f_J8_init at h
  refine gr_aload_n (pc := 0) (i := 0) C rfl (gl_at hl 0 rfl) dJ8_init_0 ?_
  refine gr_aload_n (pc := 1) (i := 1) C rfl (gl_at hl 1 rfl) dJ8_init_1 ?_
  refine gr_putF (pc := 2) C gh_bJ8 (k := 3) (Nat.le_of_ble_eq_true rfl) q323 (fun _ h => h) rfl rfl dJ8_init_2 h fun g h => ?_
  refine gr_aload_n (pc := 5) (i := 0) C rfl (gl_at hl 0 rfl) dJ8_init_5 ?_
  refine gr_oinit (pc := 6) C q317 q130 q131 hl.1.1 (Nat.le_of_ble_eq_true rfl) (Nat.le_of_ble_eq_true rfl) (Nat.le_of_ble_eq_true rfl) dJ8_init_6 ?_
  refine gr_aload_n (pc := 9) (i := 0) C rfl (gl_at hl 0 rfl) dJ8_init_9 ?_
  refine gr_iconst (pc := 10) (v := (-1 : Int32)) C rfl dJ8_init_10 ?_
  refine gr_putp (pc := 11) C gh_bJ8 (k := 1) (Nat.le_of_ble_eq_true rfl) q321 (fun _ h => h) rfl dJ8_init_11 h fun g h => ?_
  refine gr_aload_n (pc := 14) (i := 0) C rfl (gl_at hl 0 rfl) dJ8_init_14 ?_
  refine gr_aload_n (pc := 15) (i := 0) C rfl (gl_at hl 0 rfl) dJ8_init_15 ?_
  refine gr_getr (pc := 16) C gh_bJ8 (k := 3) (Nat.le_of_ble_eq_true rfl) q323 (fun _ h => h) dJ8_init_16 h fun v1 h => ?_
  rcases v1 with _ | a2
  · exact gh_stk_inv h
  replace h := gh_nn_ss h
  refine gr_geti (pc := 19) C gh_bJ2 (k := 0) (Nat.le_of_ble_eq_true rfl) q159 (gh_smf C q160) dJ8_init_19 h fun v3 h => ?_
  refine gr_putp (pc := 22) C gh_bJ8 (k := 2) (Nat.le_of_ble_eq_true rfl) q322 (fun _ h => h) rfl dJ8_init_22 h fun g h => ?_
  exact gr_vret (pc := 25) C dJ8_init_25 h hk

theorem k_J8_init {l : Launch} (hst : l.stackTraces = false) (t0 : Nat) (p1 : Option Nat) : gh_Ct l yJ8_init 1 33 (f_J8_init t0 p1) gh_rV [va_rf (some t0), va_rf p1] := gh_intro2 (L1 := 20) hst (by decide +kernel) q316 q88 rfl ⟨gh_cat _, gh_cat _, trivial⟩ (Nat.le_of_ble_eq_true rfl) fun x o ls hl C h hk => w_J8_init C t0 p1 hl h hk
-- ArrayList$Itr.hasNext()Z
noncomputable def f_J8_hasNext (t0 : Nat) : gh_M Int32 :=
  gh_bd (gh_geti t0 15 0) fun v1 =>
  gh_bd (gh_getr t0 15 3) fun v2 =>
  gh_nn v2 fun a3 =>
  gh_bd (gh_geti a3 11 2) fun v4 =>
  if v1 = v4 then
  (gh_rz .boolean (0 : Int32))
  else
  (gh_rz .boolean (1 : Int32))
theorem w_J8_hasNext {x : gh_C} {g : gh_G} {o : (Int32 ⊕ gh_X) × gh_G} {ls : Array Slot} (C : gh_K x cJ8_hasNext "java/util/ArrayList$Itr" 1 (some .boolean) "hasNext" 0 0 []) (t0 : Nat) (hl : gh_lv ls 1 [(0, va_rf (some t0))]) (h : gh_run (f_J8_hasNext t0) g = some o) (hk : (gh_K0 x gh_rI) o) : gh_Wd x g (F0 (gh_cm x) 0 ls []) := by
  unfold f_J8_hasNext at h
  refine gr_aload_n (pc := 0) (i := 0) C rfl (gl_at hl 0 rfl) dJ8_hasNext_0 ?_
  refine gr_geti (pc := 1) C gh_bJ8 (k := 0) (Nat.le_of_ble_eq_true rfl) q320 (fun _ h => h) dJ8_hasNext_1 h fun v1 h => ?_
  refine gr_aload_n (pc := 4) (i := 0) C rfl (gl_at hl 0 rfl) dJ8_hasNext_4 ?_
  refine gr_getr (pc := 5) C gh_bJ8 (k := 3) (Nat.le_of_ble_eq_true rfl) q323 (fun _ h => h) dJ8_hasNext_5 h fun v2 h => ?_
  rcases v2 with _ | a3
  · exact gh_stk_inv h
  replace h := gh_nn_ss h
  refine gr_getiN (pc := 8) C gh_bJ2 (k := 2) (Nat.le_of_ble_eq_true rfl) q154 (fun _ h => h) dJ8_hasNext_8 h fun v4 h => ?_
  refine gr_icmp_eq (pc := 11) (tgt := 18) C rfl dJ8_hasNext_11 (fun c9 => ?_) (fun c9 => ?_)
  · replace h := gh_ift h c9
    refine gr_iconst (pc := 18) (v := (0 : Int32)) C rfl dJ8_hasNext_18 ?_
    exact gr_bret (pc := 19) C dJ8_hasNext_19 h hk
  · replace h := gh_iff h c9
    refine gr_iconst (pc := 14) (v := (1 : Int32)) C rfl dJ8_hasNext_14 ?_
    refine gr_goto (pc := 15) (tgt := 19) C rfl dJ8_hasNext_15 ?_
    exact gr_bret (pc := 19) C dJ8_hasNext_19 h hk

theorem k_J8_hasNext {l : Launch} (hst : l.stackTraces = false) (t0 : Nat) : gh_Ct l yJ8_hasNext 0 12 (f_J8_hasNext t0) gh_rI [va_rf (some t0)] := gh_intro2 (L1 := 0) hst (by decide +kernel) q357 q88 rfl ⟨gh_cat _, trivial⟩ (Nat.le_of_ble_eq_true rfl) fun x o ls hl C h hk => w_J8_hasNext C t0 hl h hk
-- ArrayList$Itr.checkForComodification()V
noncomputable def f_J8_checkForComodification (t0 : Nat) : gh_M Unit :=
  gh_bd (gh_getr t0 15 3) fun v1 =>
  gh_nn v1 fun a2 =>
  gh_bd (gh_geti a2 11 0) fun v3 =>
  gh_bd (gh_geti t0 15 2) fun v4 =>
  if v3 = v4 then
  (gh_ret ())
  else
  (gh_stk)
theorem w_J8_checkForComodification {x : gh_C} {g : gh_G} {o : (Unit ⊕ gh_X) × gh_G} {ls : Array Slot} (C : gh_K x cJ8_checkForComodification "java/util/ArrayList$Itr" 1 none "checkForComodification" 0 0 []) (t0 : Nat) (hl : gh_lv ls 1 [(0, va_rf (some t0))]) (h : gh_run (f_J8_checkForComodification t0) g = some o) (hk : (gh_K0 x gh_rV) o) : gh_Wd x g (F0 (gh_cm x) 0 ls []) := by
  unfold f_J8_checkForComodification at h
  refine gr_aload_n (pc := 0) (i := 0) C rfl (gl_at hl 0 rfl) dJ8_checkForComodification_0 ?_
  refine gr_getr (pc := 1) C gh_bJ8 (k := 3) (Nat.le_of_ble_eq_true rfl) q323 (fun _ h => h) dJ8_checkForComodification_1 h fun v1 h => ?_
  rcases v1 with _ | a2
  · exact gh_stk_inv h
  replace h := gh_nn_ss h
  refine gr_geti (pc := 4) C gh_bJ2 (k := 0) (Nat.le_of_ble_eq_true rfl) q159 (gh_smf C q160) dJ8_checkForComodification_4 h fun v3 h => ?_
  refine gr_aload_n (pc := 7) (i := 0) C rfl (gl_at hl 0 rfl) dJ8_checkForComodification_7 ?_
  refine gr_geti (pc := 8) C gh_bJ8 (k := 2) (Nat.le_of_ble_eq_true rfl) q322 (fun _ h => h) dJ8_checkForComodification_8 h fun v4 h => ?_
  refine gr_icmp_eq (pc := 11) (tgt := 22) C rfl dJ8_checkForComodification_11 (fun c9 => ?_) (fun c9 => ?_)
  · replace h := gh_ift h c9
    exact gr_vret (pc := 22) C dJ8_checkForComodification_22 h hk
  · replace h := gh_iff h c9
    exact gh_stk_inv h

theorem k_J8_checkForComodification {l : Launch} (hst : l.stackTraces = false) (t0 : Nat) : gh_Ct l yJ8_checkForComodification 0 12 (f_J8_checkForComodification t0) gh_rV [va_rf (some t0)] := gh_intro2 (L1 := 0) hst (by decide +kernel) q836 q88 rfl ⟨gh_cat _, trivial⟩ (Nat.le_of_ble_eq_true rfl) fun x o ls hl C h hk => w_J8_checkForComodification C t0 hl h hk
-- Preconditions.checkIndex(IILjava/util/function/BiFunction;)I
noncomputable def f_J10_checkIndex (p0 : Int32) (p1 : Int32) (p2 : Option Nat) : gh_M Int32 :=
  if p0 < 0 then
  (gh_stk)
  else
  (if p0 < p1 then
  (gh_ret p0)
  else
  (gh_stk))
theorem w_J10_checkIndex {x : gh_C} {g : gh_G} {o : (Int32 ⊕ gh_X) × gh_G} {ls : Array Slot} (C : gh_K x cJ10_checkIndex "jdk/internal/util/Preconditions" 3 (some .int) "checkIndex" 0 0 []) (p0 : Int32) (p1 : Int32) (p2 : Option Nat) (hl : gh_lv ls 3 [(0, .int p0), (1, .int p1), (2, va_rf p2)]) (h : gh_run (f_J10_checkIndex p0 p1 p2) g = some o) (hk : (gh_K0 x gh_rI) o) : gh_Wd x g (F0 (gh_cm x) 0 ls []) := by
  unfold f_J10_checkIndex at h
  refine gr_iload_n (pc := 0) (i := 0) C rfl (gl_at hl 0 rfl) dJ10_checkIndex_0 ?_
  refine gr_if_lt (pc := 1) (tgt := 9) C rfl dJ10_checkIndex_1 (fun c9 => ?_) (fun c9 => ?_)
  · replace h := gh_ift h c9
    exact gh_stk_inv h
  · replace h := gh_iff h c9
    refine gr_iload_n (pc := 4) (i := 0) C rfl (gl_at hl 0 rfl) dJ10_checkIndex_4 ?_
    refine gr_iload_n (pc := 5) (i := 1) C rfl (gl_at hl 1 rfl) dJ10_checkIndex_5 ?_
    refine gr_icmp_lt (pc := 6) (tgt := 16) C rfl dJ10_checkIndex_6 (fun c9 => ?_) (fun c9 => ?_)
    · replace h := gh_ift h c9
      refine gr_iload_n (pc := 16) (i := 0) C rfl (gl_at hl 0 rfl) dJ10_checkIndex_16 ?_
      exact gr_iret (pc := 17) C dJ10_checkIndex_17 h hk
    · replace h := gh_iff h c9
      exact gh_stk_inv h

theorem k_J10_checkIndex {l : Launch} (hst : l.stackTraces = false) (p0 : Int32) (p1 : Int32) (p2 : Option Nat) : gh_Ct l yJ10_checkIndex 0 14 (f_J10_checkIndex p0 p1 p2) gh_rI [.int p0, .int p1, va_rf p2] := gh_intro2 (L1 := 0) hst (by decide +kernel) q392 q90 rfl ⟨rfl, rfl, gh_cat _, trivial⟩ (Nat.le_of_ble_eq_true rfl) fun x o ls hl C h hk => w_J10_checkIndex C p0 p1 p2 hl h hk
-- ArraysSupport.newLength(III)I
noncomputable def f_J15_newLength (p0 : Int32) (p1 : Int32) (p2 : Int32) : gh_M Int32 :=
  gh_bd (f_J16_max p1 p2) fun v1 =>
  if (p0 + v1) ≤ (0 : Int32) then
  (gh_stk)
  else
  (if (2147483639 : Int32) < (p0 + v1) then
  (gh_stk)
  else
  (gh_ret (p0 + v1)))
theorem w_J15_newLength {x : gh_C} {g : gh_G} {o : (Int32 ⊕ gh_X) × gh_G} {ls : Array Slot} (C : gh_K x cJ15_newLength "jdk/internal/util/ArraysSupport" 4 (some .int) "newLength" 1 21 []) (p0 : Int32) (p1 : Int32) (p2 : Int32) (hl : gh_lv ls 4 [(0, .int p0), (1, .int p1), (2, .int p2)]) (h : gh_run (f_J15_newLength p0 p1 p2) g = some o) (hk : (gh_K0 x gh_rI) o) : gh_Wd x g (F0 (gh_cm x) 0 ls []) := by
  unfold f_J15_newLength at h
  refine gr_iload_n (pc := 0) (i := 0) C rfl (gl_at hl 0 rfl) dJ15_newLength_0 ?_
  refine gr_iload_n (pc := 1) (i := 1) C rfl (gl_at hl 1 rfl) dJ15_newLength_1 ?_
  refine gr_iload_n (pc := 2) (i := 2) C rfl (gl_at hl 2 rfl) dJ15_newLength_2 ?_
  refine gh_callI (pc := 3) (rest := [.int p0]) C (k_J16_max C.tr p1 p2) (Nat.le_of_ble_eq_true rfl) (Nat.le_of_ble_eq_true rfl) (gh_r4 (Nat.le_of_ble_eq_true rfl)) (fun H9 L9 hp9 => gi_S C q486 q487 q96 q488 mh_J16 np1 rfl hl.1.1 dJ15_newLength_3 rfl) h (gh_K0_b _ hk) (fun v1 g h => ?_) (fun e g h => ?_)
  rotate_left
  ·
    exact gh_out C (fun _ h => nomatch h) h hk
  refine gr_iadd (pc := 6) C dJ15_newLength_6 ?_
  refine gr_istore_n (pc := 7) (i := 3) (l' := [(3, .int (p0 + v1)), (0, .int p0), (1, .int p1), (2, .int p2)]) C rfl hl (Nat.le_of_ble_eq_true rfl) rfl dJ15_newLength_7 fun ls hl => ?_
  refine gr_iconst (pc := 8) (v := (0 : Int32)) C rfl dJ15_newLength_8 ?_
  refine gr_iload_n (pc := 9) (i := 3) C rfl (gl_at hl 0 rfl) dJ15_newLength_9 ?_
  refine gr_icmp_ge (pc := 10) (tgt := 21) C rfl dJ15_newLength_10 (fun c9 => ?_) (fun c9 => ?_)
  · replace h := gh_ift h c9
    exact gh_stk_inv h
  · replace h := gh_iff h c9
    refine gr_iload_n (pc := 13) (i := 3) C rfl (gl_at hl 0 rfl) dJ15_newLength_13 ?_
    refine gr_ldc (pc := 14) (v := (2147483639 : Int32)) C q489 dJ15_newLength_14 ?_
    refine gr_icmp_gt (pc := 16) (tgt := 21) C rfl dJ15_newLength_16 (fun c9 => ?_) (fun c9 => ?_)
    · replace h := gh_ift h c9
      exact gh_stk_inv h
    · replace h := gh_iff h c9
      refine gr_iload_n (pc := 19) (i := 3) C rfl (gl_at hl 0 rfl) dJ15_newLength_19 ?_
      exact gr_iret (pc := 20) C dJ15_newLength_20 h hk

theorem k_J15_newLength {l : Launch} (hst : l.stackTraces = false) (p0 : Int32) (p1 : Int32) (p2 : Int32) : gh_Ct l yJ15_newLength 1 36 (f_J15_newLength p0 p1 p2) gh_rI [.int p0, .int p1, .int p2] := gh_intro2 (L1 := 21) hst (by decide +kernel) q485 q95 rfl ⟨rfl, rfl, rfl, trivial⟩ (Nat.le_of_ble_eq_true rfl) fun x o ls hl C h hk => w_J15_newLength C p0 p1 p2 hl h hk
-- Arrays.copyOf([Ljava/lang/Object;ILjava/lang/Class;)[Ljava/lang/Object;
noncomputable def f_J17_copyOf_3 (p0 : Option Nat) (p1 : Int32) (p2 : Option Nat) : gh_M (Option Nat) :=
  gh_bd (gh_cst 30) fun v1 =>
  if p2 = v1 then
  (gh_bd (gh_newa 5 p1) fun a2 =>
  gh_nn p0 fun a3 =>
  gh_bd (gh_alen a3) fun v4 =>
  gh_bd (f_J16_min v4 p1) fun v5 =>
  gh_bd (gh_cpyq a3 (0 : Int32) a2 (0 : Int32) v5) fun _ =>
  gh_ret (some a2))
  else
  (gh_stk)
theorem w_J17_copyOf_3 {x : gh_C} {g : gh_G} {o : ((Option Nat) ⊕ gh_X) × gh_G} {ls : Array Slot} (C : gh_K x cJ17_copyOf_3 "java/util/Arrays" 4 (some (.array (.object "java/lang/Object"))) "copyOf" 1 60 []) (p0 : Option Nat) (p1 : Int32) (p2 : Option Nat) (hl : gh_lv ls 4 [(0, va_rf p0), (1, .int p1), (2, va_rf p2)]) (h : gh_run (f_J17_copyOf_3 p0 p1 p2) g = some o) (hk : (gh_K0 x gh_rQ) o) : gh_Wd x g (F0 (gh_cm x) 0 ls []) := by
  unfold f_J17_copyOf_3 at h
  refine gr_aload_n (pc := 0) (i := 2) C rfl (gl_at hl 2 rfl) dJ17_copyOf_3_0 ?_
  refine gr_ldcM (pc := 1) C q1038 dJ17_copyOf_3_1 h fun v1 h => ?_
  refine gr_acmp_ne (pc := 3) (tgt := 13) C rfl dJ17_copyOf_3_3 (fun c9 => ?_) (fun c9 => ?_)
  · replace h := gh_iff h c9
    exact gh_stk_inv h
  · replace h := gh_ift h c9
    refine gr_iload_n (pc := 6) (i := 1) C rfl (gl_at hl 1 rfl) dJ17_copyOf_3_6 ?_
    refine gr_newq (pc := 7) C q1039 dJ17_copyOf_3_7 h (gh_K0_b _ hk) fun a2 g h => ?_
    refine gr_goto (pc := 10) (tgt := 24) C rfl dJ17_copyOf_3_10 ?_
    refine gr_astore_n (pc := 24) (i := 3) (l' := [(3, va_rf (some a2)), (0, va_rf p0), (1, .int p1), (2, va_rf p2)]) C rfl hl (Nat.le_of_ble_eq_true rfl) rfl dJ17_copyOf_3_24 fun ls hl => ?_
    refine gr_aload_n (pc := 25) (i := 0) C rfl (gl_at hl 1 rfl) dJ17_copyOf_3_25 ?_
    refine gr_iconst (pc := 26) (v := (0 : Int32)) C rfl dJ17_copyOf_3_26 ?_
    refine gr_aload_n (pc := 27) (i := 3) C rfl (gl_at hl 0 rfl) dJ17_copyOf_3_27 ?_
    refine gr_iconst (pc := 28) (v := (0 : Int32)) C rfl dJ17_copyOf_3_28 ?_
    refine gr_aload_n (pc := 29) (i := 0) C rfl (gl_at hl 1 rfl) dJ17_copyOf_3_29 ?_
    rcases p0 with _ | a3
    · exact gh_stk_inv h
    replace h := gh_nn_ss h
    refine gr_alen (pc := 30) C dJ17_copyOf_3_30 h fun v4 h => ?_
    refine gr_iload_n (pc := 31) (i := 1) C rfl (gl_at hl 2 rfl) dJ17_copyOf_3_31 ?_
    refine gh_callI (pc := 32) (rest := [.int (0 : Int32), va_rf (some a2), .int (0 : Int32), va_rf (some a3)]) C (k_J16_min C.tr v4 p1) (Nat.le_of_ble_eq_true rfl) (Nat.le_of_ble_eq_true rfl) (gh_r4 (Nat.le_of_ble_eq_true rfl)) (fun H9 L9 hp9 => gi_S C q504 q505 q96 q506 mh_J16 np1 rfl hl.1.1 dJ17_copyOf_3_32 rfl) h (gh_K0_b _ hk) (fun v5 g h => ?_) (fun e g h => ?_)
    rotate_left
    ·
      exact gh_out C (fun _ h => nomatch h) h hk
    refine gr_cpyq (pc := 35) C q507 q509 q508 q98 hl.1.1 (Nat.le_of_ble_eq_true rfl) (Nat.le_of_ble_eq_true rfl) (Nat.le_of_ble_eq_true rfl) dJ17_copyOf_3_35 h fun g h => ?_
    refine gr_aload_n (pc := 38) (i := 3) C rfl (gl_at hl 0 rfl) dJ17_copyOf_3_38 ?_
    exact gr_aret (pc := 39) C (Or.inr ⟨_, rfl⟩) dJ17_copyOf_3_39 h hk

theorem k_J17_copyOf_3 {l : Launch} (hst : l.stackTraces = false) (p0 : Option Nat) (p1 : Int32) (p2 : Option Nat) : gh_Ct l yJ17_copyOf_3 1 75 (f_J17_copyOf_3 p0 p1 p2) gh_rQ [va_rf p0, .int p1, va_rf p2] := gh_intro2 (L1 := 60) hst (by decide +kernel) q1037 q97 rfl ⟨gh_cat _, rfl, gh_cat _, trivial⟩ (Nat.le_of_ble_eq_true rfl) fun x o ls hl C h hk => w_J17_copyOf_3 C p0 p1 p2 hl h hk
-- ArrayDeque.<init>()V
noncomputable def f_J3_init (t0 : Nat) : gh_M Unit :=
  gh_bd (f_J0_init_J3 t0) fun _ =>
  gh_bd (gh_newa 5 (17 : Int32)) fun a2 =>
  gh_bd (gh_putv t0 12 0 (.array (.object "java/lang/Object")) (va_rf (some a2))) fun _ =>
  gh_ret ()
theorem w_J3_init {x : gh_C} {g : gh_G} {o : (Unit ⊕ gh_X) × gh_G} {ls : Array Slot} (C : gh_K x cJ3_init "java/util/ArrayDeque" 1 none "<init>" 2 40 []) (t0 : Nat) (hl : gh_lv ls 1 [(0, va_rf (some t0))]) (h : gh_run (f_J3_init t0) g = some o) (hk : (gh_K0 x gh_rV) o) : gh_Wd x g (F0 (gh_cm x) 0 ls []) := by
  unfold f_J3_init at h
  refine gr_aload_n (pc := 0) (i := 0) C rfl (gl_at hl 0 rfl) dJ3_init_0 ?_
  refine gh_callV (pc := 1) (rest := []) C (k_J0_init_J3 C.tr t0) (Nat.le_of_ble_eq_true rfl) (Nat.le_of_ble_eq_true rfl) (gh_r4 (Nat.le_of_ble_eq_true rfl)) (fun H9 L9 hp9 => gi_I C q225 rfl q147 q148 mh_J0 np8 rfl hl.1.1 dJ3_init_1 rfl) h (gh_K0_b _ hk) (fun g h => ?_) (fun e g h => ?_)
  rotate_left
  ·
    exact gh_out C (fun _ h => nomatch h) h hk
  refine gr_aload_n (pc := 4) (i := 0) C rfl (gl_at hl 0 rfl) dJ3_init_4 ?_
  refine gr_bipush (pc := 5) (v := (17 : Int32)) C rfl dJ3_init_5 ?_
  refine gr_newq (pc := 7) C q226 dJ3_init_7 h (gh_K0_b _ hk) fun a2 g h => ?_
  refine gr_putp (pc := 10) C gh_bJ3 (k := 0) (Nat.le_of_ble_eq_true rfl) q228 (fun _ h => h) rfl dJ3_init_10 h fun g h => ?_
  exact gr_vret (pc := 13) C dJ3_init_13 h hk

theorem k_J3_init {l : Launch} (hst : l.stackTraces = false) (t0 : Nat) : gh_Ct l yJ3_init 2 52 (f_J3_init t0) gh_rV [va_rf (some t0)] := gh_intro2 (L1 := 40) hst (by decide +kernel) q224 q81 rfl ⟨gh_cat _, trivial⟩ (Nat.le_of_ble_eq_true rfl) fun x o ls hl C h hk => w_J3_init C t0 hl h hk
-- ArrayDeque.isEmpty()Z
noncomputable def f_J3_isEmpty (t0 : Nat) : gh_M Int32 :=
  gh_bd (gh_geti t0 12 1) fun v1 =>
  gh_bd (gh_geti t0 12 2) fun v2 =>
  if v1 = v2 then
  (gh_rz .boolean (1 : Int32))
  else
  (gh_rz .boolean (0 : Int32))
theorem w_J3_isEmpty {x : gh_C} {g : gh_G} {o : (Int32 ⊕ gh_X) × gh_G} {ls : Array Slot} (C : gh_K x cJ3_isEmpty "java/util/ArrayDeque" 1 (some .boolean) "isEmpty" 0 0 []) (t0 : Nat) (hl : gh_lv ls 1 [(0, va_rf (some t0))]) (h : gh_run (f_J3_isEmpty t0) g = some o) (hk : (gh_K0 x gh_rI) o) : gh_Wd x g (F0 (gh_cm x) 0 ls []) := by
  unfold f_J3_isEmpty at h
  refine gr_aload_n (pc := 0) (i := 0) C rfl (gl_at hl 0 rfl) dJ3_isEmpty_0 ?_
  refine gr_geti (pc := 1) C gh_bJ3 (k := 1) (Nat.le_of_ble_eq_true rfl) q229 (fun _ h => h) dJ3_isEmpty_1 h fun v1 h => ?_
  refine gr_aload_n (pc := 4) (i := 0) C rfl (gl_at hl 0 rfl) dJ3_isEmpty_4 ?_
  refine gr_geti (pc := 5) C gh_bJ3 (k := 2) (Nat.le_of_ble_eq_true rfl) q230 (fun _ h => h) dJ3_isEmpty_5 h fun v2 h => ?_
  refine gr_icmp_ne (pc := 8) (tgt := 15) C rfl dJ3_isEmpty_8 (fun c9 => ?_) (fun c9 => ?_)
  · replace h := gh_iff h c9
    refine gr_iconst (pc := 15) (v := (0 : Int32)) C rfl dJ3_isEmpty_15 ?_
    exact gr_bret (pc := 16) C dJ3_isEmpty_16 h hk
  · replace h := gh_ift h c9
    refine gr_iconst (pc := 11) (v := (1 : Int32)) C rfl dJ3_isEmpty_11 ?_
    refine gr_goto (pc := 12) (tgt := 16) C rfl dJ3_isEmpty_12 ?_
    exact gr_bret (pc := 16) C dJ3_isEmpty_16 h hk

theorem k_J3_isEmpty {l : Launch} (hst : l.stackTraces = false) (t0 : Nat) : gh_Ct l yJ3_isEmpty 0 12 (f_J3_isEmpty t0) gh_rI [va_rf (some t0)] := gh_intro2 (L1 := 0) hst (by decide +kernel) q2271 q81 rfl ⟨gh_cat _, trivial⟩ (Nat.le_of_ble_eq_true rfl) fun x o ls hl C h hk => w_J3_isEmpty C t0 hl h hk
-- ArrayDeque.circularClear([Ljava/lang/Object;II)V
def gp_J3_circularClear_12 (x : gh_C) (u12_0 : Option Nat) (u12_2 : Int32) (st : Int32 × Int32) (g : gh_G) : Prop := ∀ ls : Array Slot, gh_lv ls 4 [(0, va_rf u12_0), (1, .int st.1), (2, .int u12_2), (3, .int st.2)] → gh_Wd x g (F0 (gh_cm x) 12 ls [])
noncomputable def f_J3_circularClear_12_l (u12_0 : Option Nat) (p1 : Int32) (u12_2 : Int32) (p3 : Int32) : gh_M ((Int32 × Int32) ⊕ Unit) :=
  if p3 ≤ p1 then
  (if p3 = u12_2 then
  (gh_up (gh_ret ()))
  else
  (gh_ret (.inl ((0 : Int32), u12_2))))
  else
  (gh_nn u12_0 fun a1 =>
  gh_bd (gh_aast a1 p1 none) fun _ =>
  gh_ret (.inl (p1 + (1 : Int32), p3)))
theorem w_J3_circularClear_12_l {x : gh_C} {g : gh_G} {o : (((Int32 × Int32) ⊕ Unit) ⊕ gh_X) × gh_G} {ls : Array Slot} (C : gh_K x cJ3_circularClear "java/util/ArrayDeque" 4 none "circularClear" 0 0 []) (u12_0 : Option Nat) (p1 : Int32) (u12_2 : Int32) (p3 : Int32) (hl : gh_lv ls 4 [(0, va_rf u12_0), (1, .int p1), (2, .int u12_2), (3, .int p3)]) (h : gh_run (f_J3_circularClear_12_l u12_0 p1 u12_2 p3) g = some o) (hk : (gh_K1 x (gh_K0 x gh_rV) (gp_J3_circularClear_12 x u12_0 u12_2)) o) : gh_Wd x g (F0 (gh_cm x) 12 ls []) := by
  unfold f_J3_circularClear_12_l at h
  refine gr_iload_n (pc := 12) (i := 1) C rfl (gl_at hl 1 rfl) dJ3_circularClear_12 ?_
  refine gr_iload_n (pc := 13) (i := 3) C rfl (gl_at hl 3 rfl) dJ3_circularClear_13 ?_
  refine gr_icmp_ge (pc := 14) (tgt := 27) C rfl dJ3_circularClear_14 (fun c9 => ?_) (fun c9 => ?_)
  · replace h := gh_ift h c9
    refine gr_iload_n (pc := 27) (i := 3) C rfl (gl_at hl 3 rfl) dJ3_circularClear_27 ?_
    refine gr_iload_n (pc := 28) (i := 2) C rfl (gl_at hl 2 rfl) dJ3_circularClear_28 ?_
    refine gr_icmp_ne (pc := 29) (tgt := 35) C rfl dJ3_circularClear_29 (fun c9 => ?_) (fun c9 => ?_)
    · replace h := gh_iff h c9
      refine gr_iconst (pc := 35) (v := (0 : Int32)) C rfl dJ3_circularClear_35 ?_
      refine gr_istore_n (pc := 36) (i := 1) (l' := [(1, .int (0 : Int32)), (0, va_rf u12_0), (2, .int u12_2), (3, .int p3)]) C rfl hl (Nat.le_of_ble_eq_true rfl) rfl dJ3_circularClear_36 fun ls hl => ?_
      refine gr_iload_n (pc := 37) (i := 2) C rfl (gl_at hl 2 rfl) dJ3_circularClear_37 ?_
      refine gr_istore_n (pc := 38) (i := 3) (l' := [(3, .int u12_2), (1, .int (0 : Int32)), (0, va_rf u12_0), (2, .int u12_2)]) C rfl hl (Nat.le_of_ble_eq_true rfl) rfl dJ3_circularClear_38 fun ls hl => ?_
      refine gr_goto (pc := 39) (tgt := 12) C rfl dJ3_circularClear_39 ?_
      exact gh_K1_in h hk ls (gl_sub hl [2, 1, 3, 0] rfl)
    · replace h := gh_ift h c9
      refine gr_goto (pc := 32) (tgt := 42) C rfl dJ3_circularClear_32 ?_
      obtain ⟨o, h, hk⟩ := gh_K1_up h hk
      exact gr_vret (pc := 42) C dJ3_circularClear_42 h hk
  · replace h := gh_iff h c9
    refine gr_aload_n (pc := 17) (i := 0) C rfl (gl_at hl 0 rfl) dJ3_circularClear_17 ?_
    refine gr_iload_n (pc := 18) (i := 1) C rfl (gl_at hl 1 rfl) dJ3_circularClear_18 ?_
    refine gr_null (pc := 19) C dJ3_circularClear_19 ?_
    rcases u12_0 with _ | a1
    · exact gh_stk_inv h
    replace h := gh_nn_ss h
    refine gr_aast (pc := 20) C dJ3_circularClear_20 h fun g h => ?_
    refine gr_iinc (pc := 21) (i := 1) (z := 1) (v := p1 + (1 : Int32)) (l' := [(1, .int (p1 + (1 : Int32))), (0, va_rf (some a1)), (2, .int u12_2), (3, .int p3)]) C hl rfl rfl (Nat.le_of_ble_eq_true rfl) rfl dJ3_circularClear_21 fun ls hl => ?_
    refine gr_goto (pc := 24) (tgt := 12) C rfl dJ3_circularClear_24 ?_
    exact gh_K1_in h hk ls (gl_sub hl [1, 0, 2, 3] rfl)

noncomputable def f_J3_circularClear_12 (p0 : Option Nat) (p1 : Int32) (p2 : Int32) (p3 : Int32) : gh_M Unit := gh_it (fun st : Int32 × Int32 => f_J3_circularClear_12_l p0 st.1 p2 st.2) (p1, p3)
theorem w_J3_circularClear_12 {x : gh_C} {g : gh_G} {o : (Unit ⊕ gh_X) × gh_G} {ls : Array Slot} (C : gh_K x cJ3_circularClear "java/util/ArrayDeque" 4 none "circularClear" 0 0 []) (p0 : Option Nat) (p1 : Int32) (p2 : Int32) (p3 : Int32) (hl : gh_lv ls 4 [(0, va_rf p0), (1, .int p1), (2, .int p2), (3, .int p3)]) (h : gh_run (f_J3_circularClear_12 p0 p1 p2 p3) g = some o) (hk : (gh_K0 x gh_rV) o) : gh_Wd x g (F0 (gh_cm x) 12 ls []) := by
  unfold f_J3_circularClear_12 at h
  exact gh_loop gh_K0_b (fun st : Int32 × Int32 => f_J3_circularClear_12_l p0 st.1 p2 st.2) (gp_J3_circularClear_12 x p0 p2) (fun st g o h hk ls hl => w_J3_circularClear_12_l C p0 st.1 p2 st.2 hl h hk) _ g o h hk ls hl
noncomputable def f_J3_circularClear_11 (p0 : Option Nat) (p1 : Int32) (p2 : Int32) (s0 : Int32) : gh_M Unit :=
  f_J3_circularClear_12 p0 p1 p2 s0
theorem w_J3_circularClear_11 {x : gh_C} {g : gh_G} {o : (Unit ⊕ gh_X) × gh_G} {ls : Array Slot} (C : gh_K x cJ3_circularClear "java/util/ArrayDeque" 4 none "circularClear" 0 0 []) (p0 : Option Nat) (p1 : Int32) (p2 : Int32) (s0 : Int32) (hl : gh_lv ls 4 [(0, va_rf p0), (1, .int p1), (2, .int p2)]) (h : gh_run (f_J3_circularClear_11 p0 p1 p2 s0) g = some o) (hk : (gh_K0 x gh_rV) o) : gh_Wd x g (F0 (gh_cm x) 11 ls [.int s0]) := by
  unfold f_J3_circularClear_11 at h
  refine gr_istore_n (pc := 11) (i := 3) (l' := [(3, .int s0), (0, va_rf p0), (1, .int p1), (2, .int p2)]) C rfl hl (Nat.le_of_ble_eq_true rfl) rfl dJ3_circularClear_11 fun ls hl => ?_
  exact w_J3_circularClear_12 C p0 p1 p2 s0 (gl_sub hl [1, 2, 3, 0] rfl) h hk

noncomputable def f_J3_circularClear (p0 : Option Nat) (p1 : Int32) (p2 : Int32) : gh_M Unit :=
  if p2 < p1 then
  (gh_nn p0 fun a1 =>
  gh_bd (gh_alen a1) fun v2 =>
  f_J3_circularClear_11 (some a1) p1 p2 v2)
  else
  (f_J3_circularClear_11 p0 p1 p2 p2)
theorem w_J3_circularClear {x : gh_C} {g : gh_G} {o : (Unit ⊕ gh_X) × gh_G} {ls : Array Slot} (C : gh_K x cJ3_circularClear "java/util/ArrayDeque" 4 none "circularClear" 0 0 []) (p0 : Option Nat) (p1 : Int32) (p2 : Int32) (hl : gh_lv ls 4 [(0, va_rf p0), (1, .int p1), (2, .int p2)]) (h : gh_run (f_J3_circularClear p0 p1 p2) g = some o) (hk : (gh_K0 x gh_rV) o) : gh_Wd x g (F0 (gh_cm x) 0 ls []) := by
  unfold f_J3_circularClear at h
  refine gr_iload_n (pc := 0) (i := 1) C rfl (gl_at hl 1 rfl) dJ3_circularClear_0 ?_
  refine gr_iload_n (pc := 1) (i := 2) C rfl (gl_at hl 2 rfl) dJ3_circularClear_1 ?_
  refine gr_icmp_gt (pc := 2) (tgt := 9) C rfl dJ3_circularClear_2 (fun c9 => ?_) (fun c9 => ?_)
  · replace h := gh_ift h c9
    refine gr_aload_n (pc := 9) (i := 0) C rfl (gl_at hl 0 rfl) dJ3_circularClear_9 ?_
    rcases p0 with _ | a1
    · exact gh_stk_inv h
    replace h := gh_nn_ss h
    refine gr_alen (pc := 10) C dJ3_circularClear_10 h fun v2 h => ?_
    exact w_J3_circularClear_11 C (some a1) p1 p2 v2 (gl_sub hl [0, 1, 2] rfl) h hk
  · replace h := gh_iff h c9
    refine gr_iload_n (pc := 5) (i := 2) C rfl (gl_at hl 2 rfl) dJ3_circularClear_5 ?_
    refine gr_goto (pc := 6) (tgt := 11) C rfl dJ3_circularClear_6 ?_
    exact w_J3_circularClear_11 C p0 p1 p2 p2 (gl_sub hl [0, 1, 2] rfl) h hk

theorem k_J3_circularClear {l : Launch} (hst : l.stackTraces = false) (p0 : Option Nat) (p1 : Int32) (p2 : Int32) : gh_Ct l yJ3_circularClear 0 15 (f_J3_circularClear p0 p1 p2) gh_rV [va_rf p0, .int p1, .int p2] := gh_intro2 (L1 := 0) hst (by decide +kernel) q2296 q81 rfl ⟨gh_cat _, rfl, rfl, trivial⟩ (Nat.le_of_ble_eq_true rfl) fun x o ls hl C h hk => w_J3_circularClear C p0 p1 p2 hl h hk
-- ArrayDeque.sub(III)I
noncomputable def f_J3_sub (p0 : Int32) (p1 : Int32) (p2 : Int32) : gh_M Int32 :=
  if 0 ≤ (p0 - p1) then
  (gh_ret (p0 - p1))
  else
  (gh_ret ((p0 - p1) + p2))
theorem w_J3_sub {x : gh_C} {g : gh_G} {o : (Int32 ⊕ gh_X) × gh_G} {ls : Array Slot} (C : gh_K x cJ3_sub "java/util/ArrayDeque" 3 (some .int) "sub" 0 0 []) (p0 : Int32) (p1 : Int32) (p2 : Int32) (hl : gh_lv ls 3 [(0, .int p0), (1, .int p1), (2, .int p2)]) (h : gh_run (f_J3_sub p0 p1 p2) g = some o) (hk : (gh_K0 x gh_rI) o) : gh_Wd x g (F0 (gh_cm x) 0 ls []) := by
  unfold f_J3_sub at h
  refine gr_iload_n (pc := 0) (i := 0) C rfl (gl_at hl 0 rfl) dJ3_sub_0 ?_
  refine gr_iload_n (pc := 1) (i := 1) C rfl (gl_at hl 1 rfl) dJ3_sub_1 ?_
  refine gr_isub (pc := 2) C dJ3_sub_2 ?_
  refine gr_dup (pc := 3) C rfl dJ3_sub_3 ?_
  refine gr_istore_n (pc := 4) (i := 0) (l' := [(0, .int (p0 - p1)), (1, .int p1), (2, .int p2)]) C rfl hl (Nat.le_of_ble_eq_true rfl) rfl dJ3_sub_4 fun ls hl => ?_
  refine gr_if_ge (pc := 5) (tgt := 12) C rfl dJ3_sub_5 (fun c9 => ?_) (fun c9 => ?_)
  · replace h := gh_ift h c9
    refine gr_iload_n (pc := 12) (i := 0) C rfl (gl_at hl 0 rfl) dJ3_sub_12 ?_
    exact gr_iret (pc := 13) C dJ3_sub_13 h hk
  · replace h := gh_iff h c9
    refine gr_iload_n (pc := 8) (i := 0) C rfl (gl_at hl 0 rfl) dJ3_sub_8 ?_
    refine gr_iload_n (pc := 9) (i := 2) C rfl (gl_at hl 2 rfl) dJ3_sub_9 ?_
    refine gr_iadd (pc := 10) C dJ3_sub_10 ?_
    refine gr_istore_n (pc := 11) (i := 0) (l' := [(0, .int ((p0 - p1) + p2)), (1, .int p1), (2, .int p2)]) C rfl hl (Nat.le_of_ble_eq_true rfl) rfl dJ3_sub_11 fun ls hl => ?_
    refine gr_iload_n (pc := 12) (i := 0) C rfl (gl_at hl 0 rfl) dJ3_sub_12 ?_
    exact gr_iret (pc := 13) C dJ3_sub_13 h hk

theorem k_J3_sub {l : Launch} (hst : l.stackTraces = false) (p0 : Int32) (p1 : Int32) (p2 : Int32) : gh_Ct l yJ3_sub 0 14 (f_J3_sub p0 p1 p2) gh_rI [.int p0, .int p1, .int p2] := gh_intro2 (L1 := 0) hst (by decide +kernel) q1411 q81 rfl ⟨rfl, rfl, rfl, trivial⟩ (Nat.le_of_ble_eq_true rfl) fun x o ls hl C h hk => w_J3_sub C p0 p1 p2 hl h hk
-- ArrayDeque.inc(II)I
noncomputable def f_J3_inc (p0 : Int32) (p1 : Int32) : gh_M Int32 :=
  if (p0 + (1 : Int32)) < p1 then
  (gh_ret (p0 + (1 : Int32)))
  else
  (gh_ret (0 : Int32))
theorem w_J3_inc {x : gh_C} {g : gh_G} {o : (Int32 ⊕ gh_X) × gh_G} {ls : Array Slot} (C : gh_K x cJ3_inc "java/util/ArrayDeque" 2 (some .int) "inc" 0 0 []) (p0 : Int32) (p1 : Int32) (hl : gh_lv ls 2 [(0, .int p0), (1, .int p1)]) (h : gh_run (f_J3_inc p0 p1) g = some o) (hk : (gh_K0 x gh_rI) o) : gh_Wd x g (F0 (gh_cm x) 0 ls []) := by
  unfold f_J3_inc at h
  refine gr_iinc (pc := 0) (i := 0) (z := 0) (v := p0 + (1 : Int32)) (l' := [(0, .int (p0 + (1 : Int32))), (1, .int p1)]) C hl rfl rfl (Nat.le_of_ble_eq_true rfl) rfl dJ3_inc_0 fun ls hl => ?_
  refine gr_iload_n (pc := 3) (i := 0) C rfl (gl_at hl 0 rfl) dJ3_inc_3 ?_
  refine gr_iload_n (pc := 4) (i := 1) C rfl (gl_at hl 1 rfl) dJ3_inc_4 ?_
  refine gr_icmp_lt (pc := 5) (tgt := 10) C rfl dJ3_inc_5 (fun c9 => ?_) (fun c9 => ?_)
  · replace h := gh_ift h c9
    refine gr_iload_n (pc := 10) (i := 0) C rfl (gl_at hl 0 rfl) dJ3_inc_10 ?_
    exact gr_iret (pc := 11) C dJ3_inc_11 h hk
  · replace h := gh_iff h c9
    refine gr_iconst (pc := 8) (v := (0 : Int32)) C rfl dJ3_inc_8 ?_
    refine gr_istore_n (pc := 9) (i := 0) (l' := [(0, .int (0 : Int32)), (1, .int p1)]) C rfl hl (Nat.le_of_ble_eq_true rfl) rfl dJ3_inc_9 fun ls hl => ?_
    refine gr_iload_n (pc := 10) (i := 0) C rfl (gl_at hl 0 rfl) dJ3_inc_10 ?_
    exact gr_iret (pc := 11) C dJ3_inc_11 h hk

theorem k_J3_inc {l : Launch} (hst : l.stackTraces = false) (p0 : Int32) (p1 : Int32) : gh_Ct l yJ3_inc 0 13 (f_J3_inc p0 p1) gh_rI [.int p0, .int p1] := gh_intro2 (L1 := 0) hst (by decide +kernel) q1425 q81 rfl ⟨rfl, rfl, trivial⟩ (Nat.le_of_ble_eq_true rfl) fun x o ls hl C h hk => w_J3_inc C p0 p1 hl h hk
-- ArrayDeque.dec(II)I
noncomputable def f_J3_dec (p0 : Int32) (p1 : Int32) : gh_M Int32 :=
  if 0 ≤ (p0 + (-1 : Int32)) then
  (gh_ret (p0 + (-1 : Int32)))
  else
  (gh_ret (p1 - (1 : Int32)))
theorem w_J3_dec {x : gh_C} {g : gh_G} {o : (Int32 ⊕ gh_X) × gh_G} {ls : Array Slot} (C : gh_K x cJ3_dec "java/util/ArrayDeque" 2 (some .int) "dec" 0 0 []) (p0 : Int32) (p1 : Int32) (hl : gh_lv ls 2 [(0, .int p0), (1, .int p1)]) (h : gh_run (f_J3_dec p0 p1) g = some o) (hk : (gh_K0 x gh_rI) o) : gh_Wd x g (F0 (gh_cm x) 0 ls []) := by
  unfold f_J3_dec at h
  refine gr_iinc (pc := 0) (i := 0) (z := 0) (v := p0 + (-1 : Int32)) (l' := [(0, .int (p0 + (-1 : Int32))), (1, .int p1)]) C hl rfl (congrArg (fun z9 => p0 + z9) (rfl : Int32.ofInt (-1) = (-1 : Int32))) (Nat.le_of_ble_eq_true rfl) rfl dJ3_dec_0 fun ls hl => ?_
  refine gr_iload_n (pc := 3) (i := 0) C rfl (gl_at hl 0 rfl) dJ3_dec_3 ?_
  refine gr_if_ge (pc := 4) (tgt := 11) C rfl dJ3_dec_4 (fun c9 => ?_) (fun c9 => ?_)
  · replace h := gh_ift h c9
    refine gr_iload_n (pc := 11) (i := 0) C rfl (gl_at hl 0 rfl) dJ3_dec_11 ?_
    exact gr_iret (pc := 12) C dJ3_dec_12 h hk
  · replace h := gh_iff h c9
    refine gr_iload_n (pc := 7) (i := 1) C rfl (gl_at hl 1 rfl) dJ3_dec_7 ?_
    refine gr_iconst (pc := 8) (v := (1 : Int32)) C rfl dJ3_dec_8 ?_
    refine gr_isub (pc := 9) C dJ3_dec_9 ?_
    refine gr_istore_n (pc := 10) (i := 0) (l' := [(0, .int (p1 - (1 : Int32))), (1, .int p1)]) C rfl hl (Nat.le_of_ble_eq_true rfl) rfl dJ3_dec_10 fun ls hl => ?_
    refine gr_iload_n (pc := 11) (i := 0) C rfl (gl_at hl 0 rfl) dJ3_dec_11 ?_
    exact gr_iret (pc := 12) C dJ3_dec_12 h hk

theorem k_J3_dec {l : Launch} (hst : l.stackTraces = false) (p0 : Int32) (p1 : Int32) : gh_Ct l yJ3_dec 0 13 (f_J3_dec p0 p1) gh_rI [.int p0, .int p1] := gh_intro2 (L1 := 0) hst (by decide +kernel) q2282 q81 rfl ⟨rfl, rfl, trivial⟩ (Nat.le_of_ble_eq_true rfl) fun x o ls hl C h hk => w_J3_dec C p0 p1 hl h hk
-- ArrayDeque.elementAt([Ljava/lang/Object;I)Ljava/lang/Object;
noncomputable def f_J3_elementAt (p0 : Option Nat) (p1 : Int32) : gh_M (Option Nat) :=
  gh_nn p0 fun a1 =>
  gh_bd (gh_aald a1 p1) fun v2 =>
  gh_ret v2
theorem w_J3_elementAt {x : gh_C} {g : gh_G} {o : ((Option Nat) ⊕ gh_X) × gh_G} {ls : Array Slot} (C : gh_K x cJ3_elementAt "java/util/ArrayDeque" 2 (some (.object "java/lang/Object")) "elementAt" 0 0 []) (p0 : Option Nat) (p1 : Int32) (hl : gh_lv ls 2 [(0, va_rf p0), (1, .int p1)]) (h : gh_run (f_J3_elementAt p0 p1) g = some o) (hk : (gh_K0 x gh_rQ) o) : gh_Wd x g (F0 (gh_cm x) 0 ls []) := by
  unfold f_J3_elementAt at h
  refine gr_aload_n (pc := 0) (i := 0) C rfl (gl_at hl 0 rfl) dJ3_elementAt_0 ?_
  refine gr_iload_n (pc := 1) (i := 1) C rfl (gl_at hl 1 rfl) dJ3_elementAt_1 ?_
  rcases p0 with _ | a1
  · exact gh_stk_inv h
  replace h := gh_nn_ss h
  refine gr_aald (pc := 2) C dJ3_elementAt_2 h fun v2 h => ?_
  exact gr_aret (pc := 3) C (Or.inl ⟨_, rfl⟩) dJ3_elementAt_3 h hk

theorem k_J3_elementAt {l : Launch} (hst : l.stackTraces = false) (p0 : Option Nat) (p1 : Int32) : gh_Ct l yJ3_elementAt 0 13 (f_J3_elementAt p0 p1) gh_rQ [va_rf p0, .int p1] := gh_intro2 (L1 := 0) hst (by decide +kernel) q1422 q81 rfl ⟨gh_cat _, rfl, trivial⟩ (Nat.le_of_ble_eq_true rfl) fun x o ls hl C h hk => w_J3_elementAt C p0 p1 hl h hk
-- LinkedList.<init>()V
noncomputable def f_J26_init (t0 : Nat) : gh_M Unit :=
  gh_bd (f_J25_init_J26 t0) fun _ =>
  gh_bd (gh_putv t0 21 1 .int (.int (0 : Int32))) fun _ =>
  gh_ret ()
theorem w_J26_init {x : gh_C} {g : gh_G} {o : (Unit ⊕ gh_X) × gh_G} {ls : Array Slot} (C : gh_K x cJ26_init "java/util/LinkedList" 1 none "<init>" 4 80 []) (t0 : Nat) (hl : gh_lv ls 1 [(0, va_rf (some t0))]) (h : gh_run (f_J26_init t0) g = some o) (hk : (gh_K0 x gh_rV) o) : gh_Wd x g (F0 (gh_cm x) 0 ls []) := by
  unfold f_J26_init at h
  refine gr_aload_n (pc := 0) (i := 0) C rfl (gl_at hl 0 rfl) dJ26_init_0 ?_
  refine gh_callV (pc := 1) (rest := []) C (k_J25_init_J26 C.tr t0) (Nat.le_of_ble_eq_true rfl) (Nat.le_of_ble_eq_true rfl) (gh_r4 (Nat.le_of_ble_eq_true rfl)) (fun H9 L9 hp9 => gi_I C q1532 rfl q1533 q1534 mh_J25 np8 rfl hl.1.1 dJ26_init_1 rfl) h (gh_K0_b _ hk) (fun g h => ?_) (fun e g h => ?_)
  rotate_left
  ·
    exact gh_out C (fun _ h => nomatch h) h hk
  refine gr_aload_n (pc := 4) (i := 0) C rfl (gl_at hl 0 rfl) dJ26_init_4 ?_
  refine gr_iconst (pc := 5) (v := (0 : Int32)) C rfl dJ26_init_5 ?_
  refine gr_putp (pc := 6) C gh_bJ26 (k := 1) (Nat.le_of_ble_eq_true rfl) q1536 (fun _ h => h) rfl dJ26_init_6 h fun g h => ?_
  exact gr_vret (pc := 9) C dJ26_init_9 h hk

theorem k_J26_init {l : Launch} (hst : l.stackTraces = false) (t0 : Nat) : gh_Ct l yJ26_init 4 92 (f_J26_init t0) gh_rV [va_rf (some t0)] := gh_intro2 (L1 := 80) hst (by decide +kernel) q1531 q114 rfl ⟨gh_cat _, trivial⟩ (Nat.le_of_ble_eq_true rfl) fun x o ls hl C h hk => w_J26_init C t0 hl h hk
-- LinkedList.size()I
noncomputable def f_J26_size (t0 : Nat) : gh_M Int32 :=
  gh_bd (gh_geti t0 21 1) fun v1 =>
  gh_ret v1
theorem w_J26_size {x : gh_C} {g : gh_G} {o : (Int32 ⊕ gh_X) × gh_G} {ls : Array Slot} (C : gh_K x cJ26_size "java/util/LinkedList" 1 (some .int) "size" 0 0 []) (t0 : Nat) (hl : gh_lv ls 1 [(0, va_rf (some t0))]) (h : gh_run (f_J26_size t0) g = some o) (hk : (gh_K0 x gh_rI) o) : gh_Wd x g (F0 (gh_cm x) 0 ls []) := by
  unfold f_J26_size at h
  refine gr_aload_n (pc := 0) (i := 0) C rfl (gl_at hl 0 rfl) dJ26_size_0 ?_
  refine gr_geti (pc := 1) C gh_bJ26 (k := 1) (Nat.le_of_ble_eq_true rfl) q1536 (fun _ h => h) dJ26_size_1 h fun v1 h => ?_
  exact gr_iret (pc := 4) C dJ26_size_4 h hk

theorem k_J26_size {l : Launch} (hst : l.stackTraces = false) (t0 : Nat) : gh_Ct l yJ26_size 0 12 (f_J26_size t0) gh_rI [va_rf (some t0)] := gh_intro2 (L1 := 0) hst (by decide +kernel) q351 q114 rfl ⟨gh_cat _, trivial⟩ (Nat.le_of_ble_eq_true rfl) fun x o ls hl C h hk => w_J26_size C t0 hl h hk
-- LinkedList.isElementIndex(I)Z
noncomputable def f_J26_isElementIndex (t0 : Nat) (p1 : Int32) : gh_M Int32 :=
  if p1 < 0 then
  (gh_rz .boolean (0 : Int32))
  else
  (gh_bd (gh_geti t0 21 1) fun v1 =>
  if v1 ≤ p1 then
  (gh_rz .boolean (0 : Int32))
  else
  (gh_rz .boolean (1 : Int32)))
theorem w_J26_isElementIndex {x : gh_C} {g : gh_G} {o : (Int32 ⊕ gh_X) × gh_G} {ls : Array Slot} (C : gh_K x cJ26_isElementIndex "java/util/LinkedList" 2 (some .boolean) "isElementIndex" 0 0 []) (t0 : Nat) (p1 : Int32) (hl : gh_lv ls 2 [(0, va_rf (some t0)), (1, .int p1)]) (h : gh_run (f_J26_isElementIndex t0 p1) g = some o) (hk : (gh_K0 x gh_rI) o) : gh_Wd x g (F0 (gh_cm x) 0 ls []) := by
  unfold f_J26_isElementIndex at h
  refine gr_iload_n (pc := 0) (i := 1) C rfl (gl_at hl 1 rfl) dJ26_isElementIndex_0 ?_
  refine gr_if_lt (pc := 1) (tgt := 16) C rfl dJ26_isElementIndex_1 (fun c9 => ?_) (fun c9 => ?_)
  · replace h := gh_ift h c9
    refine gr_iconst (pc := 16) (v := (0 : Int32)) C rfl dJ26_isElementIndex_16 ?_
    exact gr_bret (pc := 17) C dJ26_isElementIndex_17 h hk
  · replace h := gh_iff h c9
    refine gr_iload_n (pc := 4) (i := 1) C rfl (gl_at hl 1 rfl) dJ26_isElementIndex_4 ?_
    refine gr_aload_n (pc := 5) (i := 0) C rfl (gl_at hl 0 rfl) dJ26_isElementIndex_5 ?_
    refine gr_geti (pc := 6) C gh_bJ26 (k := 1) (Nat.le_of_ble_eq_true rfl) q1536 (fun _ h => h) dJ26_isElementIndex_6 h fun v1 h => ?_
    refine gr_icmp_ge (pc := 9) (tgt := 16) C rfl dJ26_isElementIndex_9 (fun c9 => ?_) (fun c9 => ?_)
    · replace h := gh_ift h c9
      refine gr_iconst (pc := 16) (v := (0 : Int32)) C rfl dJ26_isElementIndex_16 ?_
      exact gr_bret (pc := 17) C dJ26_isElementIndex_17 h hk
    · replace h := gh_iff h c9
      refine gr_iconst (pc := 12) (v := (1 : Int32)) C rfl dJ26_isElementIndex_12 ?_
      refine gr_goto (pc := 13) (tgt := 17) C rfl dJ26_isElementIndex_13 ?_
      exact gr_bret (pc := 17) C dJ26_isElementIndex_17 h hk

theorem k_J26_isElementIndex {l : Launch} (hst : l.stackTraces = false) (t0 : Nat) (p1 : Int32) : gh_Ct l yJ26_isElementIndex 0 13 (f_J26_isElementIndex t0 p1) gh_rI [va_rf (some t0), .int p1] := gh_intro2 (L1 := 0) hst (by decide +kernel) q408 q114 rfl ⟨gh_cat _, rfl, trivial⟩ (Nat.le_of_ble_eq_true rfl) fun x o ls hl C h hk => w_J26_isElementIndex C t0 p1 hl h hk
-- LinkedList.node(I)Ljava/util/LinkedList$Node;
def gp_J26_node_17 (x : gh_C) (u17_1 : Int32) (st : (Option Nat) × Int32) (g : gh_G) : Prop := ∀ ls : Array Slot, gh_lv ls 4 [(1, .int u17_1), (2, va_rf st.1), (3, .int st.2)] → gh_Wd x g (F0 (gh_cm x) 17 ls [])
def gp_J26_node_47 (x : gh_C) (u47_1 : Int32) (st : (Option Nat) × Int32) (g : gh_G) : Prop := ∀ ls : Array Slot, gh_lv ls 4 [(1, .int u47_1), (2, va_rf st.1), (3, .int st.2)] → gh_Wd x g (F0 (gh_cm x) 47 ls [])
noncomputable def f_J26_node_47_l (u47_1 : Int32) (p2 : Option Nat) (p3 : Int32) : gh_M (((Option Nat) × Int32) ⊕ (Option Nat)) :=
  if p3 ≤ u47_1 then
  (gh_up (gh_ret p2))
  else
  (gh_nn p2 fun a1 =>
  gh_bd (gh_getr a1 22 2) fun v2 =>
  gh_ret (.inl (v2, p3 + (-1 : Int32))))
theorem w_J26_node_47_l {x : gh_C} {g : gh_G} {o : ((((Option Nat) × Int32) ⊕ (Option Nat)) ⊕ gh_X) × gh_G} {ls : Array Slot} (C : gh_K x cJ26_node "java/util/LinkedList" 4 (some (.object "java/util/LinkedList$Node")) "node" 0 0 []) (u47_1 : Int32) (p2 : Option Nat) (p3 : Int32) (hl : gh_lv ls 4 [(1, .int u47_1), (2, va_rf p2), (3, .int p3)]) (h : gh_run (f_J26_node_47_l u47_1 p2 p3) g = some o) (hk : (gh_K1 x (gh_K0 x gh_rQ) (gp_J26_node_47 x u47_1)) o) : gh_Wd x g (F0 (gh_cm x) 47 ls []) := by
  unfold f_J26_node_47_l at h
  refine gr_iload_n (pc := 47) (i := 3) C rfl (gl_at hl 2 rfl) dJ26_node_47 ?_
  refine gr_iload_n (pc := 48) (i := 1) C rfl (gl_at hl 0 rfl) dJ26_node_48 ?_
  refine gr_icmp_le (pc := 49) (tgt := 63) C rfl dJ26_node_49 (fun c9 => ?_) (fun c9 => ?_)
  · replace h := gh_ift h c9
    refine gr_aload_n (pc := 63) (i := 2) C rfl (gl_at hl 1 rfl) dJ26_node_63 ?_
    obtain ⟨o, h, hk⟩ := gh_K1_up h hk
    exact gr_aret (pc := 64) C (Or.inl ⟨_, rfl⟩) dJ26_node_64 h hk
  · replace h := gh_iff h c9
    refine gr_aload_n (pc := 52) (i := 2) C rfl (gl_at hl 1 rfl) dJ26_node_52 ?_
    rcases p2 with _ | a1
    · exact gh_stk_inv h
    replace h := gh_nn_ss h
    refine gr_getr (pc := 53) C gh_bJ27 (k := 2) (Nat.le_of_ble_eq_true rfl) q1582 (fun _ h => h) dJ26_node_53 h fun v2 h => ?_
    refine gr_astore_n (pc := 56) (i := 2) (l' := [(2, va_rf v2), (1, .int u47_1), (3, .int p3)]) C rfl hl (Nat.le_of_ble_eq_true rfl) rfl dJ26_node_56 fun ls hl => ?_
    refine gr_iinc (pc := 57) (i := 3) (z := 2) (v := p3 + (-1 : Int32)) (l' := [(3, .int (p3 + (-1 : Int32))), (2, va_rf v2), (1, .int u47_1)]) C hl rfl (congrArg (fun z9 => p3 + z9) (rfl : Int32.ofInt (-1) = (-1 : Int32))) (Nat.le_of_ble_eq_true rfl) rfl dJ26_node_57 fun ls hl => ?_
    refine gr_goto (pc := 60) (tgt := 47) C rfl dJ26_node_60 ?_
    exact gh_K1_in h hk ls (gl_sub hl [2, 1, 0] rfl)

noncomputable def f_J26_node_47 (p1 : Int32) (p2 : Option Nat) (p3 : Int32) : gh_M (Option Nat) := gh_it (fun st : (Option Nat) × Int32 => f_J26_node_47_l p1 st.1 st.2) (p2, p3)
theorem w_J26_node_47 {x : gh_C} {g : gh_G} {o : ((Option Nat) ⊕ gh_X) × gh_G} {ls : Array Slot} (C : gh_K x cJ26_node "java/util/LinkedList" 4 (some (.object "java/util/LinkedList$Node")) "node" 0 0 []) (p1 : Int32) (p2 : Option Nat) (p3 : Int32) (hl : gh_lv ls 4 [(1, .int p1), (2, va_rf p2), (3, .int p3)]) (h : gh_run (f_J26_node_47 p1 p2 p3) g = some o) (hk : (gh_K0 x gh_rQ) o) : gh_Wd x g (F0 (gh_cm x) 47 ls []) := by
  unfold f_J26_node_47 at h
  exact gh_loop gh_K0_b (fun st : (Option Nat) × Int32 => f_J26_node_47_l p1 st.1 st.2) (gp_J26_node_47 x p1) (fun st g o h hk ls hl => w_J26_node_47_l C p1 st.1 st.2 hl h hk) _ g o h hk ls hl
noncomputable def f_J26_node_17_l (u17_1 : Int32) (p2 : Option Nat) (p3 : Int32) : gh_M (((Option Nat) × Int32) ⊕ (Option Nat)) :=
  if u17_1 ≤ p3 then
  (gh_up (gh_ret p2))
  else
  (gh_nn p2 fun a1 =>
  gh_bd (gh_getr a1 22 1) fun v2 =>
  gh_ret (.inl (v2, p3 + (1 : Int32))))
theorem w_J26_node_17_l {x : gh_C} {g : gh_G} {o : ((((Option Nat) × Int32) ⊕ (Option Nat)) ⊕ gh_X) × gh_G} {ls : Array Slot} (C : gh_K x cJ26_node "java/util/LinkedList" 4 (some (.object "java/util/LinkedList$Node")) "node" 0 0 []) (u17_1 : Int32) (p2 : Option Nat) (p3 : Int32) (hl : gh_lv ls 4 [(1, .int u17_1), (2, va_rf p2), (3, .int p3)]) (h : gh_run (f_J26_node_17_l u17_1 p2 p3) g = some o) (hk : (gh_K1 x (gh_K0 x gh_rQ) (gp_J26_node_17 x u17_1)) o) : gh_Wd x g (F0 (gh_cm x) 17 ls []) := by
  unfold f_J26_node_17_l at h
  refine gr_iload_n (pc := 17) (i := 3) C rfl (gl_at hl 2 rfl) dJ26_node_17 ?_
  refine gr_iload_n (pc := 18) (i := 1) C rfl (gl_at hl 0 rfl) dJ26_node_18 ?_
  refine gr_icmp_ge (pc := 19) (tgt := 33) C rfl dJ26_node_19 (fun c9 => ?_) (fun c9 => ?_)
  · replace h := gh_ift h c9
    refine gr_aload_n (pc := 33) (i := 2) C rfl (gl_at hl 1 rfl) dJ26_node_33 ?_
    obtain ⟨o, h, hk⟩ := gh_K1_up h hk
    exact gr_aret (pc := 34) C (Or.inl ⟨_, rfl⟩) dJ26_node_34 h hk
  · replace h := gh_iff h c9
    refine gr_aload_n (pc := 22) (i := 2) C rfl (gl_at hl 1 rfl) dJ26_node_22 ?_
    rcases p2 with _ | a1
    · exact gh_stk_inv h
    replace h := gh_nn_ss h
    refine gr_getr (pc := 23) C gh_bJ27 (k := 1) (Nat.le_of_ble_eq_true rfl) q1580 (fun _ h => h) dJ26_node_23 h fun v2 h => ?_
    refine gr_astore_n (pc := 26) (i := 2) (l' := [(2, va_rf v2), (1, .int u17_1), (3, .int p3)]) C rfl hl (Nat.le_of_ble_eq_true rfl) rfl dJ26_node_26 fun ls hl => ?_
    refine gr_iinc (pc := 27) (i := 3) (z := 2) (v := p3 + (1 : Int32)) (l' := [(3, .int (p3 + (1 : Int32))), (2, va_rf v2), (1, .int u17_1)]) C hl rfl rfl (Nat.le_of_ble_eq_true rfl) rfl dJ26_node_27 fun ls hl => ?_
    refine gr_goto (pc := 30) (tgt := 17) C rfl dJ26_node_30 ?_
    exact gh_K1_in h hk ls (gl_sub hl [2, 1, 0] rfl)

noncomputable def f_J26_node_17 (p1 : Int32) (p2 : Option Nat) (p3 : Int32) : gh_M (Option Nat) := gh_it (fun st : (Option Nat) × Int32 => f_J26_node_17_l p1 st.1 st.2) (p2, p3)
theorem w_J26_node_17 {x : gh_C} {g : gh_G} {o : ((Option Nat) ⊕ gh_X) × gh_G} {ls : Array Slot} (C : gh_K x cJ26_node "java/util/LinkedList" 4 (some (.object "java/util/LinkedList$Node")) "node" 0 0 []) (p1 : Int32) (p2 : Option Nat) (p3 : Int32) (hl : gh_lv ls 4 [(1, .int p1), (2, va_rf p2), (3, .int p3)]) (h : gh_run (f_J26_node_17 p1 p2 p3) g = some o) (hk : (gh_K0 x gh_rQ) o) : gh_Wd x g (F0 (gh_cm x) 17 ls []) := by
  unfold f_J26_node_17 at h
  exact gh_loop gh_K0_b (fun st : (Option Nat) × Int32 => f_J26_node_17_l p1 st.1 st.2) (gp_J26_node_17 x p1) (fun st g o h hk ls hl => w_J26_node_17_l C p1 st.1 st.2 hl h hk) _ g o h hk ls hl
noncomputable def f_J26_node (t0 : Nat) (p1 : Int32) : gh_M (Option Nat) :=
  gh_bd (gh_geti t0 21 1) fun v1 =>
  if (v1 >>> ((1 : Int32) &&& 31)) ≤ p1 then
  (gh_bd (gh_getr t0 21 3) fun v2 =>
  gh_bd (gh_geti t0 21 1) fun v3 =>
  f_J26_node_47 p1 v2 (v3 - (1 : Int32)))
  else
  (gh_bd (gh_getr t0 21 2) fun v4 =>
  f_J26_node_17 p1 v4 (0 : Int32))
theorem w_J26_node {x : gh_C} {g : gh_G} {o : ((Option Nat) ⊕ gh_X) × gh_G} {ls : Array Slot} (C : gh_K x cJ26_node "java/util/LinkedList" 4 (some (.object "java/util/LinkedList$Node")) "node" 0 0 []) (t0 : Nat) (p1 : Int32) (hl : gh_lv ls 4 [(0, va_rf (some t0)), (1, .int p1)]) (h : gh_run (f_J26_node t0 p1) g = some o) (hk : (gh_K0 x gh_rQ) o) : gh_Wd x g (F0 (gh_cm x) 0 ls []) := by
  unfold f_J26_node at h
  refine gr_iload_n (pc := 0) (i := 1) C rfl (gl_at hl 1 rfl) dJ26_node_0 ?_
  refine gr_aload_n (pc := 1) (i := 0) C rfl (gl_at hl 0 rfl) dJ26_node_1 ?_
  refine gr_geti (pc := 2) C gh_bJ26 (k := 1) (Nat.le_of_ble_eq_true rfl) q1536 (fun _ h => h) dJ26_node_2 h fun v1 h => ?_
  refine gr_iconst (pc := 5) (v := (1 : Int32)) C rfl dJ26_node_5 ?_
  refine gr_ishr (pc := 6) C dJ26_node_6 ?_
  refine gr_icmp_ge (pc := 7) (tgt := 35) C rfl dJ26_node_7 (fun c9 => ?_) (fun c9 => ?_)
  · replace h := gh_ift h c9
    refine gr_aload_n (pc := 35) (i := 0) C rfl (gl_at hl 0 rfl) dJ26_node_35 ?_
    refine gr_getr (pc := 36) C gh_bJ26 (k := 3) (Nat.le_of_ble_eq_true rfl) q1539 (fun _ h => h) dJ26_node_36 h fun v2 h => ?_
    refine gr_astore_n (pc := 39) (i := 2) (l' := [(2, va_rf v2), (0, va_rf (some t0)), (1, .int p1)]) C rfl hl (Nat.le_of_ble_eq_true rfl) rfl dJ26_node_39 fun ls hl => ?_
    refine gr_aload_n (pc := 40) (i := 0) C rfl (gl_at hl 1 rfl) dJ26_node_40 ?_
    refine gr_geti (pc := 41) C gh_bJ26 (k := 1) (Nat.le_of_ble_eq_true rfl) q1536 (fun _ h => h) dJ26_node_41 h fun v3 h => ?_
    refine gr_iconst (pc := 44) (v := (1 : Int32)) C rfl dJ26_node_44 ?_
    refine gr_isub (pc := 45) C dJ26_node_45 ?_
    refine gr_istore_n (pc := 46) (i := 3) (l' := [(3, .int (v3 - (1 : Int32))), (2, va_rf v2), (0, va_rf (some t0)), (1, .int p1)]) C rfl hl (Nat.le_of_ble_eq_true rfl) rfl dJ26_node_46 fun ls hl => ?_
    exact w_J26_node_47 C p1 v2 (v3 - (1 : Int32)) (gl_sub hl [3, 1, 0] rfl) h hk
  · replace h := gh_iff h c9
    refine gr_aload_n (pc := 10) (i := 0) C rfl (gl_at hl 0 rfl) dJ26_node_10 ?_
    refine gr_getr (pc := 11) C gh_bJ26 (k := 2) (Nat.le_of_ble_eq_true rfl) q1538 (fun _ h => h) dJ26_node_11 h fun v4 h => ?_
    refine gr_astore_n (pc := 14) (i := 2) (l' := [(2, va_rf v4), (0, va_rf (some t0)), (1, .int p1)]) C rfl hl (Nat.le_of_ble_eq_true rfl) rfl dJ26_node_14 fun ls hl => ?_
    refine gr_iconst (pc := 15) (v := (0 : Int32)) C rfl dJ26_node_15 ?_
    refine gr_istore_n (pc := 16) (i := 3) (l' := [(3, .int (0 : Int32)), (2, va_rf v4), (0, va_rf (some t0)), (1, .int p1)]) C rfl hl (Nat.le_of_ble_eq_true rfl) rfl dJ26_node_16 fun ls hl => ?_
    exact w_J26_node_17 C p1 v4 (0 : Int32) (gl_sub hl [3, 1, 0] rfl) h hk

theorem k_J26_node {l : Launch} (hst : l.stackTraces = false) (t0 : Nat) (p1 : Int32) : gh_Ct l yJ26_node 0 15 (f_J26_node t0 p1) gh_rQ [va_rf (some t0), .int p1] := gh_intro2 (L1 := 0) hst (by decide +kernel) q721 q114 rfl ⟨gh_cat _, rfl, trivial⟩ (Nat.le_of_ble_eq_true rfl) fun x o ls hl C h hk => w_J26_node C t0 p1 hl h hk
-- LinkedList.isPositionIndex(I)Z
noncomputable def f_J26_isPositionIndex (t0 : Nat) (p1 : Int32) : gh_M Int32 :=
  if p1 < 0 then
  (gh_rz .boolean (0 : Int32))
  else
  (gh_bd (gh_geti t0 21 1) fun v1 =>
  if v1 < p1 then
  (gh_rz .boolean (0 : Int32))
  else
  (gh_rz .boolean (1 : Int32)))
theorem w_J26_isPositionIndex {x : gh_C} {g : gh_G} {o : (Int32 ⊕ gh_X) × gh_G} {ls : Array Slot} (C : gh_K x cJ26_isPositionIndex "java/util/LinkedList" 2 (some .boolean) "isPositionIndex" 0 0 []) (t0 : Nat) (p1 : Int32) (hl : gh_lv ls 2 [(0, va_rf (some t0)), (1, .int p1)]) (h : gh_run (f_J26_isPositionIndex t0 p1) g = some o) (hk : (gh_K0 x gh_rI) o) : gh_Wd x g (F0 (gh_cm x) 0 ls []) := by
  unfold f_J26_isPositionIndex at h
  refine gr_iload_n (pc := 0) (i := 1) C rfl (gl_at hl 1 rfl) dJ26_isPositionIndex_0 ?_
  refine gr_if_lt (pc := 1) (tgt := 16) C rfl dJ26_isPositionIndex_1 (fun c9 => ?_) (fun c9 => ?_)
  · replace h := gh_ift h c9
    refine gr_iconst (pc := 16) (v := (0 : Int32)) C rfl dJ26_isPositionIndex_16 ?_
    exact gr_bret (pc := 17) C dJ26_isPositionIndex_17 h hk
  · replace h := gh_iff h c9
    refine gr_iload_n (pc := 4) (i := 1) C rfl (gl_at hl 1 rfl) dJ26_isPositionIndex_4 ?_
    refine gr_aload_n (pc := 5) (i := 0) C rfl (gl_at hl 0 rfl) dJ26_isPositionIndex_5 ?_
    refine gr_geti (pc := 6) C gh_bJ26 (k := 1) (Nat.le_of_ble_eq_true rfl) q1536 (fun _ h => h) dJ26_isPositionIndex_6 h fun v1 h => ?_
    refine gr_icmp_gt (pc := 9) (tgt := 16) C rfl dJ26_isPositionIndex_9 (fun c9 => ?_) (fun c9 => ?_)
    · replace h := gh_ift h c9
      refine gr_iconst (pc := 16) (v := (0 : Int32)) C rfl dJ26_isPositionIndex_16 ?_
      exact gr_bret (pc := 17) C dJ26_isPositionIndex_17 h hk
    · replace h := gh_iff h c9
      refine gr_iconst (pc := 12) (v := (1 : Int32)) C rfl dJ26_isPositionIndex_12 ?_
      refine gr_goto (pc := 13) (tgt := 17) C rfl dJ26_isPositionIndex_13 ?_
      exact gr_bret (pc := 17) C dJ26_isPositionIndex_17 h hk

theorem k_J26_isPositionIndex {l : Launch} (hst : l.stackTraces = false) (t0 : Nat) (p1 : Int32) : gh_Ct l yJ26_isPositionIndex 0 13 (f_J26_isPositionIndex t0 p1) gh_rI [va_rf (some t0), .int p1] := gh_intro2 (L1 := 0) hst (by decide +kernel) q1564 q114 rfl ⟨gh_cat _, rfl, trivial⟩ (Nat.le_of_ble_eq_true rfl) fun x o ls hl C h hk => w_J26_isPositionIndex C t0 p1 hl h hk
-- LinkedList$Node.<init>(Ljava/util/LinkedList$Node;Ljava/lang/Object;Ljava/util/LinkedList$Node;)V
noncomputable def f_J27_init (t0 : Nat) (p1 : Option Nat) (p2 : Option Nat) (p3 : Option Nat) : gh_M Unit :=
  gh_bd (gh_putv t0 22 0 (.object "java/lang/Object") (va_rf p2)) fun _ =>
  gh_bd (gh_putv t0 22 1 (.object "java/util/LinkedList$Node") (va_rf p3)) fun _ =>
  gh_bd (gh_putv t0 22 2 (.object "java/util/LinkedList$Node") (va_rf p1)) fun _ =>
  gh_ret ()
theorem w_J27_init {x : gh_C} {g : gh_G} {o : (Unit ⊕ gh_X) × gh_G} {ls : Array Slot} (C : gh_K x cJ27_init "java/util/LinkedList$Node" 4 none "<init>" 1 20 []) (t0 : Nat) (p1 : Option Nat) (p2 : Option Nat) (p3 : Option Nat) (hl : gh_lv ls 4 [(0, va_rf (some t0)), (1, va_rf p1), (2, va_rf p2), (3, va_rf p3)]) (h : gh_run (f_J27_init t0 p1 p2 p3) g = some o) (hk : (gh_K0 x gh_rV) o) : gh_Wd x g (F0 (gh_cm x) 0 ls []) := by
  unfold f_J27_init at h
  refine gr_aload_n (pc := 0) (i := 0) C rfl (gl_at hl 0 rfl) dJ27_init_0 ?_
  refine gr_oinit (pc := 1) C q1574 q130 q131 hl.1.1 (Nat.le_of_ble_eq_true rfl) (Nat.le_of_ble_eq_true rfl) (Nat.le_of_ble_eq_true rfl) dJ27_init_1 ?_
  refine gr_aload_n (pc := 4) (i := 0) C rfl (gl_at hl 0 rfl) dJ27_init_4 ?_
  refine gr_aload_n (pc := 5) (i := 2) C rfl (gl_at hl 2 rfl) dJ27_init_5 ?_
  refine gr_putp (pc := 6) C gh_bJ27 (k := 0) (Nat.le_of_ble_eq_true rfl) q1575 (fun _ h => h) rfl dJ27_init_6 h fun g h => ?_
  refine gr_aload_n (pc := 9) (i := 0) C rfl (gl_at hl 0 rfl) dJ27_init_9 ?_
  refine gr_aload_n (pc := 10) (i := 3) C rfl (gl_at hl 3 rfl) dJ27_init_10 ?_
  refine gr_putp (pc := 11) C gh_bJ27 (k := 1) (Nat.le_of_ble_eq_true rfl) q1578 (fun _ h => h) rfl dJ27_init_11 h fun g h => ?_
  refine gr_aload_n (pc := 14) (i := 0) C rfl (gl_at hl 0 rfl) dJ27_init_14 ?_
  refine gr_aload_n (pc := 15) (i := 1) C rfl (gl_at hl 1 rfl) dJ27_init_15 ?_
  refine gr_putp (pc := 16) C gh_bJ27 (k := 2) (Nat.le_of_ble_eq_true rfl) q1581 (fun _ h => h) rfl dJ27_init_16 h fun g h => ?_
  exact gr_vret (pc := 19) C dJ27_init_19 h hk

theorem k_J27_init {l : Launch} (hst : l.stackTraces = false) (t0 : Nat) (p1 : Option Nat) (p2 : Option Nat) (p3 : Option Nat) : gh_Ct l yJ27_init 1 35 (f_J27_init t0 p1 p2 p3) gh_rV [va_rf (some t0), va_rf p1, va_rf p2, va_rf p3] := gh_intro2 (L1 := 20) hst (by decide +kernel) q1573 q115 rfl ⟨gh_cat _, gh_cat _, gh_cat _, gh_cat _, trivial⟩ (Nat.le_of_ble_eq_true rfl) fun x o ls hl C h hk => w_J27_init C t0 p1 p2 p3 hl h hk
-- LinkedList$ListItr.hasNext()Z
noncomputable def f_J32_hasNext (t0 : Nat) : gh_M Int32 :=
  gh_bd (gh_geti t0 24 2) fun v1 =>
  gh_bd (gh_getr t0 24 4) fun v2 =>
  gh_nn v2 fun a3 =>
  gh_bd (gh_geti a3 21 1) fun v4 =>
  if v4 ≤ v1 then
  (gh_rz .boolean (0 : Int32))
  else
  (gh_rz .boolean (1 : Int32))
theorem w_J32_hasNext {x : gh_C} {g : gh_G} {o : (Int32 ⊕ gh_X) × gh_G} {ls : Array Slot} (C : gh_K x cJ32_hasNext "java/util/LinkedList$ListItr" 1 (some .boolean) "hasNext" 0 0 []) (t0 : Nat) (hl : gh_lv ls 1 [(0, va_rf (some t0))]) (h : gh_run (f_J32_hasNext t0) g = some o) (hk : (gh_K0 x gh_rI) o) : gh_Wd x g (F0 (gh_cm x) 0 ls []) := by
  unfold f_J32_hasNext at h
  refine gr_aload_n (pc := 0) (i := 0) C rfl (gl_at hl 0 rfl) dJ32_hasNext_0 ?_
  refine gr_geti (pc := 1) C gh_bJ32 (k := 2) (Nat.le_of_ble_eq_true rfl) q2236 (fun _ h => h) dJ32_hasNext_1 h fun v1 h => ?_
  refine gr_aload_n (pc := 4) (i := 0) C rfl (gl_at hl 0 rfl) dJ32_hasNext_4 ?_
  refine gr_getr (pc := 5) C gh_bJ32 (k := 4) (Nat.le_of_ble_eq_true rfl) q2238 (fun _ h => h) dJ32_hasNext_5 h fun v2 h => ?_
  rcases v2 with _ | a3
  · exact gh_stk_inv h
  replace h := gh_nn_ss h
  refine gr_geti (pc := 8) C gh_bJ26 (k := 1) (Nat.le_of_ble_eq_true rfl) q1537 (fun _ h => h) dJ32_hasNext_8 h fun v4 h => ?_
  refine gr_icmp_ge (pc := 11) (tgt := 18) C rfl dJ32_hasNext_11 (fun c9 => ?_) (fun c9 => ?_)
  · replace h := gh_ift h c9
    refine gr_iconst (pc := 18) (v := (0 : Int32)) C rfl dJ32_hasNext_18 ?_
    exact gr_bret (pc := 19) C dJ32_hasNext_19 h hk
  · replace h := gh_iff h c9
    refine gr_iconst (pc := 14) (v := (1 : Int32)) C rfl dJ32_hasNext_14 ?_
    refine gr_goto (pc := 15) (tgt := 19) C rfl dJ32_hasNext_15 ?_
    exact gr_bret (pc := 19) C dJ32_hasNext_19 h hk

theorem k_J32_hasNext {l : Launch} (hst : l.stackTraces = false) (t0 : Nat) : gh_Ct l yJ32_hasNext 0 12 (f_J32_hasNext t0) gh_rI [va_rf (some t0)] := gh_intro2 (L1 := 0) hst (by decide +kernel) q366 q123 rfl ⟨gh_cat _, trivial⟩ (Nat.le_of_ble_eq_true rfl) fun x o ls hl C h hk => w_J32_hasNext C t0 hl h hk
-- LinkedList$ListItr.checkForComodification()V
noncomputable def f_J32_checkForComodification (t0 : Nat) : gh_M Unit :=
  gh_bd (gh_getr t0 24 4) fun v1 =>
  gh_nn v1 fun a2 =>
  gh_bd (gh_geti a2 21 0) fun v3 =>
  gh_bd (gh_geti t0 24 3) fun v4 =>
  if v3 = v4 then
  (gh_ret ())
  else
  (gh_stk)
theorem w_J32_checkForComodification {x : gh_C} {g : gh_G} {o : (Unit ⊕ gh_X) × gh_G} {ls : Array Slot} (C : gh_K x cJ32_checkForComodification "java/util/LinkedList$ListItr" 1 none "checkForComodification" 0 0 []) (t0 : Nat) (hl : gh_lv ls 1 [(0, va_rf (some t0))]) (h : gh_run (f_J32_checkForComodification t0) g = some o) (hk : (gh_K0 x gh_rV) o) : gh_Wd x g (F0 (gh_cm x) 0 ls []) := by
  unfold f_J32_checkForComodification at h
  refine gr_aload_n (pc := 0) (i := 0) C rfl (gl_at hl 0 rfl) dJ32_checkForComodification_0 ?_
  refine gr_getr (pc := 1) C gh_bJ32 (k := 4) (Nat.le_of_ble_eq_true rfl) q2238 (fun _ h => h) dJ32_checkForComodification_1 h fun v1 h => ?_
  rcases v1 with _ | a2
  · exact gh_stk_inv h
  replace h := gh_nn_ss h
  refine gr_geti (pc := 4) C gh_bJ26 (k := 0) (Nat.le_of_ble_eq_true rfl) q157 (gh_smf C q158) dJ32_checkForComodification_4 h fun v3 h => ?_
  refine gr_aload_n (pc := 7) (i := 0) C rfl (gl_at hl 0 rfl) dJ32_checkForComodification_7 ?_
  refine gr_geti (pc := 8) C gh_bJ32 (k := 3) (Nat.le_of_ble_eq_true rfl) q2237 (fun _ h => h) dJ32_checkForComodification_8 h fun v4 h => ?_
  refine gr_icmp_eq (pc := 11) (tgt := 22) C rfl dJ32_checkForComodification_11 (fun c9 => ?_) (fun c9 => ?_)
  · replace h := gh_ift h c9
    exact gr_vret (pc := 22) C dJ32_checkForComodification_22 h hk
  · replace h := gh_iff h c9
    exact gh_stk_inv h

theorem k_J32_checkForComodification {l : Launch} (hst : l.stackTraces = false) (t0 : Nat) : gh_Ct l yJ32_checkForComodification 0 12 (f_J32_checkForComodification t0) gh_rV [va_rf (some t0)] := gh_intro2 (L1 := 0) hst (by decide +kernel) q858 q123 rfl ⟨gh_cat _, trivial⟩ (Nat.le_of_ble_eq_true rfl) fun x o ls hl C h hk => w_J32_checkForComodification C t0 hl h hk
-- LinkedList$ListItr.<init>(Ljava/util/LinkedList;I)V
noncomputable def f_J32_init_38 (t0 : Nat) (p2 : Int32) (s0 : Option Nat) (s1 : Option Nat) : gh_M Unit :=
  gh_nn s0 fun a1 =>
  gh_bd (gh_putv a1 24 1 (.object "java/util/LinkedList$Node") (va_rf s1)) fun _ =>
  gh_bd (gh_putv t0 24 2 .int (.int p2)) fun _ =>
  gh_ret ()
theorem w_J32_init_38 {x : gh_C} {g : gh_G} {o : (Unit ⊕ gh_X) × gh_G} {ls : Array Slot} (C : gh_K x cJ32_init "java/util/LinkedList$ListItr" 3 none "<init>" 1 23 []) (t0 : Nat) (p2 : Int32) (s0 : Option Nat) (s1 : Option Nat) (hl : gh_lv ls 3 [(0, va_rf (some t0)), (2, .int p2)]) (h : gh_run (f_J32_init_38 t0 p2 s0 s1) g = some o) (hk : (gh_K0 x gh_rV) o) : gh_Wd x g (F0 (gh_cm x) 38 ls [va_rf s1, va_rf s0]) := by
  unfold f_J32_init_38 at h
  rcases s0 with _ | a1
  · exact gh_stk_inv h
  replace h := gh_nn_ss h
  refine gr_putp (pc := 38) C gh_bJ32 (k := 1) (Nat.le_of_ble_eq_true rfl) q2235 (fun _ h => h) rfl dJ32_init_38 h fun g h => ?_
  refine gr_aload_n (pc := 41) (i := 0) C rfl (gl_at hl 0 rfl) dJ32_init_41 ?_
  refine gr_iload_n (pc := 42) (i := 2) C rfl (gl_at hl 1 rfl) dJ32_init_42 ?_
  refine gr_putp (pc := 43) C gh_bJ32 (k := 2) (Nat.le_of_ble_eq_true rfl) q2236 (fun _ h => h) rfl dJ32_init_43 h fun g h => ?_
  exact gr_vret (pc := 46) C dJ32_init_46 h hk

noncomputable def f_J32_init (t0 : Nat) (p1 : Option Nat) (p2 : Int32) : gh_M Unit :=
  gh_bd (gh_putv t0 24 4 (.object "java/util/LinkedList") (va_rf p1)) fun _ =>
  gh_bd (gh_getr t0 24 4) fun v1 =>
  gh_nn v1 fun a2 =>
  gh_bd (gh_geti a2 21 0) fun v3 =>
  gh_bd (gh_putv t0 24 3 .int (.int v3)) fun _ =>
  gh_nn p1 fun a4 =>
  gh_bd (gh_geti a4 21 1) fun v5 =>
  if p2 = v5 then
  (f_J32_init_38 t0 p2 (some t0) none)
  else
  (gh_bd (gh_is a4 21) fun _ =>
  gh_bd (f_J26_node a4 p2) fun v6 =>
  f_J32_init_38 t0 p2 (some t0) v6)
theorem w_J32_init {x : gh_C} {g : gh_G} {o : (Unit ⊕ gh_X) × gh_G} {ls : Array Slot} (C : gh_K x cJ32_init "java/util/LinkedList$ListItr" 3 none "<init>" 1 23 []) (t0 : Nat) (p1 : Option Nat) (p2 : Int32) (hl : gh_lv ls 3 [(0, va_rf (some t0)), (1, va_rf p1), (2, .int p2)]) (h : gh_run (f_J32_init t0 p1 p2) g = some o) (hk : (gh_K0 x gh_rV) o) : gh_Wd x g (F0 (gh_cm x) 0 ls []) := by
  unfold f_J32_init at h
  refine gr_aload_n (pc := 0) (i := 0) C rfl (gl_at hl 0 rfl) dJ32_init_0 ?_
  refine gr_aload_n (pc := 1) (i := 1) C rfl (gl_at hl 1 rfl) dJ32_init_1 ?_
  refine gr_putF (pc := 2) C gh_bJ32 (k := 4) (Nat.le_of_ble_eq_true rfl) q2238 (fun _ h => h) rfl rfl dJ32_init_2 h fun g h => ?_
  refine gr_aload_n (pc := 5) (i := 0) C rfl (gl_at hl 0 rfl) dJ32_init_5 ?_
  refine gr_oinit (pc := 6) C q2232 q130 q131 hl.1.1 (Nat.le_of_ble_eq_true rfl) (Nat.le_of_ble_eq_true rfl) (Nat.le_of_ble_eq_true rfl) dJ32_init_6 ?_
  refine gr_aload_n (pc := 9) (i := 0) C rfl (gl_at hl 0 rfl) dJ32_init_9 ?_
  refine gr_aload_n (pc := 10) (i := 0) C rfl (gl_at hl 0 rfl) dJ32_init_10 ?_
  refine gr_getr (pc := 11) C gh_bJ32 (k := 4) (Nat.le_of_ble_eq_true rfl) q2238 (fun _ h => h) dJ32_init_11 h fun v1 h => ?_
  rcases v1 with _ | a2
  · exact gh_stk_inv h
  replace h := gh_nn_ss h
  refine gr_geti (pc := 14) C gh_bJ26 (k := 0) (Nat.le_of_ble_eq_true rfl) q157 (gh_smf C q158) dJ32_init_14 h fun v3 h => ?_
  refine gr_putp (pc := 17) C gh_bJ32 (k := 3) (Nat.le_of_ble_eq_true rfl) q2237 (fun _ h => h) rfl dJ32_init_17 h fun g h => ?_
  refine gr_aload_n (pc := 20) (i := 0) C rfl (gl_at hl 0 rfl) dJ32_init_20 ?_
  refine gr_iload_n (pc := 21) (i := 2) C rfl (gl_at hl 2 rfl) dJ32_init_21 ?_
  refine gr_aload_n (pc := 22) (i := 1) C rfl (gl_at hl 1 rfl) dJ32_init_22 ?_
  rcases p1 with _ | a4
  · exact gh_stk_inv h
  replace h := gh_nn_ss h
  refine gr_geti (pc := 23) C gh_bJ26 (k := 1) (Nat.le_of_ble_eq_true rfl) q1537 (fun _ h => h) dJ32_init_23 h fun v5 h => ?_
  refine gr_icmp_ne (pc := 26) (tgt := 33) C rfl dJ32_init_26 (fun c9 => ?_) (fun c9 => ?_)
  · replace h := gh_iff h c9
    refine gr_aload_n (pc := 33) (i := 1) C rfl (gl_at hl 1 rfl) dJ32_init_33 ?_
    refine gr_iload_n (pc := 34) (i := 2) C rfl (gl_at hl 2 rfl) dJ32_init_34 ?_
    obtain ⟨⟨fs9, hg9⟩, h⟩ := gh_is_inv h
    refine gh_callQ (pc := 35) (rest := [va_rf (some t0)]) C (k_J26_node C.tr a4 p2) (Nat.le_of_ble_eq_true rfl) (Nat.le_of_ble_eq_true rfl) (gh_r4 (Nat.le_of_ble_eq_true rfl)) (fun H9 L9 hp9 => gi_V C hp9 hg9 gh_cJ26 q2233 q719 q720 q721 mh_J26 np9 rfl hl.1.1 dJ32_init_35 rfl) h (gh_K0_b _ hk) (fun v6 g h => ?_) (fun e g h => ?_)
    rotate_left
    ·
      exact gh_out C (fun _ h => nomatch h) h hk
    exact w_J32_init_38 C t0 p2 (some t0) v6 (gl_sub hl [0, 2] rfl) h hk
  · replace h := gh_ift h c9
    refine gr_null (pc := 29) C dJ32_init_29 ?_
    refine gr_goto (pc := 30) (tgt := 38) C rfl dJ32_init_30 ?_
    exact w_J32_init_38 C t0 p2 (some t0) none (gl_sub hl [0, 2] rfl) h hk

theorem k_J32_init {l : Launch} (hst : l.stackTraces = false) (t0 : Nat) (p1 : Option Nat) (p2 : Int32) : gh_Ct l yJ32_init 1 37 (f_J32_init t0 p1 p2) gh_rV [va_rf (some t0), va_rf p1, .int p2] := gh_intro2 (L1 := 23) hst (by decide +kernel) q2231 q123 rfl ⟨gh_cat _, gh_cat _, rfl, trivial⟩ (Nat.le_of_ble_eq_true rfl) fun x o ls hl C h hk => w_J32_init C t0 p1 p2 hl h hk
-- ArrayList.iterator()Ljava/util/Iterator;
noncomputable def f_J2_iterator (t0 : Nat) : gh_M (Option Nat) :=
  gh_bd (gh_new 15 4 gh_nJ8) fun a1 =>
  gh_bd (f_J8_init a1 (some t0)) fun _ =>
  gh_ret (some a1)
theorem w_J2_iterator {x : gh_C} {g : gh_G} {o : ((Option Nat) ⊕ gh_X) × gh_G} {ls : Array Slot} (C : gh_K x cJ2_iterator "java/util/ArrayList" 1 (some (.object "java/util/Iterator")) "iterator" 2 41 []) (t0 : Nat) (hl : gh_lv ls 1 [(0, va_rf (some t0))]) (h : gh_run (f_J2_iterator t0) g = some o) (hk : (gh_K0 x gh_rQ) o) : gh_Wd x g (F0 (gh_cm x) 0 ls []) := by
  unfold f_J2_iterator at h
  refine gr_newo (pc := 0) C gh_bJ8 q312 q313 q88 gh_dJ8 dJ2_iterator_0 h (gh_K0_b _ hk) fun a1 g h => ?_
  refine gr_dup (pc := 3) C (gh_cat _) dJ2_iterator_3 ?_
  refine gr_aload_n (pc := 4) (i := 0) C rfl (gl_at hl 0 rfl) dJ2_iterator_4 ?_
  refine gh_callV (pc := 5) (rest := [va_rf (some a1)]) C (k_J8_init C.tr a1 (some t0)) (Nat.le_of_ble_eq_true rfl) (Nat.le_of_ble_eq_true rfl) (gh_r4 (Nat.le_of_ble_eq_true rfl)) (fun H9 L9 hp9 => gi_I C q314 rfl q315 q316 mh_J8 np10 rfl hl.1.1 dJ2_iterator_5 rfl) h (gh_K0_b _ hk) (fun g h => ?_) (fun e g h => ?_)
  rotate_left
  ·
    exact gh_out C (fun _ h => nomatch h) h hk
  exact gr_aret (pc := 8) C (Or.inl ⟨_, rfl⟩) dJ2_iterator_8 h hk

theorem k_J2_iterator {l : Launch} (hst : l.stackTraces = false) (t0 : Nat) : gh_Ct l yJ2_iterator 2 53 (f_J2_iterator t0) gh_rQ [va_rf (some t0)] := gh_intro2 (L1 := 41) hst (by decide +kernel) q311 q79 rfl ⟨gh_cat _, trivial⟩ (Nat.le_of_ble_eq_true rfl) fun x o ls hl C h hk => w_J2_iterator C t0 hl h hk
-- ArrayList$Itr.next()Ljava/lang/Object;
noncomputable def f_J8_next (t0 : Nat) : gh_M (Option Nat) :=
  gh_bd (gh_is t0 15) fun _ =>
  gh_bd (f_J8_checkForComodification t0) fun _ =>
  gh_bd (gh_geti t0 15 0) fun v2 =>
  gh_bd (gh_getr t0 15 3) fun v3 =>
  gh_nn v3 fun a4 =>
  gh_bd (gh_geti a4 11 2) fun v5 =>
  if v2 < v5 then
  (gh_bd (gh_getr t0 15 3) fun v6 =>
  gh_nn v6 fun a7 =>
  gh_bd (gh_getr a7 11 1) fun v8 =>
  gh_nn v8 fun a9 =>
  gh_bd (gh_alen a9) fun v10 =>
  if v2 < v10 then
  (gh_bd (gh_putv t0 15 0 .int (.int (v2 + (1 : Int32)))) fun _ =>
  gh_bd (gh_putv t0 15 1 .int (.int v2)) fun _ =>
  gh_bd (gh_aald a9 v2) fun v11 =>
  gh_ret v11)
  else
  (gh_stk))
  else
  (gh_stk)
theorem w_J8_next {x : gh_C} {g : gh_G} {o : ((Option Nat) ⊕ gh_X) × gh_G} {ls : Array Slot} (C : gh_K x cJ8_next "java/util/ArrayList$Itr" 3 (some (.object "java/lang/Object")) "next" 1 20 []) (t0 : Nat) (hl : gh_lv ls 3 [(0, va_rf (some t0))]) (h : gh_run (f_J8_next t0) g = some o) (hk : (gh_K0 x gh_rQ) o) : gh_Wd x g (F0 (gh_cm x) 0 ls []) := by
  unfold f_J8_next at h
  refine gr_aload_n (pc := 0) (i := 0) C rfl (gl_at hl 0 rfl) dJ8_next_0 ?_
  obtain ⟨⟨fs9, hg9⟩, h⟩ := gh_is_inv h
  refine gh_callV (pc := 1) (rest := []) C (k_J8_checkForComodification C.tr t0) (Nat.le_of_ble_eq_true rfl) (Nat.le_of_ble_eq_true rfl) (gh_r4 (Nat.le_of_ble_eq_true rfl)) (fun H9 L9 hp9 => gi_V C hp9 hg9 gh_cJ8 q831 q832 q833 q836 mh_J8 np8 rfl hl.1.1 dJ8_next_1 rfl) h (gh_K0_b _ hk) (fun g h => ?_) (fun e g h => ?_)
  rotate_left
  ·
    exact gh_out C (fun _ h => nomatch h) h hk
  refine gr_aload_n (pc := 4) (i := 0) C rfl (gl_at hl 0 rfl) dJ8_next_4 ?_
  refine gr_geti (pc := 5) C gh_bJ8 (k := 0) (Nat.le_of_ble_eq_true rfl) q320 (fun _ h => h) dJ8_next_5 h fun v2 h => ?_
  refine gr_istore_n (pc := 8) (i := 1) (l' := [(1, .int v2), (0, va_rf (some t0))]) C rfl hl (Nat.le_of_ble_eq_true rfl) rfl dJ8_next_8 fun ls hl => ?_
  refine gr_iload_n (pc := 9) (i := 1) C rfl (gl_at hl 0 rfl) dJ8_next_9 ?_
  refine gr_aload_n (pc := 10) (i := 0) C rfl (gl_at hl 1 rfl) dJ8_next_10 ?_
  refine gr_getr (pc := 11) C gh_bJ8 (k := 3) (Nat.le_of_ble_eq_true rfl) q323 (fun _ h => h) dJ8_next_11 h fun v3 h => ?_
  rcases v3 with _ | a4
  · exact gh_stk_inv h
  replace h := gh_nn_ss h
  refine gr_getiN (pc := 14) C gh_bJ2 (k := 2) (Nat.le_of_ble_eq_true rfl) q154 (fun _ h => h) dJ8_next_14 h fun v5 h => ?_
  refine gr_icmp_lt (pc := 17) (tgt := 28) C rfl dJ8_next_17 (fun c9 => ?_) (fun c9 => ?_)
  · replace h := gh_ift h c9
    refine gr_aload_n (pc := 28) (i := 0) C rfl (gl_at hl 1 rfl) dJ8_next_28 ?_
    refine gr_getr (pc := 29) C gh_bJ8 (k := 3) (Nat.le_of_ble_eq_true rfl) q323 (fun _ h => h) dJ8_next_29 h fun v6 h => ?_
    rcases v6 with _ | a7
    · exact gh_stk_inv h
    replace h := gh_nn_ss h
    refine gr_getr (pc := 32) C gh_bJ2 (k := 1) (Nat.le_of_ble_eq_true rfl) q153 (fun _ h => h) dJ8_next_32 h fun v8 h => ?_
    refine gr_astore_n (pc := 35) (i := 2) (l' := [(2, va_rf v8), (1, .int v2), (0, va_rf (some t0))]) C rfl hl (Nat.le_of_ble_eq_true rfl) rfl dJ8_next_35 fun ls hl => ?_
    refine gr_iload_n (pc := 36) (i := 1) C rfl (gl_at hl 1 rfl) dJ8_next_36 ?_
    refine gr_aload_n (pc := 37) (i := 2) C rfl (gl_at hl 0 rfl) dJ8_next_37 ?_
    rcases v8 with _ | a9
    · exact gh_stk_inv h
    replace h := gh_nn_ss h
    refine gr_alen (pc := 38) C dJ8_next_38 h fun v10 h => ?_
    refine gr_icmp_lt (pc := 39) (tgt := 50) C rfl dJ8_next_39 (fun c9 => ?_) (fun c9 => ?_)
    · replace h := gh_ift h c9
      refine gr_aload_n (pc := 50) (i := 0) C rfl (gl_at hl 2 rfl) dJ8_next_50 ?_
      refine gr_iload_n (pc := 51) (i := 1) C rfl (gl_at hl 1 rfl) dJ8_next_51 ?_
      refine gr_iconst (pc := 52) (v := (1 : Int32)) C rfl dJ8_next_52 ?_
      refine gr_iadd (pc := 53) C dJ8_next_53 ?_
      refine gr_putp (pc := 54) C gh_bJ8 (k := 0) (Nat.le_of_ble_eq_true rfl) q320 (fun _ h => h) rfl dJ8_next_54 h fun g h => ?_
      refine gr_aload_n (pc := 57) (i := 2) C rfl (gl_at hl 0 rfl) dJ8_next_57 ?_
      refine gr_aload_n (pc := 58) (i := 0) C rfl (gl_at hl 2 rfl) dJ8_next_58 ?_
      refine gr_iload_n (pc := 59) (i := 1) C rfl (gl_at hl 1 rfl) dJ8_next_59 ?_
      refine gr_dup_x1 (pc := 60) C rfl (gh_cat _) dJ8_next_60 ?_
      refine gr_putp (pc := 61) C gh_bJ8 (k := 1) (Nat.le_of_ble_eq_true rfl) q321 (fun _ h => h) rfl dJ8_next_61 h fun g h => ?_
      refine gr_aald (pc := 64) C dJ8_next_64 h fun v11 h => ?_
      exact gr_aret (pc := 65) C (Or.inl ⟨_, rfl⟩) dJ8_next_65 h hk
    · replace h := gh_iff h c9
      exact gh_stk_inv h
  · replace h := gh_iff h c9
    exact gh_stk_inv h

theorem k_J8_next {l : Launch} (hst : l.stackTraces = false) (t0 : Nat) : gh_Ct l yJ8_next 1 34 (f_J8_next t0) gh_rQ [va_rf (some t0)] := gh_intro2 (L1 := 20) hst (by decide +kernel) q830 q88 rfl ⟨gh_cat _, trivial⟩ (Nat.le_of_ble_eq_true rfl) fun x o ls hl C h hk => w_J8_next C t0 hl h hk
-- Objects.checkIndex(II)I
noncomputable def f_J9_checkIndex (p0 : Int32) (p1 : Int32) : gh_M Int32 :=
  gh_bd (f_J10_checkIndex p0 p1 none) fun v1 =>
  gh_ret v1
theorem w_J9_checkIndex {x : gh_C} {g : gh_G} {o : (Int32 ⊕ gh_X) × gh_G} {ls : Array Slot} (C : gh_K x cJ9_checkIndex "java/util/Objects" 2 (some .int) "checkIndex" 1 22 []) (p0 : Int32) (p1 : Int32) (hl : gh_lv ls 2 [(0, .int p0), (1, .int p1)]) (h : gh_run (f_J9_checkIndex p0 p1) g = some o) (hk : (gh_K0 x gh_rI) o) : gh_Wd x g (F0 (gh_cm x) 0 ls []) := by
  unfold f_J9_checkIndex at h
  refine gr_iload_n (pc := 0) (i := 0) C rfl (gl_at hl 0 rfl) dJ9_checkIndex_0 ?_
  refine gr_iload_n (pc := 1) (i := 1) C rfl (gl_at hl 1 rfl) dJ9_checkIndex_1 ?_
  refine gr_null (pc := 2) C dJ9_checkIndex_2 ?_
  refine gh_callI (pc := 3) (rest := []) C (k_J10_checkIndex C.tr p0 p1 none) (Nat.le_of_ble_eq_true rfl) (Nat.le_of_ble_eq_true rfl) (gh_r4 (Nat.le_of_ble_eq_true rfl)) (fun H9 L9 hp9 => gi_S C q390 q391 q90 q392 mh_J10 np12 rfl hl.1.1 dJ9_checkIndex_3 rfl) h (gh_K0_b _ hk) (fun v1 g h => ?_) (fun e g h => ?_)
  rotate_left
  ·
    exact gh_out C (fun _ h => nomatch h) h hk
  exact gr_iret (pc := 6) C dJ9_checkIndex_6 h hk

theorem k_J9_checkIndex {l : Launch} (hst : l.stackTraces = false) (p0 : Int32) (p1 : Int32) : gh_Ct l yJ9_checkIndex 1 35 (f_J9_checkIndex p0 p1) gh_rI [.int p0, .int p1] := gh_intro2 (L1 := 22) hst (by decide +kernel) q389 q89 rfl ⟨rfl, rfl, trivial⟩ (Nat.le_of_ble_eq_true rfl) fun x o ls hl C h hk => w_J9_checkIndex C p0 p1 hl h hk
-- Arrays.copyOf([Ljava/lang/Object;I)[Ljava/lang/Object;
noncomputable def f_J17_copyOf_2 (p0 : Option Nat) (p1 : Int32) : gh_M (Option Nat) :=
  gh_nn p0 fun a1 =>
  gh_bd (gh_aka 5 a1) fun _ =>
  gh_bd (gh_cst 30) fun v2 =>
  gh_bd (f_J17_copyOf_3 (some a1) p1 v2) fun v3 =>
  gh_ret v3
theorem w_J17_copyOf_2 {x : gh_C} {g : gh_G} {o : ((Option Nat) ⊕ gh_X) × gh_G} {ls : Array Slot} (C : gh_K x cJ17_copyOf_2 "java/util/Arrays" 2 (some (.array (.object "java/lang/Object"))) "copyOf" 2 83 []) (p0 : Option Nat) (p1 : Int32) (hl : gh_lv ls 2 [(0, va_rf p0), (1, .int p1)]) (h : gh_run (f_J17_copyOf_2 p0 p1) g = some o) (hk : (gh_K0 x gh_rQ) o) : gh_Wd x g (F0 (gh_cm x) 0 ls []) := by
  unfold f_J17_copyOf_2 at h
  refine gr_aload_n (pc := 0) (i := 0) C rfl (gl_at hl 0 rfl) dJ17_copyOf_2_0 ?_
  refine gr_iload_n (pc := 1) (i := 1) C rfl (gl_at hl 1 rfl) dJ17_copyOf_2_1 ?_
  refine gr_aload_n (pc := 2) (i := 0) C rfl (gl_at hl 0 rfl) dJ17_copyOf_2_2 ?_
  rcases p0 with _ | a1
  · exact gh_stk_inv h
  replace h := gh_nn_ss h
  refine gr_getC (pc := 3) (rest := [.int p1, va_rf (some a1)]) C q1034 q2776 q2775 q758 q790 hl.1.1 (Nat.le_of_ble_eq_true rfl) (Nat.le_of_ble_eq_true rfl) (Nat.le_of_ble_eq_true rfl) dJ17_copyOf_2_3 h rfl fun v2 h => ?_
  refine gh_callQ (pc := 6) (rest := []) C (k_J17_copyOf_3 C.tr (some a1) p1 v2) (Nat.le_of_ble_eq_true rfl) (Nat.le_of_ble_eq_true rfl) (gh_r4 (Nat.le_of_ble_eq_true rfl)) (fun H9 L9 hp9 => gi_S C q1035 q1036 q97 q1037 mh_J17 np13 rfl hl.1.1 dJ17_copyOf_2_6 rfl) h (gh_K0_b _ hk) (fun v3 g h => ?_) (fun e g h => ?_)
  rotate_left
  ·
    exact gh_out C (fun _ h => nomatch h) h hk
  exact gr_aret (pc := 9) C (Or.inr ⟨_, rfl⟩) dJ17_copyOf_2_9 h hk

theorem k_J17_copyOf_2 {l : Launch} (hst : l.stackTraces = false) (p0 : Option Nat) (p1 : Int32) : gh_Ct l yJ17_copyOf_2 2 96 (f_J17_copyOf_2 p0 p1) gh_rQ [va_rf p0, .int p1] := gh_intro2 (L1 := 83) hst (by decide +kernel) q1033 q97 rfl ⟨gh_cat _, rfl, trivial⟩ (Nat.le_of_ble_eq_true rfl) fun x o ls hl C h hk => w_J17_copyOf_2 C p0 p1 hl h hk
-- ArrayDeque.addLast(Ljava/lang/Object;)V
noncomputable def f_J3_addLast (t0 : Nat) (p1 : Option Nat) : gh_M Unit :=
  gh_on p1
  (gh_stk)
  (fun b1 => gh_bd (gh_getr t0 12 0) fun v2 =>
  gh_bd (gh_geti t0 12 2) fun v3 =>
  gh_nn v2 fun a4 =>
  gh_bd (gh_aast a4 v3 (some b1)) fun _ =>
  gh_bd (gh_geti t0 12 1) fun v5 =>
  gh_bd (gh_geti t0 12 2) fun v6 =>
  gh_bd (gh_alen a4) fun v7 =>
  gh_bd (f_J3_inc v6 v7) fun v8 =>
  gh_bd (gh_putv t0 12 2 .int (.int v8)) fun _ =>
  if v5 = v8 then
  (gh_stk)
  else
  (gh_ret ()))
theorem w_J3_addLast {x : gh_C} {g : gh_G} {o : (Unit ⊕ gh_X) × gh_G} {ls : Array Slot} (C : gh_K x cJ3_addLast "java/util/ArrayDeque" 3 none "addLast" 1 21 []) (t0 : Nat) (p1 : Option Nat) (hl : gh_lv ls 3 [(0, va_rf (some t0)), (1, va_rf p1)]) (h : gh_run (f_J3_addLast t0 p1) g = some o) (hk : (gh_K0 x gh_rV) o) : gh_Wd x g (F0 (gh_cm x) 0 ls []) := by
  unfold f_J3_addLast at h
  refine gr_aload_n (pc := 0) (i := 1) C rfl (gl_at hl 1 rfl) dJ3_addLast_0 ?_
  refine gr_ifnonnull (pc := 1) (tgt := 12) C rfl dJ3_addLast_1 (fun b1 c9 => ?_) (fun c9 => ?_)
  · subst c9
    replace h := gh_on_s h
    refine gr_aload_n (pc := 12) (i := 0) C rfl (gl_at hl 0 rfl) dJ3_addLast_12 ?_
    refine gr_getr (pc := 13) C gh_bJ3 (k := 0) (Nat.le_of_ble_eq_true rfl) q228 (fun _ h => h) dJ3_addLast_13 h fun v2 h => ?_
    refine gr_astore_n (pc := 16) (i := 2) (l' := [(2, va_rf v2), (0, va_rf (some t0)), (1, va_rf (some b1))]) C rfl hl (Nat.le_of_ble_eq_true rfl) rfl dJ3_addLast_16 fun ls hl => ?_
    refine gr_aload_n (pc := 17) (i := 2) C rfl (gl_at hl 0 rfl) dJ3_addLast_17 ?_
    refine gr_aload_n (pc := 18) (i := 0) C rfl (gl_at hl 1 rfl) dJ3_addLast_18 ?_
    refine gr_geti (pc := 19) C gh_bJ3 (k := 2) (Nat.le_of_ble_eq_true rfl) q230 (fun _ h => h) dJ3_addLast_19 h fun v3 h => ?_
    refine gr_aload_n (pc := 22) (i := 1) C rfl (gl_at hl 2 rfl) dJ3_addLast_22 ?_
    rcases v2 with _ | a4
    · exact gh_stk_inv h
    replace h := gh_nn_ss h
    refine gr_aast (pc := 23) C dJ3_addLast_23 h fun g h => ?_
    refine gr_aload_n (pc := 24) (i := 0) C rfl (gl_at hl 1 rfl) dJ3_addLast_24 ?_
    refine gr_geti (pc := 25) C gh_bJ3 (k := 1) (Nat.le_of_ble_eq_true rfl) q229 (fun _ h => h) dJ3_addLast_25 h fun v5 h => ?_
    refine gr_aload_n (pc := 28) (i := 0) C rfl (gl_at hl 1 rfl) dJ3_addLast_28 ?_
    refine gr_aload_n (pc := 29) (i := 0) C rfl (gl_at hl 1 rfl) dJ3_addLast_29 ?_
    refine gr_geti (pc := 30) C gh_bJ3 (k := 2) (Nat.le_of_ble_eq_true rfl) q230 (fun _ h => h) dJ3_addLast_30 h fun v6 h => ?_
    refine gr_aload_n (pc := 33) (i := 2) C rfl (gl_at hl 0 rfl) dJ3_addLast_33 ?_
    refine gr_alen (pc := 34) C dJ3_addLast_34 h fun v7 h => ?_
    refine gh_callI (pc := 35) (rest := [va_rf (some t0), .int v5]) C (k_J3_inc C.tr v6 v7) (Nat.le_of_ble_eq_true rfl) (Nat.le_of_ble_eq_true rfl) (gh_r4 (Nat.le_of_ble_eq_true rfl)) (fun H9 L9 hp9 => gi_S C q1423 q1424 q81 q1425 mh_J3 np1 rfl hl.1.1 dJ3_addLast_35 rfl) h (gh_K0_b _ hk) (fun v8 g h => ?_) (fun e g h => ?_)
    rotate_left
    ·
      exact gh_out C (fun _ h => nomatch h) h hk
    refine gr_dup_x1 (pc := 38) C rfl (gh_cat _) dJ3_addLast_38 ?_
    refine gr_putp (pc := 39) C gh_bJ3 (k := 2) (Nat.le_of_ble_eq_true rfl) q230 (fun _ h => h) rfl dJ3_addLast_39 h fun g h => ?_
    refine gr_icmp_ne (pc := 42) (tgt := 50) C rfl dJ3_addLast_42 (fun c9 => ?_) (fun c9 => ?_)
    · replace h := gh_iff h c9
      exact gr_vret (pc := 50) C dJ3_addLast_50 h hk
    · replace h := gh_ift h c9
      exact gh_stk_inv h
  · subst c9
    replace h := gh_on_n h
    exact gh_stk_inv h

theorem k_J3_addLast {l : Launch} (hst : l.stackTraces = false) (t0 : Nat) (p1 : Option Nat) : gh_Ct l yJ3_addLast 1 35 (f_J3_addLast t0 p1) gh_rV [va_rf (some t0), va_rf p1] := gh_intro2 (L1 := 21) hst (by decide +kernel) q1431 q81 rfl ⟨gh_cat _, gh_cat _, trivial⟩ (Nat.le_of_ble_eq_true rfl) fun x o ls hl C h hk => w_J3_addLast C t0 p1 hl h hk
-- ArrayDeque.pollFirst()Ljava/lang/Object;
noncomputable def f_J3_pollFirst (t0 : Nat) : gh_M (Option Nat) :=
  gh_bd (gh_getr t0 12 0) fun v1 =>
  gh_bd (gh_geti t0 12 1) fun v2 =>
  gh_bd (f_J3_elementAt v1 v2) fun v3 =>
  gh_on v3
  (gh_ret none)
  (fun b4 => gh_nn v1 fun a5 =>
  gh_bd (gh_aast a5 v2 none) fun _ =>
  gh_bd (gh_alen a5) fun v6 =>
  gh_bd (f_J3_inc v2 v6) fun v7 =>
  gh_bd (gh_putv t0 12 1 .int (.int v7)) fun _ =>
  gh_ret (some b4))
theorem w_J3_pollFirst {x : gh_C} {g : gh_G} {o : ((Option Nat) ⊕ gh_X) × gh_G} {ls : Array Slot} (C : gh_K x cJ3_pollFirst "java/util/ArrayDeque" 4 (some (.object "java/lang/Object")) "pollFirst" 1 21 []) (t0 : Nat) (hl : gh_lv ls 4 [(0, va_rf (some t0))]) (h : gh_run (f_J3_pollFirst t0) g = some o) (hk : (gh_K0 x gh_rQ) o) : gh_Wd x g (F0 (gh_cm x) 0 ls []) := by
  unfold f_J3_pollFirst at h
  refine gr_aload_n (pc := 0) (i := 0) C rfl (gl_at hl 0 rfl) dJ3_pollFirst_0 ?_
  refine gr_getr (pc := 1) C gh_bJ3 (k := 0) (Nat.le_of_ble_eq_true rfl) q228 (fun _ h => h) dJ3_pollFirst_1 h fun v1 h => ?_
  refine gr_dup (pc := 4) C (gh_cat _) dJ3_pollFirst_4 ?_
  refine gr_astore_n (pc := 5) (i := 1) (l' := [(1, va_rf v1), (0, va_rf (some t0))]) C rfl hl (Nat.le_of_ble_eq_true rfl) rfl dJ3_pollFirst_5 fun ls hl => ?_
  refine gr_aload_n (pc := 6) (i := 0) C rfl (gl_at hl 1 rfl) dJ3_pollFirst_6 ?_
  refine gr_geti (pc := 7) C gh_bJ3 (k := 1) (Nat.le_of_ble_eq_true rfl) q229 (fun _ h => h) dJ3_pollFirst_7 h fun v2 h => ?_
  refine gr_dup (pc := 10) C rfl dJ3_pollFirst_10 ?_
  refine gr_istore_n (pc := 11) (i := 2) (l' := [(2, .int v2), (1, va_rf v1), (0, va_rf (some t0))]) C rfl hl (Nat.le_of_ble_eq_true rfl) rfl dJ3_pollFirst_11 fun ls hl => ?_
  refine gh_callQ (pc := 12) (rest := []) C (k_J3_elementAt C.tr v1 v2) (Nat.le_of_ble_eq_true rfl) (Nat.le_of_ble_eq_true rfl) (gh_r4 (Nat.le_of_ble_eq_true rfl)) (fun H9 L9 hp9 => gi_S C q1420 q1421 q81 q1422 mh_J3 np14 rfl hl.1.1 dJ3_pollFirst_12 rfl) h (gh_K0_b _ hk) (fun v3 g h => ?_) (fun e g h => ?_)
  rotate_left
  ·
    exact gh_out C (fun _ h => nomatch h) h hk
  refine gr_astore_n (pc := 15) (i := 3) (l' := [(3, va_rf v3), (2, .int v2), (1, va_rf v1), (0, va_rf (some t0))]) C rfl hl (Nat.le_of_ble_eq_true rfl) rfl dJ3_pollFirst_15 fun ls hl => ?_
  refine gr_aload_n (pc := 16) (i := 3) C rfl (gl_at hl 0 rfl) dJ3_pollFirst_16 ?_
  refine gr_ifnull (pc := 17) (tgt := 34) C rfl dJ3_pollFirst_17 (fun c9 => ?_) (fun b4 c9 => ?_)
  · subst c9
    replace h := gh_on_n h
    refine gr_aload_n (pc := 34) (i := 3) C rfl (gl_at hl 0 rfl) dJ3_pollFirst_34 ?_
    exact gr_aret (pc := 35) C (Or.inl ⟨_, rfl⟩) dJ3_pollFirst_35 h hk
  · subst c9
    replace h := gh_on_s h
    refine gr_aload_n (pc := 20) (i := 1) C rfl (gl_at hl 2 rfl) dJ3_pollFirst_20 ?_
    refine gr_iload_n (pc := 21) (i := 2) C rfl (gl_at hl 1 rfl) dJ3_pollFirst_21 ?_
    refine gr_null (pc := 22) C dJ3_pollFirst_22 ?_
    rcases v1 with _ | a5
    · exact gh_stk_inv h
    replace h := gh_nn_ss h
    refine gr_aast (pc := 23) C dJ3_pollFirst_23 h fun g h => ?_
    refine gr_aload_n (pc := 24) (i := 0) C rfl (gl_at hl 3 rfl) dJ3_pollFirst_24 ?_
    refine gr_iload_n (pc := 25) (i := 2) C rfl (gl_at hl 1 rfl) dJ3_pollFirst_25 ?_
    refine gr_aload_n (pc := 26) (i := 1) C rfl (gl_at hl 2 rfl) dJ3_pollFirst_26 ?_
    refine gr_alen (pc := 27) C dJ3_pollFirst_27 h fun v6 h => ?_
    refine gh_callI (pc := 28) (rest := [va_rf (some t0)]) C (k_J3_inc C.tr v2 v6) (Nat.le_of_ble_eq_true rfl) (Nat.le_of_ble_eq_true rfl) (gh_r4 (Nat.le_of_ble_eq_true rfl)) (fun H9 L9 hp9 => gi_S C q1423 q1424 q81 q1425 mh_J3 np1 rfl hl.1.1 dJ3_pollFirst_28 rfl) h (gh_K0_b _ hk) (fun v7 g h => ?_) (fun e g h => ?_)
    rotate_left
    ·
      exact gh_out C (fun _ h => nomatch h) h hk
    refine gr_putp (pc := 31) C gh_bJ3 (k := 1) (Nat.le_of_ble_eq_true rfl) q229 (fun _ h => h) rfl dJ3_pollFirst_31 h fun g h => ?_
    refine gr_aload_n (pc := 34) (i := 3) C rfl (gl_at hl 0 rfl) dJ3_pollFirst_34 ?_
    exact gr_aret (pc := 35) C (Or.inl ⟨_, rfl⟩) dJ3_pollFirst_35 h hk

theorem k_J3_pollFirst {l : Launch} (hst : l.stackTraces = false) (t0 : Nat) : gh_Ct l yJ3_pollFirst 1 36 (f_J3_pollFirst t0) gh_rQ [va_rf (some t0)] := gh_intro2 (L1 := 21) hst (by decide +kernel) q1419 q81 rfl ⟨gh_cat _, trivial⟩ (Nat.le_of_ble_eq_true rfl) fun x o ls hl C h hk => w_J3_pollFirst C t0 hl h hk
-- ArrayDeque.pollLast()Ljava/lang/Object;
noncomputable def f_J3_pollLast (t0 : Nat) : gh_M (Option Nat) :=
  gh_bd (gh_getr t0 12 0) fun v1 =>
  gh_bd (gh_geti t0 12 2) fun v2 =>
  gh_nn v1 fun a3 =>
  gh_bd (gh_alen a3) fun v4 =>
  gh_bd (f_J3_dec v2 v4) fun v5 =>
  gh_bd (f_J3_elementAt (some a3) v5) fun v6 =>
  gh_on v6
  (gh_ret none)
  (fun b7 => gh_bd (gh_putv t0 12 2 .int (.int v5)) fun _ =>
  gh_bd (gh_aast a3 v5 none) fun _ =>
  gh_ret (some b7))
theorem w_J3_pollLast {x : gh_C} {g : gh_G} {o : ((Option Nat) ⊕ gh_X) × gh_G} {ls : Array Slot} (C : gh_K x cJ3_pollLast "java/util/ArrayDeque" 4 (some (.object "java/lang/Object")) "pollLast" 1 21 []) (t0 : Nat) (hl : gh_lv ls 4 [(0, va_rf (some t0))]) (h : gh_run (f_J3_pollLast t0) g = some o) (hk : (gh_K0 x gh_rQ) o) : gh_Wd x g (F0 (gh_cm x) 0 ls []) := by
  unfold f_J3_pollLast at h
  refine gr_aload_n (pc := 0) (i := 0) C rfl (gl_at hl 0 rfl) dJ3_pollLast_0 ?_
  refine gr_getr (pc := 1) C gh_bJ3 (k := 0) (Nat.le_of_ble_eq_true rfl) q228 (fun _ h => h) dJ3_pollLast_1 h fun v1 h => ?_
  refine gr_dup (pc := 4) C (gh_cat _) dJ3_pollLast_4 ?_
  refine gr_astore_n (pc := 5) (i := 1) (l' := [(1, va_rf v1), (0, va_rf (some t0))]) C rfl hl (Nat.le_of_ble_eq_true rfl) rfl dJ3_pollLast_5 fun ls hl => ?_
  refine gr_aload_n (pc := 6) (i := 0) C rfl (gl_at hl 1 rfl) dJ3_pollLast_6 ?_
  refine gr_geti (pc := 7) C gh_bJ3 (k := 2) (Nat.le_of_ble_eq_true rfl) q230 (fun _ h => h) dJ3_pollLast_7 h fun v2 h => ?_
  refine gr_aload_n (pc := 10) (i := 1) C rfl (gl_at hl 0 rfl) dJ3_pollLast_10 ?_
  rcases v1 with _ | a3
  · exact gh_stk_inv h
  replace h := gh_nn_ss h
  refine gr_alen (pc := 11) C dJ3_pollLast_11 h fun v4 h => ?_
  refine gh_callI (pc := 12) (rest := [va_rf (some a3)]) C (k_J3_dec C.tr v2 v4) (Nat.le_of_ble_eq_true rfl) (Nat.le_of_ble_eq_true rfl) (gh_r4 (Nat.le_of_ble_eq_true rfl)) (fun H9 L9 hp9 => gi_S C q2280 q2281 q81 q2282 mh_J3 np1 rfl hl.1.1 dJ3_pollLast_12 rfl) h (gh_K0_b _ hk) (fun v5 g h => ?_) (fun e g h => ?_)
  rotate_left
  ·
    exact gh_out C (fun _ h => nomatch h) h hk
  refine gr_dup (pc := 15) C rfl dJ3_pollLast_15 ?_
  refine gr_istore_n (pc := 16) (i := 2) (l' := [(2, .int v5), (1, va_rf (some a3)), (0, va_rf (some t0))]) C rfl hl (Nat.le_of_ble_eq_true rfl) rfl dJ3_pollLast_16 fun ls hl => ?_
  refine gh_callQ (pc := 17) (rest := []) C (k_J3_elementAt C.tr (some a3) v5) (Nat.le_of_ble_eq_true rfl) (Nat.le_of_ble_eq_true rfl) (gh_r4 (Nat.le_of_ble_eq_true rfl)) (fun H9 L9 hp9 => gi_S C q1420 q1421 q81 q1422 mh_J3 np14 rfl hl.1.1 dJ3_pollLast_17 rfl) h (gh_K0_b _ hk) (fun v6 g h => ?_) (fun e g h => ?_)
  rotate_left
  ·
    exact gh_out C (fun _ h => nomatch h) h hk
  refine gr_astore_n (pc := 20) (i := 3) (l' := [(3, va_rf v6), (2, .int v5), (1, va_rf (some a3)), (0, va_rf (some t0))]) C rfl hl (Nat.le_of_ble_eq_true rfl) rfl dJ3_pollLast_20 fun ls hl => ?_
  refine gr_aload_n (pc := 21) (i := 3) C rfl (gl_at hl 0 rfl) dJ3_pollLast_21 ?_
  refine gr_ifnull (pc := 22) (tgt := 34) C rfl dJ3_pollLast_22 (fun c9 => ?_) (fun b7 c9 => ?_)
  · subst c9
    replace h := gh_on_n h
    refine gr_aload_n (pc := 34) (i := 3) C rfl (gl_at hl 0 rfl) dJ3_pollLast_34 ?_
    exact gr_aret (pc := 35) C (Or.inl ⟨_, rfl⟩) dJ3_pollLast_35 h hk
  · subst c9
    replace h := gh_on_s h
    refine gr_aload_n (pc := 25) (i := 1) C rfl (gl_at hl 2 rfl) dJ3_pollLast_25 ?_
    refine gr_aload_n (pc := 26) (i := 0) C rfl (gl_at hl 3 rfl) dJ3_pollLast_26 ?_
    refine gr_iload_n (pc := 27) (i := 2) C rfl (gl_at hl 1 rfl) dJ3_pollLast_27 ?_
    refine gr_dup_x1 (pc := 28) C rfl (gh_cat _) dJ3_pollLast_28 ?_
    refine gr_putp (pc := 29) C gh_bJ3 (k := 2) (Nat.le_of_ble_eq_true rfl) q230 (fun _ h => h) rfl dJ3_pollLast_29 h fun g h => ?_
    refine gr_null (pc := 32) C dJ3_pollLast_32 ?_
    refine gr_aast (pc := 33) C dJ3_pollLast_33 h fun g h => ?_
    refine gr_aload_n (pc := 34) (i := 3) C rfl (gl_at hl 0 rfl) dJ3_pollLast_34 ?_
    exact gr_aret (pc := 35) C (Or.inl ⟨_, rfl⟩) dJ3_pollLast_35 h hk

theorem k_J3_pollLast {l : Launch} (hst : l.stackTraces = false) (t0 : Nat) : gh_Ct l yJ3_pollLast 1 36 (f_J3_pollLast t0) gh_rQ [va_rf (some t0)] := gh_intro2 (L1 := 21) hst (by decide +kernel) q2279 q81 rfl ⟨gh_cat _, trivial⟩ (Nat.le_of_ble_eq_true rfl) fun x o ls hl C h hk => w_J3_pollLast C t0 hl h hk
-- ArrayDeque.clear()V
noncomputable def f_J3_clear (t0 : Nat) : gh_M Unit :=
  gh_bd (gh_getr t0 12 0) fun v1 =>
  gh_bd (gh_geti t0 12 1) fun v2 =>
  gh_bd (gh_geti t0 12 2) fun v3 =>
  gh_bd (f_J3_circularClear v1 v2 v3) fun _ =>
  gh_bd (gh_putv t0 12 2 .int (.int (0 : Int32))) fun _ =>
  gh_bd (gh_putv t0 12 1 .int (.int (0 : Int32))) fun _ =>
  gh_ret ()
theorem w_J3_clear {x : gh_C} {g : gh_G} {o : (Unit ⊕ gh_X) × gh_G} {ls : Array Slot} (C : gh_K x cJ3_clear "java/util/ArrayDeque" 1 none "clear" 1 23 []) (t0 : Nat) (hl : gh_lv ls 1 [(0, va_rf (some t0))]) (h : gh_run (f_J3_clear t0) g = some o) (hk : (gh_K0 x gh_rV) o) : gh_Wd x g (F0 (gh_cm x) 0 ls []) := by
  unfold f_J3_clear at h
  refine gr_aload_n (pc := 0) (i := 0) C rfl (gl_at hl 0 rfl) dJ3_clear_0 ?_
  refine gr_getr (pc := 1) C gh_bJ3 (k := 0) (Nat.le_of_ble_eq_true rfl) q228 (fun _ h => h) dJ3_clear_1 h fun v1 h => ?_
  refine gr_aload_n (pc := 4) (i := 0) C rfl (gl_at hl 0 rfl) dJ3_clear_4 ?_
  refine gr_geti (pc := 5) C gh_bJ3 (k := 1) (Nat.le_of_ble_eq_true rfl) q229 (fun _ h => h) dJ3_clear_5 h fun v2 h => ?_
  refine gr_aload_n (pc := 8) (i := 0) C rfl (gl_at hl 0 rfl) dJ3_clear_8 ?_
  refine gr_geti (pc := 9) C gh_bJ3 (k := 2) (Nat.le_of_ble_eq_true rfl) q230 (fun _ h => h) dJ3_clear_9 h fun v3 h => ?_
  refine gh_callV (pc := 12) (rest := []) C (k_J3_circularClear C.tr v1 v2 v3) (Nat.le_of_ble_eq_true rfl) (Nat.le_of_ble_eq_true rfl) (gh_r4 (Nat.le_of_ble_eq_true rfl)) (fun H9 L9 hp9 => gi_S C q2294 q2295 q81 q2296 mh_J3 np15 rfl hl.1.1 dJ3_clear_12 rfl) h (gh_K0_b _ hk) (fun g h => ?_) (fun e g h => ?_)
  rotate_left
  ·
    exact gh_out C (fun _ h => nomatch h) h hk
  refine gr_aload_n (pc := 15) (i := 0) C rfl (gl_at hl 0 rfl) dJ3_clear_15 ?_
  refine gr_aload_n (pc := 16) (i := 0) C rfl (gl_at hl 0 rfl) dJ3_clear_16 ?_
  refine gr_iconst (pc := 17) (v := (0 : Int32)) C rfl dJ3_clear_17 ?_
  refine gr_dup_x1 (pc := 18) C rfl (gh_cat _) dJ3_clear_18 ?_
  refine gr_putp (pc := 19) C gh_bJ3 (k := 2) (Nat.le_of_ble_eq_true rfl) q230 (fun _ h => h) rfl dJ3_clear_19 h fun g h => ?_
  refine gr_putp (pc := 22) C gh_bJ3 (k := 1) (Nat.le_of_ble_eq_true rfl) q229 (fun _ h => h) rfl dJ3_clear_22 h fun g h => ?_
  exact gr_vret (pc := 25) C dJ3_clear_25 h hk

theorem k_J3_clear {l : Launch} (hst : l.stackTraces = false) (t0 : Nat) : gh_Ct l yJ3_clear 1 35 (f_J3_clear t0) gh_rV [va_rf (some t0)] := gh_intro2 (L1 := 23) hst (by decide +kernel) q2293 q81 rfl ⟨gh_cat _, trivial⟩ (Nat.le_of_ble_eq_true rfl) fun x o ls hl C h hk => w_J3_clear C t0 hl h hk
-- ArrayDeque.size()I
noncomputable def f_J3_size (t0 : Nat) : gh_M Int32 :=
  gh_bd (gh_geti t0 12 2) fun v1 =>
  gh_bd (gh_geti t0 12 1) fun v2 =>
  gh_bd (gh_getr t0 12 0) fun v3 =>
  gh_nn v3 fun a4 =>
  gh_bd (gh_alen a4) fun v5 =>
  gh_bd (f_J3_sub v1 v2 v5) fun v6 =>
  gh_ret v6
theorem w_J3_size {x : gh_C} {g : gh_G} {o : (Int32 ⊕ gh_X) × gh_G} {ls : Array Slot} (C : gh_K x cJ3_size "java/util/ArrayDeque" 1 (some .int) "size" 1 22 []) (t0 : Nat) (hl : gh_lv ls 1 [(0, va_rf (some t0))]) (h : gh_run (f_J3_size t0) g = some o) (hk : (gh_K0 x gh_rI) o) : gh_Wd x g (F0 (gh_cm x) 0 ls []) := by
  unfold f_J3_size at h
  refine gr_aload_n (pc := 0) (i := 0) C rfl (gl_at hl 0 rfl) dJ3_size_0 ?_
  refine gr_geti (pc := 1) C gh_bJ3 (k := 2) (Nat.le_of_ble_eq_true rfl) q230 (fun _ h => h) dJ3_size_1 h fun v1 h => ?_
  refine gr_aload_n (pc := 4) (i := 0) C rfl (gl_at hl 0 rfl) dJ3_size_4 ?_
  refine gr_geti (pc := 5) C gh_bJ3 (k := 1) (Nat.le_of_ble_eq_true rfl) q229 (fun _ h => h) dJ3_size_5 h fun v2 h => ?_
  refine gr_aload_n (pc := 8) (i := 0) C rfl (gl_at hl 0 rfl) dJ3_size_8 ?_
  refine gr_getr (pc := 9) C gh_bJ3 (k := 0) (Nat.le_of_ble_eq_true rfl) q228 (fun _ h => h) dJ3_size_9 h fun v3 h => ?_
  rcases v3 with _ | a4
  · exact gh_stk_inv h
  replace h := gh_nn_ss h
  refine gr_alen (pc := 12) C dJ3_size_12 h fun v5 h => ?_
  refine gh_callI (pc := 13) (rest := []) C (k_J3_sub C.tr v1 v2 v5) (Nat.le_of_ble_eq_true rfl) (Nat.le_of_ble_eq_true rfl) (gh_r4 (Nat.le_of_ble_eq_true rfl)) (fun H9 L9 hp9 => gi_S C q1409 q1410 q81 q1411 mh_J3 np11 rfl hl.1.1 dJ3_size_13 rfl) h (gh_K0_b _ hk) (fun v6 g h => ?_) (fun e g h => ?_)
  rotate_left
  ·
    exact gh_out C (fun _ h => nomatch h) h hk
  exact gr_iret (pc := 16) C dJ3_size_16 h hk

theorem k_J3_size {l : Launch} (hst : l.stackTraces = false) (t0 : Nat) : gh_Ct l yJ3_size 1 34 (f_J3_size t0) gh_rI [va_rf (some t0)] := gh_intro2 (L1 := 22) hst (by decide +kernel) q1408 q81 rfl ⟨gh_cat _, trivial⟩ (Nat.le_of_ble_eq_true rfl) fun x o ls hl C h hk => w_J3_size C t0 hl h hk
-- LinkedList.checkElementIndex(I)V
noncomputable def f_J26_checkElementIndex (t0 : Nat) (p1 : Int32) : gh_M Unit :=
  gh_bd (gh_is t0 21) fun _ =>
  gh_bd (f_J26_isElementIndex t0 p1) fun v1 =>
  if v1 = 0 then
  (gh_stk)
  else
  (gh_ret ())
theorem w_J26_checkElementIndex {x : gh_C} {g : gh_G} {o : (Unit ⊕ gh_X) × gh_G} {ls : Array Slot} (C : gh_K x cJ26_checkElementIndex "java/util/LinkedList" 2 none "checkElementIndex" 1 21 []) (t0 : Nat) (p1 : Int32) (hl : gh_lv ls 2 [(0, va_rf (some t0)), (1, .int p1)]) (h : gh_run (f_J26_checkElementIndex t0 p1) g = some o) (hk : (gh_K0 x gh_rV) o) : gh_Wd x g (F0 (gh_cm x) 0 ls []) := by
  unfold f_J26_checkElementIndex at h
  refine gr_aload_n (pc := 0) (i := 0) C rfl (gl_at hl 0 rfl) dJ26_checkElementIndex_0 ?_
  refine gr_iload_n (pc := 1) (i := 1) C rfl (gl_at hl 1 rfl) dJ26_checkElementIndex_1 ?_
  obtain ⟨⟨fs9, hg9⟩, h⟩ := gh_is_inv h
  refine gh_callI (pc := 2) (rest := []) C (k_J26_isElementIndex C.tr t0 p1) (Nat.le_of_ble_eq_true rfl) (Nat.le_of_ble_eq_true rfl) (gh_r4 (Nat.le_of_ble_eq_true rfl)) (fun H9 L9 hp9 => gi_V C hp9 hg9 gh_cJ26 q405 q407 qs2 q408 mh_J26 np2 rfl hl.1.1 dJ26_checkElementIndex_2 rfl) h (gh_K0_b _ hk) (fun v1 g h => ?_) (fun e g h => ?_)
  rotate_left
  ·
    exact gh_out C (fun _ h => nomatch h) h hk
  refine gr_if_ne (pc := 5) (tgt := 21) C rfl dJ26_checkElementIndex_5 (fun c9 => ?_) (fun c9 => ?_)
  · replace h := gh_iff h c9
    exact gr_vret (pc := 21) C dJ26_checkElementIndex_21 h hk
  · replace h := gh_ift h c9
    exact gh_stk_inv h

theorem k_J26_checkElementIndex {l : Launch} (hst : l.stackTraces = false) (t0 : Nat) (p1 : Int32) : gh_Ct l yJ26_checkElementIndex 1 34 (f_J26_checkElementIndex t0 p1) gh_rV [va_rf (some t0), .int p1] := gh_intro2 (L1 := 21) hst (by decide +kernel) q404 q114 rfl ⟨gh_cat _, rfl, trivial⟩ (Nat.le_of_ble_eq_true rfl) fun x o ls hl C h hk => w_J26_checkElementIndex C t0 p1 hl h hk
-- LinkedList.checkPositionIndex(I)V
noncomputable def f_J26_checkPositionIndex (t0 : Nat) (p1 : Int32) : gh_M Unit :=
  gh_bd (gh_is t0 21) fun _ =>
  gh_bd (f_J26_isPositionIndex t0 p1) fun v1 =>
  if v1 = 0 then
  (gh_stk)
  else
  (gh_ret ())
theorem w_J26_checkPositionIndex {x : gh_C} {g : gh_G} {o : (Unit ⊕ gh_X) × gh_G} {ls : Array Slot} (C : gh_K x cJ26_checkPositionIndex "java/util/LinkedList" 2 none "checkPositionIndex" 1 21 []) (t0 : Nat) (p1 : Int32) (hl : gh_lv ls 2 [(0, va_rf (some t0)), (1, .int p1)]) (h : gh_run (f_J26_checkPositionIndex t0 p1) g = some o) (hk : (gh_K0 x gh_rV) o) : gh_Wd x g (F0 (gh_cm x) 0 ls []) := by
  unfold f_J26_checkPositionIndex at h
  refine gr_aload_n (pc := 0) (i := 0) C rfl (gl_at hl 0 rfl) dJ26_checkPositionIndex_0 ?_
  refine gr_iload_n (pc := 1) (i := 1) C rfl (gl_at hl 1 rfl) dJ26_checkPositionIndex_1 ?_
  obtain ⟨⟨fs9, hg9⟩, h⟩ := gh_is_inv h
  refine gh_callI (pc := 2) (rest := []) C (k_J26_isPositionIndex C.tr t0 p1) (Nat.le_of_ble_eq_true rfl) (Nat.le_of_ble_eq_true rfl) (gh_r4 (Nat.le_of_ble_eq_true rfl)) (fun H9 L9 hp9 => gi_V C hp9 hg9 gh_cJ26 q1561 q1563 qs20 q1564 mh_J26 np2 rfl hl.1.1 dJ26_checkPositionIndex_2 rfl) h (gh_K0_b _ hk) (fun v1 g h => ?_) (fun e g h => ?_)
  rotate_left
  ·
    exact gh_out C (fun _ h => nomatch h) h hk
  refine gr_if_ne (pc := 5) (tgt := 21) C rfl dJ26_checkPositionIndex_5 (fun c9 => ?_) (fun c9 => ?_)
  · replace h := gh_iff h c9
    exact gr_vret (pc := 21) C dJ26_checkPositionIndex_21 h hk
  · replace h := gh_ift h c9
    exact gh_stk_inv h

theorem k_J26_checkPositionIndex {l : Launch} (hst : l.stackTraces = false) (t0 : Nat) (p1 : Int32) : gh_Ct l yJ26_checkPositionIndex 1 34 (f_J26_checkPositionIndex t0 p1) gh_rV [va_rf (some t0), .int p1] := gh_intro2 (L1 := 21) hst (by decide +kernel) q1560 q114 rfl ⟨gh_cat _, rfl, trivial⟩ (Nat.le_of_ble_eq_true rfl) fun x o ls hl C h hk => w_J26_checkPositionIndex C t0 p1 hl h hk
-- LinkedList.linkLast(Ljava/lang/Object;)V
noncomputable def f_J26_linkLast_38 (t0 : Nat) : gh_M Unit :=
  gh_bd (gh_geti t0 21 1) fun v1 =>
  gh_bd (gh_putv t0 21 1 .int (.int (v1 + (1 : Int32)))) fun _ =>
  gh_bd (gh_geti t0 21 0) fun v2 =>
  gh_bd (gh_putv t0 21 0 .int (.int (v2 + (1 : Int32)))) fun _ =>
  gh_ret ()
theorem w_J26_linkLast_38 {x : gh_C} {g : gh_G} {o : (Unit ⊕ gh_X) × gh_G} {ls : Array Slot} (C : gh_K x cJ26_linkLast "java/util/LinkedList" 4 none "linkLast" 2 43 []) (t0 : Nat) (hl : gh_lv ls 4 [(0, va_rf (some t0))]) (h : gh_run (f_J26_linkLast_38 t0) g = some o) (hk : (gh_K0 x gh_rV) o) : gh_Wd x g (F0 (gh_cm x) 38 ls []) := by
  unfold f_J26_linkLast_38 at h
  refine gr_aload_n (pc := 38) (i := 0) C rfl (gl_at hl 0 rfl) dJ26_linkLast_38 ?_
  refine gr_dup (pc := 39) C (gh_cat _) dJ26_linkLast_39 ?_
  refine gr_geti (pc := 40) C gh_bJ26 (k := 1) (Nat.le_of_ble_eq_true rfl) q1536 (fun _ h => h) dJ26_linkLast_40 h fun v1 h => ?_
  refine gr_iconst (pc := 43) (v := (1 : Int32)) C rfl dJ26_linkLast_43 ?_
  refine gr_iadd (pc := 44) C dJ26_linkLast_44 ?_
  refine gr_putp (pc := 45) C gh_bJ26 (k := 1) (Nat.le_of_ble_eq_true rfl) q1536 (fun _ h => h) rfl dJ26_linkLast_45 h fun g h => ?_
  refine gr_aload_n (pc := 48) (i := 0) C rfl (gl_at hl 0 rfl) dJ26_linkLast_48 ?_
  refine gr_dup (pc := 49) C (gh_cat _) dJ26_linkLast_49 ?_
  refine gr_geti (pc := 50) C gh_bJ26 (k := 0) (Nat.le_of_ble_eq_true rfl) q162 (gh_smf C q158) dJ26_linkLast_50 h fun v2 h => ?_
  refine gr_iconst (pc := 53) (v := (1 : Int32)) C rfl dJ26_linkLast_53 ?_
  refine gr_iadd (pc := 54) C dJ26_linkLast_54 ?_
  refine gr_putp (pc := 55) C gh_bJ26 (k := 0) (Nat.le_of_ble_eq_true rfl) q162 (gh_smf C q158) rfl dJ26_linkLast_55 h fun g h => ?_
  exact gr_vret (pc := 58) C dJ26_linkLast_58 h hk

noncomputable def f_J26_linkLast (t0 : Nat) (p1 : Option Nat) : gh_M Unit :=
  gh_bd (gh_getr t0 21 3) fun v1 =>
  gh_bd (gh_new 22 3 gh_nJ27) fun a2 =>
  gh_bd (f_J27_init a2 v1 p1 none) fun _ =>
  gh_bd (gh_putv t0 21 3 (.object "java/util/LinkedList$Node") (va_rf (some a2))) fun _ =>
  gh_on v1
  (gh_bd (gh_putv t0 21 2 (.object "java/util/LinkedList$Node") (va_rf (some a2))) fun _ =>
  f_J26_linkLast_38 t0)
  (fun b4 => gh_bd (gh_putv b4 22 1 (.object "java/util/LinkedList$Node") (va_rf (some a2))) fun _ =>
  f_J26_linkLast_38 t0)
theorem w_J26_linkLast {x : gh_C} {g : gh_G} {o : (Unit ⊕ gh_X) × gh_G} {ls : Array Slot} (C : gh_K x cJ26_linkLast "java/util/LinkedList" 4 none "linkLast" 2 43 []) (t0 : Nat) (p1 : Option Nat) (hl : gh_lv ls 4 [(0, va_rf (some t0)), (1, va_rf p1)]) (h : gh_run (f_J26_linkLast t0 p1) g = some o) (hk : (gh_K0 x gh_rV) o) : gh_Wd x g (F0 (gh_cm x) 0 ls []) := by
  unfold f_J26_linkLast at h
  refine gr_aload_n (pc := 0) (i := 0) C rfl (gl_at hl 0 rfl) dJ26_linkLast_0 ?_
  refine gr_getr (pc := 1) C gh_bJ26 (k := 3) (Nat.le_of_ble_eq_true rfl) q1539 (fun _ h => h) dJ26_linkLast_1 h fun v1 h => ?_
  refine gr_astore_n (pc := 4) (i := 2) (l' := [(2, va_rf v1), (0, va_rf (some t0)), (1, va_rf p1)]) C rfl hl (Nat.le_of_ble_eq_true rfl) rfl dJ26_linkLast_4 fun ls hl => ?_
  refine gr_newo (pc := 5) C gh_bJ27 q1569 q1570 q115 gh_dJ27 dJ26_linkLast_5 h (gh_K0_b _ hk) fun a2 g h => ?_
  refine gr_dup (pc := 8) C (gh_cat _) dJ26_linkLast_8 ?_
  refine gr_aload_n (pc := 9) (i := 2) C rfl (gl_at hl 0 rfl) dJ26_linkLast_9 ?_
  refine gr_aload_n (pc := 10) (i := 1) C rfl (gl_at hl 2 rfl) dJ26_linkLast_10 ?_
  refine gr_null (pc := 11) C dJ26_linkLast_11 ?_
  refine gh_callV (pc := 12) (rest := [va_rf (some a2)]) C (k_J27_init C.tr a2 v1 p1 none) (Nat.le_of_ble_eq_true rfl) (Nat.le_of_ble_eq_true rfl) (gh_r4 (Nat.le_of_ble_eq_true rfl)) (fun H9 L9 hp9 => gi_I C q1571 rfl q1572 q1573 mh_J27 np16 rfl hl.1.1 dJ26_linkLast_12 rfl) h (gh_K0_b _ hk) (fun g h => ?_) (fun e g h => ?_)
  rotate_left
  ·
    exact gh_out C (fun _ h => nomatch h) h hk
  refine gr_astore_n (pc := 15) (i := 3) (l' := [(3, va_rf (some a2)), (2, va_rf v1), (0, va_rf (some t0)), (1, va_rf p1)]) C rfl hl (Nat.le_of_ble_eq_true rfl) rfl dJ26_linkLast_15 fun ls hl => ?_
  refine gr_aload_n (pc := 16) (i := 0) C rfl (gl_at hl 2 rfl) dJ26_linkLast_16 ?_
  refine gr_aload_n (pc := 17) (i := 3) C rfl (gl_at hl 0 rfl) dJ26_linkLast_17 ?_
  refine gr_putp (pc := 18) C gh_bJ26 (k := 3) (Nat.le_of_ble_eq_true rfl) q1539 (fun _ h => h) rfl dJ26_linkLast_18 h fun g h => ?_
  refine gr_aload_n (pc := 21) (i := 2) C rfl (gl_at hl 1 rfl) dJ26_linkLast_21 ?_
  refine gr_ifnonnull (pc := 22) (tgt := 33) C rfl dJ26_linkLast_22 (fun b4 c9 => ?_) (fun c9 => ?_)
  · subst c9
    replace h := gh_on_s h
    refine gr_aload_n (pc := 33) (i := 2) C rfl (gl_at hl 1 rfl) dJ26_linkLast_33 ?_
    refine gr_aload_n (pc := 34) (i := 3) C rfl (gl_at hl 0 rfl) dJ26_linkLast_34 ?_
    refine gr_putp (pc := 35) C gh_bJ27 (k := 1) (Nat.le_of_ble_eq_true rfl) q1580 (fun _ h => h) rfl dJ26_linkLast_35 h fun g h => ?_
    exact w_J26_linkLast_38 C t0 (gl_sub hl [2] rfl) h hk
  · subst c9
    replace h := gh_on_n h
    refine gr_aload_n (pc := 25) (i := 0) C rfl (gl_at hl 2 rfl) dJ26_linkLast_25 ?_
    refine gr_aload_n (pc := 26) (i := 3) C rfl (gl_at hl 0 rfl) dJ26_linkLast_26 ?_
    refine gr_putp (pc := 27) C gh_bJ26 (k := 2) (Nat.le_of_ble_eq_true rfl) q1538 (fun _ h => h) rfl dJ26_linkLast_27 h fun g h => ?_
    refine gr_goto (pc := 30) (tgt := 38) C rfl dJ26_linkLast_30 ?_
    exact w_J26_linkLast_38 C t0 (gl_sub hl [2] rfl) h hk

theorem k_J26_linkLast {l : Launch} (hst : l.stackTraces = false) (t0 : Nat) (p1 : Option Nat) : gh_Ct l yJ26_linkLast 2 58 (f_J26_linkLast t0 p1) gh_rV [va_rf (some t0), va_rf p1] := gh_intro2 (L1 := 43) hst (by decide +kernel) q1568 q114 rfl ⟨gh_cat _, gh_cat _, trivial⟩ (Nat.le_of_ble_eq_true rfl) fun x o ls hl C h hk => w_J26_linkLast C t0 p1 hl h hk
-- LinkedList.linkBefore(Ljava/lang/Object;Ljava/util/LinkedList$Node;)V
noncomputable def f_J26_linkBefore_42 (t0 : Nat) : gh_M Unit :=
  gh_bd (gh_geti t0 21 1) fun v1 =>
  gh_bd (gh_putv t0 21 1 .int (.int (v1 + (1 : Int32)))) fun _ =>
  gh_bd (gh_geti t0 21 0) fun v2 =>
  gh_bd (gh_putv t0 21 0 .int (.int (v2 + (1 : Int32)))) fun _ =>
  gh_ret ()
theorem w_J26_linkBefore_42 {x : gh_C} {g : gh_G} {o : (Unit ⊕ gh_X) × gh_G} {ls : Array Slot} (C : gh_K x cJ26_linkBefore "java/util/LinkedList" 5 none "linkBefore" 2 43 []) (t0 : Nat) (hl : gh_lv ls 5 [(0, va_rf (some t0))]) (h : gh_run (f_J26_linkBefore_42 t0) g = some o) (hk : (gh_K0 x gh_rV) o) : gh_Wd x g (F0 (gh_cm x) 42 ls []) := by
  unfold f_J26_linkBefore_42 at h
  refine gr_aload_n (pc := 42) (i := 0) C rfl (gl_at hl 0 rfl) dJ26_linkBefore_42 ?_
  refine gr_dup (pc := 43) C (gh_cat _) dJ26_linkBefore_43 ?_
  refine gr_geti (pc := 44) C gh_bJ26 (k := 1) (Nat.le_of_ble_eq_true rfl) q1536 (fun _ h => h) dJ26_linkBefore_44 h fun v1 h => ?_
  refine gr_iconst (pc := 47) (v := (1 : Int32)) C rfl dJ26_linkBefore_47 ?_
  refine gr_iadd (pc := 48) C dJ26_linkBefore_48 ?_
  refine gr_putp (pc := 49) C gh_bJ26 (k := 1) (Nat.le_of_ble_eq_true rfl) q1536 (fun _ h => h) rfl dJ26_linkBefore_49 h fun g h => ?_
  refine gr_aload_n (pc := 52) (i := 0) C rfl (gl_at hl 0 rfl) dJ26_linkBefore_52 ?_
  refine gr_dup (pc := 53) C (gh_cat _) dJ26_linkBefore_53 ?_
  refine gr_geti (pc := 54) C gh_bJ26 (k := 0) (Nat.le_of_ble_eq_true rfl) q162 (gh_smf C q158) dJ26_linkBefore_54 h fun v2 h => ?_
  refine gr_iconst (pc := 57) (v := (1 : Int32)) C rfl dJ26_linkBefore_57 ?_
  refine gr_iadd (pc := 58) C dJ26_linkBefore_58 ?_
  refine gr_putp (pc := 59) C gh_bJ26 (k := 0) (Nat.le_of_ble_eq_true rfl) q162 (gh_smf C q158) rfl dJ26_linkBefore_59 h fun g h => ?_
  exact gr_vret (pc := 62) C dJ26_linkBefore_62 h hk

noncomputable def f_J26_linkBefore (t0 : Nat) (p1 : Option Nat) (p2 : Option Nat) : gh_M Unit :=
  gh_nn p2 fun a1 =>
  gh_bd (gh_getr a1 22 2) fun v2 =>
  gh_bd (gh_new 22 3 gh_nJ27) fun a3 =>
  gh_bd (f_J27_init a3 v2 p1 (some a1)) fun _ =>
  gh_bd (gh_putv a1 22 2 (.object "java/util/LinkedList$Node") (va_rf (some a3))) fun _ =>
  gh_on v2
  (gh_bd (gh_putv t0 21 2 (.object "java/util/LinkedList$Node") (va_rf (some a3))) fun _ =>
  f_J26_linkBefore_42 t0)
  (fun b5 => gh_bd (gh_putv b5 22 1 (.object "java/util/LinkedList$Node") (va_rf (some a3))) fun _ =>
  f_J26_linkBefore_42 t0)
theorem w_J26_linkBefore {x : gh_C} {g : gh_G} {o : (Unit ⊕ gh_X) × gh_G} {ls : Array Slot} (C : gh_K x cJ26_linkBefore "java/util/LinkedList" 5 none "linkBefore" 2 43 []) (t0 : Nat) (p1 : Option Nat) (p2 : Option Nat) (hl : gh_lv ls 5 [(0, va_rf (some t0)), (1, va_rf p1), (2, va_rf p2)]) (h : gh_run (f_J26_linkBefore t0 p1 p2) g = some o) (hk : (gh_K0 x gh_rV) o) : gh_Wd x g (F0 (gh_cm x) 0 ls []) := by
  unfold f_J26_linkBefore at h
  refine gr_aload_n (pc := 0) (i := 2) C rfl (gl_at hl 2 rfl) dJ26_linkBefore_0 ?_
  rcases p2 with _ | a1
  · exact gh_stk_inv h
  replace h := gh_nn_ss h
  refine gr_getr (pc := 1) C gh_bJ27 (k := 2) (Nat.le_of_ble_eq_true rfl) q1582 (fun _ h => h) dJ26_linkBefore_1 h fun v2 h => ?_
  refine gr_astore_n (pc := 4) (i := 3) (l' := [(3, va_rf v2), (0, va_rf (some t0)), (1, va_rf p1), (2, va_rf (some a1))]) C rfl hl (Nat.le_of_ble_eq_true rfl) rfl dJ26_linkBefore_4 fun ls hl => ?_
  refine gr_newo (pc := 5) C gh_bJ27 q1569 q1570 q115 gh_dJ27 dJ26_linkBefore_5 h (gh_K0_b _ hk) fun a3 g h => ?_
  refine gr_dup (pc := 8) C (gh_cat _) dJ26_linkBefore_8 ?_
  refine gr_aload_n (pc := 9) (i := 3) C rfl (gl_at hl 0 rfl) dJ26_linkBefore_9 ?_
  refine gr_aload_n (pc := 10) (i := 1) C rfl (gl_at hl 2 rfl) dJ26_linkBefore_10 ?_
  refine gr_aload_n (pc := 11) (i := 2) C rfl (gl_at hl 3 rfl) dJ26_linkBefore_11 ?_
  refine gh_callV (pc := 12) (rest := [va_rf (some a3)]) C (k_J27_init C.tr a3 v2 p1 (some a1)) (Nat.le_of_ble_eq_true rfl) (Nat.le_of_ble_eq_true rfl) (gh_r4 (Nat.le_of_ble_eq_true rfl)) (fun H9 L9 hp9 => gi_I C q1571 rfl q1572 q1573 mh_J27 np16 rfl hl.1.1 dJ26_linkBefore_12 rfl) h (gh_K0_b _ hk) (fun g h => ?_) (fun e g h => ?_)
  rotate_left
  ·
    exact gh_out C (fun _ h => nomatch h) h hk
  refine gr_astore (pc := 15) (i := 4) (l' := [(4, va_rf (some a3)), (3, va_rf v2), (0, va_rf (some t0)), (1, va_rf p1), (2, va_rf (some a1))]) C hl (Nat.le_of_ble_eq_true rfl) rfl dJ26_linkBefore_15 fun ls hl => ?_
  refine gr_aload_n (pc := 17) (i := 2) C rfl (gl_at hl 4 rfl) dJ26_linkBefore_17 ?_
  refine gr_aload (pc := 18) (i := 4) C (gl_at hl 0 rfl) dJ26_linkBefore_18 ?_
  refine gr_putp (pc := 20) C gh_bJ27 (k := 2) (Nat.le_of_ble_eq_true rfl) q1582 (fun _ h => h) rfl dJ26_linkBefore_20 h fun g h => ?_
  refine gr_aload_n (pc := 23) (i := 3) C rfl (gl_at hl 1 rfl) dJ26_linkBefore_23 ?_
  refine gr_ifnonnull (pc := 24) (tgt := 36) C rfl dJ26_linkBefore_24 (fun b5 c9 => ?_) (fun c9 => ?_)
  · subst c9
    replace h := gh_on_s h
    refine gr_aload_n (pc := 36) (i := 3) C rfl (gl_at hl 1 rfl) dJ26_linkBefore_36 ?_
    refine gr_aload (pc := 37) (i := 4) C (gl_at hl 0 rfl) dJ26_linkBefore_37 ?_
    refine gr_putp (pc := 39) C gh_bJ27 (k := 1) (Nat.le_of_ble_eq_true rfl) q1580 (fun _ h => h) rfl dJ26_linkBefore_39 h fun g h => ?_
    exact w_J26_linkBefore_42 C t0 (gl_sub hl [2] rfl) h hk
  · subst c9
    replace h := gh_on_n h
    refine gr_aload_n (pc := 27) (i := 0) C rfl (gl_at hl 2 rfl) dJ26_linkBefore_27 ?_
    refine gr_aload (pc := 28) (i := 4) C (gl_at hl 0 rfl) dJ26_linkBefore_28 ?_
    refine gr_putp (pc := 30) C gh_bJ26 (k := 2) (Nat.le_of_ble_eq_true rfl) q1538 (fun _ h => h) rfl dJ26_linkBefore_30 h fun g h => ?_
    refine gr_goto (pc := 33) (tgt := 42) C rfl dJ26_linkBefore_33 ?_
    exact w_J26_linkBefore_42 C t0 (gl_sub hl [2] rfl) h hk

theorem k_J26_linkBefore {l : Launch} (hst : l.stackTraces = false) (t0 : Nat) (p1 : Option Nat) (p2 : Option Nat) : gh_Ct l yJ26_linkBefore 2 59 (f_J26_linkBefore t0 p1 p2) gh_rV [va_rf (some t0), va_rf p1, va_rf p2] := gh_intro2 (L1 := 43) hst (by decide +kernel) q1593 q114 rfl ⟨gh_cat _, gh_cat _, gh_cat _, trivial⟩ (Nat.le_of_ble_eq_true rfl) fun x o ls hl C h hk => w_J26_linkBefore C t0 p1 p2 hl h hk
-- LinkedList.addLast(Ljava/lang/Object;)V
noncomputable def f_J26_addLast (t0 : Nat) (p1 : Option Nat) : gh_M Unit :=
  gh_bd (gh_is t0 21) fun _ =>
  gh_bd (f_J26_linkLast t0 p1) fun _ =>
  gh_ret ()
theorem w_J26_addLast {x : gh_C} {g : gh_G} {o : (Unit ⊕ gh_X) × gh_G} {ls : Array Slot} (C : gh_K x cJ26_addLast "java/util/LinkedList" 2 none "addLast" 3 66 []) (t0 : Nat) (p1 : Option Nat) (hl : gh_lv ls 2 [(0, va_rf (some t0)), (1, va_rf p1)]) (h : gh_run (f_J26_addLast t0 p1) g = some o) (hk : (gh_K0 x gh_rV) o) : gh_Wd x g (F0 (gh_cm x) 0 ls []) := by
  unfold f_J26_addLast at h
  refine gr_aload_n (pc := 0) (i := 0) C rfl (gl_at hl 0 rfl) dJ26_addLast_0 ?_
  refine gr_aload_n (pc := 1) (i := 1) C rfl (gl_at hl 1 rfl) dJ26_addLast_1 ?_
  obtain ⟨⟨fs9, hg9⟩, h⟩ := gh_is_inv h
  refine gh_callV (pc := 2) (rest := []) C (k_J26_linkLast C.tr t0 p1) (Nat.le_of_ble_eq_true rfl) (Nat.le_of_ble_eq_true rfl) (gh_r4 (Nat.le_of_ble_eq_true rfl)) (fun H9 L9 hp9 => gi_V C hp9 hg9 gh_cJ26 q1565 q1566 q1567 q1568 mh_J26 np17 rfl hl.1.1 dJ26_addLast_2 rfl) h (gh_K0_b _ hk) (fun g h => ?_) (fun e g h => ?_)
  rotate_left
  ·
    exact gh_out C (fun _ h => nomatch h) h hk
  exact gr_vret (pc := 5) C dJ26_addLast_5 h hk

theorem k_J26_addLast {l : Launch} (hst : l.stackTraces = false) (t0 : Nat) (p1 : Option Nat) : gh_Ct l yJ26_addLast 3 79 (f_J26_addLast t0 p1) gh_rV [va_rf (some t0), va_rf p1] := gh_intro2 (L1 := 66) hst (by decide +kernel) q2170 q114 rfl ⟨gh_cat _, gh_cat _, trivial⟩ (Nat.le_of_ble_eq_true rfl) fun x o ls hl C h hk => w_J26_addLast C t0 p1 hl h hk
-- LinkedList.listIterator(I)Ljava/util/ListIterator;
noncomputable def f_J26_listIterator (t0 : Nat) (p1 : Int32) : gh_M (Option Nat) :=
  gh_bd (gh_is t0 21) fun _ =>
  gh_bd (f_J26_checkPositionIndex t0 p1) fun _ =>
  gh_bd (gh_new 24 5 gh_nJ32) fun a2 =>
  gh_bd (f_J32_init a2 (some t0) p1) fun _ =>
  gh_ret (some a2)
theorem w_J26_listIterator {x : gh_C} {g : gh_G} {o : ((Option Nat) ⊕ gh_X) × gh_G} {ls : Array Slot} (C : gh_K x cJ26_listIterator "java/util/LinkedList" 2 (some (.object "java/util/ListIterator")) "listIterator" 2 45 []) (t0 : Nat) (p1 : Int32) (hl : gh_lv ls 2 [(0, va_rf (some t0)), (1, .int p1)]) (h : gh_run (f_J26_listIterator t0 p1) g = some o) (hk : (gh_K0 x gh_rQ) o) : gh_Wd x g (F0 (gh_cm x) 0 ls []) := by
  unfold f_J26_listIterator at h
  refine gr_aload_n (pc := 0) (i := 0) C rfl (gl_at hl 0 rfl) dJ26_listIterator_0 ?_
  refine gr_iload_n (pc := 1) (i := 1) C rfl (gl_at hl 1 rfl) dJ26_listIterator_1 ?_
  obtain ⟨⟨fs9, hg9⟩, h⟩ := gh_is_inv h
  refine gh_callV (pc := 2) (rest := []) C (k_J26_checkPositionIndex C.tr t0 p1) (Nat.le_of_ble_eq_true rfl) (Nat.le_of_ble_eq_true rfl) (gh_r4 (Nat.le_of_ble_eq_true rfl)) (fun H9 L9 hp9 => gi_V C hp9 hg9 gh_cJ26 q1557 q1559 qs19 q1560 mh_J26 np4 rfl hl.1.1 dJ26_listIterator_2 rfl) h (gh_K0_b _ hk) (fun g h => ?_) (fun e g h => ?_)
  rotate_left
  ·
    exact gh_out C (fun _ h => nomatch h) h hk
  refine gr_newo (pc := 5) C gh_bJ32 q2227 q2228 q123 gh_dJ32 dJ26_listIterator_5 h (gh_K0_b _ hk) fun a2 g h => ?_
  refine gr_dup (pc := 8) C (gh_cat _) dJ26_listIterator_8 ?_
  refine gr_aload_n (pc := 9) (i := 0) C rfl (gl_at hl 0 rfl) dJ26_listIterator_9 ?_
  refine gr_iload_n (pc := 10) (i := 1) C rfl (gl_at hl 1 rfl) dJ26_listIterator_10 ?_
  refine gh_callV (pc := 11) (rest := [va_rf (some a2)]) C (k_J32_init C.tr a2 (some t0) p1) (Nat.le_of_ble_eq_true rfl) (Nat.le_of_ble_eq_true rfl) (gh_r4 (Nat.le_of_ble_eq_true rfl)) (fun H9 L9 hp9 => gi_I C q2229 rfl q2230 q2231 mh_J32 np18 rfl hl.1.1 dJ26_listIterator_11 rfl) h (gh_K0_b _ hk) (fun g h => ?_) (fun e g h => ?_)
  rotate_left
  ·
    exact gh_out C (fun _ h => nomatch h) h hk
  exact gr_aret (pc := 14) C (Or.inl ⟨_, rfl⟩) dJ26_listIterator_14 h hk

theorem k_J26_listIterator {l : Launch} (hst : l.stackTraces = false) (t0 : Nat) (p1 : Int32) : gh_Ct l yJ26_listIterator 2 58 (f_J26_listIterator t0 p1) gh_rQ [va_rf (some t0), .int p1] := gh_intro2 (L1 := 45) hst (by decide +kernel) q2226 q114 rfl ⟨gh_cat _, rfl, trivial⟩ (Nat.le_of_ble_eq_true rfl) fun x o ls hl C h hk => w_J26_listIterator C t0 p1 hl h hk
-- LinkedList$ListItr.next()Ljava/lang/Object;
noncomputable def f_J32_next (t0 : Nat) : gh_M (Option Nat) :=
  gh_bd (gh_is t0 24) fun _ =>
  gh_bd (f_J32_checkForComodification t0) fun _ =>
  gh_bd (gh_is t0 24) fun _ =>
  gh_bd (f_J32_hasNext t0) fun v2 =>
  if v2 = 0 then
  (gh_stk)
  else
  (gh_bd (gh_getr t0 24 1) fun v3 =>
  gh_bd (gh_putv t0 24 0 (.object "java/util/LinkedList$Node") (va_rf v3)) fun _ =>
  gh_bd (gh_getr t0 24 1) fun v4 =>
  gh_nn v4 fun a5 =>
  gh_bd (gh_getr a5 22 1) fun v6 =>
  gh_bd (gh_putv t0 24 1 (.object "java/util/LinkedList$Node") (va_rf v6)) fun _ =>
  gh_bd (gh_geti t0 24 2) fun v7 =>
  gh_bd (gh_putv t0 24 2 .int (.int (v7 + (1 : Int32)))) fun _ =>
  gh_bd (gh_getr t0 24 0) fun v8 =>
  gh_nn v8 fun a9 =>
  gh_bd (gh_getr a9 22 0) fun v10 =>
  gh_ret v10)
theorem w_J32_next {x : gh_C} {g : gh_G} {o : ((Option Nat) ⊕ gh_X) × gh_G} {ls : Array Slot} (C : gh_K x cJ32_next "java/util/LinkedList$ListItr" 1 (some (.object "java/lang/Object")) "next" 1 20 []) (t0 : Nat) (hl : gh_lv ls 1 [(0, va_rf (some t0))]) (h : gh_run (f_J32_next t0) g = some o) (hk : (gh_K0 x gh_rQ) o) : gh_Wd x g (F0 (gh_cm x) 0 ls []) := by
  unfold f_J32_next at h
  refine gr_aload_n (pc := 0) (i := 0) C rfl (gl_at hl 0 rfl) dJ32_next_0 ?_
  obtain ⟨⟨fs9, hg9⟩, h⟩ := gh_is_inv h
  refine gh_callV (pc := 1) (rest := []) C (k_J32_checkForComodification C.tr t0) (Nat.le_of_ble_eq_true rfl) (Nat.le_of_ble_eq_true rfl) (gh_r4 (Nat.le_of_ble_eq_true rfl)) (fun H9 L9 hp9 => gi_V C hp9 hg9 gh_cJ32 q855 q856 q857 q858 mh_J32 np8 rfl hl.1.1 dJ32_next_1 rfl) h (gh_K0_b _ hk) (fun g h => ?_) (fun e g h => ?_)
  rotate_left
  ·
    exact gh_out C (fun _ h => nomatch h) h hk
  refine gr_aload_n (pc := 4) (i := 0) C rfl (gl_at hl 0 rfl) dJ32_next_4 ?_
  obtain ⟨⟨fs9, hg9⟩, h⟩ := gh_is_inv h
  refine gh_callI (pc := 5) (rest := []) C (k_J32_hasNext C.tr t0) (Nat.le_of_ble_eq_true rfl) (Nat.le_of_ble_eq_true rfl) (gh_r4 (Nat.le_of_ble_eq_true rfl)) (fun H9 L9 hp9 => gi_V C hp9 hg9 gh_cJ32 q859 q364 q2724 q366 mh_J32 np7 rfl hl.1.1 dJ32_next_5 rfl) h (gh_K0_b _ hk) (fun v2 g h => ?_) (fun e g h => ?_)
  rotate_left
  ·
    exact gh_out C (fun _ h => nomatch h) h hk
  refine gr_if_ne (pc := 8) (tgt := 19) C rfl dJ32_next_8 (fun c9 => ?_) (fun c9 => ?_)
  · replace h := gh_iff h c9
    refine gr_aload_n (pc := 19) (i := 0) C rfl (gl_at hl 0 rfl) dJ32_next_19 ?_
    refine gr_aload_n (pc := 20) (i := 0) C rfl (gl_at hl 0 rfl) dJ32_next_20 ?_
    refine gr_getr (pc := 21) C gh_bJ32 (k := 1) (Nat.le_of_ble_eq_true rfl) q2235 (fun _ h => h) dJ32_next_21 h fun v3 h => ?_
    refine gr_putp (pc := 24) C gh_bJ32 (k := 0) (Nat.le_of_ble_eq_true rfl) q2234 (fun _ h => h) rfl dJ32_next_24 h fun g h => ?_
    refine gr_aload_n (pc := 27) (i := 0) C rfl (gl_at hl 0 rfl) dJ32_next_27 ?_
    refine gr_aload_n (pc := 28) (i := 0) C rfl (gl_at hl 0 rfl) dJ32_next_28 ?_
    refine gr_getr (pc := 29) C gh_bJ32 (k := 1) (Nat.le_of_ble_eq_true rfl) q2235 (fun _ h => h) dJ32_next_29 h fun v4 h => ?_
    rcases v4 with _ | a5
    · exact gh_stk_inv h
    replace h := gh_nn_ss h
    refine gr_getr (pc := 32) C gh_bJ27 (k := 1) (Nat.le_of_ble_eq_true rfl) q1579 (fun _ h => h) dJ32_next_32 h fun v6 h => ?_
    refine gr_putp (pc := 35) C gh_bJ32 (k := 1) (Nat.le_of_ble_eq_true rfl) q2235 (fun _ h => h) rfl dJ32_next_35 h fun g h => ?_
    refine gr_aload_n (pc := 38) (i := 0) C rfl (gl_at hl 0 rfl) dJ32_next_38 ?_
    refine gr_dup (pc := 39) C (gh_cat _) dJ32_next_39 ?_
    refine gr_geti (pc := 40) C gh_bJ32 (k := 2) (Nat.le_of_ble_eq_true rfl) q2236 (fun _ h => h) dJ32_next_40 h fun v7 h => ?_
    refine gr_iconst (pc := 43) (v := (1 : Int32)) C rfl dJ32_next_43 ?_
    refine gr_iadd (pc := 44) C dJ32_next_44 ?_
    refine gr_putp (pc := 45) C gh_bJ32 (k := 2) (Nat.le_of_ble_eq_true rfl) q2236 (fun _ h => h) rfl dJ32_next_45 h fun g h => ?_
    refine gr_aload_n (pc := 48) (i := 0) C rfl (gl_at hl 0 rfl) dJ32_next_48 ?_
    refine gr_getr (pc := 49) C gh_bJ32 (k := 0) (Nat.le_of_ble_eq_true rfl) q2234 (fun _ h => h) dJ32_next_49 h fun v8 h => ?_
    rcases v8 with _ | a9
    · exact gh_stk_inv h
    replace h := gh_nn_ss h
    refine gr_getr (pc := 52) C gh_bJ27 (k := 0) (Nat.le_of_ble_eq_true rfl) q1576 (fun _ h => h) dJ32_next_52 h fun v10 h => ?_
    exact gr_aret (pc := 55) C (Or.inl ⟨_, rfl⟩) dJ32_next_55 h hk
  · replace h := gh_ift h c9
    exact gh_stk_inv h

theorem k_J32_next {l : Launch} (hst : l.stackTraces = false) (t0 : Nat) : gh_Ct l yJ32_next 1 32 (f_J32_next t0) gh_rQ [va_rf (some t0)] := gh_intro2 (L1 := 20) hst (by decide +kernel) q854 q123 rfl ⟨gh_cat _, trivial⟩ (Nat.le_of_ble_eq_true rfl) fun x o ls hl C h hk => w_J32_next C t0 hl h hk
-- AbstractList.listIterator()Ljava/util/ListIterator; of java/util/LinkedList
noncomputable def f_J1_listIterator_J26 (t0 : Nat) : gh_M (Option Nat) :=
  gh_bd (gh_is t0 21) fun _ =>
  gh_bd (f_J26_listIterator t0 (0 : Int32)) fun v1 =>
  gh_ret v1
theorem w_J1_listIterator_J26 {x : gh_C} {g : gh_G} {o : ((Option Nat) ⊕ gh_X) × gh_G} {ls : Array Slot} (C : gh_K x cJ1_listIterator "java/util/AbstractList" 1 (some (.object "java/util/ListIterator")) "listIterator" 3 66 []) (t0 : Nat) (hl : gh_lv ls 1 [(0, va_rf (some t0))]) (h : gh_run (f_J1_listIterator_J26 t0) g = some o) (hk : (gh_K0 x gh_rQ) o) : gh_Wd x g (F0 (gh_cm x) 0 ls []) := by
  unfold f_J1_listIterator_J26 at h
  refine gr_aload_n (pc := 0) (i := 0) C rfl (gl_at hl 0 rfl) dJ1_listIterator_0 ?_
  refine gr_iconst (pc := 1) (v := (0 : Int32)) C rfl dJ1_listIterator_1 ?_
  obtain ⟨⟨fs9, hg9⟩, h⟩ := gh_is_inv h
  refine gh_callQ (pc := 2) (rest := []) C (k_J26_listIterator C.tr t0 (0 : Int32)) (Nat.le_of_ble_eq_true rfl) (Nat.le_of_ble_eq_true rfl) (gh_r4 (Nat.le_of_ble_eq_true rfl)) (fun H9 L9 hp9 => gi_U C hp9 hg9 gh_cJ26 q2187 q2189 (gh_decl (C.tw q2250 rfl)) mh_J1 q2225 q2224 q2226 np19 rfl hl.1.1 dJ1_listIterator_2 rfl) h (gh_K0_b _ hk) (fun v1 g h => ?_) (fun e g h => ?_)
  rotate_left
  ·
    exact gh_out C (fun _ h => nomatch h) h hk
  exact gr_aret (pc := 5) C (Or.inl ⟨_, rfl⟩) dJ1_listIterator_5 h hk

theorem k_J1_listIterator_J26 {l : Launch} (hst : l.stackTraces = false) (t0 : Nat) : gh_Ct l yJ1_listIterator 3 78 (f_J1_listIterator_J26 t0) gh_rQ [va_rf (some t0)] := gh_intro2 (L1 := 66) hst (by decide +kernel) q2186 q78 rfl ⟨gh_cat _, trivial⟩ (Nat.le_of_ble_eq_true rfl) fun x o ls hl C h hk => w_J1_listIterator_J26 C t0 hl h hk
-- AbstractSequentialList.iterator()Ljava/util/Iterator; of java/util/LinkedList
noncomputable def f_J25_iterator_J26 (t0 : Nat) : gh_M (Option Nat) :=
  gh_bd (gh_is t0 21) fun _ =>
  gh_bd (f_J1_listIterator_J26 t0) fun v1 =>
  gh_ret v1
theorem w_J25_iterator_J26 {x : gh_C} {g : gh_G} {o : ((Option Nat) ⊕ gh_X) × gh_G} {ls : Array Slot} (C : gh_K x cJ25_iterator "java/util/AbstractSequentialList" 1 (some (.object "java/util/Iterator")) "iterator" 4 86 []) (t0 : Nat) (hl : gh_lv ls 1 [(0, va_rf (some t0))]) (h : gh_run (f_J25_iterator_J26 t0) g = some o) (hk : (gh_K0 x gh_rQ) o) : gh_Wd x g (F0 (gh_cm x) 0 ls []) := by
  unfold f_J25_iterator_J26 at h
  refine gr_aload_n (pc := 0) (i := 0) C rfl (gl_at hl 0 rfl) dJ25_iterator_0 ?_
  obtain ⟨⟨fs9, hg9⟩, h⟩ := gh_is_inv h
  refine gh_callQ (pc := 1) (rest := []) C (k_J1_listIterator_J26 C.tr t0) (Nat.le_of_ble_eq_true rfl) (Nat.le_of_ble_eq_true rfl) (gh_r4 (Nat.le_of_ble_eq_true rfl)) (fun H9 L9 hp9 => gi_U C hp9 hg9 gh_cJ26 q2181 q2182 (va_Decl.of (C.ts _ q2185) (C.ts _ q2186)) mh_J1 q2185 q2184 q2186 np20 rfl hl.1.1 dJ25_iterator_1 rfl) h (gh_K0_b _ hk) (fun v1 g h => ?_) (fun e g h => ?_)
  rotate_left
  ·
    exact gh_out C (fun _ h => nomatch h) h hk
  exact gr_aret (pc := 4) C (Or.inl ⟨_, rfl⟩) dJ25_iterator_4 h hk

theorem k_J25_iterator_J26 {l : Launch} (hst : l.stackTraces = false) (t0 : Nat) : gh_Ct l yJ25_iterator 4 98 (f_J25_iterator_J26 t0) gh_rQ [va_rf (some t0)] := gh_intro2 (L1 := 86) hst (by decide +kernel) q2180 q113 rfl ⟨gh_cat _, trivial⟩ (Nat.le_of_ble_eq_true rfl) fun x o ls hl C h hk => w_J25_iterator_J26 C t0 hl h hk
-- ArrayList.get(I)Ljava/lang/Object;
noncomputable def f_J2_get (t0 : Nat) (p1 : Int32) : gh_M (Option Nat) :=
  gh_bd (gh_geti t0 11 2) fun v1 =>
  gh_bd (f_J9_checkIndex p1 v1) fun v2 =>
  gh_bd (gh_is t0 11) fun _ =>
  gh_bd (f_J2_elementData t0 p1) fun v3 =>
  gh_ret v3
theorem w_J2_get {x : gh_C} {g : gh_G} {o : ((Option Nat) ⊕ gh_X) × gh_G} {ls : Array Slot} (C : gh_K x cJ2_get "java/util/ArrayList" 2 (some (.object "java/lang/Object")) "get" 2 43 []) (t0 : Nat) (p1 : Int32) (hl : gh_lv ls 2 [(0, va_rf (some t0)), (1, .int p1)]) (h : gh_run (f_J2_get t0 p1) g = some o) (hk : (gh_K0 x gh_rQ) o) : gh_Wd x g (F0 (gh_cm x) 0 ls []) := by
  unfold f_J2_get at h
  refine gr_iload_n (pc := 0) (i := 1) C rfl (gl_at hl 1 rfl) dJ2_get_0 ?_
  refine gr_aload_n (pc := 1) (i := 0) C rfl (gl_at hl 0 rfl) dJ2_get_1 ?_
  refine gr_geti (pc := 2) C gh_bJ2 (k := 2) (Nat.le_of_ble_eq_true rfl) q155 (fun _ h => h) dJ2_get_2 h fun v1 h => ?_
  refine gh_callI (pc := 5) (rest := []) C (k_J9_checkIndex C.tr p1 v1) (Nat.le_of_ble_eq_true rfl) (Nat.le_of_ble_eq_true rfl) (gh_r4 (Nat.le_of_ble_eq_true rfl)) (fun H9 L9 hp9 => gi_S C q387 q388 q89 q389 mh_J9 np1 rfl hl.1.1 dJ2_get_5 rfl) h (gh_K0_b _ hk) (fun v2 g h => ?_) (fun e g h => ?_)
  rotate_left
  ·
    exact gh_out C (fun _ h => nomatch h) h hk
  refine gr_pop (pc := 8) C rfl dJ2_get_8 ?_
  refine gr_aload_n (pc := 9) (i := 0) C rfl (gl_at hl 0 rfl) dJ2_get_9 ?_
  refine gr_iload_n (pc := 10) (i := 1) C rfl (gl_at hl 1 rfl) dJ2_get_10 ?_
  obtain ⟨⟨fs9, hg9⟩, h⟩ := gh_is_inv h
  refine gh_callQ (pc := 11) (rest := []) C (k_J2_elementData C.tr t0 p1) (Nat.le_of_ble_eq_true rfl) (Nat.le_of_ble_eq_true rfl) (gh_r4 (Nat.le_of_ble_eq_true rfl)) (fun H9 L9 hp9 => gi_V C hp9 hg9 gh_cJ2 q393 q394 q395 q396 mh_J2 np21 rfl hl.1.1 dJ2_get_11 rfl) h (gh_K0_b _ hk) (fun v3 g h => ?_) (fun e g h => ?_)
  rotate_left
  ·
    exact gh_out C (fun _ h => nomatch h) h hk
  exact gr_aret (pc := 14) C (Or.inl ⟨_, rfl⟩) dJ2_get_14 h hk

theorem k_J2_get {l : Launch} (hst : l.stackTraces = false) (t0 : Nat) (p1 : Int32) : gh_Ct l yJ2_get 2 56 (f_J2_get t0 p1) gh_rQ [va_rf (some t0), .int p1] := gh_intro2 (L1 := 43) hst (by decide +kernel) q386 q79 rfl ⟨gh_cat _, rfl, trivial⟩ (Nat.le_of_ble_eq_true rfl) fun x o ls hl C h hk => w_J2_get C t0 p1 hl h hk
-- ArrayList.grow(I)[Ljava/lang/Object;
noncomputable def f_J2_grow_2_20 (t0 : Nat) (p1 : Int32) (p2 : Int32) : gh_M (Option Nat) :=
  gh_bd (f_J15_newLength p2 (p1 - p2) (p2 >>> ((1 : Int32) &&& 31))) fun v1 =>
  gh_bd (gh_getr t0 11 1) fun v2 =>
  gh_bd (f_J17_copyOf_2 v2 v1) fun v3 =>
  gh_bd (gh_putv t0 11 1 (.array (.object "java/lang/Object")) (va_rf v3)) fun _ =>
  gh_ret v3
theorem w_J2_grow_2_20 {x : gh_C} {g : gh_G} {o : ((Option Nat) ⊕ gh_X) × gh_G} {ls : Array Slot} (C : gh_K x cJ2_grow_2 "java/util/ArrayList" 4 (some (.array (.object "java/lang/Object"))) "grow" 3 104 []) (t0 : Nat) (p1 : Int32) (p2 : Int32) (hl : gh_lv ls 4 [(0, va_rf (some t0)), (1, .int p1), (2, .int p2)]) (h : gh_run (f_J2_grow_2_20 t0 p1 p2) g = some o) (hk : (gh_K0 x gh_rQ) o) : gh_Wd x g (F0 (gh_cm x) 20 ls []) := by
  unfold f_J2_grow_2_20 at h
  refine gr_iload_n (pc := 20) (i := 2) C rfl (gl_at hl 2 rfl) dJ2_grow_2_20 ?_
  refine gr_iload_n (pc := 21) (i := 1) C rfl (gl_at hl 1 rfl) dJ2_grow_2_21 ?_
  refine gr_iload_n (pc := 22) (i := 2) C rfl (gl_at hl 2 rfl) dJ2_grow_2_22 ?_
  refine gr_isub (pc := 23) C dJ2_grow_2_23 ?_
  refine gr_iload_n (pc := 24) (i := 2) C rfl (gl_at hl 2 rfl) dJ2_grow_2_24 ?_
  refine gr_iconst (pc := 25) (v := (1 : Int32)) C rfl dJ2_grow_2_25 ?_
  refine gr_ishr (pc := 26) C dJ2_grow_2_26 ?_
  refine gh_callI (pc := 27) (rest := []) C (k_J15_newLength C.tr p2 (p1 - p2) (p2 >>> ((1 : Int32) &&& 31))) (Nat.le_of_ble_eq_true rfl) (Nat.le_of_ble_eq_true rfl) (gh_r4 (Nat.le_of_ble_eq_true rfl)) (fun H9 L9 hp9 => gi_S C q1030 q484 q95 q485 mh_J15 np11 rfl hl.1.1 dJ2_grow_2_27 rfl) h (gh_K0_b _ hk) (fun v1 g h => ?_) (fun e g h => ?_)
  rotate_left
  ·
    exact gh_out C (fun _ h => nomatch h) h hk
  refine gr_istore_n (pc := 30) (i := 3) (l' := [(3, .int v1), (0, va_rf (some t0)), (1, .int p1), (2, .int p2)]) C rfl hl (Nat.le_of_ble_eq_true rfl) rfl dJ2_grow_2_30 fun ls hl => ?_
  refine gr_aload_n (pc := 31) (i := 0) C rfl (gl_at hl 1 rfl) dJ2_grow_2_31 ?_
  refine gr_aload_n (pc := 32) (i := 0) C rfl (gl_at hl 1 rfl) dJ2_grow_2_32 ?_
  refine gr_getr (pc := 33) C gh_bJ2 (k := 1) (Nat.le_of_ble_eq_true rfl) q152 (fun _ h => h) dJ2_grow_2_33 h fun v2 h => ?_
  refine gr_iload_n (pc := 36) (i := 3) C rfl (gl_at hl 0 rfl) dJ2_grow_2_36 ?_
  refine gh_callQ (pc := 37) (rest := [va_rf (some t0)]) C (k_J17_copyOf_2 C.tr v2 v1) (Nat.le_of_ble_eq_true rfl) (Nat.le_of_ble_eq_true rfl) (gh_r4 (Nat.le_of_ble_eq_true rfl)) (fun H9 L9 hp9 => gi_S C q1031 q1032 q97 q1033 mh_J17 np22 rfl hl.1.1 dJ2_grow_2_37 rfl) h (gh_K0_b _ hk) (fun v3 g h => ?_) (fun e g h => ?_)
  rotate_left
  ·
    exact gh_out C (fun _ h => nomatch h) h hk
  refine gr_dup_x1 (pc := 40) C (gh_cat _) (gh_cat _) dJ2_grow_2_40 ?_
  refine gr_putp (pc := 41) C gh_bJ2 (k := 1) (Nat.le_of_ble_eq_true rfl) q152 (fun _ h => h) rfl dJ2_grow_2_41 h fun g h => ?_
  exact gr_aret (pc := 44) C (Or.inr ⟨_, rfl⟩) dJ2_grow_2_44 h hk

noncomputable def f_J2_grow_2 (t0 : Nat) (p1 : Int32) : gh_M (Option Nat) :=
  gh_bd (gh_getr t0 11 1) fun v1 =>
  gh_nn v1 fun a2 =>
  gh_bd (gh_alen a2) fun v3 =>
  if 0 < v3 then
  (f_J2_grow_2_20 t0 p1 v3)
  else
  (gh_bd (gh_getr t0 11 1) fun v4 =>
  gh_bd (gh_cst 14) fun v5 =>
  if v4 = v5 then
  (gh_bd (f_J16_max (10 : Int32) p1) fun v6 =>
  gh_bd (gh_newa 5 v6) fun a7 =>
  gh_bd (gh_putv t0 11 1 (.array (.object "java/lang/Object")) (va_rf (some a7))) fun _ =>
  gh_ret (some a7))
  else
  (f_J2_grow_2_20 t0 p1 v3))
theorem w_J2_grow_2 {x : gh_C} {g : gh_G} {o : ((Option Nat) ⊕ gh_X) × gh_G} {ls : Array Slot} (C : gh_K x cJ2_grow_2 "java/util/ArrayList" 4 (some (.array (.object "java/lang/Object"))) "grow" 3 104 []) (t0 : Nat) (p1 : Int32) (hl : gh_lv ls 4 [(0, va_rf (some t0)), (1, .int p1)]) (h : gh_run (f_J2_grow_2 t0 p1) g = some o) (hk : (gh_K0 x gh_rQ) o) : gh_Wd x g (F0 (gh_cm x) 0 ls []) := by
  unfold f_J2_grow_2 at h
  refine gr_aload_n (pc := 0) (i := 0) C rfl (gl_at hl 0 rfl) dJ2_grow_2_0 ?_
  refine gr_getr (pc := 1) C gh_bJ2 (k := 1) (Nat.le_of_ble_eq_true rfl) q152 (fun _ h => h) dJ2_grow_2_1 h fun v1 h => ?_
  rcases v1 with _ | a2
  · exact gh_stk_inv h
  replace h := gh_nn_ss h
  refine gr_alen (pc := 4) C dJ2_grow_2_4 h fun v3 h => ?_
  refine gr_istore_n (pc := 5) (i := 2) (l' := [(2, .int v3), (0, va_rf (some t0)), (1, .int p1)]) C rfl hl (Nat.le_of_ble_eq_true rfl) rfl dJ2_grow_2_5 fun ls hl => ?_
  refine gr_iload_n (pc := 6) (i := 2) C rfl (gl_at hl 0 rfl) dJ2_grow_2_6 ?_
  refine gr_if_gt (pc := 7) (tgt := 20) C rfl dJ2_grow_2_7 (fun c9 => ?_) (fun c9 => ?_)
  · replace h := gh_ift h c9
    exact w_J2_grow_2_20 C t0 p1 v3 (gl_sub hl [1, 2, 0] rfl) h hk
  · replace h := gh_iff h c9
    refine gr_aload_n (pc := 10) (i := 0) C rfl (gl_at hl 1 rfl) dJ2_grow_2_10 ?_
    refine gr_getr (pc := 11) C gh_bJ2 (k := 1) (Nat.le_of_ble_eq_true rfl) q152 (fun _ h => h) dJ2_grow_2_11 h fun v4 h => ?_
    refine gr_gets (pc := 14) C (Cn := "java/util/ArrayList") (n := "DEFAULTCAPACITY_EMPTY_ELEMENTDATA") (d := "[Ljava/lang/Object;") (j := 14) (by decide +kernel) q150 (fun _ h => h) dJ2_grow_2_14 h fun v5 h => ?_
    refine gr_acmp_eq (pc := 17) (tgt := 45) C rfl dJ2_grow_2_17 (fun c9 => ?_) (fun c9 => ?_)
    · replace h := gh_ift h c9
      refine gr_aload_n (pc := 45) (i := 0) C rfl (gl_at hl 1 rfl) dJ2_grow_2_45 ?_
      refine gr_bipush (pc := 46) (v := (10 : Int32)) C rfl dJ2_grow_2_46 ?_
      refine gr_iload_n (pc := 48) (i := 1) C rfl (gl_at hl 2 rfl) dJ2_grow_2_48 ?_
      refine gh_callI (pc := 49) (rest := [va_rf (some t0)]) C (k_J16_max C.tr (10 : Int32) p1) (Nat.le_of_ble_eq_true rfl) (Nat.le_of_ble_eq_true rfl) (gh_r4 (Nat.le_of_ble_eq_true rfl)) (fun H9 L9 hp9 => gi_S C q1040 q487 q96 q488 mh_J16 np1 rfl hl.1.1 dJ2_grow_2_49 rfl) h (gh_K0_b _ hk) (fun v6 g h => ?_) (fun e g h => ?_)
      rotate_left
      ·
        exact gh_out C (fun _ h => nomatch h) h hk
      refine gr_newq (pc := 52) C q1041 dJ2_grow_2_52 h (gh_K0_b _ hk) fun a7 g h => ?_
      refine gr_dup_x1 (pc := 55) C (gh_cat _) (gh_cat _) dJ2_grow_2_55 ?_
      refine gr_putp (pc := 56) C gh_bJ2 (k := 1) (Nat.le_of_ble_eq_true rfl) q152 (fun _ h => h) rfl dJ2_grow_2_56 h fun g h => ?_
      exact gr_aret (pc := 59) C (Or.inr ⟨_, rfl⟩) dJ2_grow_2_59 h hk
    · replace h := gh_iff h c9
      exact w_J2_grow_2_20 C t0 p1 v3 (gl_sub hl [1, 2, 0] rfl) h hk

theorem k_J2_grow_2 {l : Launch} (hst : l.stackTraces = false) (t0 : Nat) (p1 : Int32) : gh_Ct l yJ2_grow_2 3 119 (f_J2_grow_2 t0 p1) gh_rQ [va_rf (some t0), .int p1] := gh_intro2 (L1 := 104) hst (by decide +kernel) q1029 q79 rfl ⟨gh_cat _, rfl, trivial⟩ (Nat.le_of_ble_eq_true rfl) fun x o ls hl C h hk => w_J2_grow_2 C t0 p1 hl h hk
-- ArrayDeque.removeFirst()Ljava/lang/Object;
noncomputable def f_J3_removeFirst (t0 : Nat) : gh_M (Option Nat) :=
  gh_bd (gh_is t0 12) fun _ =>
  gh_bd (f_J3_pollFirst t0) fun v1 =>
  gh_on v1
  (gh_stk)
  (fun b2 => gh_ret (some b2))
theorem w_J3_removeFirst {x : gh_C} {g : gh_G} {o : ((Option Nat) ⊕ gh_X) × gh_G} {ls : Array Slot} (C : gh_K x cJ3_removeFirst "java/util/ArrayDeque" 2 (some (.object "java/lang/Object")) "removeFirst" 2 44 []) (t0 : Nat) (hl : gh_lv ls 2 [(0, va_rf (some t0))]) (h : gh_run (f_J3_removeFirst t0) g = some o) (hk : (gh_K0 x gh_rQ) o) : gh_Wd x g (F0 (gh_cm x) 0 ls []) := by
  unfold f_J3_removeFirst at h
  refine gr_aload_n (pc := 0) (i := 0) C rfl (gl_at hl 0 rfl) dJ3_removeFirst_0 ?_
  obtain ⟨⟨fs9, hg9⟩, h⟩ := gh_is_inv h
  refine gh_callQ (pc := 1) (rest := []) C (k_J3_pollFirst C.tr t0) (Nat.le_of_ble_eq_true rfl) (Nat.le_of_ble_eq_true rfl) (gh_r4 (Nat.le_of_ble_eq_true rfl)) (fun H9 L9 hp9 => gi_V C hp9 hg9 gh_cJ3 q1416 q1417 q1418 q1419 mh_J3 np23 rfl hl.1.1 dJ3_removeFirst_1 rfl) h (gh_K0_b _ hk) (fun v1 g h => ?_) (fun e g h => ?_)
  rotate_left
  ·
    exact gh_out C (fun _ h => nomatch h) h hk
  refine gr_astore_n (pc := 4) (i := 1) (l' := [(1, va_rf v1), (0, va_rf (some t0))]) C rfl hl (Nat.le_of_ble_eq_true rfl) rfl dJ3_removeFirst_4 fun ls hl => ?_
  refine gr_aload_n (pc := 5) (i := 1) C rfl (gl_at hl 0 rfl) dJ3_removeFirst_5 ?_
  refine gr_ifnonnull (pc := 6) (tgt := 17) C rfl dJ3_removeFirst_6 (fun b2 c9 => ?_) (fun c9 => ?_)
  · subst c9
    replace h := gh_on_s h
    refine gr_aload_n (pc := 17) (i := 1) C rfl (gl_at hl 0 rfl) dJ3_removeFirst_17 ?_
    exact gr_aret (pc := 18) C (Or.inl ⟨_, rfl⟩) dJ3_removeFirst_18 h hk
  · subst c9
    replace h := gh_on_n h
    exact gh_stk_inv h

theorem k_J3_removeFirst {l : Launch} (hst : l.stackTraces = false) (t0 : Nat) : gh_Ct l yJ3_removeFirst 2 57 (f_J3_removeFirst t0) gh_rQ [va_rf (some t0)] := gh_intro2 (L1 := 44) hst (by decide +kernel) q1415 q81 rfl ⟨gh_cat _, trivial⟩ (Nat.le_of_ble_eq_true rfl) fun x o ls hl C h hk => w_J3_removeFirst C t0 hl h hk
-- ArrayDeque.removeLast()Ljava/lang/Object;
noncomputable def f_J3_removeLast (t0 : Nat) : gh_M (Option Nat) :=
  gh_bd (gh_is t0 12) fun _ =>
  gh_bd (f_J3_pollLast t0) fun v1 =>
  gh_on v1
  (gh_stk)
  (fun b2 => gh_ret (some b2))
theorem w_J3_removeLast {x : gh_C} {g : gh_G} {o : ((Option Nat) ⊕ gh_X) × gh_G} {ls : Array Slot} (C : gh_K x cJ3_removeLast "java/util/ArrayDeque" 2 (some (.object "java/lang/Object")) "removeLast" 2 44 []) (t0 : Nat) (hl : gh_lv ls 2 [(0, va_rf (some t0))]) (h : gh_run (f_J3_removeLast t0) g = some o) (hk : (gh_K0 x gh_rQ) o) : gh_Wd x g (F0 (gh_cm x) 0 ls []) := by
  unfold f_J3_removeLast at h
  refine gr_aload_n (pc := 0) (i := 0) C rfl (gl_at hl 0 rfl) dJ3_removeLast_0 ?_
  obtain ⟨⟨fs9, hg9⟩, h⟩ := gh_is_inv h
  refine gh_callQ (pc := 1) (rest := []) C (k_J3_pollLast C.tr t0) (Nat.le_of_ble_eq_true rfl) (Nat.le_of_ble_eq_true rfl) (gh_r4 (Nat.le_of_ble_eq_true rfl)) (fun H9 L9 hp9 => gi_V C hp9 hg9 gh_cJ3 q2276 q2277 q2278 q2279 mh_J3 np23 rfl hl.1.1 dJ3_removeLast_1 rfl) h (gh_K0_b _ hk) (fun v1 g h => ?_) (fun e g h => ?_)
  rotate_left
  ·
    exact gh_out C (fun _ h => nomatch h) h hk
  refine gr_astore_n (pc := 4) (i := 1) (l' := [(1, va_rf v1), (0, va_rf (some t0))]) C rfl hl (Nat.le_of_ble_eq_true rfl) rfl dJ3_removeLast_4 fun ls hl => ?_
  refine gr_aload_n (pc := 5) (i := 1) C rfl (gl_at hl 0 rfl) dJ3_removeLast_5 ?_
  refine gr_ifnonnull (pc := 6) (tgt := 17) C rfl dJ3_removeLast_6 (fun b2 c9 => ?_) (fun c9 => ?_)
  · subst c9
    replace h := gh_on_s h
    refine gr_aload_n (pc := 17) (i := 1) C rfl (gl_at hl 0 rfl) dJ3_removeLast_17 ?_
    exact gr_aret (pc := 18) C (Or.inl ⟨_, rfl⟩) dJ3_removeLast_18 h hk
  · subst c9
    replace h := gh_on_n h
    exact gh_stk_inv h

theorem k_J3_removeLast {l : Launch} (hst : l.stackTraces = false) (t0 : Nat) : gh_Ct l yJ3_removeLast 2 57 (f_J3_removeLast t0) gh_rQ [va_rf (some t0)] := gh_intro2 (L1 := 44) hst (by decide +kernel) q2275 q81 rfl ⟨gh_cat _, trivial⟩ (Nat.le_of_ble_eq_true rfl) fun x o ls hl C h hk => w_J3_removeLast C t0 hl h hk
-- LinkedList.get(I)Ljava/lang/Object;
noncomputable def f_J26_get (t0 : Nat) (p1 : Int32) : gh_M (Option Nat) :=
  gh_bd (gh_is t0 21) fun _ =>
  gh_bd (f_J26_checkElementIndex t0 p1) fun _ =>
  gh_bd (gh_is t0 21) fun _ =>
  gh_bd (f_J26_node t0 p1) fun v2 =>
  gh_nn v2 fun a3 =>
  gh_bd (gh_getr a3 22 0) fun v4 =>
  gh_ret v4
theorem w_J26_get {x : gh_C} {g : gh_G} {o : ((Option Nat) ⊕ gh_X) × gh_G} {ls : Array Slot} (C : gh_K x cJ26_get "java/util/LinkedList" 2 (some (.object "java/lang/Object")) "get" 2 42 []) (t0 : Nat) (p1 : Int32) (hl : gh_lv ls 2 [(0, va_rf (some t0)), (1, .int p1)]) (h : gh_run (f_J26_get t0 p1) g = some o) (hk : (gh_K0 x gh_rQ) o) : gh_Wd x g (F0 (gh_cm x) 0 ls []) := by
  unfold f_J26_get at h
  refine gr_aload_n (pc := 0) (i := 0) C rfl (gl_at hl 0 rfl) dJ26_get_0 ?_
  refine gr_iload_n (pc := 1) (i := 1) C rfl (gl_at hl 1 rfl) dJ26_get_1 ?_
  obtain ⟨⟨fs9, hg9⟩, h⟩ := gh_is_inv h
  refine gh_callV (pc := 2) (rest := []) C (k_J26_checkElementIndex C.tr t0 p1) (Nat.le_of_ble_eq_true rfl) (Nat.le_of_ble_eq_true rfl) (gh_r4 (Nat.le_of_ble_eq_true rfl)) (fun H9 L9 hp9 => gi_V C hp9 hg9 gh_cJ26 q400 q402 qs1 q404 mh_J26 np4 rfl hl.1.1 dJ26_get_2 rfl) h (gh_K0_b _ hk) (fun g h => ?_) (fun e g h => ?_)
  rotate_left
  ·
    exact gh_out C (fun _ h => nomatch h) h hk
  refine gr_aload_n (pc := 5) (i := 0) C rfl (gl_at hl 0 rfl) dJ26_get_5 ?_
  refine gr_iload_n (pc := 6) (i := 1) C rfl (gl_at hl 1 rfl) dJ26_get_6 ?_
  obtain ⟨⟨fs9, hg9⟩, h⟩ := gh_is_inv h
  refine gh_callQ (pc := 7) (rest := []) C (k_J26_node C.tr t0 p1) (Nat.le_of_ble_eq_true rfl) (Nat.le_of_ble_eq_true rfl) (gh_r4 (Nat.le_of_ble_eq_true rfl)) (fun H9 L9 hp9 => gi_V C hp9 hg9 gh_cJ26 q718 q719 q720 q721 mh_J26 np9 rfl hl.1.1 dJ26_get_7 rfl) h (gh_K0_b _ hk) (fun v2 g h => ?_) (fun e g h => ?_)
  rotate_left
  ·
    exact gh_out C (fun _ h => nomatch h) h hk
  rcases v2 with _ | a3
  · exact gh_stk_inv h
  replace h := gh_nn_ss h
  refine gr_getr (pc := 10) C gh_bJ27 (k := 0) (Nat.le_of_ble_eq_true rfl) q1577 (fun _ h => h) dJ26_get_10 h fun v4 h => ?_
  exact gr_aret (pc := 13) C (Or.inl ⟨_, rfl⟩) dJ26_get_13 h hk

theorem k_J26_get {l : Launch} (hst : l.stackTraces = false) (t0 : Nat) (p1 : Int32) : gh_Ct l yJ26_get 2 55 (f_J26_get t0 p1) gh_rQ [va_rf (some t0), .int p1] := gh_intro2 (L1 := 42) hst (by decide +kernel) q399 q114 rfl ⟨gh_cat _, rfl, trivial⟩ (Nat.le_of_ble_eq_true rfl) fun x o ls hl C h hk => w_J26_get C t0 p1 hl h hk
-- LinkedList.add(ILjava/lang/Object;)V
noncomputable def f_J26_add (t0 : Nat) (p1 : Int32) (p2 : Option Nat) : gh_M Unit :=
  gh_bd (gh_is t0 21) fun _ =>
  gh_bd (f_J26_checkPositionIndex t0 p1) fun _ =>
  gh_bd (gh_geti t0 21 1) fun v2 =>
  if p1 = v2 then
  (gh_bd (gh_is t0 21) fun _ =>
  gh_bd (f_J26_linkLast t0 p2) fun _ =>
  gh_ret ())
  else
  (gh_bd (gh_is t0 21) fun _ =>
  gh_bd (f_J26_node t0 p1) fun v3 =>
  gh_bd (gh_is t0 21) fun _ =>
  gh_bd (f_J26_linkBefore t0 p2 v3) fun _ =>
  gh_ret ())
theorem w_J26_add {x : gh_C} {g : gh_G} {o : (Unit ⊕ gh_X) × gh_G} {ls : Array Slot} (C : gh_K x cJ26_add "java/util/LinkedList" 3 none "add" 3 67 []) (t0 : Nat) (p1 : Int32) (p2 : Option Nat) (hl : gh_lv ls 3 [(0, va_rf (some t0)), (1, .int p1), (2, va_rf p2)]) (h : gh_run (f_J26_add t0 p1 p2) g = some o) (hk : (gh_K0 x gh_rV) o) : gh_Wd x g (F0 (gh_cm x) 0 ls []) := by
  unfold f_J26_add at h
  refine gr_aload_n (pc := 0) (i := 0) C rfl (gl_at hl 0 rfl) dJ26_add_0 ?_
  refine gr_iload_n (pc := 1) (i := 1) C rfl (gl_at hl 1 rfl) dJ26_add_1 ?_
  obtain ⟨⟨fs9, hg9⟩, h⟩ := gh_is_inv h
  refine gh_callV (pc := 2) (rest := []) C (k_J26_checkPositionIndex C.tr t0 p1) (Nat.le_of_ble_eq_true rfl) (Nat.le_of_ble_eq_true rfl) (gh_r4 (Nat.le_of_ble_eq_true rfl)) (fun H9 L9 hp9 => gi_V C hp9 hg9 gh_cJ26 q1557 q1559 qs19 q1560 mh_J26 np4 rfl hl.1.1 dJ26_add_2 rfl) h (gh_K0_b _ hk) (fun g h => ?_) (fun e g h => ?_)
  rotate_left
  ·
    exact gh_out C (fun _ h => nomatch h) h hk
  refine gr_iload_n (pc := 5) (i := 1) C rfl (gl_at hl 1 rfl) dJ26_add_5 ?_
  refine gr_aload_n (pc := 6) (i := 0) C rfl (gl_at hl 0 rfl) dJ26_add_6 ?_
  refine gr_geti (pc := 7) C gh_bJ26 (k := 1) (Nat.le_of_ble_eq_true rfl) q1536 (fun _ h => h) dJ26_add_7 h fun v2 h => ?_
  refine gr_icmp_ne (pc := 10) (tgt := 21) C rfl dJ26_add_10 (fun c9 => ?_) (fun c9 => ?_)
  · replace h := gh_iff h c9
    refine gr_aload_n (pc := 21) (i := 0) C rfl (gl_at hl 0 rfl) dJ26_add_21 ?_
    refine gr_aload_n (pc := 22) (i := 2) C rfl (gl_at hl 2 rfl) dJ26_add_22 ?_
    refine gr_aload_n (pc := 23) (i := 0) C rfl (gl_at hl 0 rfl) dJ26_add_23 ?_
    refine gr_iload_n (pc := 24) (i := 1) C rfl (gl_at hl 1 rfl) dJ26_add_24 ?_
    obtain ⟨⟨fs9, hg9⟩, h⟩ := gh_is_inv h
    refine gh_callQ (pc := 25) (rest := [va_rf p2, va_rf (some t0)]) C (k_J26_node C.tr t0 p1) (Nat.le_of_ble_eq_true rfl) (Nat.le_of_ble_eq_true rfl) (gh_r4 (Nat.le_of_ble_eq_true rfl)) (fun H9 L9 hp9 => gi_V C hp9 hg9 gh_cJ26 q718 q719 q720 q721 mh_J26 np9 rfl hl.1.1 dJ26_add_25 rfl) h (gh_K0_b _ hk) (fun v3 g h => ?_) (fun e g h => ?_)
    rotate_left
    ·
      exact gh_out C (fun _ h => nomatch h) h hk
    obtain ⟨⟨fs9, hg9⟩, h⟩ := gh_is_inv h
    refine gh_callV (pc := 28) (rest := []) C (k_J26_linkBefore C.tr t0 p2 v3) (Nat.le_of_ble_eq_true rfl) (Nat.le_of_ble_eq_true rfl) (gh_r4 (Nat.le_of_ble_eq_true rfl)) (fun H9 L9 hp9 => gi_V C hp9 hg9 gh_cJ26 q1590 q1591 q1592 q1593 mh_J26 np24 rfl hl.1.1 dJ26_add_28 rfl) h (gh_K0_b _ hk) (fun g h => ?_) (fun e g h => ?_)
    rotate_left
    ·
      exact gh_out C (fun _ h => nomatch h) h hk
    exact gr_vret (pc := 31) C dJ26_add_31 h hk
  · replace h := gh_ift h c9
    refine gr_aload_n (pc := 13) (i := 0) C rfl (gl_at hl 0 rfl) dJ26_add_13 ?_
    refine gr_aload_n (pc := 14) (i := 2) C rfl (gl_at hl 2 rfl) dJ26_add_14 ?_
    obtain ⟨⟨fs9, hg9⟩, h⟩ := gh_is_inv h
    refine gh_callV (pc := 15) (rest := []) C (k_J26_linkLast C.tr t0 p2) (Nat.le_of_ble_eq_true rfl) (Nat.le_of_ble_eq_true rfl) (gh_r4 (Nat.le_of_ble_eq_true rfl)) (fun H9 L9 hp9 => gi_V C hp9 hg9 gh_cJ26 q1565 q1566 q1567 q1568 mh_J26 np17 rfl hl.1.1 dJ26_add_15 rfl) h (gh_K0_b _ hk) (fun g h => ?_) (fun e g h => ?_)
    rotate_left
    ·
      exact gh_out C (fun _ h => nomatch h) h hk
    refine gr_goto (pc := 18) (tgt := 31) C rfl dJ26_add_18 ?_
    exact gr_vret (pc := 31) C dJ26_add_31 h hk

theorem k_J26_add {l : Launch} (hst : l.stackTraces = false) (t0 : Nat) (p1 : Int32) (p2 : Option Nat) : gh_Ct l yJ26_add 3 81 (f_J26_add t0 p1 p2) gh_rV [va_rf (some t0), .int p1, va_rf p2] := gh_intro2 (L1 := 67) hst (by decide +kernel) q1556 q114 rfl ⟨gh_cat _, rfl, gh_cat _, trivial⟩ (Nat.le_of_ble_eq_true rfl) fun x o ls hl C h hk => w_J26_add C t0 p1 p2 hl h hk
-- ArrayList.grow()[Ljava/lang/Object;
noncomputable def f_J2_grow (t0 : Nat) : gh_M (Option Nat) :=
  gh_bd (gh_geti t0 11 2) fun v1 =>
  gh_bd (gh_is t0 11) fun _ =>
  gh_bd (f_J2_grow_2 t0 (v1 + (1 : Int32))) fun v2 =>
  gh_ret v2
theorem w_J2_grow {x : gh_C} {g : gh_G} {o : ((Option Nat) ⊕ gh_X) × gh_G} {ls : Array Slot} (C : gh_K x cJ2_grow "java/util/ArrayList" 1 (some (.array (.object "java/lang/Object"))) "grow" 4 127 []) (t0 : Nat) (hl : gh_lv ls 1 [(0, va_rf (some t0))]) (h : gh_run (f_J2_grow t0) g = some o) (hk : (gh_K0 x gh_rQ) o) : gh_Wd x g (F0 (gh_cm x) 0 ls []) := by
  unfold f_J2_grow at h
  refine gr_aload_n (pc := 0) (i := 0) C rfl (gl_at hl 0 rfl) dJ2_grow_0 ?_
  refine gr_aload_n (pc := 1) (i := 0) C rfl (gl_at hl 0 rfl) dJ2_grow_1 ?_
  refine gr_geti (pc := 2) C gh_bJ2 (k := 2) (Nat.le_of_ble_eq_true rfl) q155 (fun _ h => h) dJ2_grow_2 h fun v1 h => ?_
  refine gr_iconst (pc := 5) (v := (1 : Int32)) C rfl dJ2_grow_5 ?_
  refine gr_iadd (pc := 6) C dJ2_grow_6 ?_
  obtain ⟨⟨fs9, hg9⟩, h⟩ := gh_is_inv h
  refine gh_callQ (pc := 7) (rest := []) C (k_J2_grow_2 C.tr t0 (v1 + (1 : Int32))) (Nat.le_of_ble_eq_true rfl) (Nat.le_of_ble_eq_true rfl) (gh_r4 (Nat.le_of_ble_eq_true rfl)) (fun H9 L9 hp9 => gi_V C hp9 hg9 gh_cJ2 q1026 q1028 qs8 q1029 mh_J2 np25 rfl hl.1.1 dJ2_grow_7 rfl) h (gh_K0_b _ hk) (fun v2 g h => ?_) (fun e g h => ?_)
  rotate_left
  ·
    exact gh_out C (fun _ h => nomatch h) h hk
  exact gr_aret (pc := 10) C (Or.inr ⟨_, rfl⟩) dJ2_grow_10 h hk

theorem k_J2_grow {l : Launch} (hst : l.stackTraces = false) (t0 : Nat) : gh_Ct l yJ2_grow 4 139 (f_J2_grow t0) gh_rQ [va_rf (some t0)] := gh_intro2 (L1 := 127) hst (by decide +kernel) q1025 q79 rfl ⟨gh_cat _, trivial⟩ (Nat.le_of_ble_eq_true rfl) fun x o ls hl C h hk => w_J2_grow C t0 hl h hk
-- ArrayList.add(Ljava/lang/Object;[Ljava/lang/Object;I)V
noncomputable def f_J2_add_2_11 (t0 : Nat) (p1 : Option Nat) (p2 : Option Nat) (p3 : Int32) : gh_M Unit :=
  gh_nn p2 fun a1 =>
  gh_bd (gh_aast a1 p3 p1) fun _ =>
  gh_bd (gh_putv t0 11 2 .int (.int (p3 + (1 : Int32)))) fun _ =>
  gh_ret ()
theorem w_J2_add_2_11 {x : gh_C} {g : gh_G} {o : (Unit ⊕ gh_X) × gh_G} {ls : Array Slot} (C : gh_K x cJ2_add_2 "java/util/ArrayList" 4 none "add" 5 147 []) (t0 : Nat) (p1 : Option Nat) (p2 : Option Nat) (p3 : Int32) (hl : gh_lv ls 4 [(0, va_rf (some t0)), (1, va_rf p1), (2, va_rf p2), (3, .int p3)]) (h : gh_run (f_J2_add_2_11 t0 p1 p2 p3) g = some o) (hk : (gh_K0 x gh_rV) o) : gh_Wd x g (F0 (gh_cm x) 11 ls []) := by
  unfold f_J2_add_2_11 at h
  refine gr_aload_n (pc := 11) (i := 2) C rfl (gl_at hl 2 rfl) dJ2_add_2_11 ?_
  refine gr_iload_n (pc := 12) (i := 3) C rfl (gl_at hl 3 rfl) dJ2_add_2_12 ?_
  refine gr_aload_n (pc := 13) (i := 1) C rfl (gl_at hl 1 rfl) dJ2_add_2_13 ?_
  rcases p2 with _ | a1
  · exact gh_stk_inv h
  replace h := gh_nn_ss h
  refine gr_aast (pc := 14) C dJ2_add_2_14 h fun g h => ?_
  refine gr_aload_n (pc := 15) (i := 0) C rfl (gl_at hl 0 rfl) dJ2_add_2_15 ?_
  refine gr_iload_n (pc := 16) (i := 3) C rfl (gl_at hl 3 rfl) dJ2_add_2_16 ?_
  refine gr_iconst (pc := 17) (v := (1 : Int32)) C rfl dJ2_add_2_17 ?_
  refine gr_iadd (pc := 18) C dJ2_add_2_18 ?_
  refine gr_putp (pc := 19) C gh_bJ2 (k := 2) (Nat.le_of_ble_eq_true rfl) q155 (fun _ h => h) rfl dJ2_add_2_19 h fun g h => ?_
  exact gr_vret (pc := 22) C dJ2_add_2_22 h hk

noncomputable def f_J2_add_2 (t0 : Nat) (p1 : Option Nat) (p2 : Option Nat) (p3 : Int32) : gh_M Unit :=
  gh_nn p2 fun a1 =>
  gh_bd (gh_alen a1) fun v2 =>
  if p3 = v2 then
  (gh_bd (gh_is t0 11) fun _ =>
  gh_bd (f_J2_grow t0) fun v3 =>
  f_J2_add_2_11 t0 p1 v3 p3)
  else
  (f_J2_add_2_11 t0 p1 (some a1) p3)
theorem w_J2_add_2 {x : gh_C} {g : gh_G} {o : (Unit ⊕ gh_X) × gh_G} {ls : Array Slot} (C : gh_K x cJ2_add_2 "java/util/ArrayList" 4 none "add" 5 147 []) (t0 : Nat) (p1 : Option Nat) (p2 : Option Nat) (p3 : Int32) (hl : gh_lv ls 4 [(0, va_rf (some t0)), (1, va_rf p1), (2, va_rf p2), (3, .int p3)]) (h : gh_run (f_J2_add_2 t0 p1 p2 p3) g = some o) (hk : (gh_K0 x gh_rV) o) : gh_Wd x g (F0 (gh_cm x) 0 ls []) := by
  unfold f_J2_add_2 at h
  refine gr_iload_n (pc := 0) (i := 3) C rfl (gl_at hl 3 rfl) dJ2_add_2_0 ?_
  refine gr_aload_n (pc := 1) (i := 2) C rfl (gl_at hl 2 rfl) dJ2_add_2_1 ?_
  rcases p2 with _ | a1
  · exact gh_stk_inv h
  replace h := gh_nn_ss h
  refine gr_alen (pc := 2) C dJ2_add_2_2 h fun v2 h => ?_
  refine gr_icmp_ne (pc := 3) (tgt := 11) C rfl dJ2_add_2_3 (fun c9 => ?_) (fun c9 => ?_)
  · replace h := gh_iff h c9
    exact w_J2_add_2_11 C t0 p1 (some a1) p3 (gl_sub hl [0, 1, 2, 3] rfl) h hk
  · replace h := gh_ift h c9
    refine gr_aload_n (pc := 6) (i := 0) C rfl (gl_at hl 0 rfl) dJ2_add_2_6 ?_
    obtain ⟨⟨fs9, hg9⟩, h⟩ := gh_is_inv h
    refine gh_callQ (pc := 7) (rest := []) C (k_J2_grow C.tr t0) (Nat.le_of_ble_eq_true rfl) (Nat.le_of_ble_eq_true rfl) (gh_r4 (Nat.le_of_ble_eq_true rfl)) (fun H9 L9 hp9 => gi_V C hp9 hg9 gh_cJ2 q1022 q1024 qs7 q1025 mh_J2 np26 rfl hl.1.1 dJ2_add_2_7 rfl) h (gh_K0_b _ hk) (fun v3 g h => ?_) (fun e g h => ?_)
    rotate_left
    ·
      exact gh_out C (fun _ h => nomatch h) h hk
    refine gr_astore_n (pc := 10) (i := 2) (l' := [(2, va_rf v3), (0, va_rf (some t0)), (1, va_rf p1), (3, .int p3)]) C rfl hl (Nat.le_of_ble_eq_true rfl) rfl dJ2_add_2_10 fun ls hl => ?_
    exact w_J2_add_2_11 C t0 p1 v3 p3 (gl_sub hl [1, 2, 0, 3] rfl) h hk

theorem k_J2_add_2 {l : Launch} (hst : l.stackTraces = false) (t0 : Nat) (p1 : Option Nat) (p2 : Option Nat) (p3 : Int32) : gh_Ct l yJ2_add_2 5 162 (f_J2_add_2 t0 p1 p2 p3) gh_rV [va_rf (some t0), va_rf p1, va_rf p2, .int p3] := gh_intro2 (L1 := 147) hst (by decide +kernel) q1021 q79 rfl ⟨gh_cat _, gh_cat _, gh_cat _, rfl, trivial⟩ (Nat.le_of_ble_eq_true rfl) fun x o ls hl C h hk => w_J2_add_2 C t0 p1 p2 p3 hl h hk
-- ArrayList.add(Ljava/lang/Object;)Z
noncomputable def f_J2_add (t0 : Nat) (p1 : Option Nat) : gh_M Int32 :=
  gh_bd (gh_geti t0 11 0) fun v1 =>
  gh_bd (gh_putv t0 11 0 .int (.int (v1 + (1 : Int32)))) fun _ =>
  gh_bd (gh_getr t0 11 1) fun v2 =>
  gh_bd (gh_geti t0 11 2) fun v3 =>
  gh_bd (gh_is t0 11) fun _ =>
  gh_bd (f_J2_add_2 t0 p1 v2 v3) fun _ =>
  gh_rz .boolean (1 : Int32)
theorem w_J2_add {x : gh_C} {g : gh_G} {o : (Int32 ⊕ gh_X) × gh_G} {ls : Array Slot} (C : gh_K x cJ2_add "java/util/ArrayList" 2 (some .boolean) "add" 6 170 []) (t0 : Nat) (p1 : Option Nat) (hl : gh_lv ls 2 [(0, va_rf (some t0)), (1, va_rf p1)]) (h : gh_run (f_J2_add t0 p1) g = some o) (hk : (gh_K0 x gh_rI) o) : gh_Wd x g (F0 (gh_cm x) 0 ls []) := by
  unfold f_J2_add at h
  refine gr_aload_n (pc := 0) (i := 0) C rfl (gl_at hl 0 rfl) dJ2_add_0 ?_
  refine gr_dup (pc := 1) C (gh_cat _) dJ2_add_1 ?_
  refine gr_geti (pc := 2) C gh_bJ2 (k := 0) (Nat.le_of_ble_eq_true rfl) q163 (gh_smf C q160) dJ2_add_2 h fun v1 h => ?_
  refine gr_iconst (pc := 5) (v := (1 : Int32)) C rfl dJ2_add_5 ?_
  refine gr_iadd (pc := 6) C dJ2_add_6 ?_
  refine gr_putp (pc := 7) C gh_bJ2 (k := 0) (Nat.le_of_ble_eq_true rfl) q163 (gh_smf C q160) rfl dJ2_add_7 h fun g h => ?_
  refine gr_aload_n (pc := 10) (i := 0) C rfl (gl_at hl 0 rfl) dJ2_add_10 ?_
  refine gr_aload_n (pc := 11) (i := 1) C rfl (gl_at hl 1 rfl) dJ2_add_11 ?_
  refine gr_aload_n (pc := 12) (i := 0) C rfl (gl_at hl 0 rfl) dJ2_add_12 ?_
  refine gr_getr (pc := 13) C gh_bJ2 (k := 1) (Nat.le_of_ble_eq_true rfl) q152 (fun _ h => h) dJ2_add_13 h fun v2 h => ?_
  refine gr_aload_n (pc := 16) (i := 0) C rfl (gl_at hl 0 rfl) dJ2_add_16 ?_
  refine gr_geti (pc := 17) C gh_bJ2 (k := 2) (Nat.le_of_ble_eq_true rfl) q155 (fun _ h => h) dJ2_add_17 h fun v3 h => ?_
  obtain ⟨⟨fs9, hg9⟩, h⟩ := gh_is_inv h
  refine gh_callV (pc := 20) (rest := []) C (k_J2_add_2 C.tr t0 p1 v2 v3) (Nat.le_of_ble_eq_true rfl) (Nat.le_of_ble_eq_true rfl) (gh_r4 (Nat.le_of_ble_eq_true rfl)) (fun H9 L9 hp9 => gi_V C hp9 hg9 gh_cJ2 q1018 q1020 qs6 q1021 mh_J2 np27 rfl hl.1.1 dJ2_add_20 rfl) h (gh_K0_b _ hk) (fun g h => ?_) (fun e g h => ?_)
  rotate_left
  ·
    exact gh_out C (fun _ h => nomatch h) h hk
  refine gr_iconst (pc := 23) (v := (1 : Int32)) C rfl dJ2_add_23 ?_
  exact gr_bret (pc := 24) C dJ2_add_24 h hk

theorem k_J2_add {l : Launch} (hst : l.stackTraces = false) (t0 : Nat) (p1 : Option Nat) : gh_Ct l yJ2_add 6 183 (f_J2_add t0 p1) gh_rI [va_rf (some t0), va_rf p1] := gh_intro2 (L1 := 170) hst (by decide +kernel) q1017 q79 rfl ⟨gh_cat _, gh_cat _, trivial⟩ (Nat.le_of_ble_eq_true rfl) fun x o ls hl C h hk => w_J2_add C t0 p1 hl h hk
