/-! small classes: rows of the code, functions, walks, contracts (printed) -/
set_option maxRecDepth 100000
abbrev cX11_isTooMuch : ByteArray := prog_5_method_4_code
def yX11_isTooMuch : MethodName := ⟨RX11, "isTooMuch", "(I)Z"⟩
def dkwX11_isTooMuch_0 : List UInt8 := [26, 16, 10, 161, 0, 7, 4, 167, 0, 4, 3, 172]
abbrev dktX11_isTooMuch_0 : List UInt8 := dkwX11_isTooMuch_0 ++ []
theorem dksX11_isTooMuch_0 : cX11_isTooMuch.data.toList.drop 0 = dktX11_isTooMuch_0 := by decide +kernel
theorem dX11_isTooMuch_0 : decode cX11_isTooMuch 0 = .ok (.iload_n 0, 1) := dk_26 (dk_at dksX11_isTooMuch_0 0 rfl rfl)
theorem dX11_isTooMuch_1 : decode cX11_isTooMuch 1 = .ok (.bipush 10, 2) := dk_16 10 (dk_at dksX11_isTooMuch_0 1 rfl rfl)
theorem dX11_isTooMuch_3 : decode cX11_isTooMuch 3 = .ok (.if_icmp .lt 7, 3) := dk_161 0 7 (dk_at dksX11_isTooMuch_0 3 rfl rfl)
theorem dX11_isTooMuch_6 : decode cX11_isTooMuch 6 = .ok (.iconst 1, 1) := dk_4 (dk_at dksX11_isTooMuch_0 6 rfl rfl)
theorem dX11_isTooMuch_7 : decode cX11_isTooMuch 7 = .ok (.goto 4, 3) := dk_167 0 4 (dk_at dksX11_isTooMuch_0 7 rfl rfl)
theorem dX11_isTooMuch_10 : decode cX11_isTooMuch 10 = .ok (.iconst 0, 1) := dk_3 (dk_at dksX11_isTooMuch_0 10 rfl rfl)
theorem dX11_isTooMuch_11 : decode cX11_isTooMuch 11 = .ok (.ireturn, 1) := dk_172 (dk_at dksX11_isTooMuch_0 11 rfl rfl)
abbrev cX3_init : ByteArray := prog_11_method_1_code
def yX3_init : MethodName := ⟨RX3, "<init>", "()V"⟩
def dkwX3_init_0 : List UInt8 := [42, 183, 0, 3, 42, 6, 181, 0, 9, 177]
abbrev dktX3_init_0 : List UInt8 := dkwX3_init_0 ++ []
theorem dksX3_init_0 : cX3_init.data.toList.drop 0 = dktX3_init_0 := by decide +kernel
theorem dX3_init_0 : decode cX3_init 0 = .ok (.aload_n 0, 1) := dk_42 (dk_at dksX3_init_0 0 rfl rfl)
theorem dX3_init_1 : decode cX3_init 1 = .ok (.invokespecial 3, 3) := dk_183 0 3 (dk_at dksX3_init_0 1 rfl rfl)
theorem dX3_init_4 : decode cX3_init 4 = .ok (.aload_n 0, 1) := dk_42 (dk_at dksX3_init_0 4 rfl rfl)
theorem dX3_init_5 : decode cX3_init 5 = .ok (.iconst 3, 1) := dk_6 (dk_at dksX3_init_0 5 rfl rfl)
theorem dX3_init_6 : decode cX3_init 6 = .ok (.putfield 9, 3) := dk_181 0 9 (dk_at dksX3_init_0 6 rfl rfl)
theorem dX3_init_9 : decode cX3_init 9 = .ok (.return_, 1) := dk_177 (dk_at dksX3_init_0 9 rfl rfl)
abbrev cX3_init_2 : ByteArray := prog_11_method_2_code
def yX3_init_2 : MethodName := ⟨RX3, "<init>", "(LGargoyleTower$Weather;)V"⟩
def dkwX3_init_2_0 : List UInt8 := [42, 183, 0, 3, 42, 6, 181, 0, 9, 42, 43, 180, 0, 9, 181, 0, 9, 177]
abbrev dktX3_init_2_0 : List UInt8 := dkwX3_init_2_0 ++ []
theorem dksX3_init_2_0 : cX3_init_2.data.toList.drop 0 = dktX3_init_2_0 := by decide +kernel
theorem dX3_init_2_0 : decode cX3_init_2 0 = .ok (.aload_n 0, 1) := dk_42 (dk_at dksX3_init_2_0 0 rfl rfl)
theorem dX3_init_2_1 : decode cX3_init_2 1 = .ok (.invokespecial 3, 3) := dk_183 0 3 (dk_at dksX3_init_2_0 1 rfl rfl)
theorem dX3_init_2_4 : decode cX3_init_2 4 = .ok (.aload_n 0, 1) := dk_42 (dk_at dksX3_init_2_0 4 rfl rfl)
theorem dX3_init_2_5 : decode cX3_init_2 5 = .ok (.iconst 3, 1) := dk_6 (dk_at dksX3_init_2_0 5 rfl rfl)
theorem dX3_init_2_6 : decode cX3_init_2 6 = .ok (.putfield 9, 3) := dk_181 0 9 (dk_at dksX3_init_2_0 6 rfl rfl)
theorem dX3_init_2_9 : decode cX3_init_2 9 = .ok (.aload_n 0, 1) := dk_42 (dk_at dksX3_init_2_0 9 rfl rfl)
theorem dX3_init_2_10 : decode cX3_init_2 10 = .ok (.aload_n 1, 1) := dk_43 (dk_at dksX3_init_2_0 10 rfl rfl)
theorem dX3_init_2_11 : decode cX3_init_2 11 = .ok (.getfield 9, 3) := dk_180 0 9 (dk_at dksX3_init_2_0 11 rfl rfl)
theorem dX3_init_2_14 : decode cX3_init_2 14 = .ok (.putfield 9, 3) := dk_181 0 9 (dk_at dksX3_init_2_0 14 rfl rfl)
theorem dX3_init_2_17 : decode cX3_init_2 17 = .ok (.return_, 1) := dk_177 (dk_at dksX3_init_2_0 17 rfl rfl)
abbrev cX3_draw : ByteArray := prog_11_method_3_code
def yX3_draw : MethodName := ⟨RX3, "draw", "()V"⟩
def dkwX3_draw_0 : List UInt8 := [42, 17, 0, 137, 42, 180, 0, 9, 104, 16, 61, 96, 17, 39, 16, 112, 181, 0, 9, 177]
abbrev dktX3_draw_0 : List UInt8 := dkwX3_draw_0 ++ []
theorem dksX3_draw_0 : cX3_draw.data.toList.drop 0 = dktX3_draw_0 := by decide +kernel
theorem dX3_draw_0 : decode cX3_draw 0 = .ok (.aload_n 0, 1) := dk_42 (dk_at dksX3_draw_0 0 rfl rfl)
theorem dX3_draw_1 : decode cX3_draw 1 = .ok (.sipush 137, 3) := dk_17 0 137 (dk_at dksX3_draw_0 1 rfl rfl)
theorem dX3_draw_4 : decode cX3_draw 4 = .ok (.aload_n 0, 1) := dk_42 (dk_at dksX3_draw_0 4 rfl rfl)
theorem dX3_draw_5 : decode cX3_draw 5 = .ok (.getfield 9, 3) := dk_180 0 9 (dk_at dksX3_draw_0 5 rfl rfl)
theorem dX3_draw_8 : decode cX3_draw 8 = .ok (.imul, 1) := dk_104 (dk_at dksX3_draw_0 8 rfl rfl)
theorem dX3_draw_9 : decode cX3_draw 9 = .ok (.bipush 61, 2) := dk_16 61 (dk_at dksX3_draw_0 9 rfl rfl)
theorem dX3_draw_11 : decode cX3_draw 11 = .ok (.iadd, 1) := dk_96 (dk_at dksX3_draw_0 11 rfl rfl)
theorem dX3_draw_12 : decode cX3_draw 12 = .ok (.sipush 10000, 3) := dk_17 39 16 (dk_at dksX3_draw_0 12 rfl rfl)
theorem dX3_draw_15 : decode cX3_draw 15 = .ok (.irem, 1) := dk_112 (dk_at dksX3_draw_0 15 rfl rfl)
theorem dX3_draw_16 : decode cX3_draw 16 = .ok (.putfield 9, 3) := dk_181 0 9 (dk_at dksX3_draw_0 16 rfl rfl)
theorem dX3_draw_19 : decode cX3_draw 19 = .ok (.return_, 1) := dk_177 (dk_at dksX3_draw_0 19 rfl rfl)
abbrev cX3_isStorm : ByteArray := prog_11_method_5_code
def yX3_isStorm : MethodName := ⟨RX3, "isStorm", "()Z"⟩
def dkwX3_isStorm_0 : List UInt8 := [42, 180, 0, 9, 7, 108, 8, 112, 154, 0, 7, 4, 167, 0, 4, 3, 172]
abbrev dktX3_isStorm_0 : List UInt8 := dkwX3_isStorm_0 ++ []
theorem dksX3_isStorm_0 : cX3_isStorm.data.toList.drop 0 = dktX3_isStorm_0 := by decide +kernel
theorem dX3_isStorm_0 : decode cX3_isStorm 0 = .ok (.aload_n 0, 1) := dk_42 (dk_at dksX3_isStorm_0 0 rfl rfl)
theorem dX3_isStorm_1 : decode cX3_isStorm 1 = .ok (.getfield 9, 3) := dk_180 0 9 (dk_at dksX3_isStorm_0 1 rfl rfl)
theorem dX3_isStorm_4 : decode cX3_isStorm 4 = .ok (.iconst 4, 1) := dk_7 (dk_at dksX3_isStorm_0 4 rfl rfl)
theorem dX3_isStorm_5 : decode cX3_isStorm 5 = .ok (.idiv, 1) := dk_108 (dk_at dksX3_isStorm_0 5 rfl rfl)
theorem dX3_isStorm_6 : decode cX3_isStorm 6 = .ok (.iconst 5, 1) := dk_8 (dk_at dksX3_isStorm_0 6 rfl rfl)
theorem dX3_isStorm_7 : decode cX3_isStorm 7 = .ok (.irem, 1) := dk_112 (dk_at dksX3_isStorm_0 7 rfl rfl)
theorem dX3_isStorm_8 : decode cX3_isStorm 8 = .ok (.ifCond .ne 7, 3) := dk_154 0 7 (dk_at dksX3_isStorm_0 8 rfl rfl)
theorem dX3_isStorm_11 : decode cX3_isStorm 11 = .ok (.iconst 1, 1) := dk_4 (dk_at dksX3_isStorm_0 11 rfl rfl)
theorem dX3_isStorm_12 : decode cX3_isStorm 12 = .ok (.goto 4, 3) := dk_167 0 4 (dk_at dksX3_isStorm_0 12 rfl rfl)
theorem dX3_isStorm_15 : decode cX3_isStorm 15 = .ok (.iconst 0, 1) := dk_3 (dk_at dksX3_isStorm_0 15 rfl rfl)
theorem dX3_isStorm_16 : decode cX3_isStorm 16 = .ok (.ireturn, 1) := dk_172 (dk_at dksX3_isStorm_0 16 rfl rfl)
abbrev cX3_face : ByteArray := prog_11_method_4_code
def yX3_face : MethodName := ⟨RX3, "face", "()I"⟩
def dkwX3_face_0 : List UInt8 := [42, 180, 0, 9, 7, 112, 172]
abbrev dktX3_face_0 : List UInt8 := dkwX3_face_0 ++ []
theorem dksX3_face_0 : cX3_face.data.toList.drop 0 = dktX3_face_0 := by decide +kernel
theorem dX3_face_0 : decode cX3_face 0 = .ok (.aload_n 0, 1) := dk_42 (dk_at dksX3_face_0 0 rfl rfl)
theorem dX3_face_1 : decode cX3_face 1 = .ok (.getfield 9, 3) := dk_180 0 9 (dk_at dksX3_face_0 1 rfl rfl)
theorem dX3_face_4 : decode cX3_face 4 = .ok (.iconst 4, 1) := dk_7 (dk_at dksX3_face_0 4 rfl rfl)
theorem dX3_face_5 : decode cX3_face 5 = .ok (.irem, 1) := dk_112 (dk_at dksX3_face_0 5 rfl rfl)
theorem dX3_face_6 : decode cX3_face 6 = .ok (.ireturn, 1) := dk_172 (dk_at dksX3_face_0 6 rfl rfl)
abbrev cX6_damage : ByteArray := prog_2_method_3_code
def yX6_damage : MethodName := ⟨RX6, "damage", "()I"⟩
theorem dX6_damage_0 : decode cX6_damage 0 = .ok (.aload_n 0, 1) := by decide +kernel
theorem dX6_damage_1 : decode cX6_damage 1 = .ok (.getfield 37, 3) := by decide +kernel
theorem dX6_damage_4 : decode cX6_damage 4 = .ok (.ireturn, 1) := by decide +kernel
abbrev cX6_init_2 : ByteArray := prog_2_method_1_code
def yX6_init_2 : MethodName := ⟨RX6, "<init>", "(IIZ)V"⟩
def dkwX6_init_2_1 : List UInt8 := [42, 28, 181, 0, 24, 42, 29, 181, 0, 27, 177]
abbrev dktX6_init_2_1 : List UInt8 := dkwX6_init_2_1 ++ []
def dkwX6_init_2_0 : List UInt8 := [42, 183, 0, 3, 42, 3, 181, 0, 9, 42, 2, 181, 0, 15, 42, 2, 181, 0, 18, 42, 27, 181, 0, 21]
abbrev dktX6_init_2_0 : List UInt8 := dkwX6_init_2_0 ++ dktX6_init_2_1
theorem dksX6_init_2_0 : cX6_init_2.data.toList.drop 0 = dktX6_init_2_0 := by decide +kernel
theorem dksX6_init_2_1 : cX6_init_2.data.toList.drop 24 = dktX6_init_2_1 := dk_seg dksX6_init_2_0 24 rfl rfl
theorem dX6_init_2_0 : decode cX6_init_2 0 = .ok (.aload_n 0, 1) := dk_42 (dk_at dksX6_init_2_0 0 rfl rfl)
theorem dX6_init_2_1 : decode cX6_init_2 1 = .ok (.invokespecial 3, 3) := dk_183 0 3 (dk_at dksX6_init_2_0 1 rfl rfl)
theorem dX6_init_2_4 : decode cX6_init_2 4 = .ok (.aload_n 0, 1) := dk_42 (dk_at dksX6_init_2_0 4 rfl rfl)
theorem dX6_init_2_5 : decode cX6_init_2 5 = .ok (.iconst 0, 1) := dk_3 (dk_at dksX6_init_2_0 5 rfl rfl)
theorem dX6_init_2_6 : decode cX6_init_2 6 = .ok (.putfield 9, 3) := dk_181 0 9 (dk_at dksX6_init_2_0 6 rfl rfl)
theorem dX6_init_2_9 : decode cX6_init_2 9 = .ok (.aload_n 0, 1) := dk_42 (dk_at dksX6_init_2_0 9 rfl rfl)
theorem dX6_init_2_10 : decode cX6_init_2 10 = .ok (.iconst (-1), 1) := dk_2 (dk_at dksX6_init_2_0 10 rfl rfl)
theorem dX6_init_2_11 : decode cX6_init_2 11 = .ok (.putfield 15, 3) := dk_181 0 15 (dk_at dksX6_init_2_0 11 rfl rfl)
theorem dX6_init_2_14 : decode cX6_init_2 14 = .ok (.aload_n 0, 1) := dk_42 (dk_at dksX6_init_2_0 14 rfl rfl)
theorem dX6_init_2_15 : decode cX6_init_2 15 = .ok (.iconst (-1), 1) := dk_2 (dk_at dksX6_init_2_0 15 rfl rfl)
theorem dX6_init_2_16 : decode cX6_init_2 16 = .ok (.putfield 18, 3) := dk_181 0 18 (dk_at dksX6_init_2_0 16 rfl rfl)
theorem dX6_init_2_19 : decode cX6_init_2 19 = .ok (.aload_n 0, 1) := dk_42 (dk_at dksX6_init_2_0 19 rfl rfl)
theorem dX6_init_2_20 : decode cX6_init_2 20 = .ok (.iload_n 1, 1) := dk_27 (dk_at dksX6_init_2_0 20 rfl rfl)
theorem dX6_init_2_21 : decode cX6_init_2 21 = .ok (.putfield 21, 3) := dk_181 0 21 (dk_at dksX6_init_2_0 21 rfl rfl)
theorem dX6_init_2_24 : decode cX6_init_2 24 = .ok (.aload_n 0, 1) := dk_42 (dk_at dksX6_init_2_1 0 rfl rfl)
theorem dX6_init_2_25 : decode cX6_init_2 25 = .ok (.iload_n 2, 1) := dk_28 (dk_at dksX6_init_2_1 1 rfl rfl)
theorem dX6_init_2_26 : decode cX6_init_2 26 = .ok (.putfield 24, 3) := dk_181 0 24 (dk_at dksX6_init_2_1 2 rfl rfl)
theorem dX6_init_2_29 : decode cX6_init_2 29 = .ok (.aload_n 0, 1) := dk_42 (dk_at dksX6_init_2_1 5 rfl rfl)
theorem dX6_init_2_30 : decode cX6_init_2 30 = .ok (.iload_n 3, 1) := dk_29 (dk_at dksX6_init_2_1 6 rfl rfl)
theorem dX6_init_2_31 : decode cX6_init_2 31 = .ok (.putfield 27, 3) := dk_181 0 27 (dk_at dksX6_init_2_1 7 rfl rfl)
theorem dX6_init_2_34 : decode cX6_init_2 34 = .ok (.return_, 1) := dk_177 (dk_at dksX6_init_2_1 10 rfl rfl)
abbrev cX6_times : ByteArray := prog_2_method_4_code
def yX6_times : MethodName := ⟨RX6, "times", "(I)I"⟩
def dkwX6_times_0 : List UInt8 := [42, 180, 0, 27, 153, 0, 7, 27, 167, 0, 6, 5, 27, 104, 172]
abbrev dktX6_times_0 : List UInt8 := dkwX6_times_0 ++ []
theorem dksX6_times_0 : cX6_times.data.toList.drop 0 = dktX6_times_0 := by decide +kernel
theorem dX6_times_0 : decode cX6_times 0 = .ok (.aload_n 0, 1) := dk_42 (dk_at dksX6_times_0 0 rfl rfl)
theorem dX6_times_1 : decode cX6_times 1 = .ok (.getfield 27, 3) := dk_180 0 27 (dk_at dksX6_times_0 1 rfl rfl)
theorem dX6_times_4 : decode cX6_times 4 = .ok (.ifCond .eq 7, 3) := dk_153 0 7 (dk_at dksX6_times_0 4 rfl rfl)
theorem dX6_times_7 : decode cX6_times 7 = .ok (.iload_n 1, 1) := dk_27 (dk_at dksX6_times_0 7 rfl rfl)
theorem dX6_times_8 : decode cX6_times 8 = .ok (.goto 6, 3) := dk_167 0 6 (dk_at dksX6_times_0 8 rfl rfl)
theorem dX6_times_11 : decode cX6_times 11 = .ok (.iconst 2, 1) := dk_5 (dk_at dksX6_times_0 11 rfl rfl)
theorem dX6_times_12 : decode cX6_times 12 = .ok (.iload_n 1, 1) := dk_27 (dk_at dksX6_times_0 12 rfl rfl)
theorem dX6_times_13 : decode cX6_times 13 = .ok (.imul, 1) := dk_104 (dk_at dksX6_times_0 13 rfl rfl)
theorem dX6_times_14 : decode cX6_times 14 = .ok (.ireturn, 1) := dk_172 (dk_at dksX6_times_0 14 rfl rfl)
abbrev cX6_go : ByteArray := prog_2_method_5_code
def yX6_go : MethodName := ⟨RX6, "go", "(II)V"⟩
def dkwX6_go_0 : List UInt8 := [42, 27, 181, 0, 9, 42, 28, 181, 0, 15, 177]
abbrev dktX6_go_0 : List UInt8 := dkwX6_go_0 ++ []
theorem dksX6_go_0 : cX6_go.data.toList.drop 0 = dktX6_go_0 := by decide +kernel
theorem dX6_go_0 : decode cX6_go 0 = .ok (.aload_n 0, 1) := dk_42 (dk_at dksX6_go_0 0 rfl rfl)
theorem dX6_go_1 : decode cX6_go 1 = .ok (.iload_n 1, 1) := dk_27 (dk_at dksX6_go_0 1 rfl rfl)
theorem dX6_go_2 : decode cX6_go 2 = .ok (.putfield 9, 3) := dk_181 0 9 (dk_at dksX6_go_0 2 rfl rfl)
theorem dX6_go_5 : decode cX6_go 5 = .ok (.aload_n 0, 1) := dk_42 (dk_at dksX6_go_0 5 rfl rfl)
theorem dX6_go_6 : decode cX6_go 6 = .ok (.iload_n 2, 1) := dk_28 (dk_at dksX6_go_0 6 rfl rfl)
theorem dX6_go_7 : decode cX6_go 7 = .ok (.putfield 15, 3) := dk_181 0 15 (dk_at dksX6_go_0 7 rfl rfl)
theorem dX6_go_10 : decode cX6_go 10 = .ok (.return_, 1) := dk_177 (dk_at dksX6_go_0 10 rfl rfl)
abbrev cX7_price : ByteArray := prog_9_method_6_code
def yX7_price : MethodName := ⟨RX7, "price", "()I"⟩
def dkwX7_price_0 : List UInt8 := [42, 180, 0, 15, 5, 108, 172]
abbrev dktX7_price_0 : List UInt8 := dkwX7_price_0 ++ []
theorem dksX7_price_0 : cX7_price.data.toList.drop 0 = dktX7_price_0 := by decide +kernel
theorem dX7_price_0 : decode cX7_price 0 = .ok (.aload_n 0, 1) := dk_42 (dk_at dksX7_price_0 0 rfl rfl)
theorem dX7_price_1 : decode cX7_price 1 = .ok (.getfield 15, 3) := dk_180 0 15 (dk_at dksX7_price_0 1 rfl rfl)
theorem dX7_price_4 : decode cX7_price 4 = .ok (.iconst 2, 1) := dk_5 (dk_at dksX7_price_0 4 rfl rfl)
theorem dX7_price_5 : decode cX7_price 5 = .ok (.idiv, 1) := dk_108 (dk_at dksX7_price_0 5 rfl rfl)
theorem dX7_price_6 : decode cX7_price 6 = .ok (.ireturn, 1) := dk_172 (dk_at dksX7_price_0 6 rfl rfl)
abbrev cX7_strength : ByteArray := prog_9_method_3_code
def yX7_strength : MethodName := ⟨RX7, "strength", "()I"⟩
def dkwX7_strength_0 : List UInt8 := [42, 180, 0, 24, 153, 0, 7, 3, 167, 0, 7, 42, 180, 0, 15, 172]
abbrev dktX7_strength_0 : List UInt8 := dkwX7_strength_0 ++ []
theorem dksX7_strength_0 : cX7_strength.data.toList.drop 0 = dktX7_strength_0 := by decide +kernel
theorem dX7_strength_0 : decode cX7_strength 0 = .ok (.aload_n 0, 1) := dk_42 (dk_at dksX7_strength_0 0 rfl rfl)
theorem dX7_strength_1 : decode cX7_strength 1 = .ok (.getfield 24, 3) := dk_180 0 24 (dk_at dksX7_strength_0 1 rfl rfl)
theorem dX7_strength_4 : decode cX7_strength 4 = .ok (.ifCond .eq 7, 3) := dk_153 0 7 (dk_at dksX7_strength_0 4 rfl rfl)
theorem dX7_strength_7 : decode cX7_strength 7 = .ok (.iconst 0, 1) := dk_3 (dk_at dksX7_strength_0 7 rfl rfl)
theorem dX7_strength_8 : decode cX7_strength 8 = .ok (.goto 7, 3) := dk_167 0 7 (dk_at dksX7_strength_0 8 rfl rfl)
theorem dX7_strength_11 : decode cX7_strength 11 = .ok (.aload_n 0, 1) := dk_42 (dk_at dksX7_strength_0 11 rfl rfl)
theorem dX7_strength_12 : decode cX7_strength 12 = .ok (.getfield 15, 3) := dk_180 0 15 (dk_at dksX7_strength_0 12 rfl rfl)
theorem dX7_strength_15 : decode cX7_strength 15 = .ok (.ireturn, 1) := dk_172 (dk_at dksX7_strength_0 15 rfl rfl)
abbrev cX7_wear : ByteArray := prog_9_method_4_code
def yX7_wear : MethodName := ⟨RX7, "wear", "()I"⟩
theorem dX7_wear_0 : decode cX7_wear 0 = .ok (.aload_n 0, 1) := by decide +kernel
theorem dX7_wear_1 : decode cX7_wear 1 = .ok (.getfield 21, 3) := by decide +kernel
theorem dX7_wear_4 : decode cX7_wear 4 = .ok (.ireturn, 1) := by decide +kernel
abbrev cX7_init_2 : ByteArray := prog_9_method_1_code
def yX7_init_2 : MethodName := ⟨RX7, "<init>", "(I)V"⟩
def dkwX7_init_2_0 : List UInt8 := [42, 183, 0, 3, 42, 2, 181, 0, 9, 42, 27, 181, 0, 15, 177]
abbrev dktX7_init_2_0 : List UInt8 := dkwX7_init_2_0 ++ []
theorem dksX7_init_2_0 : cX7_init_2.data.toList.drop 0 = dktX7_init_2_0 := by decide +kernel
theorem dX7_init_2_0 : decode cX7_init_2 0 = .ok (.aload_n 0, 1) := dk_42 (dk_at dksX7_init_2_0 0 rfl rfl)
theorem dX7_init_2_1 : decode cX7_init_2 1 = .ok (.invokespecial 3, 3) := dk_183 0 3 (dk_at dksX7_init_2_0 1 rfl rfl)
theorem dX7_init_2_4 : decode cX7_init_2 4 = .ok (.aload_n 0, 1) := dk_42 (dk_at dksX7_init_2_0 4 rfl rfl)
theorem dX7_init_2_5 : decode cX7_init_2 5 = .ok (.iconst (-1), 1) := dk_2 (dk_at dksX7_init_2_0 5 rfl rfl)
theorem dX7_init_2_6 : decode cX7_init_2 6 = .ok (.putfield 9, 3) := dk_181 0 9 (dk_at dksX7_init_2_0 6 rfl rfl)
theorem dX7_init_2_9 : decode cX7_init_2 9 = .ok (.aload_n 0, 1) := dk_42 (dk_at dksX7_init_2_0 9 rfl rfl)
theorem dX7_init_2_10 : decode cX7_init_2 10 = .ok (.iload_n 1, 1) := dk_27 (dk_at dksX7_init_2_0 10 rfl rfl)
theorem dX7_init_2_11 : decode cX7_init_2 11 = .ok (.putfield 15, 3) := dk_181 0 15 (dk_at dksX7_init_2_0 11 rfl rfl)
theorem dX7_init_2_14 : decode cX7_init_2 14 = .ok (.return_, 1) := dk_177 (dk_at dksX7_init_2_0 14 rfl rfl)
abbrev cX8_isFulfilled : ByteArray := prog_3_method_3_code
def yX8_isFulfilled : MethodName := ⟨RX8, "isFulfilled", "()Z"⟩
def dkwX8_isFulfilled_0 : List UInt8 := [42, 180, 0, 9, 2, 159, 0, 7, 4, 167, 0, 4, 3, 172]
abbrev dktX8_isFulfilled_0 : List UInt8 := dkwX8_isFulfilled_0 ++ []
theorem dksX8_isFulfilled_0 : cX8_isFulfilled.data.toList.drop 0 = dktX8_isFulfilled_0 := by decide +kernel
theorem dX8_isFulfilled_0 : decode cX8_isFulfilled 0 = .ok (.aload_n 0, 1) := dk_42 (dk_at dksX8_isFulfilled_0 0 rfl rfl)
theorem dX8_isFulfilled_1 : decode cX8_isFulfilled 1 = .ok (.getfield 9, 3) := dk_180 0 9 (dk_at dksX8_isFulfilled_0 1 rfl rfl)
theorem dX8_isFulfilled_4 : decode cX8_isFulfilled 4 = .ok (.iconst (-1), 1) := dk_2 (dk_at dksX8_isFulfilled_0 4 rfl rfl)
theorem dX8_isFulfilled_5 : decode cX8_isFulfilled 5 = .ok (.if_icmp .eq 7, 3) := dk_159 0 7 (dk_at dksX8_isFulfilled_0 5 rfl rfl)
theorem dX8_isFulfilled_8 : decode cX8_isFulfilled 8 = .ok (.iconst 1, 1) := dk_4 (dk_at dksX8_isFulfilled_0 8 rfl rfl)
theorem dX8_isFulfilled_9 : decode cX8_isFulfilled 9 = .ok (.goto 4, 3) := dk_167 0 4 (dk_at dksX8_isFulfilled_0 9 rfl rfl)
theorem dX8_isFulfilled_12 : decode cX8_isFulfilled 12 = .ok (.iconst 0, 1) := dk_3 (dk_at dksX8_isFulfilled_0 12 rfl rfl)
theorem dX8_isFulfilled_13 : decode cX8_isFulfilled 13 = .ok (.ireturn, 1) := dk_172 (dk_at dksX8_isFulfilled_0 13 rfl rfl)
abbrev cX8_init_2 : ByteArray := prog_3_method_1_code
def yX8_init_2 : MethodName := ⟨RX8, "<init>", "(III)V"⟩
def dkwX8_init_2_1 : List UInt8 := [177]
abbrev dktX8_init_2_1 : List UInt8 := dkwX8_init_2_1 ++ []
def dkwX8_init_2_0 : List UInt8 := [42, 183, 0, 3, 42, 2, 181, 0, 9, 42, 27, 181, 0, 15, 42, 28, 181, 0, 18, 42, 29, 181, 0, 21]
abbrev dktX8_init_2_0 : List UInt8 := dkwX8_init_2_0 ++ dktX8_init_2_1
theorem dksX8_init_2_0 : cX8_init_2.data.toList.drop 0 = dktX8_init_2_0 := by decide +kernel
theorem dksX8_init_2_1 : cX8_init_2.data.toList.drop 24 = dktX8_init_2_1 := dk_seg dksX8_init_2_0 24 rfl rfl
theorem dX8_init_2_0 : decode cX8_init_2 0 = .ok (.aload_n 0, 1) := dk_42 (dk_at dksX8_init_2_0 0 rfl rfl)
theorem dX8_init_2_1 : decode cX8_init_2 1 = .ok (.invokespecial 3, 3) := dk_183 0 3 (dk_at dksX8_init_2_0 1 rfl rfl)
theorem dX8_init_2_4 : decode cX8_init_2 4 = .ok (.aload_n 0, 1) := dk_42 (dk_at dksX8_init_2_0 4 rfl rfl)
theorem dX8_init_2_5 : decode cX8_init_2 5 = .ok (.iconst (-1), 1) := dk_2 (dk_at dksX8_init_2_0 5 rfl rfl)
theorem dX8_init_2_6 : decode cX8_init_2 6 = .ok (.putfield 9, 3) := dk_181 0 9 (dk_at dksX8_init_2_0 6 rfl rfl)
theorem dX8_init_2_9 : decode cX8_init_2 9 = .ok (.aload_n 0, 1) := dk_42 (dk_at dksX8_init_2_0 9 rfl rfl)
theorem dX8_init_2_10 : decode cX8_init_2 10 = .ok (.iload_n 1, 1) := dk_27 (dk_at dksX8_init_2_0 10 rfl rfl)
theorem dX8_init_2_11 : decode cX8_init_2 11 = .ok (.putfield 15, 3) := dk_181 0 15 (dk_at dksX8_init_2_0 11 rfl rfl)
theorem dX8_init_2_14 : decode cX8_init_2 14 = .ok (.aload_n 0, 1) := dk_42 (dk_at dksX8_init_2_0 14 rfl rfl)
theorem dX8_init_2_15 : decode cX8_init_2 15 = .ok (.iload_n 2, 1) := dk_28 (dk_at dksX8_init_2_0 15 rfl rfl)
theorem dX8_init_2_16 : decode cX8_init_2 16 = .ok (.putfield 18, 3) := dk_181 0 18 (dk_at dksX8_init_2_0 16 rfl rfl)
theorem dX8_init_2_19 : decode cX8_init_2 19 = .ok (.aload_n 0, 1) := dk_42 (dk_at dksX8_init_2_0 19 rfl rfl)
theorem dX8_init_2_20 : decode cX8_init_2 20 = .ok (.iload_n 3, 1) := dk_29 (dk_at dksX8_init_2_0 20 rfl rfl)
theorem dX8_init_2_21 : decode cX8_init_2 21 = .ok (.putfield 21, 3) := dk_181 0 21 (dk_at dksX8_init_2_0 21 rfl rfl)
theorem dX8_init_2_24 : decode cX8_init_2 24 = .ok (.return_, 1) := dk_177 (dk_at dksX8_init_2_1 0 rfl rfl)
abbrev cJ16_max : ByteArray := prog_29_method_65_code
def yJ16_max : MethodName := ⟨RJ16, "max", "(II)I"⟩
def dkwJ16_max_0 : List UInt8 := [26, 27, 161, 0, 7, 26, 167, 0, 4, 27, 172]
abbrev dktJ16_max_0 : List UInt8 := dkwJ16_max_0 ++ []
theorem dksJ16_max_0 : cJ16_max.data.toList.drop 0 = dktJ16_max_0 := by decide +kernel
theorem dJ16_max_0 : decode cJ16_max 0 = .ok (.iload_n 0, 1) := dk_26 (dk_at dksJ16_max_0 0 rfl rfl)
theorem dJ16_max_1 : decode cJ16_max 1 = .ok (.iload_n 1, 1) := dk_27 (dk_at dksJ16_max_0 1 rfl rfl)
theorem dJ16_max_2 : decode cJ16_max 2 = .ok (.if_icmp .lt 7, 3) := dk_161 0 7 (dk_at dksJ16_max_0 2 rfl rfl)
theorem dJ16_max_5 : decode cJ16_max 5 = .ok (.iload_n 0, 1) := dk_26 (dk_at dksJ16_max_0 5 rfl rfl)
theorem dJ16_max_6 : decode cJ16_max 6 = .ok (.goto 4, 3) := dk_167 0 4 (dk_at dksJ16_max_0 6 rfl rfl)
theorem dJ16_max_9 : decode cJ16_max 9 = .ok (.iload_n 1, 1) := dk_27 (dk_at dksJ16_max_0 9 rfl rfl)
theorem dJ16_max_10 : decode cJ16_max 10 = .ok (.ireturn, 1) := dk_172 (dk_at dksJ16_max_0 10 rfl rfl)
abbrev cJ16_min : ByteArray := prog_29_method_69_code
def yJ16_min : MethodName := ⟨RJ16, "min", "(II)I"⟩
def dkwJ16_min_0 : List UInt8 := [26, 27, 163, 0, 7, 26, 167, 0, 4, 27, 172]
abbrev dktJ16_min_0 : List UInt8 := dkwJ16_min_0 ++ []
theorem dksJ16_min_0 : cJ16_min.data.toList.drop 0 = dktJ16_min_0 := by decide +kernel
theorem dJ16_min_0 : decode cJ16_min 0 = .ok (.iload_n 0, 1) := dk_26 (dk_at dksJ16_min_0 0 rfl rfl)
theorem dJ16_min_1 : decode cJ16_min 1 = .ok (.iload_n 1, 1) := dk_27 (dk_at dksJ16_min_0 1 rfl rfl)
theorem dJ16_min_2 : decode cJ16_min 2 = .ok (.if_icmp .gt 7, 3) := dk_163 0 7 (dk_at dksJ16_min_0 2 rfl rfl)
theorem dJ16_min_5 : decode cJ16_min 5 = .ok (.iload_n 0, 1) := dk_26 (dk_at dksJ16_min_0 5 rfl rfl)
theorem dJ16_min_6 : decode cJ16_min 6 = .ok (.goto 4, 3) := dk_167 0 4 (dk_at dksJ16_min_0 6 rfl rfl)
theorem dJ16_min_9 : decode cJ16_min 9 = .ok (.iload_n 1, 1) := dk_27 (dk_at dksJ16_min_0 9 rfl rfl)
theorem dJ16_min_10 : decode cJ16_min 10 = .ok (.ireturn, 1) := dk_172 (dk_at dksJ16_min_0 10 rfl rfl)
abbrev cX10_atLeastNothing : ByteArray := prog_6_method_6_code
def yX10_atLeastNothing : MethodName := ⟨RX10, "atLeastNothing", "(I)I"⟩
def dkwX10_atLeastNothing_0 : List UInt8 := [3, 26, 184, 0, 21, 172]
abbrev dktX10_atLeastNothing_0 : List UInt8 := dkwX10_atLeastNothing_0 ++ []
theorem dksX10_atLeastNothing_0 : cX10_atLeastNothing.data.toList.drop 0 = dktX10_atLeastNothing_0 := by decide +kernel
theorem dX10_atLeastNothing_0 : decode cX10_atLeastNothing 0 = .ok (.iconst 0, 1) := dk_3 (dk_at dksX10_atLeastNothing_0 0 rfl rfl)
theorem dX10_atLeastNothing_1 : decode cX10_atLeastNothing 1 = .ok (.iload_n 0, 1) := dk_26 (dk_at dksX10_atLeastNothing_0 1 rfl rfl)
theorem dX10_atLeastNothing_2 : decode cX10_atLeastNothing 2 = .ok (.invokestatic 21, 3) := dk_184 0 21 (dk_at dksX10_atLeastNothing_0 2 rfl rfl)
theorem dX10_atLeastNothing_5 : decode cX10_atLeastNothing 5 = .ok (.ireturn, 1) := dk_172 (dk_at dksX10_atLeastNothing_0 5 rfl rfl)
abbrev cX11_isLoose : ByteArray := prog_5_method_2_code
def yX11_isLoose : MethodName := ⟨RX11, "isLoose", "()Z"⟩
def dkwX11_isLoose_0 : List UInt8 := [42, 185, 0, 3, 1, 0, 184, 0, 9, 172]
abbrev dktX11_isLoose_0 : List UInt8 := dkwX11_isLoose_0 ++ []
theorem dksX11_isLoose_0 : cX11_isLoose.data.toList.drop 0 = dktX11_isLoose_0 := by decide +kernel
theorem dX11_isLoose_0 : decode cX11_isLoose 0 = .ok (.aload_n 0, 1) := dk_42 (dk_at dksX11_isLoose_0 0 rfl rfl)
theorem dX11_isLoose_1 : decode cX11_isLoose 1 = .ok (.invokeinterface 3 1, 5) := by decide +kernel
theorem dX11_isLoose_6 : decode cX11_isLoose 6 = .ok (.invokestatic 9, 3) := dk_184 0 9 (dk_at dksX11_isLoose_0 6 rfl rfl)
theorem dX11_isLoose_9 : decode cX11_isLoose 9 = .ok (.ireturn, 1) := dk_172 (dk_at dksX11_isLoose_0 9 rfl rfl)
abbrev cX11_wouldBeLoose : ByteArray := prog_5_method_3_code
def yX11_wouldBeLoose : MethodName := ⟨RX11, "wouldBeLoose", "(I)Z"⟩
def dkwX11_wouldBeLoose_0 : List UInt8 := [42, 185, 0, 3, 1, 0, 27, 96, 184, 0, 9, 172]
abbrev dktX11_wouldBeLoose_0 : List UInt8 := dkwX11_wouldBeLoose_0 ++ []
theorem dksX11_wouldBeLoose_0 : cX11_wouldBeLoose.data.toList.drop 0 = dktX11_wouldBeLoose_0 := by decide +kernel
theorem dX11_wouldBeLoose_0 : decode cX11_wouldBeLoose 0 = .ok (.aload_n 0, 1) := dk_42 (dk_at dksX11_wouldBeLoose_0 0 rfl rfl)
theorem dX11_wouldBeLoose_1 : decode cX11_wouldBeLoose 1 = .ok (.invokeinterface 3 1, 5) := by decide +kernel
theorem dX11_wouldBeLoose_6 : decode cX11_wouldBeLoose 6 = .ok (.iload_n 1, 1) := dk_27 (dk_at dksX11_wouldBeLoose_0 6 rfl rfl)
theorem dX11_wouldBeLoose_7 : decode cX11_wouldBeLoose 7 = .ok (.iadd, 1) := dk_96 (dk_at dksX11_wouldBeLoose_0 7 rfl rfl)
theorem dX11_wouldBeLoose_8 : decode cX11_wouldBeLoose 8 = .ok (.invokestatic 9, 3) := dk_184 0 9 (dk_at dksX11_wouldBeLoose_0 8 rfl rfl)
theorem dX11_wouldBeLoose_11 : decode cX11_wouldBeLoose 11 = .ok (.ireturn, 1) := dk_172 (dk_at dksX11_wouldBeLoose_0 11 rfl rfl)
abbrev cX6_init : ByteArray := prog_2_method_2_code
def yX6_init : MethodName := ⟨RX6, "<init>", "(LGargoyleTower$Block;)V"⟩
def dkwX6_init_2 : List UInt8 := [42, 43, 180, 0, 18, 181, 0, 18, 177]
abbrev dktX6_init_2 : List UInt8 := dkwX6_init_2 ++ []
def dkwX6_init_1 : List UInt8 := [42, 43, 180, 0, 37, 181, 0, 37, 42, 43, 180, 0, 9, 181, 0, 9, 42, 43, 180, 0, 15, 181, 0, 15]
abbrev dktX6_init_1 : List UInt8 := dkwX6_init_1 ++ dktX6_init_2
def dkwX6_init_0 : List UInt8 := [42, 43, 180, 0, 21, 43, 180, 0, 24, 43, 180, 0, 27, 183, 0, 31, 42, 43, 180, 0, 34, 181, 0, 34]
abbrev dktX6_init_0 : List UInt8 := dkwX6_init_0 ++ dktX6_init_1
theorem dksX6_init_0 : cX6_init.data.toList.drop 0 = dktX6_init_0 := by decide +kernel
theorem dksX6_init_1 : cX6_init.data.toList.drop 24 = dktX6_init_1 := dk_seg dksX6_init_0 24 rfl rfl
theorem dksX6_init_2 : cX6_init.data.toList.drop 48 = dktX6_init_2 := dk_seg dksX6_init_1 24 rfl rfl
theorem dX6_init_0 : decode cX6_init 0 = .ok (.aload_n 0, 1) := dk_42 (dk_at dksX6_init_0 0 rfl rfl)
theorem dX6_init_1 : decode cX6_init 1 = .ok (.aload_n 1, 1) := dk_43 (dk_at dksX6_init_0 1 rfl rfl)
theorem dX6_init_2 : decode cX6_init 2 = .ok (.getfield 21, 3) := dk_180 0 21 (dk_at dksX6_init_0 2 rfl rfl)
theorem dX6_init_5 : decode cX6_init 5 = .ok (.aload_n 1, 1) := dk_43 (dk_at dksX6_init_0 5 rfl rfl)
theorem dX6_init_6 : decode cX6_init 6 = .ok (.getfield 24, 3) := dk_180 0 24 (dk_at dksX6_init_0 6 rfl rfl)
theorem dX6_init_9 : decode cX6_init 9 = .ok (.aload_n 1, 1) := dk_43 (dk_at dksX6_init_0 9 rfl rfl)
theorem dX6_init_10 : decode cX6_init 10 = .ok (.getfield 27, 3) := dk_180 0 27 (dk_at dksX6_init_0 10 rfl rfl)
theorem dX6_init_13 : decode cX6_init 13 = .ok (.invokespecial 31, 3) := dk_183 0 31 (dk_at dksX6_init_0 13 rfl rfl)
theorem dX6_init_16 : decode cX6_init 16 = .ok (.aload_n 0, 1) := dk_42 (dk_at dksX6_init_0 16 rfl rfl)
theorem dX6_init_17 : decode cX6_init 17 = .ok (.aload_n 1, 1) := dk_43 (dk_at dksX6_init_0 17 rfl rfl)
theorem dX6_init_18 : decode cX6_init 18 = .ok (.getfield 34, 3) := dk_180 0 34 (dk_at dksX6_init_0 18 rfl rfl)
theorem dX6_init_21 : decode cX6_init 21 = .ok (.putfield 34, 3) := dk_181 0 34 (dk_at dksX6_init_0 21 rfl rfl)
theorem dX6_init_24 : decode cX6_init 24 = .ok (.aload_n 0, 1) := dk_42 (dk_at dksX6_init_1 0 rfl rfl)
theorem dX6_init_25 : decode cX6_init 25 = .ok (.aload_n 1, 1) := dk_43 (dk_at dksX6_init_1 1 rfl rfl)
theorem dX6_init_26 : decode cX6_init 26 = .ok (.getfield 37, 3) := dk_180 0 37 (dk_at dksX6_init_1 2 rfl rfl)
theorem dX6_init_29 : decode cX6_init 29 = .ok (.putfield 37, 3) := dk_181 0 37 (dk_at dksX6_init_1 5 rfl rfl)
theorem dX6_init_32 : decode cX6_init 32 = .ok (.aload_n 0, 1) := dk_42 (dk_at dksX6_init_1 8 rfl rfl)
theorem dX6_init_33 : decode cX6_init 33 = .ok (.aload_n 1, 1) := dk_43 (dk_at dksX6_init_1 9 rfl rfl)
theorem dX6_init_34 : decode cX6_init 34 = .ok (.getfield 9, 3) := dk_180 0 9 (dk_at dksX6_init_1 10 rfl rfl)
theorem dX6_init_37 : decode cX6_init 37 = .ok (.putfield 9, 3) := dk_181 0 9 (dk_at dksX6_init_1 13 rfl rfl)
theorem dX6_init_40 : decode cX6_init 40 = .ok (.aload_n 0, 1) := dk_42 (dk_at dksX6_init_1 16 rfl rfl)
theorem dX6_init_41 : decode cX6_init 41 = .ok (.aload_n 1, 1) := dk_43 (dk_at dksX6_init_1 17 rfl rfl)
theorem dX6_init_42 : decode cX6_init 42 = .ok (.getfield 15, 3) := dk_180 0 15 (dk_at dksX6_init_1 18 rfl rfl)
theorem dX6_init_45 : decode cX6_init 45 = .ok (.putfield 15, 3) := dk_181 0 15 (dk_at dksX6_init_1 21 rfl rfl)
theorem dX6_init_48 : decode cX6_init 48 = .ok (.aload_n 0, 1) := dk_42 (dk_at dksX6_init_2 0 rfl rfl)
theorem dX6_init_49 : decode cX6_init 49 = .ok (.aload_n 1, 1) := dk_43 (dk_at dksX6_init_2 1 rfl rfl)
theorem dX6_init_50 : decode cX6_init 50 = .ok (.getfield 18, 3) := dk_180 0 18 (dk_at dksX6_init_2 2 rfl rfl)
theorem dX6_init_53 : decode cX6_init 53 = .ok (.putfield 18, 3) := dk_181 0 18 (dk_at dksX6_init_2 5 rfl rfl)
theorem dX6_init_56 : decode cX6_init 56 = .ok (.return_, 1) := dk_177 (dk_at dksX6_init_2 8 rfl rfl)
abbrev cX7_init : ByteArray := prog_9_method_2_code
def yX7_init : MethodName := ⟨RX7, "<init>", "(LGargoyleTower$Rope;)V"⟩
def dkwX7_init_1 : List UInt8 := [42, 43, 180, 0, 9, 181, 0, 9, 177]
abbrev dktX7_init_1 : List UInt8 := dkwX7_init_1 ++ []
def dkwX7_init_0 : List UInt8 := [42, 43, 180, 0, 15, 183, 0, 18, 42, 43, 180, 0, 21, 181, 0, 21, 42, 43, 180, 0, 24, 181, 0, 24]
abbrev dktX7_init_0 : List UInt8 := dkwX7_init_0 ++ dktX7_init_1
theorem dksX7_init_0 : cX7_init.data.toList.drop 0 = dktX7_init_0 := by decide +kernel
theorem dksX7_init_1 : cX7_init.data.toList.drop 24 = dktX7_init_1 := dk_seg dksX7_init_0 24 rfl rfl
theorem dX7_init_0 : decode cX7_init 0 = .ok (.aload_n 0, 1) := dk_42 (dk_at dksX7_init_0 0 rfl rfl)
theorem dX7_init_1 : decode cX7_init 1 = .ok (.aload_n 1, 1) := dk_43 (dk_at dksX7_init_0 1 rfl rfl)
theorem dX7_init_2 : decode cX7_init 2 = .ok (.getfield 15, 3) := dk_180 0 15 (dk_at dksX7_init_0 2 rfl rfl)
theorem dX7_init_5 : decode cX7_init 5 = .ok (.invokespecial 18, 3) := dk_183 0 18 (dk_at dksX7_init_0 5 rfl rfl)
theorem dX7_init_8 : decode cX7_init 8 = .ok (.aload_n 0, 1) := dk_42 (dk_at dksX7_init_0 8 rfl rfl)
theorem dX7_init_9 : decode cX7_init 9 = .ok (.aload_n 1, 1) := dk_43 (dk_at dksX7_init_0 9 rfl rfl)
theorem dX7_init_10 : decode cX7_init 10 = .ok (.getfield 21, 3) := dk_180 0 21 (dk_at dksX7_init_0 10 rfl rfl)
theorem dX7_init_13 : decode cX7_init 13 = .ok (.putfield 21, 3) := dk_181 0 21 (dk_at dksX7_init_0 13 rfl rfl)
theorem dX7_init_16 : decode cX7_init 16 = .ok (.aload_n 0, 1) := dk_42 (dk_at dksX7_init_0 16 rfl rfl)
theorem dX7_init_17 : decode cX7_init 17 = .ok (.aload_n 1, 1) := dk_43 (dk_at dksX7_init_0 17 rfl rfl)
theorem dX7_init_18 : decode cX7_init 18 = .ok (.getfield 24, 3) := dk_180 0 24 (dk_at dksX7_init_0 18 rfl rfl)
theorem dX7_init_21 : decode cX7_init 21 = .ok (.putfield 24, 3) := dk_181 0 24 (dk_at dksX7_init_0 21 rfl rfl)
theorem dX7_init_24 : decode cX7_init 24 = .ok (.aload_n 0, 1) := dk_42 (dk_at dksX7_init_1 0 rfl rfl)
theorem dX7_init_25 : decode cX7_init 25 = .ok (.aload_n 1, 1) := dk_43 (dk_at dksX7_init_1 1 rfl rfl)
theorem dX7_init_26 : decode cX7_init 26 = .ok (.getfield 9, 3) := dk_180 0 9 (dk_at dksX7_init_1 2 rfl rfl)
theorem dX7_init_29 : decode cX7_init 29 = .ok (.putfield 9, 3) := dk_181 0 9 (dk_at dksX7_init_1 5 rfl rfl)
theorem dX7_init_32 : decode cX7_init 32 = .ok (.return_, 1) := dk_177 (dk_at dksX7_init_1 8 rfl rfl)
abbrev cX8_init : ByteArray := prog_3_method_2_code
def yX8_init : MethodName := ⟨RX8, "<init>", "(LGargoyleTower$Commission;)V"⟩
def dkwX8_init_1 : List UInt8 := [177]
abbrev dktX8_init_1 : List UInt8 := dkwX8_init_1 ++ []
def dkwX8_init_0 : List UInt8 := [42, 43, 180, 0, 15, 43, 180, 0, 18, 43, 180, 0, 21, 183, 0, 24, 42, 43, 180, 0, 9, 181, 0, 9]
abbrev dktX8_init_0 : List UInt8 := dkwX8_init_0 ++ dktX8_init_1
theorem dksX8_init_0 : cX8_init.data.toList.drop 0 = dktX8_init_0 := by decide +kernel
theorem dksX8_init_1 : cX8_init.data.toList.drop 24 = dktX8_init_1 := dk_seg dksX8_init_0 24 rfl rfl
theorem dX8_init_0 : decode cX8_init 0 = .ok (.aload_n 0, 1) := dk_42 (dk_at dksX8_init_0 0 rfl rfl)
theorem dX8_init_1 : decode cX8_init 1 = .ok (.aload_n 1, 1) := dk_43 (dk_at dksX8_init_0 1 rfl rfl)
theorem dX8_init_2 : decode cX8_init 2 = .ok (.getfield 15, 3) := dk_180 0 15 (dk_at dksX8_init_0 2 rfl rfl)
theorem dX8_init_5 : decode cX8_init 5 = .ok (.aload_n 1, 1) := dk_43 (dk_at dksX8_init_0 5 rfl rfl)
theorem dX8_init_6 : decode cX8_init 6 = .ok (.getfield 18, 3) := dk_180 0 18 (dk_at dksX8_init_0 6 rfl rfl)
theorem dX8_init_9 : decode cX8_init 9 = .ok (.aload_n 1, 1) := dk_43 (dk_at dksX8_init_0 9 rfl rfl)
theorem dX8_init_10 : decode cX8_init 10 = .ok (.getfield 21, 3) := dk_180 0 21 (dk_at dksX8_init_0 10 rfl rfl)
theorem dX8_init_13 : decode cX8_init 13 = .ok (.invokespecial 24, 3) := dk_183 0 24 (dk_at dksX8_init_0 13 rfl rfl)
theorem dX8_init_16 : decode cX8_init 16 = .ok (.aload_n 0, 1) := dk_42 (dk_at dksX8_init_0 16 rfl rfl)
theorem dX8_init_17 : decode cX8_init 17 = .ok (.aload_n 1, 1) := dk_43 (dk_at dksX8_init_0 17 rfl rfl)
theorem dX8_init_18 : decode cX8_init 18 = .ok (.getfield 9, 3) := dk_180 0 9 (dk_at dksX8_init_0 18 rfl rfl)
theorem dX8_init_21 : decode cX8_init 21 = .ok (.putfield 9, 3) := dk_181 0 9 (dk_at dksX8_init_0 21 rfl rfl)
theorem dX8_init_24 : decode cX8_init 24 = .ok (.return_, 1) := dk_177 (dk_at dksX8_init_1 0 rfl rfl)
abbrev cX10_holds : ByteArray := prog_6_method_3_code
def yX10_holds : MethodName := ⟨RX10, "holds", "()I"⟩
def dkwX10_holds_0 : List UInt8 := [42, 185, 0, 1, 1, 0, 42, 185, 0, 7, 1, 0, 100, 184, 0, 10, 172]
abbrev dktX10_holds_0 : List UInt8 := dkwX10_holds_0 ++ []
theorem dksX10_holds_0 : cX10_holds.data.toList.drop 0 = dktX10_holds_0 := by decide +kernel
theorem dX10_holds_0 : decode cX10_holds 0 = .ok (.aload_n 0, 1) := dk_42 (dk_at dksX10_holds_0 0 rfl rfl)
theorem dX10_holds_1 : decode cX10_holds 1 = .ok (.invokeinterface 1 1, 5) := by decide +kernel
theorem dX10_holds_6 : decode cX10_holds 6 = .ok (.aload_n 0, 1) := dk_42 (dk_at dksX10_holds_0 6 rfl rfl)
theorem dX10_holds_7 : decode cX10_holds 7 = .ok (.invokeinterface 7 1, 5) := by decide +kernel
theorem dX10_holds_12 : decode cX10_holds 12 = .ok (.isub, 1) := dk_100 (dk_at dksX10_holds_0 12 rfl rfl)
theorem dX10_holds_13 : decode cX10_holds 13 = .ok (.invokestatic 10, 3) := dk_184 0 10 (dk_at dksX10_holds_0 13 rfl rfl)
theorem dX10_holds_16 : decode cX10_holds 16 = .ok (.ireturn, 1) := dk_172 (dk_at dksX10_holds_0 16 rfl rfl)
abbrev cX10_isTorn : ByteArray := prog_6_method_4_code
def yX10_isTorn : MethodName := ⟨RX10, "isTorn", "()Z"⟩
def dkwX10_isTorn_0 : List UInt8 := [42, 185, 0, 14, 1, 0, 4, 162, 0, 7, 4, 167, 0, 4, 3, 172]
abbrev dktX10_isTorn_0 : List UInt8 := dkwX10_isTorn_0 ++ []
theorem dksX10_isTorn_0 : cX10_isTorn.data.toList.drop 0 = dktX10_isTorn_0 := by decide +kernel
theorem dX10_isTorn_0 : decode cX10_isTorn 0 = .ok (.aload_n 0, 1) := dk_42 (dk_at dksX10_isTorn_0 0 rfl rfl)
theorem dX10_isTorn_1 : decode cX10_isTorn 1 = .ok (.invokeinterface 14 1, 5) := by decide +kernel
theorem dX10_isTorn_6 : decode cX10_isTorn 6 = .ok (.iconst 1, 1) := dk_4 (dk_at dksX10_isTorn_0 6 rfl rfl)
theorem dX10_isTorn_7 : decode cX10_isTorn 7 = .ok (.if_icmp .ge 7, 3) := dk_162 0 7 (dk_at dksX10_isTorn_0 7 rfl rfl)
theorem dX10_isTorn_10 : decode cX10_isTorn 10 = .ok (.iconst 1, 1) := dk_4 (dk_at dksX10_isTorn_0 10 rfl rfl)
theorem dX10_isTorn_11 : decode cX10_isTorn 11 = .ok (.goto 4, 3) := dk_167 0 4 (dk_at dksX10_isTorn_0 11 rfl rfl)
theorem dX10_isTorn_14 : decode cX10_isTorn 14 = .ok (.iconst 0, 1) := dk_3 (dk_at dksX10_isTorn_0 14 rfl rfl)
theorem dX10_isTorn_15 : decode cX10_isTorn 15 = .ok (.ireturn, 1) := dk_172 (dk_at dksX10_isTorn_0 15 rfl rfl)
abbrev cX10_canHold : ByteArray := prog_6_method_5_code
def yX10_canHold : MethodName := ⟨RX10, "canHold", "(I)Z"⟩
def dkwX10_canHold_1 : List UInt8 := [172]
abbrev dktX10_canHold_1 : List UInt8 := dkwX10_canHold_1 ++ []
def dkwX10_canHold_0 : List UInt8 := [42, 185, 0, 17, 1, 0, 154, 0, 17, 27, 42, 185, 0, 14, 1, 0, 163, 0, 7, 4, 167, 0, 4, 3]
abbrev dktX10_canHold_0 : List UInt8 := dkwX10_canHold_0 ++ dktX10_canHold_1
theorem dksX10_canHold_0 : cX10_canHold.data.toList.drop 0 = dktX10_canHold_0 := by decide +kernel
theorem dksX10_canHold_1 : cX10_canHold.data.toList.drop 24 = dktX10_canHold_1 := dk_seg dksX10_canHold_0 24 rfl rfl
theorem dX10_canHold_0 : decode cX10_canHold 0 = .ok (.aload_n 0, 1) := dk_42 (dk_at dksX10_canHold_0 0 rfl rfl)
theorem dX10_canHold_1 : decode cX10_canHold 1 = .ok (.invokeinterface 17 1, 5) := by decide +kernel
theorem dX10_canHold_6 : decode cX10_canHold 6 = .ok (.ifCond .ne 17, 3) := dk_154 0 17 (dk_at dksX10_canHold_0 6 rfl rfl)
theorem dX10_canHold_9 : decode cX10_canHold 9 = .ok (.iload_n 1, 1) := dk_27 (dk_at dksX10_canHold_0 9 rfl rfl)
theorem dX10_canHold_10 : decode cX10_canHold 10 = .ok (.aload_n 0, 1) := dk_42 (dk_at dksX10_canHold_0 10 rfl rfl)
theorem dX10_canHold_11 : decode cX10_canHold 11 = .ok (.invokeinterface 14 1, 5) := by decide +kernel
theorem dX10_canHold_16 : decode cX10_canHold 16 = .ok (.if_icmp .gt 7, 3) := dk_163 0 7 (dk_at dksX10_canHold_0 16 rfl rfl)
theorem dX10_canHold_19 : decode cX10_canHold 19 = .ok (.iconst 1, 1) := dk_4 (dk_at dksX10_canHold_0 19 rfl rfl)
theorem dX10_canHold_20 : decode cX10_canHold 20 = .ok (.goto 4, 3) := dk_167 0 4 (dk_at dksX10_canHold_0 20 rfl rfl)
theorem dX10_canHold_23 : decode cX10_canHold 23 = .ok (.iconst 0, 1) := dk_3 (dk_at dksX10_canHold_0 23 rfl rfl)
theorem dX10_canHold_24 : decode cX10_canHold 24 = .ok (.ireturn, 1) := dk_172 (dk_at dksX10_canHold_1 0 rfl rfl)
abbrev cX7_wearBy : ByteArray := prog_9_method_5_code
def yX7_wearBy : MethodName := ⟨RX7, "wearBy", "(II)Z"⟩
def dkwX7_wearBy_1 : List UInt8 := [154, 0, 7, 4, 167, 0, 4, 3, 181, 0, 24, 42, 180, 0, 24, 172]
abbrev dktX7_wearBy_1 : List UInt8 := dkwX7_wearBy_1 ++ []
def dkwX7_wearBy_0 : List UInt8 := [42, 89, 180, 0, 21, 27, 96, 181, 0, 21, 42, 42, 180, 0, 24, 154, 0, 11, 42, 28, 182, 0, 28]
abbrev dktX7_wearBy_0 : List UInt8 := dkwX7_wearBy_0 ++ dktX7_wearBy_1
theorem dksX7_wearBy_0 : cX7_wearBy.data.toList.drop 0 = dktX7_wearBy_0 := by decide +kernel
theorem dksX7_wearBy_1 : cX7_wearBy.data.toList.drop 23 = dktX7_wearBy_1 := dk_seg dksX7_wearBy_0 23 rfl rfl
theorem dX7_wearBy_0 : decode cX7_wearBy 0 = .ok (.aload_n 0, 1) := dk_42 (dk_at dksX7_wearBy_0 0 rfl rfl)
theorem dX7_wearBy_1 : decode cX7_wearBy 1 = .ok (.dup, 1) := dk_89 (dk_at dksX7_wearBy_0 1 rfl rfl)
theorem dX7_wearBy_2 : decode cX7_wearBy 2 = .ok (.getfield 21, 3) := dk_180 0 21 (dk_at dksX7_wearBy_0 2 rfl rfl)
theorem dX7_wearBy_5 : decode cX7_wearBy 5 = .ok (.iload_n 1, 1) := dk_27 (dk_at dksX7_wearBy_0 5 rfl rfl)
theorem dX7_wearBy_6 : decode cX7_wearBy 6 = .ok (.iadd, 1) := dk_96 (dk_at dksX7_wearBy_0 6 rfl rfl)
theorem dX7_wearBy_7 : decode cX7_wearBy 7 = .ok (.putfield 21, 3) := dk_181 0 21 (dk_at dksX7_wearBy_0 7 rfl rfl)
theorem dX7_wearBy_10 : decode cX7_wearBy 10 = .ok (.aload_n 0, 1) := dk_42 (dk_at dksX7_wearBy_0 10 rfl rfl)
theorem dX7_wearBy_11 : decode cX7_wearBy 11 = .ok (.aload_n 0, 1) := dk_42 (dk_at dksX7_wearBy_0 11 rfl rfl)
theorem dX7_wearBy_12 : decode cX7_wearBy 12 = .ok (.getfield 24, 3) := dk_180 0 24 (dk_at dksX7_wearBy_0 12 rfl rfl)
theorem dX7_wearBy_15 : decode cX7_wearBy 15 = .ok (.ifCond .ne 11, 3) := dk_154 0 11 (dk_at dksX7_wearBy_0 15 rfl rfl)
theorem dX7_wearBy_18 : decode cX7_wearBy 18 = .ok (.aload_n 0, 1) := dk_42 (dk_at dksX7_wearBy_0 18 rfl rfl)
theorem dX7_wearBy_19 : decode cX7_wearBy 19 = .ok (.iload_n 2, 1) := dk_28 (dk_at dksX7_wearBy_0 19 rfl rfl)
theorem dX7_wearBy_20 : decode cX7_wearBy 20 = .ok (.invokevirtual 28, 3) := dk_182 0 28 (dk_at dksX7_wearBy_0 20 rfl rfl)
theorem dX7_wearBy_23 : decode cX7_wearBy 23 = .ok (.ifCond .ne 7, 3) := dk_154 0 7 (dk_at dksX7_wearBy_1 0 rfl rfl)
theorem dX7_wearBy_26 : decode cX7_wearBy 26 = .ok (.iconst 1, 1) := dk_4 (dk_at dksX7_wearBy_1 3 rfl rfl)
theorem dX7_wearBy_27 : decode cX7_wearBy 27 = .ok (.goto 4, 3) := dk_167 0 4 (dk_at dksX7_wearBy_1 4 rfl rfl)
theorem dX7_wearBy_30 : decode cX7_wearBy 30 = .ok (.iconst 0, 1) := dk_3 (dk_at dksX7_wearBy_1 7 rfl rfl)
theorem dX7_wearBy_31 : decode cX7_wearBy 31 = .ok (.putfield 24, 3) := dk_181 0 24 (dk_at dksX7_wearBy_1 8 rfl rfl)
theorem dX7_wearBy_34 : decode cX7_wearBy 34 = .ok (.aload_n 0, 1) := dk_42 (dk_at dksX7_wearBy_1 11 rfl rfl)
theorem dX7_wearBy_35 : decode cX7_wearBy 35 = .ok (.getfield 24, 3) := dk_180 0 24 (dk_at dksX7_wearBy_1 12 rfl rfl)
theorem dX7_wearBy_38 : decode cX7_wearBy 38 = .ok (.ireturn, 1) := dk_172 (dk_at dksX7_wearBy_1 15 rfl rfl)
theorem q80 : (Jvm.Cond.initialized "GargoyleTower$Weather") ∈ lw_all := lw_g (lw_at lw_m1 6 rfl) rfl
theorem q96 : (Jvm.Cond.initialized "java/lang/Math") ∈ lw_all := lw_g (lw_at lw_m1 22 rfl) rfl
theorem q104 : (Jvm.Cond.initialized "GargoyleTower$Block") ∈ lw_all := lw_g (lw_at lw_m1 30 rfl) rfl
theorem q105 : (Jvm.Cond.initialized "GargoyleTower$Rope") ∈ lw_all := lw_g (lw_at lw_m1 31 rfl) rfl
theorem q106 : (Jvm.Cond.initialized "GargoyleTower$Commission") ∈ lw_all := lw_g (lw_at lw_m1 32 rfl) rfl
theorem q108 : (Jvm.Cond.initialized "GargoyleTower$Holding") ∈ lw_all := lw_g (lw_at lw_m1 34 rfl) rfl
theorem q109 : (Jvm.Cond.initialized "GargoyleTower$Hit") ∈ lw_all := lw_g (lw_at lw_m1 35 rfl) rfl
theorem q130 : (Jvm.Cond.instanceMethod ({ cls := "java/lang/Object", name := "<init>", desc := "()V" } : Jvm.MethodName)) ∈ lw_all := lw_g (lw_at lw_m1 56 rfl) rfl
theorem q131 : (Jvm.Cond.code ({ cls := "java/lang/Object", name := "<init>", desc := "()V" } : Jvm.MethodName) object_method_1_code (1 : Nat) (Option.none : Option Jvm.ClassFile.FieldType)) ∈ lw_all := lw_g (lw_at lw_m1 57 rfl) rfl
theorem q175 : (Jvm.Cond.code ({ cls := "GargoyleTower$Weather", name := "<init>", desc := "()V" } : Jvm.MethodName) prog_11_method_1_code (1 : Nat) (Option.none : Option Jvm.ClassFile.FieldType)) ∈ lw_all := lw_g (lw_at lw_m1 101 rfl) rfl
theorem q176 : (Jvm.Cond.methodLink "GargoyleTower$Weather" (3 : Nat) ({ cls := "java/lang/Object", name := "<init>", desc := "()V" } : Jvm.MethodName)) ∈ lw_all := lw_g (lw_at lw_m1 102 rfl) rfl
theorem q177 : (Jvm.Cond.fieldLink "GargoyleTower$Weather" (9 : Nat) "GargoyleTower$Weather" "seed" "I") ∈ lw_all := lw_g (lw_at lw_m1 103 rfl) rfl
theorem q487 : (Jvm.Cond.static ({ cls := "java/lang/Math", name := "max", desc := "(II)I" } : Jvm.MethodName)) ∈ lw_all := lw_g (lw_at lw_m2 173 rfl) rfl
theorem q488 : (Jvm.Cond.code ({ cls := "java/lang/Math", name := "max", desc := "(II)I" } : Jvm.MethodName) prog_29_method_65_code (2 : Nat) (Option.some Jvm.ClassFile.FieldType.int)) ∈ lw_all := lw_g (lw_at lw_m2 174 rfl) rfl
theorem q506 : (Jvm.Cond.code ({ cls := "java/lang/Math", name := "min", desc := "(II)I" } : Jvm.MethodName) prog_29_method_69_code (2 : Nat) (Option.some Jvm.ClassFile.FieldType.int)) ∈ lw_all := lw_g (lw_at lw_m2 192 rfl) rfl
theorem q866 : (Jvm.Cond.code ({ cls := "GargoyleTower$Commission", name := "isFulfilled", desc := "()Z" } : Jvm.MethodName) prog_3_method_3_code (1 : Nat) (Option.some Jvm.ClassFile.FieldType.boolean)) ∈ lw_all := lw_g (lw_at lw_m4 72 rfl) rfl
theorem q871 : (Jvm.Cond.code ({ cls := "GargoyleTower$Rope", name := "price", desc := "()I" } : Jvm.MethodName) prog_9_method_6_code (1 : Nat) (Option.some Jvm.ClassFile.FieldType.int)) ∈ lw_all := lw_g (lw_at lw_m4 77 rfl) rfl
theorem q884 : (Jvm.Cond.declares ({ cls := "GargoyleTower$Holding", name := "canHold", desc := "(I)Z" } : Jvm.MethodName)) ∈ lw_tbl := lw_at lw_m4 90 rfl
theorem q886 : (Jvm.Cond.instanceMethod ({ cls := "GargoyleTower$Holding", name := "canHold", desc := "(I)Z" } : Jvm.MethodName)) ∈ lw_all := lw_g (lw_at lw_m4 92 rfl) rfl
theorem q888 : (Jvm.Cond.code ({ cls := "GargoyleTower$Holding", name := "canHold", desc := "(I)Z" } : Jvm.MethodName) prog_6_method_5_code (2 : Nat) (Option.some Jvm.ClassFile.FieldType.boolean)) ∈ lw_all := lw_g (lw_at lw_m4 94 rfl) rfl
theorem q890 : (Jvm.Cond.methodLink "GargoyleTower$Holding" (17 : Nat) ({ cls := "GargoyleTower$Holding", name := "isTorn", desc := "()Z" } : Jvm.MethodName)) ∈ lw_all := lw_g (lw_at lw_m4 96 rfl) rfl
theorem q892 : (Jvm.Cond.declares ({ cls := "GargoyleTower$Holding", name := "isTorn", desc := "()Z" } : Jvm.MethodName)) ∈ lw_tbl := lw_at lw_m4 98 rfl
theorem q893 : (Jvm.Cond.castable "GargoyleTower$Rope" "GargoyleTower$Holding") ∈ lw_tbl := lw_at lw_m4 99 rfl
theorem q895 : (Jvm.Cond.instanceMethod ({ cls := "GargoyleTower$Holding", name := "isTorn", desc := "()Z" } : Jvm.MethodName)) ∈ lw_all := lw_g (lw_at lw_m4 101 rfl) rfl
theorem q896 : (Jvm.Cond.publicMethod ({ cls := "GargoyleTower$Holding", name := "isTorn", desc := "()Z" } : Jvm.MethodName)) ∈ lw_tbl := lw_at lw_m4 102 rfl
theorem q897 : (Jvm.Cond.code ({ cls := "GargoyleTower$Holding", name := "isTorn", desc := "()Z" } : Jvm.MethodName) prog_6_method_4_code (1 : Nat) (Option.some Jvm.ClassFile.FieldType.boolean)) ∈ lw_all := lw_g (lw_at lw_m4 103 rfl) rfl
theorem q899 : (Jvm.Cond.methodLink "GargoyleTower$Holding" (14 : Nat) ({ cls := "GargoyleTower$Holding", name := "holds", desc := "()I" } : Jvm.MethodName)) ∈ lw_all := lw_g (lw_at lw_m4 105 rfl) rfl
theorem q901 : (Jvm.Cond.declares ({ cls := "GargoyleTower$Holding", name := "holds", desc := "()I" } : Jvm.MethodName)) ∈ lw_tbl := lw_at lw_m4 107 rfl
theorem q903 : (Jvm.Cond.instanceMethod ({ cls := "GargoyleTower$Holding", name := "holds", desc := "()I" } : Jvm.MethodName)) ∈ lw_all := lw_g (lw_at lw_m4 109 rfl) rfl
theorem q904 : (Jvm.Cond.publicMethod ({ cls := "GargoyleTower$Holding", name := "holds", desc := "()I" } : Jvm.MethodName)) ∈ lw_tbl := lw_at lw_m4 110 rfl
theorem q905 : (Jvm.Cond.code ({ cls := "GargoyleTower$Holding", name := "holds", desc := "()I" } : Jvm.MethodName) prog_6_method_3_code (1 : Nat) (Option.some Jvm.ClassFile.FieldType.int)) ∈ lw_all := lw_g (lw_at lw_m4 111 rfl) rfl
theorem q907 : (Jvm.Cond.methodLink "GargoyleTower$Holding" (1 : Nat) ({ cls := "GargoyleTower$Holding", name := "strength", desc := "()I" } : Jvm.MethodName)) ∈ lw_all := lw_g (lw_at lw_m4 113 rfl) rfl
theorem q909 : (Jvm.Cond.declares ({ cls := "GargoyleTower$Holding", name := "strength", desc := "()I" } : Jvm.MethodName)) ∈ lw_tbl := lw_at lw_m4 115 rfl
theorem q910 : (Jvm.Cond.selects "GargoyleTower$Rope" ({ cls := "GargoyleTower$Holding", name := "strength", desc := "()I" } : Jvm.MethodName) ({ cls := "GargoyleTower$Rope", name := "strength", desc := "()I" } : Jvm.MethodName)) ∈ lw_all := lw_g (lw_at lw_m4 116 rfl) rfl
theorem q911 : (Jvm.Cond.unhidden "GargoyleTower$Rope" "strength" "()I") ∈ lw_tbl := lw_at lw_m4 117 rfl
theorem q912 : (Jvm.Cond.instanceMethod ({ cls := "GargoyleTower$Rope", name := "strength", desc := "()I" } : Jvm.MethodName)) ∈ lw_all := lw_g (lw_at lw_m4 118 rfl) rfl
theorem q913 : (Jvm.Cond.publicMethod ({ cls := "GargoyleTower$Rope", name := "strength", desc := "()I" } : Jvm.MethodName)) ∈ lw_tbl := lw_at lw_m4 119 rfl
theorem q914 : (Jvm.Cond.code ({ cls := "GargoyleTower$Rope", name := "strength", desc := "()I" } : Jvm.MethodName) prog_9_method_3_code (1 : Nat) (Option.some Jvm.ClassFile.FieldType.int)) ∈ lw_all := lw_g (lw_at lw_m4 120 rfl) rfl
theorem q916 : (Jvm.Cond.methodLink "GargoyleTower$Holding" (7 : Nat) ({ cls := "GargoyleTower$Holding", name := "wear", desc := "()I" } : Jvm.MethodName)) ∈ lw_all := lw_g (lw_at lw_m4 122 rfl) rfl
theorem q918 : (Jvm.Cond.declares ({ cls := "GargoyleTower$Holding", name := "wear", desc := "()I" } : Jvm.MethodName)) ∈ lw_tbl := lw_at lw_m4 124 rfl
theorem q919 : (Jvm.Cond.selects "GargoyleTower$Rope" ({ cls := "GargoyleTower$Holding", name := "wear", desc := "()I" } : Jvm.MethodName) ({ cls := "GargoyleTower$Rope", name := "wear", desc := "()I" } : Jvm.MethodName)) ∈ lw_all := lw_g (lw_at lw_m4 125 rfl) rfl
theorem q920 : (Jvm.Cond.unhidden "GargoyleTower$Rope" "wear" "()I") ∈ lw_tbl := lw_at lw_m4 126 rfl
theorem q921 : (Jvm.Cond.instanceMethod ({ cls := "GargoyleTower$Rope", name := "wear", desc := "()I" } : Jvm.MethodName)) ∈ lw_all := lw_g (lw_at lw_m4 127 rfl) rfl
theorem q922 : (Jvm.Cond.publicMethod ({ cls := "GargoyleTower$Rope", name := "wear", desc := "()I" } : Jvm.MethodName)) ∈ lw_tbl := lw_at lw_m4 128 rfl
theorem q923 : (Jvm.Cond.code ({ cls := "GargoyleTower$Rope", name := "wear", desc := "()I" } : Jvm.MethodName) prog_9_method_4_code (1 : Nat) (Option.some Jvm.ClassFile.FieldType.int)) ∈ lw_all := lw_g (lw_at lw_m4 129 rfl) rfl
theorem q924 : (Jvm.Cond.methodLink "GargoyleTower$Holding" (10 : Nat) ({ cls := "GargoyleTower$Holding", name := "atLeastNothing", desc := "(I)I" } : Jvm.MethodName)) ∈ lw_all := lw_g (lw_at lw_m4 130 rfl) rfl
theorem q925 : (Jvm.Cond.static ({ cls := "GargoyleTower$Holding", name := "atLeastNothing", desc := "(I)I" } : Jvm.MethodName)) ∈ lw_all := lw_g (lw_at lw_m4 131 rfl) rfl
theorem q926 : (Jvm.Cond.code ({ cls := "GargoyleTower$Holding", name := "atLeastNothing", desc := "(I)I" } : Jvm.MethodName) prog_6_method_6_code (1 : Nat) (Option.some Jvm.ClassFile.FieldType.int)) ∈ lw_all := lw_g (lw_at lw_m4 132 rfl) rfl
theorem q927 : (Jvm.Cond.methodLink "GargoyleTower$Holding" (21 : Nat) ({ cls := "java/lang/Math", name := "max", desc := "(II)I" } : Jvm.MethodName)) ∈ lw_all := lw_g (lw_at lw_m4 133 rfl) rfl
theorem q933 : (Jvm.Cond.code ({ cls := "GargoyleTower$Hit", name := "isLoose", desc := "()Z" } : Jvm.MethodName) prog_5_method_2_code (1 : Nat) (Option.some Jvm.ClassFile.FieldType.boolean)) ∈ lw_all := lw_g (lw_at lw_m4 139 rfl) rfl
theorem q935 : (Jvm.Cond.methodLink "GargoyleTower$Hit" (3 : Nat) ({ cls := "GargoyleTower$Hit", name := "damage", desc := "()I" } : Jvm.MethodName)) ∈ lw_all := lw_g (lw_at lw_m4 141 rfl) rfl
theorem q937 : (Jvm.Cond.declares ({ cls := "GargoyleTower$Hit", name := "damage", desc := "()I" } : Jvm.MethodName)) ∈ lw_tbl := lw_at lw_m4 143 rfl
theorem q938 : (Jvm.Cond.castable "GargoyleTower$Block" "GargoyleTower$Hit") ∈ lw_tbl := lw_at lw_m4 144 rfl
theorem q939 : (Jvm.Cond.selects "GargoyleTower$Block" ({ cls := "GargoyleTower$Hit", name := "damage", desc := "()I" } : Jvm.MethodName) ({ cls := "GargoyleTower$Block", name := "damage", desc := "()I" } : Jvm.MethodName)) ∈ lw_all := lw_g (lw_at lw_m4 145 rfl) rfl
theorem q940 : (Jvm.Cond.unhidden "GargoyleTower$Block" "damage" "()I") ∈ lw_tbl := lw_at lw_m4 146 rfl
theorem q941 : (Jvm.Cond.instanceMethod ({ cls := "GargoyleTower$Block", name := "damage", desc := "()I" } : Jvm.MethodName)) ∈ lw_all := lw_g (lw_at lw_m4 147 rfl) rfl
theorem q942 : (Jvm.Cond.publicMethod ({ cls := "GargoyleTower$Block", name := "damage", desc := "()I" } : Jvm.MethodName)) ∈ lw_tbl := lw_at lw_m4 148 rfl
theorem q943 : (Jvm.Cond.code ({ cls := "GargoyleTower$Block", name := "damage", desc := "()I" } : Jvm.MethodName) prog_2_method_3_code (1 : Nat) (Option.some Jvm.ClassFile.FieldType.int)) ∈ lw_all := lw_g (lw_at lw_m4 149 rfl) rfl
theorem q944 : (Jvm.Cond.methodLink "GargoyleTower$Hit" (9 : Nat) ({ cls := "GargoyleTower$Hit", name := "isTooMuch", desc := "(I)Z" } : Jvm.MethodName)) ∈ lw_all := lw_g (lw_at lw_m4 150 rfl) rfl
theorem q945 : (Jvm.Cond.static ({ cls := "GargoyleTower$Hit", name := "isTooMuch", desc := "(I)Z" } : Jvm.MethodName)) ∈ lw_all := lw_g (lw_at lw_m4 151 rfl) rfl
theorem q946 : (Jvm.Cond.code ({ cls := "GargoyleTower$Hit", name := "isTooMuch", desc := "(I)Z" } : Jvm.MethodName) prog_5_method_4_code (1 : Nat) (Option.some Jvm.ClassFile.FieldType.boolean)) ∈ lw_all := lw_g (lw_at lw_m4 152 rfl) rfl
theorem q966 : (Jvm.Cond.code ({ cls := "GargoyleTower$Weather", name := "<init>", desc := "(LGargoyleTower$Weather;)V" } : Jvm.MethodName) prog_11_method_2_code (2 : Nat) (Option.none : Option Jvm.ClassFile.FieldType)) ∈ lw_all := lw_g (lw_at lw_m4 172 rfl) rfl
theorem q970 : (Jvm.Cond.code ({ cls := "GargoyleTower$Block", name := "<init>", desc := "(LGargoyleTower$Block;)V" } : Jvm.MethodName) prog_2_method_2_code (2 : Nat) (Option.none : Option Jvm.ClassFile.FieldType)) ∈ lw_all := lw_g (lw_at lw_m4 176 rfl) rfl
theorem q971 : (Jvm.Cond.methodLink "GargoyleTower$Block" (31 : Nat) ({ cls := "GargoyleTower$Block", name := "<init>", desc := "(IIZ)V" } : Jvm.MethodName)) ∈ lw_all := lw_g (lw_at lw_m4 177 rfl) rfl
theorem q972 : (Jvm.Cond.instanceMethod ({ cls := "GargoyleTower$Block", name := "<init>", desc := "(IIZ)V" } : Jvm.MethodName)) ∈ lw_all := lw_g (lw_at lw_m4 178 rfl) rfl
theorem q973 : (Jvm.Cond.code ({ cls := "GargoyleTower$Block", name := "<init>", desc := "(IIZ)V" } : Jvm.MethodName) prog_2_method_1_code (4 : Nat) (Option.none : Option Jvm.ClassFile.FieldType)) ∈ lw_all := lw_g (lw_at lw_m4 179 rfl) rfl
theorem q974 : (Jvm.Cond.methodLink "GargoyleTower$Block" (3 : Nat) ({ cls := "java/lang/Object", name := "<init>", desc := "()V" } : Jvm.MethodName)) ∈ lw_all := lw_g (lw_at lw_m4 180 rfl) rfl
theorem q975 : (Jvm.Cond.fieldLink "GargoyleTower$Block" (21 : Nat) "GargoyleTower$Block" "number" "I") ∈ lw_all := lw_g (lw_at lw_m4 181 rfl) rfl
theorem q978 : (Jvm.Cond.fieldLink "GargoyleTower$Block" (24 : Nat) "GargoyleTower$Block" "weight" "I") ∈ lw_all := lw_g (lw_at lw_m4 184 rfl) rfl
theorem q981 : (Jvm.Cond.fieldLink "GargoyleTower$Block" (27 : Nat) "GargoyleTower$Block" "isWithBed" "Z") ∈ lw_all := lw_g (lw_at lw_m4 187 rfl) rfl
theorem q983 : (Jvm.Cond.fieldLink "GargoyleTower$Block" (34 : Nat) "GargoyleTower$Block" "detail" "I") ∈ lw_all := lw_g (lw_at lw_m4 189 rfl) rfl
theorem q986 : (Jvm.Cond.fieldLink "GargoyleTower$Block" (37 : Nat) "GargoyleTower$Block" "damage" "I") ∈ lw_all := lw_g (lw_at lw_m4 192 rfl) rfl
theorem q989 : (Jvm.Cond.fieldLink "GargoyleTower$Block" (9 : Nat) "GargoyleTower$Block" "where" "I") ∈ lw_all := lw_g (lw_at lw_m4 195 rfl) rfl
theorem q992 : (Jvm.Cond.fieldLink "GargoyleTower$Block" (15 : Nat) "GargoyleTower$Block" "place" "I") ∈ lw_all := lw_g (lw_at lw_m4 198 rfl) rfl
theorem q995 : (Jvm.Cond.fieldLink "GargoyleTower$Block" (18 : Nat) "GargoyleTower$Block" "commission" "I") ∈ lw_all := lw_g (lw_at lw_m4 201 rfl) rfl
theorem q1046 : (Jvm.Cond.code ({ cls := "GargoyleTower$Rope", name := "<init>", desc := "(LGargoyleTower$Rope;)V" } : Jvm.MethodName) prog_9_method_2_code (2 : Nat) (Option.none : Option Jvm.ClassFile.FieldType)) ∈ lw_all := lw_g (lw_at lw_m5 12 rfl) rfl
theorem q1047 : (Jvm.Cond.methodLink "GargoyleTower$Rope" (18 : Nat) ({ cls := "GargoyleTower$Rope", name := "<init>", desc := "(I)V" } : Jvm.MethodName)) ∈ lw_all := lw_g (lw_at lw_m5 13 rfl) rfl
theorem q1048 : (Jvm.Cond.instanceMethod ({ cls := "GargoyleTower$Rope", name := "<init>", desc := "(I)V" } : Jvm.MethodName)) ∈ lw_all := lw_g (lw_at lw_m5 14 rfl) rfl
theorem q1049 : (Jvm.Cond.code ({ cls := "GargoyleTower$Rope", name := "<init>", desc := "(I)V" } : Jvm.MethodName) prog_9_method_1_code (2 : Nat) (Option.none : Option Jvm.ClassFile.FieldType)) ∈ lw_all := lw_g (lw_at lw_m5 15 rfl) rfl
theorem q1050 : (Jvm.Cond.methodLink "GargoyleTower$Rope" (3 : Nat) ({ cls := "java/lang/Object", name := "<init>", desc := "()V" } : Jvm.MethodName)) ∈ lw_all := lw_g (lw_at lw_m5 16 rfl) rfl
theorem q1051 : (Jvm.Cond.fieldLink "GargoyleTower$Rope" (15 : Nat) "GargoyleTower$Rope" "strength" "I") ∈ lw_all := lw_g (lw_at lw_m5 17 rfl) rfl
theorem q1053 : (Jvm.Cond.fieldLink "GargoyleTower$Rope" (21 : Nat) "GargoyleTower$Rope" "wear" "I") ∈ lw_all := lw_g (lw_at lw_m5 19 rfl) rfl
theorem q1055 : (Jvm.Cond.fieldLink "GargoyleTower$Rope" (24 : Nat) "GargoyleTower$Rope" "wasTorn" "Z") ∈ lw_all := lw_g (lw_at lw_m5 21 rfl) rfl
theorem q1056 : (Jvm.Cond.fieldLink "GargoyleTower$Rope" (9 : Nat) "GargoyleTower$Rope" "block" "I") ∈ lw_all := lw_g (lw_at lw_m5 22 rfl) rfl
theorem q1071 : (Jvm.Cond.code ({ cls := "GargoyleTower$Commission", name := "<init>", desc := "(LGargoyleTower$Commission;)V" } : Jvm.MethodName) prog_3_method_2_code (2 : Nat) (Option.none : Option Jvm.ClassFile.FieldType)) ∈ lw_all := lw_g (lw_at lw_m5 37 rfl) rfl
theorem q1072 : (Jvm.Cond.methodLink "GargoyleTower$Commission" (24 : Nat) ({ cls := "GargoyleTower$Commission", name := "<init>", desc := "(III)V" } : Jvm.MethodName)) ∈ lw_all := lw_g (lw_at lw_m5 38 rfl) rfl
theorem q1073 : (Jvm.Cond.instanceMethod ({ cls := "GargoyleTower$Commission", name := "<init>", desc := "(III)V" } : Jvm.MethodName)) ∈ lw_all := lw_g (lw_at lw_m5 39 rfl) rfl
theorem q1074 : (Jvm.Cond.code ({ cls := "GargoyleTower$Commission", name := "<init>", desc := "(III)V" } : Jvm.MethodName) prog_3_method_1_code (4 : Nat) (Option.none : Option Jvm.ClassFile.FieldType)) ∈ lw_all := lw_g (lw_at lw_m5 40 rfl) rfl
theorem q1075 : (Jvm.Cond.methodLink "GargoyleTower$Commission" (3 : Nat) ({ cls := "java/lang/Object", name := "<init>", desc := "()V" } : Jvm.MethodName)) ∈ lw_all := lw_g (lw_at lw_m5 41 rfl) rfl
theorem q1076 : (Jvm.Cond.fieldLink "GargoyleTower$Commission" (15 : Nat) "GargoyleTower$Commission" "face" "I") ∈ lw_all := lw_g (lw_at lw_m5 42 rfl) rfl
theorem q1079 : (Jvm.Cond.fieldLink "GargoyleTower$Commission" (18 : Nat) "GargoyleTower$Commission" "detail" "I") ∈ lw_all := lw_g (lw_at lw_m5 45 rfl) rfl
theorem q1082 : (Jvm.Cond.fieldLink "GargoyleTower$Commission" (21 : Nat) "GargoyleTower$Commission" "pay" "I") ∈ lw_all := lw_g (lw_at lw_m5 48 rfl) rfl
theorem q1085 : (Jvm.Cond.fieldLink "GargoyleTower$Commission" (9 : Nat) "GargoyleTower$Commission" "block" "I") ∈ lw_all := lw_g (lw_at lw_m5 51 rfl) rfl
theorem q1284 : (Jvm.Cond.code ({ cls := "GargoyleTower$Block", name := "times", desc := "(I)I" } : Jvm.MethodName) prog_2_method_4_code (2 : Nat) (Option.some Jvm.ClassFile.FieldType.int)) ∈ lw_all := lw_g (lw_at lw_m6 10 rfl) rfl
theorem q1304 : (Jvm.Cond.code ({ cls := "GargoyleTower$Block", name := "go", desc := "(II)V" } : Jvm.MethodName) prog_2_method_5_code (3 : Nat) (Option.none : Option Jvm.ClassFile.FieldType)) ∈ lw_all := lw_g (lw_at lw_m6 30 rfl) rfl
theorem q1321 : (Jvm.Cond.code ({ cls := "GargoyleTower$Rope", name := "wearBy", desc := "(II)Z" } : Jvm.MethodName) prog_9_method_5_code (3 : Nat) (Option.some Jvm.ClassFile.FieldType.boolean)) ∈ lw_all := lw_g (lw_at lw_m6 47 rfl) rfl
theorem q1352 : (Jvm.Cond.code ({ cls := "GargoyleTower$Weather", name := "draw", desc := "()V" } : Jvm.MethodName) prog_11_method_3_code (1 : Nat) (Option.none : Option Jvm.ClassFile.FieldType)) ∈ lw_all := lw_g (lw_at lw_m6 78 rfl) rfl
theorem q1356 : (Jvm.Cond.code ({ cls := "GargoyleTower$Weather", name := "isStorm", desc := "()Z" } : Jvm.MethodName) prog_11_method_5_code (1 : Nat) (Option.some Jvm.ClassFile.FieldType.boolean)) ∈ lw_all := lw_g (lw_at lw_m6 82 rfl) rfl
theorem q1364 : (Jvm.Cond.code ({ cls := "GargoyleTower$Weather", name := "face", desc := "()I" } : Jvm.MethodName) prog_11_method_4_code (1 : Nat) (Option.some Jvm.ClassFile.FieldType.int)) ∈ lw_all := lw_g (lw_at lw_m6 90 rfl) rfl
theorem q1674 : (Jvm.Cond.code ({ cls := "GargoyleTower$Hit", name := "wouldBeLoose", desc := "(I)Z" } : Jvm.MethodName) prog_5_method_3_code (2 : Nat) (Option.some Jvm.ClassFile.FieldType.boolean)) ∈ lw_all := lw_g (lw_at lw_m7 160 rfl) rfl
theorem np0 : gh_np "()I" 0 := by unfold gh_np; decide +kernel
theorem np1 : gh_np "(II)I" 2 := by unfold gh_np; decide +kernel
theorem np2 : gh_np "(I)Z" 1 := by unfold gh_np; decide +kernel
theorem np3 : gh_np "(IIZ)V" 3 := by unfold gh_np; decide +kernel
theorem np4 : gh_np "(I)V" 1 := by unfold gh_np; decide +kernel
theorem np5 : gh_np "(III)V" 3 := by unfold gh_np; decide +kernel
theorem np6 : gh_np "(I)I" 1 := by unfold gh_np; decide +kernel
theorem np7 : gh_np "()Z" 0 := by unfold gh_np; decide +kernel
theorem mh_X6 : gh_mh "GargoyleTower$Block" := ⟨by decide, by decide⟩
theorem mh_X8 : gh_mh "GargoyleTower$Commission" := ⟨by decide, by decide⟩
theorem mh_X11 : gh_mh "GargoyleTower$Hit" := ⟨by decide, by decide⟩
theorem mh_X10 : gh_mh "GargoyleTower$Holding" := ⟨by decide, by decide⟩
theorem mh_X7 : gh_mh "GargoyleTower$Rope" := ⟨by decide, by decide⟩
theorem mh_J16 : gh_mh "java/lang/Math" := ⟨by decide, by decide⟩
theorem dw_1 : Cond.sameMethod "GargoyleTower$Rope" "GargoyleTower$Holding" "canHold" "(I)Z" ∈ defaultWords_1 := List.mem_of_getElem? (i := 1) rfl
theorem dw_8 : Cond.methodLink "GargoyleTower$Rope" 28 ⟨"GargoyleTower$Rope", "canHold", "(I)Z"⟩ ∈ defaultWords_1 := List.mem_of_getElem? (i := 8) rfl
-- GargoyleTower$Hit.isTooMuch(I)Z
noncomputable def f_X11_isTooMuch (p0 : Int32) : gh_M Int32 :=
  if p0 < (10 : Int32) then
  (gh_rz .boolean (0 : Int32))
  else
  (gh_rz .boolean (1 : Int32))
theorem w_X11_isTooMuch {x : gh_C} {g : gh_G} {o : (Int32 ⊕ gh_X) × gh_G} {ls : Array Slot} (C : gh_K x cX11_isTooMuch "GargoyleTower$Hit" 1 (some .boolean) "isTooMuch" 0 0 []) (p0 : Int32) (hl : gh_lv ls 1 [(0, .int p0)]) (h : gh_run (f_X11_isTooMuch p0) g = some o) (hk : (gh_K0 x gh_rI) o) : gh_Wd x g (F0 (gh_cm x) 0 ls []) := by
  unfold f_X11_isTooMuch at h
  refine gr_iload_n (pc := 0) (i := 0) C rfl (gl_at hl 0 rfl) dX11_isTooMuch_0 ?_
  refine gr_bipush (pc := 1) (v := (10 : Int32)) C rfl dX11_isTooMuch_1 ?_
  refine gr_icmp_lt (pc := 3) (tgt := 10) C rfl dX11_isTooMuch_3 (fun c9 => ?_) (fun c9 => ?_)
  · replace h := gh_ift h c9
    refine gr_iconst (pc := 10) (v := (0 : Int32)) C rfl dX11_isTooMuch_10 ?_
    exact gr_bret (pc := 11) C dX11_isTooMuch_11 h hk
  · replace h := gh_iff h c9
    refine gr_iconst (pc := 6) (v := (1 : Int32)) C rfl dX11_isTooMuch_6 ?_
    refine gr_goto (pc := 7) (tgt := 11) C rfl dX11_isTooMuch_7 ?_
    exact gr_bret (pc := 11) C dX11_isTooMuch_11 h hk

theorem k_X11_isTooMuch {l : Launch} (hst : l.stackTraces = false) (p0 : Int32) : gh_Ct l yX11_isTooMuch 0 12 (f_X11_isTooMuch p0) gh_rI [.int p0] := gh_intro2 (L1 := 0) hst (by decide +kernel) q946 q109 rfl ⟨rfl, trivial⟩ (Nat.le_of_ble_eq_true rfl) fun x o ls hl C h hk => w_X11_isTooMuch C p0 hl h hk
-- GargoyleTower$Weather.<init>()V
noncomputable def f_X3_init (t0 : Nat) : gh_M Unit :=
  gh_bd (gh_putv t0 2 0 .int (.int (3 : Int32))) fun _ =>
  gh_ret ()
theorem w_X3_init {x : gh_C} {g : gh_G} {o : (Unit ⊕ gh_X) × gh_G} {ls : Array Slot} (C : gh_K x cX3_init "GargoyleTower$Weather" 1 none "<init>" 1 20 []) (t0 : Nat) (hl : gh_lv ls 1 [(0, va_rf (some t0))]) (h : gh_run (f_X3_init t0) g = some o) (hk : (gh_K0 x gh_rV) o) : gh_Wd x g (F0 (gh_cm x) 0 ls []) := by
  unfold f_X3_init at h
  refine gr_aload_n (pc := 0) (i := 0) C rfl (gl_at hl 0 rfl) dX3_init_0 ?_
  refine gr_oinit (pc := 1) C q176 q130 q131 hl.1.1 (Nat.le_of_ble_eq_true rfl) (Nat.le_of_ble_eq_true rfl) (Nat.le_of_ble_eq_true rfl) dX3_init_1 ?_
  refine gr_aload_n (pc := 4) (i := 0) C rfl (gl_at hl 0 rfl) dX3_init_4 ?_
  refine gr_iconst (pc := 5) (v := (3 : Int32)) C rfl dX3_init_5 ?_
  refine gr_putp (pc := 6) C gh_bX3 (k := 0) (Nat.le_of_ble_eq_true rfl) q177 (fun _ h => h) rfl dX3_init_6 h fun g h => ?_
  exact gr_vret (pc := 9) C dX3_init_9 h hk

theorem k_X3_init {l : Launch} (hst : l.stackTraces = false) (t0 : Nat) : gh_Ct l yX3_init 1 32 (f_X3_init t0) gh_rV [va_rf (some t0)] := gh_intro2 (L1 := 20) hst (by decide +kernel) q175 q80 rfl ⟨gh_cat _, trivial⟩ (Nat.le_of_ble_eq_true rfl) fun x o ls hl C h hk => w_X3_init C t0 hl h hk
-- GargoyleTower$Weather.<init>(LGargoyleTower$Weather;)V
noncomputable def f_X3_init_2 (t0 : Nat) (p1 : Option Nat) : gh_M Unit :=
  gh_bd (gh_putv t0 2 0 .int (.int (3 : Int32))) fun _ =>
  gh_nn p1 fun a1 =>
  gh_bd (gh_geti a1 2 0) fun v2 =>
  gh_bd (gh_putv t0 2 0 .int (.int v2)) fun _ =>
  gh_ret ()
theorem w_X3_init_2 {x : gh_C} {g : gh_G} {o : (Unit ⊕ gh_X) × gh_G} {ls : Array Slot} (C : gh_K x cX3_init_2 "GargoyleTower$Weather" 2 none "<init>" 1 20 []) (t0 : Nat) (p1 : Option Nat) (hl : gh_lv ls 2 [(0, va_rf (some t0)), (1, va_rf p1)]) (h : gh_run (f_X3_init_2 t0 p1) g = some o) (hk : (gh_K0 x gh_rV) o) : gh_Wd x g (F0 (gh_cm x) 0 ls []) := by
  unfold f_X3_init_2 at h
  refine gr_aload_n (pc := 0) (i := 0) C rfl (gl_at hl 0 rfl) dX3_init_2_0 ?_
  refine gr_oinit (pc := 1) C q176 q130 q131 hl.1.1 (Nat.le_of_ble_eq_true rfl) (Nat.le_of_ble_eq_true rfl) (Nat.le_of_ble_eq_true rfl) dX3_init_2_1 ?_
  refine gr_aload_n (pc := 4) (i := 0) C rfl (gl_at hl 0 rfl) dX3_init_2_4 ?_
  refine gr_iconst (pc := 5) (v := (3 : Int32)) C rfl dX3_init_2_5 ?_
  refine gr_putp (pc := 6) C gh_bX3 (k := 0) (Nat.le_of_ble_eq_true rfl) q177 (fun _ h => h) rfl dX3_init_2_6 h fun g h => ?_
  refine gr_aload_n (pc := 9) (i := 0) C rfl (gl_at hl 0 rfl) dX3_init_2_9 ?_
  refine gr_aload_n (pc := 10) (i := 1) C rfl (gl_at hl 1 rfl) dX3_init_2_10 ?_
  rcases p1 with _ | a1
  · exact gh_stk_inv h
  replace h := gh_nn_ss h
  refine gr_geti (pc := 11) C gh_bX3 (k := 0) (Nat.le_of_ble_eq_true rfl) q177 (fun _ h => h) dX3_init_2_11 h fun v2 h => ?_
  refine gr_putp (pc := 14) C gh_bX3 (k := 0) (Nat.le_of_ble_eq_true rfl) q177 (fun _ h => h) rfl dX3_init_2_14 h fun g h => ?_
  exact gr_vret (pc := 17) C dX3_init_2_17 h hk

theorem k_X3_init_2 {l : Launch} (hst : l.stackTraces = false) (t0 : Nat) (p1 : Option Nat) : gh_Ct l yX3_init_2 1 33 (f_X3_init_2 t0 p1) gh_rV [va_rf (some t0), va_rf p1] := gh_intro2 (L1 := 20) hst (by decide +kernel) q966 q80 rfl ⟨gh_cat _, gh_cat _, trivial⟩ (Nat.le_of_ble_eq_true rfl) fun x o ls hl C h hk => w_X3_init_2 C t0 p1 hl h hk
-- GargoyleTower$Weather.draw()V
noncomputable def f_X3_draw (t0 : Nat) : gh_M Unit :=
  gh_bd (gh_geti t0 2 0) fun v1 =>
  gh_bd (gh_putv t0 2 0 .int (.int ((((137 : Int32) * v1) + (61 : Int32)) - (((137 : Int32) * v1) + (61 : Int32)) / (10000 : Int32) * (10000 : Int32)))) fun _ =>
  gh_ret ()
theorem w_X3_draw {x : gh_C} {g : gh_G} {o : (Unit ⊕ gh_X) × gh_G} {ls : Array Slot} (C : gh_K x cX3_draw "GargoyleTower$Weather" 1 none "draw" 0 0 []) (t0 : Nat) (hl : gh_lv ls 1 [(0, va_rf (some t0))]) (h : gh_run (f_X3_draw t0) g = some o) (hk : (gh_K0 x gh_rV) o) : gh_Wd x g (F0 (gh_cm x) 0 ls []) := by
  unfold f_X3_draw at h
  refine gr_aload_n (pc := 0) (i := 0) C rfl (gl_at hl 0 rfl) dX3_draw_0 ?_
  refine gr_sipush (pc := 1) (v := (137 : Int32)) C rfl dX3_draw_1 ?_
  refine gr_aload_n (pc := 4) (i := 0) C rfl (gl_at hl 0 rfl) dX3_draw_4 ?_
  refine gr_geti (pc := 5) C gh_bX3 (k := 0) (Nat.le_of_ble_eq_true rfl) q177 (fun _ h => h) dX3_draw_5 h fun v1 h => ?_
  refine gr_imul (pc := 8) C dX3_draw_8 ?_
  refine gr_bipush (pc := 9) (v := (61 : Int32)) C rfl dX3_draw_9 ?_
  refine gr_iadd (pc := 11) C dX3_draw_11 ?_
  refine gr_sipush (pc := 12) (v := (10000 : Int32)) C rfl dX3_draw_12 ?_
  refine gr_irem (pc := 15) C (by decide) dX3_draw_15 ?_
  refine gr_putp (pc := 16) C gh_bX3 (k := 0) (Nat.le_of_ble_eq_true rfl) q177 (fun _ h => h) rfl dX3_draw_16 h fun g h => ?_
  exact gr_vret (pc := 19) C dX3_draw_19 h hk

theorem k_X3_draw {l : Launch} (hst : l.stackTraces = false) (t0 : Nat) : gh_Ct l yX3_draw 0 12 (f_X3_draw t0) gh_rV [va_rf (some t0)] := gh_intro2 (L1 := 0) hst (by decide +kernel) q1352 q80 rfl ⟨gh_cat _, trivial⟩ (Nat.le_of_ble_eq_true rfl) fun x o ls hl C h hk => w_X3_draw C t0 hl h hk
-- GargoyleTower$Weather.isStorm()Z
noncomputable def f_X3_isStorm (t0 : Nat) : gh_M Int32 :=
  gh_bd (gh_geti t0 2 0) fun v1 =>
  if ((v1 / (4 : Int32)) - (v1 / (4 : Int32)) / (5 : Int32) * (5 : Int32)) = 0 then
  (gh_rz .boolean (1 : Int32))
  else
  (gh_rz .boolean (0 : Int32))
theorem w_X3_isStorm {x : gh_C} {g : gh_G} {o : (Int32 ⊕ gh_X) × gh_G} {ls : Array Slot} (C : gh_K x cX3_isStorm "GargoyleTower$Weather" 1 (some .boolean) "isStorm" 0 0 []) (t0 : Nat) (hl : gh_lv ls 1 [(0, va_rf (some t0))]) (h : gh_run (f_X3_isStorm t0) g = some o) (hk : (gh_K0 x gh_rI) o) : gh_Wd x g (F0 (gh_cm x) 0 ls []) := by
  unfold f_X3_isStorm at h
  refine gr_aload_n (pc := 0) (i := 0) C rfl (gl_at hl 0 rfl) dX3_isStorm_0 ?_
  refine gr_geti (pc := 1) C gh_bX3 (k := 0) (Nat.le_of_ble_eq_true rfl) q177 (fun _ h => h) dX3_isStorm_1 h fun v1 h => ?_
  refine gr_iconst (pc := 4) (v := (4 : Int32)) C rfl dX3_isStorm_4 ?_
  refine gr_idiv (pc := 5) C (by decide) dX3_isStorm_5 ?_
  refine gr_iconst (pc := 6) (v := (5 : Int32)) C rfl dX3_isStorm_6 ?_
  refine gr_irem (pc := 7) C (by decide) dX3_isStorm_7 ?_
  refine gr_if_ne (pc := 8) (tgt := 15) C rfl dX3_isStorm_8 (fun c9 => ?_) (fun c9 => ?_)
  · replace h := gh_iff h c9
    refine gr_iconst (pc := 15) (v := (0 : Int32)) C rfl dX3_isStorm_15 ?_
    exact gr_bret (pc := 16) C dX3_isStorm_16 h hk
  · replace h := gh_ift h c9
    refine gr_iconst (pc := 11) (v := (1 : Int32)) C rfl dX3_isStorm_11 ?_
    refine gr_goto (pc := 12) (tgt := 16) C rfl dX3_isStorm_12 ?_
    exact gr_bret (pc := 16) C dX3_isStorm_16 h hk

theorem k_X3_isStorm {l : Launch} (hst : l.stackTraces = false) (t0 : Nat) : gh_Ct l yX3_isStorm 0 12 (f_X3_isStorm t0) gh_rI [va_rf (some t0)] := gh_intro2 (L1 := 0) hst (by decide +kernel) q1356 q80 rfl ⟨gh_cat _, trivial⟩ (Nat.le_of_ble_eq_true rfl) fun x o ls hl C h hk => w_X3_isStorm C t0 hl h hk
-- GargoyleTower$Weather.face()I
noncomputable def f_X3_face (t0 : Nat) : gh_M Int32 :=
  gh_bd (gh_geti t0 2 0) fun v1 =>
  gh_ret (v1 - v1 / (4 : Int32) * (4 : Int32))
theorem w_X3_face {x : gh_C} {g : gh_G} {o : (Int32 ⊕ gh_X) × gh_G} {ls : Array Slot} (C : gh_K x cX3_face "GargoyleTower$Weather" 1 (some .int) "face" 0 0 []) (t0 : Nat) (hl : gh_lv ls 1 [(0, va_rf (some t0))]) (h : gh_run (f_X3_face t0) g = some o) (hk : (gh_K0 x gh_rI) o) : gh_Wd x g (F0 (gh_cm x) 0 ls []) := by
  unfold f_X3_face at h
  refine gr_aload_n (pc := 0) (i := 0) C rfl (gl_at hl 0 rfl) dX3_face_0 ?_
  refine gr_geti (pc := 1) C gh_bX3 (k := 0) (Nat.le_of_ble_eq_true rfl) q177 (fun _ h => h) dX3_face_1 h fun v1 h => ?_
  refine gr_iconst (pc := 4) (v := (4 : Int32)) C rfl dX3_face_4 ?_
  refine gr_irem (pc := 5) C (by decide) dX3_face_5 ?_
  exact gr_iret (pc := 6) C dX3_face_6 h hk

theorem k_X3_face {l : Launch} (hst : l.stackTraces = false) (t0 : Nat) : gh_Ct l yX3_face 0 12 (f_X3_face t0) gh_rI [va_rf (some t0)] := gh_intro2 (L1 := 0) hst (by decide +kernel) q1364 q80 rfl ⟨gh_cat _, trivial⟩ (Nat.le_of_ble_eq_true rfl) fun x o ls hl C h hk => w_X3_face C t0 hl h hk
-- GargoyleTower$Block.damage()I
noncomputable def f_X6_damage (t0 : Nat) : gh_M Int32 :=
  gh_bd (gh_geti t0 5 4) fun v1 =>
  gh_ret v1
theorem w_X6_damage {x : gh_C} {g : gh_G} {o : (Int32 ⊕ gh_X) × gh_G} {ls : Array Slot} (C : gh_K x cX6_damage "GargoyleTower$Block" 1 (some .int) "damage" 0 0 []) (t0 : Nat) (hl : gh_lv ls 1 [(0, va_rf (some t0))]) (h : gh_run (f_X6_damage t0) g = some o) (hk : (gh_K0 x gh_rI) o) : gh_Wd x g (F0 (gh_cm x) 0 ls []) := by
  unfold f_X6_damage at h
  refine gr_aload_n (pc := 0) (i := 0) C rfl (gl_at hl 0 rfl) dX6_damage_0 ?_
  refine gr_geti (pc := 1) C gh_bX6 (k := 4) (Nat.le_of_ble_eq_true rfl) q986 (fun _ h => h) dX6_damage_1 h fun v1 h => ?_
  exact gr_iret (pc := 4) C dX6_damage_4 h hk

theorem k_X6_damage {l : Launch} (hst : l.stackTraces = false) (t0 : Nat) : gh_Ct l yX6_damage 0 12 (f_X6_damage t0) gh_rI [va_rf (some t0)] := gh_intro2 (L1 := 0) hst (by decide +kernel) q943 q104 rfl ⟨gh_cat _, trivial⟩ (Nat.le_of_ble_eq_true rfl) fun x o ls hl C h hk => w_X6_damage C t0 hl h hk
-- GargoyleTower$Block.<init>(IIZ)V
noncomputable def f_X6_init_2 (t0 : Nat) (p1 : Int32) (p2 : Int32) (p3 : Int32) : gh_M Unit :=
  gh_bd (gh_putv t0 5 5 .int (.int (0 : Int32))) fun _ =>
  gh_bd (gh_putv t0 5 6 .int (.int (-1 : Int32))) fun _ =>
  gh_bd (gh_putv t0 5 7 .int (.int (-1 : Int32))) fun _ =>
  gh_bd (gh_putv t0 5 0 .int (.int p1)) fun _ =>
  gh_bd (gh_putv t0 5 1 .int (.int p2)) fun _ =>
  gh_bd (gh_putv t0 5 2 .boolean (.int p3)) fun _ =>
  gh_ret ()
theorem w_X6_init_2 {x : gh_C} {g : gh_G} {o : (Unit ⊕ gh_X) × gh_G} {ls : Array Slot} (C : gh_K x cX6_init_2 "GargoyleTower$Block" 4 none "<init>" 1 20 []) (t0 : Nat) (p1 : Int32) (p2 : Int32) (p3 : Int32) (hl : gh_lv ls 4 [(0, va_rf (some t0)), (1, .int p1), (2, .int p2), (3, .int p3)]) (h : gh_run (f_X6_init_2 t0 p1 p2 p3) g = some o) (hk : (gh_K0 x gh_rV) o) : gh_Wd x g (F0 (gh_cm x) 0 ls []) := by
  unfold f_X6_init_2 at h
  refine gr_aload_n (pc := 0) (i := 0) C rfl (gl_at hl 0 rfl) dX6_init_2_0 ?_
  refine gr_oinit (pc := 1) C q974 q130 q131 hl.1.1 (Nat.le_of_ble_eq_true rfl) (Nat.le_of_ble_eq_true rfl) (Nat.le_of_ble_eq_true rfl) dX6_init_2_1 ?_
  refine gr_aload_n (pc := 4) (i := 0) C rfl (gl_at hl 0 rfl) dX6_init_2_4 ?_
  refine gr_iconst (pc := 5) (v := (0 : Int32)) C rfl dX6_init_2_5 ?_
  refine gr_putp (pc := 6) C gh_bX6 (k := 5) (Nat.le_of_ble_eq_true rfl) q989 (fun _ h => h) rfl dX6_init_2_6 h fun g h => ?_
  refine gr_aload_n (pc := 9) (i := 0) C rfl (gl_at hl 0 rfl) dX6_init_2_9 ?_
  refine gr_iconst (pc := 10) (v := (-1 : Int32)) C rfl dX6_init_2_10 ?_
  refine gr_putp (pc := 11) C gh_bX6 (k := 6) (Nat.le_of_ble_eq_true rfl) q992 (fun _ h => h) rfl dX6_init_2_11 h fun g h => ?_
  refine gr_aload_n (pc := 14) (i := 0) C rfl (gl_at hl 0 rfl) dX6_init_2_14 ?_
  refine gr_iconst (pc := 15) (v := (-1 : Int32)) C rfl dX6_init_2_15 ?_
  refine gr_putp (pc := 16) C gh_bX6 (k := 7) (Nat.le_of_ble_eq_true rfl) q995 (fun _ h => h) rfl dX6_init_2_16 h fun g h => ?_
  refine gr_aload_n (pc := 19) (i := 0) C rfl (gl_at hl 0 rfl) dX6_init_2_19 ?_
  refine gr_iload_n (pc := 20) (i := 1) C rfl (gl_at hl 1 rfl) dX6_init_2_20 ?_
  refine gr_putF (pc := 21) C gh_bX6 (k := 0) (Nat.le_of_ble_eq_true rfl) q975 (fun _ h => h) rfl rfl dX6_init_2_21 h fun g h => ?_
  refine gr_aload_n (pc := 24) (i := 0) C rfl (gl_at hl 0 rfl) dX6_init_2_24 ?_
  refine gr_iload_n (pc := 25) (i := 2) C rfl (gl_at hl 2 rfl) dX6_init_2_25 ?_
  refine gr_putF (pc := 26) C gh_bX6 (k := 1) (Nat.le_of_ble_eq_true rfl) q978 (fun _ h => h) rfl rfl dX6_init_2_26 h fun g h => ?_
  refine gr_aload_n (pc := 29) (i := 0) C rfl (gl_at hl 0 rfl) dX6_init_2_29 ?_
  refine gr_iload_n (pc := 30) (i := 3) C rfl (gl_at hl 3 rfl) dX6_init_2_30 ?_
  refine gr_putF (pc := 31) C gh_bX6 (k := 2) (Nat.le_of_ble_eq_true rfl) q981 (fun _ h => h) rfl rfl dX6_init_2_31 h fun g h => ?_
  exact gr_vret (pc := 34) C dX6_init_2_34 h hk

theorem k_X6_init_2 {l : Launch} (hst : l.stackTraces = false) (t0 : Nat) (p1 : Int32) (p2 : Int32) (p3 : Int32) : gh_Ct l yX6_init_2 1 35 (f_X6_init_2 t0 p1 p2 p3) gh_rV [va_rf (some t0), .int p1, .int p2, .int p3] := gh_intro2 (L1 := 20) hst (by decide +kernel) q973 q104 rfl ⟨gh_cat _, rfl, rfl, rfl, trivial⟩ (Nat.le_of_ble_eq_true rfl) fun x o ls hl C h hk => w_X6_init_2 C t0 p1 p2 p3 hl h hk
-- GargoyleTower$Block.times(I)I
noncomputable def f_X6_times (t0 : Nat) (p1 : Int32) : gh_M Int32 :=
  gh_bd (gh_geti t0 5 2) fun v1 =>
  if v1 = 0 then
  (gh_ret ((2 : Int32) * p1))
  else
  (gh_ret p1)
theorem w_X6_times {x : gh_C} {g : gh_G} {o : (Int32 ⊕ gh_X) × gh_G} {ls : Array Slot} (C : gh_K x cX6_times "GargoyleTower$Block" 2 (some .int) "times" 0 0 []) (t0 : Nat) (p1 : Int32) (hl : gh_lv ls 2 [(0, va_rf (some t0)), (1, .int p1)]) (h : gh_run (f_X6_times t0 p1) g = some o) (hk : (gh_K0 x gh_rI) o) : gh_Wd x g (F0 (gh_cm x) 0 ls []) := by
  unfold f_X6_times at h
  refine gr_aload_n (pc := 0) (i := 0) C rfl (gl_at hl 0 rfl) dX6_times_0 ?_
  refine gr_geti (pc := 1) C gh_bX6 (k := 2) (Nat.le_of_ble_eq_true rfl) q981 (fun _ h => h) dX6_times_1 h fun v1 h => ?_
  refine gr_if_eq (pc := 4) (tgt := 11) C rfl dX6_times_4 (fun c9 => ?_) (fun c9 => ?_)
  · replace h := gh_ift h c9
    refine gr_iconst (pc := 11) (v := (2 : Int32)) C rfl dX6_times_11 ?_
    refine gr_iload_n (pc := 12) (i := 1) C rfl (gl_at hl 1 rfl) dX6_times_12 ?_
    refine gr_imul (pc := 13) C dX6_times_13 ?_
    exact gr_iret (pc := 14) C dX6_times_14 h hk
  · replace h := gh_iff h c9
    refine gr_iload_n (pc := 7) (i := 1) C rfl (gl_at hl 1 rfl) dX6_times_7 ?_
    refine gr_goto (pc := 8) (tgt := 14) C rfl dX6_times_8 ?_
    exact gr_iret (pc := 14) C dX6_times_14 h hk

theorem k_X6_times {l : Launch} (hst : l.stackTraces = false) (t0 : Nat) (p1 : Int32) : gh_Ct l yX6_times 0 13 (f_X6_times t0 p1) gh_rI [va_rf (some t0), .int p1] := gh_intro2 (L1 := 0) hst (by decide +kernel) q1284 q104 rfl ⟨gh_cat _, rfl, trivial⟩ (Nat.le_of_ble_eq_true rfl) fun x o ls hl C h hk => w_X6_times C t0 p1 hl h hk
-- GargoyleTower$Block.go(II)V
noncomputable def f_X6_go (t0 : Nat) (p1 : Int32) (p2 : Int32) : gh_M Unit :=
  gh_bd (gh_putv t0 5 5 .int (.int p1)) fun _ =>
  gh_bd (gh_putv t0 5 6 .int (.int p2)) fun _ =>
  gh_ret ()
theorem w_X6_go {x : gh_C} {g : gh_G} {o : (Unit ⊕ gh_X) × gh_G} {ls : Array Slot} (C : gh_K x cX6_go "GargoyleTower$Block" 3 none "go" 0 0 []) (t0 : Nat) (p1 : Int32) (p2 : Int32) (hl : gh_lv ls 3 [(0, va_rf (some t0)), (1, .int p1), (2, .int p2)]) (h : gh_run (f_X6_go t0 p1 p2) g = some o) (hk : (gh_K0 x gh_rV) o) : gh_Wd x g (F0 (gh_cm x) 0 ls []) := by
  unfold f_X6_go at h
  refine gr_aload_n (pc := 0) (i := 0) C rfl (gl_at hl 0 rfl) dX6_go_0 ?_
  refine gr_iload_n (pc := 1) (i := 1) C rfl (gl_at hl 1 rfl) dX6_go_1 ?_
  refine gr_putp (pc := 2) C gh_bX6 (k := 5) (Nat.le_of_ble_eq_true rfl) q989 (fun _ h => h) rfl dX6_go_2 h fun g h => ?_
  refine gr_aload_n (pc := 5) (i := 0) C rfl (gl_at hl 0 rfl) dX6_go_5 ?_
  refine gr_iload_n (pc := 6) (i := 2) C rfl (gl_at hl 2 rfl) dX6_go_6 ?_
  refine gr_putp (pc := 7) C gh_bX6 (k := 6) (Nat.le_of_ble_eq_true rfl) q992 (fun _ h => h) rfl dX6_go_7 h fun g h => ?_
  exact gr_vret (pc := 10) C dX6_go_10 h hk

theorem k_X6_go {l : Launch} (hst : l.stackTraces = false) (t0 : Nat) (p1 : Int32) (p2 : Int32) : gh_Ct l yX6_go 0 14 (f_X6_go t0 p1 p2) gh_rV [va_rf (some t0), .int p1, .int p2] := gh_intro2 (L1 := 0) hst (by decide +kernel) q1304 q104 rfl ⟨gh_cat _, rfl, rfl, trivial⟩ (Nat.le_of_ble_eq_true rfl) fun x o ls hl C h hk => w_X6_go C t0 p1 p2 hl h hk
-- GargoyleTower$Rope.price()I
noncomputable def f_X7_price (t0 : Nat) : gh_M Int32 :=
  gh_bd (gh_geti t0 6 0) fun v1 =>
  gh_ret (v1 / (2 : Int32))
theorem w_X7_price {x : gh_C} {g : gh_G} {o : (Int32 ⊕ gh_X) × gh_G} {ls : Array Slot} (C : gh_K x cX7_price "GargoyleTower$Rope" 1 (some .int) "price" 0 0 []) (t0 : Nat) (hl : gh_lv ls 1 [(0, va_rf (some t0))]) (h : gh_run (f_X7_price t0) g = some o) (hk : (gh_K0 x gh_rI) o) : gh_Wd x g (F0 (gh_cm x) 0 ls []) := by
  unfold f_X7_price at h
  refine gr_aload_n (pc := 0) (i := 0) C rfl (gl_at hl 0 rfl) dX7_price_0 ?_
  refine gr_geti (pc := 1) C gh_bX7 (k := 0) (Nat.le_of_ble_eq_true rfl) q1051 (fun _ h => h) dX7_price_1 h fun v1 h => ?_
  refine gr_iconst (pc := 4) (v := (2 : Int32)) C rfl dX7_price_4 ?_
  refine gr_idiv (pc := 5) C (by decide) dX7_price_5 ?_
  exact gr_iret (pc := 6) C dX7_price_6 h hk

theorem k_X7_price {l : Launch} (hst : l.stackTraces = false) (t0 : Nat) : gh_Ct l yX7_price 0 12 (f_X7_price t0) gh_rI [va_rf (some t0)] := gh_intro2 (L1 := 0) hst (by decide +kernel) q871 q105 rfl ⟨gh_cat _, trivial⟩ (Nat.le_of_ble_eq_true rfl) fun x o ls hl C h hk => w_X7_price C t0 hl h hk
-- GargoyleTower$Rope.strength()I
noncomputable def f_X7_strength (t0 : Nat) : gh_M Int32 :=
  gh_bd (gh_geti t0 6 2) fun v1 =>
  if v1 = 0 then
  (gh_bd (gh_geti t0 6 0) fun v2 =>
  gh_ret v2)
  else
  (gh_ret (0 : Int32))
theorem w_X7_strength {x : gh_C} {g : gh_G} {o : (Int32 ⊕ gh_X) × gh_G} {ls : Array Slot} (C : gh_K x cX7_strength "GargoyleTower$Rope" 1 (some .int) "strength" 0 0 []) (t0 : Nat) (hl : gh_lv ls 1 [(0, va_rf (some t0))]) (h : gh_run (f_X7_strength t0) g = some o) (hk : (gh_K0 x gh_rI) o) : gh_Wd x g (F0 (gh_cm x) 0 ls []) := by
  unfold f_X7_strength at h
  refine gr_aload_n (pc := 0) (i := 0) C rfl (gl_at hl 0 rfl) dX7_strength_0 ?_
  refine gr_geti (pc := 1) C gh_bX7 (k := 2) (Nat.le_of_ble_eq_true rfl) q1055 (fun _ h => h) dX7_strength_1 h fun v1 h => ?_
  refine gr_if_eq (pc := 4) (tgt := 11) C rfl dX7_strength_4 (fun c9 => ?_) (fun c9 => ?_)
  · replace h := gh_ift h c9
    refine gr_aload_n (pc := 11) (i := 0) C rfl (gl_at hl 0 rfl) dX7_strength_11 ?_
    refine gr_geti (pc := 12) C gh_bX7 (k := 0) (Nat.le_of_ble_eq_true rfl) q1051 (fun _ h => h) dX7_strength_12 h fun v2 h => ?_
    exact gr_iret (pc := 15) C dX7_strength_15 h hk
  · replace h := gh_iff h c9
    refine gr_iconst (pc := 7) (v := (0 : Int32)) C rfl dX7_strength_7 ?_
    refine gr_goto (pc := 8) (tgt := 15) C rfl dX7_strength_8 ?_
    exact gr_iret (pc := 15) C dX7_strength_15 h hk

theorem k_X7_strength {l : Launch} (hst : l.stackTraces = false) (t0 : Nat) : gh_Ct l yX7_strength 0 12 (f_X7_strength t0) gh_rI [va_rf (some t0)] := gh_intro2 (L1 := 0) hst (by decide +kernel) q914 q105 rfl ⟨gh_cat _, trivial⟩ (Nat.le_of_ble_eq_true rfl) fun x o ls hl C h hk => w_X7_strength C t0 hl h hk
-- GargoyleTower$Rope.wear()I
noncomputable def f_X7_wear (t0 : Nat) : gh_M Int32 :=
  gh_bd (gh_geti t0 6 1) fun v1 =>
  gh_ret v1
theorem w_X7_wear {x : gh_C} {g : gh_G} {o : (Int32 ⊕ gh_X) × gh_G} {ls : Array Slot} (C : gh_K x cX7_wear "GargoyleTower$Rope" 1 (some .int) "wear" 0 0 []) (t0 : Nat) (hl : gh_lv ls 1 [(0, va_rf (some t0))]) (h : gh_run (f_X7_wear t0) g = some o) (hk : (gh_K0 x gh_rI) o) : gh_Wd x g (F0 (gh_cm x) 0 ls []) := by
  unfold f_X7_wear at h
  refine gr_aload_n (pc := 0) (i := 0) C rfl (gl_at hl 0 rfl) dX7_wear_0 ?_
  refine gr_geti (pc := 1) C gh_bX7 (k := 1) (Nat.le_of_ble_eq_true rfl) q1053 (fun _ h => h) dX7_wear_1 h fun v1 h => ?_
  exact gr_iret (pc := 4) C dX7_wear_4 h hk

theorem k_X7_wear {l : Launch} (hst : l.stackTraces = false) (t0 : Nat) : gh_Ct l yX7_wear 0 12 (f_X7_wear t0) gh_rI [va_rf (some t0)] := gh_intro2 (L1 := 0) hst (by decide +kernel) q923 q105 rfl ⟨gh_cat _, trivial⟩ (Nat.le_of_ble_eq_true rfl) fun x o ls hl C h hk => w_X7_wear C t0 hl h hk
-- GargoyleTower$Rope.<init>(I)V
noncomputable def f_X7_init_2 (t0 : Nat) (p1 : Int32) : gh_M Unit :=
  gh_bd (gh_putv t0 6 3 .int (.int (-1 : Int32))) fun _ =>
  gh_bd (gh_putv t0 6 0 .int (.int p1)) fun _ =>
  gh_ret ()
theorem w_X7_init_2 {x : gh_C} {g : gh_G} {o : (Unit ⊕ gh_X) × gh_G} {ls : Array Slot} (C : gh_K x cX7_init_2 "GargoyleTower$Rope" 2 none "<init>" 1 20 []) (t0 : Nat) (p1 : Int32) (hl : gh_lv ls 2 [(0, va_rf (some t0)), (1, .int p1)]) (h : gh_run (f_X7_init_2 t0 p1) g = some o) (hk : (gh_K0 x gh_rV) o) : gh_Wd x g (F0 (gh_cm x) 0 ls []) := by
  unfold f_X7_init_2 at h
  refine gr_aload_n (pc := 0) (i := 0) C rfl (gl_at hl 0 rfl) dX7_init_2_0 ?_
  refine gr_oinit (pc := 1) C q1050 q130 q131 hl.1.1 (Nat.le_of_ble_eq_true rfl) (Nat.le_of_ble_eq_true rfl) (Nat.le_of_ble_eq_true rfl) dX7_init_2_1 ?_
  refine gr_aload_n (pc := 4) (i := 0) C rfl (gl_at hl 0 rfl) dX7_init_2_4 ?_
  refine gr_iconst (pc := 5) (v := (-1 : Int32)) C rfl dX7_init_2_5 ?_
  refine gr_putp (pc := 6) C gh_bX7 (k := 3) (Nat.le_of_ble_eq_true rfl) q1056 (fun _ h => h) rfl dX7_init_2_6 h fun g h => ?_
  refine gr_aload_n (pc := 9) (i := 0) C rfl (gl_at hl 0 rfl) dX7_init_2_9 ?_
  refine gr_iload_n (pc := 10) (i := 1) C rfl (gl_at hl 1 rfl) dX7_init_2_10 ?_
  refine gr_putF (pc := 11) C gh_bX7 (k := 0) (Nat.le_of_ble_eq_true rfl) q1051 (fun _ h => h) rfl rfl dX7_init_2_11 h fun g h => ?_
  exact gr_vret (pc := 14) C dX7_init_2_14 h hk

theorem k_X7_init_2 {l : Launch} (hst : l.stackTraces = false) (t0 : Nat) (p1 : Int32) : gh_Ct l yX7_init_2 1 33 (f_X7_init_2 t0 p1) gh_rV [va_rf (some t0), .int p1] := gh_intro2 (L1 := 20) hst (by decide +kernel) q1049 q105 rfl ⟨gh_cat _, rfl, trivial⟩ (Nat.le_of_ble_eq_true rfl) fun x o ls hl C h hk => w_X7_init_2 C t0 p1 hl h hk
-- GargoyleTower$Commission.isFulfilled()Z
noncomputable def f_X8_isFulfilled (t0 : Nat) : gh_M Int32 :=
  gh_bd (gh_geti t0 7 3) fun v1 =>
  if v1 = (-1 : Int32) then
  (gh_rz .boolean (0 : Int32))
  else
  (gh_rz .boolean (1 : Int32))
theorem w_X8_isFulfilled {x : gh_C} {g : gh_G} {o : (Int32 ⊕ gh_X) × gh_G} {ls : Array Slot} (C : gh_K x cX8_isFulfilled "GargoyleTower$Commission" 1 (some .boolean) "isFulfilled" 0 0 []) (t0 : Nat) (hl : gh_lv ls 1 [(0, va_rf (some t0))]) (h : gh_run (f_X8_isFulfilled t0) g = some o) (hk : (gh_K0 x gh_rI) o) : gh_Wd x g (F0 (gh_cm x) 0 ls []) := by
  unfold f_X8_isFulfilled at h
  refine gr_aload_n (pc := 0) (i := 0) C rfl (gl_at hl 0 rfl) dX8_isFulfilled_0 ?_
  refine gr_geti (pc := 1) C gh_bX8 (k := 3) (Nat.le_of_ble_eq_true rfl) q1085 (fun _ h => h) dX8_isFulfilled_1 h fun v1 h => ?_
  refine gr_iconst (pc := 4) (v := (-1 : Int32)) C rfl dX8_isFulfilled_4 ?_
  refine gr_icmp_eq (pc := 5) (tgt := 12) C rfl dX8_isFulfilled_5 (fun c9 => ?_) (fun c9 => ?_)
  · replace h := gh_ift h c9
    refine gr_iconst (pc := 12) (v := (0 : Int32)) C rfl dX8_isFulfilled_12 ?_
    exact gr_bret (pc := 13) C dX8_isFulfilled_13 h hk
  · replace h := gh_iff h c9
    refine gr_iconst (pc := 8) (v := (1 : Int32)) C rfl dX8_isFulfilled_8 ?_
    refine gr_goto (pc := 9) (tgt := 13) C rfl dX8_isFulfilled_9 ?_
    exact gr_bret (pc := 13) C dX8_isFulfilled_13 h hk

theorem k_X8_isFulfilled {l : Launch} (hst : l.stackTraces = false) (t0 : Nat) : gh_Ct l yX8_isFulfilled 0 12 (f_X8_isFulfilled t0) gh_rI [va_rf (some t0)] := gh_intro2 (L1 := 0) hst (by decide +kernel) q866 q106 rfl ⟨gh_cat _, trivial⟩ (Nat.le_of_ble_eq_true rfl) fun x o ls hl C h hk => w_X8_isFulfilled C t0 hl h hk
-- GargoyleTower$Commission.<init>(III)V
noncomputable def f_X8_init_2 (t0 : Nat) (p1 : Int32) (p2 : Int32) (p3 : Int32) : gh_M Unit :=
  gh_bd (gh_putv t0 7 3 .int (.int (-1 : Int32))) fun _ =>
  gh_bd (gh_putv t0 7 0 .int (.int p1)) fun _ =>
  gh_bd (gh_putv t0 7 1 .int (.int p2)) fun _ =>
  gh_bd (gh_putv t0 7 2 .int (.int p3)) fun _ =>
  gh_ret ()
theorem w_X8_init_2 {x : gh_C} {g : gh_G} {o : (Unit ⊕ gh_X) × gh_G} {ls : Array Slot} (C : gh_K x cX8_init_2 "GargoyleTower$Commission" 4 none "<init>" 1 20 []) (t0 : Nat) (p1 : Int32) (p2 : Int32) (p3 : Int32) (hl : gh_lv ls 4 [(0, va_rf (some t0)), (1, .int p1), (2, .int p2), (3, .int p3)]) (h : gh_run (f_X8_init_2 t0 p1 p2 p3) g = some o) (hk : (gh_K0 x gh_rV) o) : gh_Wd x g (F0 (gh_cm x) 0 ls []) := by
  unfold f_X8_init_2 at h
  refine gr_aload_n (pc := 0) (i := 0) C rfl (gl_at hl 0 rfl) dX8_init_2_0 ?_
  refine gr_oinit (pc := 1) C q1075 q130 q131 hl.1.1 (Nat.le_of_ble_eq_true rfl) (Nat.le_of_ble_eq_true rfl) (Nat.le_of_ble_eq_true rfl) dX8_init_2_1 ?_
  refine gr_aload_n (pc := 4) (i := 0) C rfl (gl_at hl 0 rfl) dX8_init_2_4 ?_
  refine gr_iconst (pc := 5) (v := (-1 : Int32)) C rfl dX8_init_2_5 ?_
  refine gr_putp (pc := 6) C gh_bX8 (k := 3) (Nat.le_of_ble_eq_true rfl) q1085 (fun _ h => h) rfl dX8_init_2_6 h fun g h => ?_
  refine gr_aload_n (pc := 9) (i := 0) C rfl (gl_at hl 0 rfl) dX8_init_2_9 ?_
  refine gr_iload_n (pc := 10) (i := 1) C rfl (gl_at hl 1 rfl) dX8_init_2_10 ?_
  refine gr_putF (pc := 11) C gh_bX8 (k := 0) (Nat.le_of_ble_eq_true rfl) q1076 (fun _ h => h) rfl rfl dX8_init_2_11 h fun g h => ?_
  refine gr_aload_n (pc := 14) (i := 0) C rfl (gl_at hl 0 rfl) dX8_init_2_14 ?_
  refine gr_iload_n (pc := 15) (i := 2) C rfl (gl_at hl 2 rfl) dX8_init_2_15 ?_
  refine gr_putF (pc := 16) C gh_bX8 (k := 1) (Nat.le_of_ble_eq_true rfl) q1079 (fun _ h => h) rfl rfl dX8_init_2_16 h fun g h => ?_
  refine gr_aload_n (pc := 19) (i := 0) C rfl (gl_at hl 0 rfl) dX8_init_2_19 ?_
  refine gr_iload_n (pc := 20) (i := 3) C rfl (gl_at hl 3 rfl) dX8_init_2_20 ?_
  refine gr_putF (pc := 21) C gh_bX8 (k := 2) (Nat.le_of_ble_eq_true rfl) q1082 (fun _ h => h) rfl rfl dX8_init_2_21 h fun g h => ?_
  exact gr_vret (pc := 24) C dX8_init_2_24 h hk

theorem k_X8_init_2 {l : Launch} (hst : l.stackTraces = false) (t0 : Nat) (p1 : Int32) (p2 : Int32) (p3 : Int32) : gh_Ct l yX8_init_2 1 35 (f_X8_init_2 t0 p1 p2 p3) gh_rV [va_rf (some t0), .int p1, .int p2, .int p3] := gh_intro2 (L1 := 20) hst (by decide +kernel) q1074 q106 rfl ⟨gh_cat _, rfl, rfl, rfl, trivial⟩ (Nat.le_of_ble_eq_true rfl) fun x o ls hl C h hk => w_X8_init_2 C t0 p1 p2 p3 hl h hk
-- Math.max(II)I
noncomputable def f_J16_max (p0 : Int32) (p1 : Int32) : gh_M Int32 :=
  if p0 < p1 then
  (gh_ret p1)
  else
  (gh_ret p0)
theorem w_J16_max {x : gh_C} {g : gh_G} {o : (Int32 ⊕ gh_X) × gh_G} {ls : Array Slot} (C : gh_K x cJ16_max "java/lang/Math" 2 (some .int) "max" 0 0 []) (p0 : Int32) (p1 : Int32) (hl : gh_lv ls 2 [(0, .int p0), (1, .int p1)]) (h : gh_run (f_J16_max p0 p1) g = some o) (hk : (gh_K0 x gh_rI) o) : gh_Wd x g (F0 (gh_cm x) 0 ls []) := by
  unfold f_J16_max at h
  refine gr_iload_n (pc := 0) (i := 0) C rfl (gl_at hl 0 rfl) dJ16_max_0 ?_
  refine gr_iload_n (pc := 1) (i := 1) C rfl (gl_at hl 1 rfl) dJ16_max_1 ?_
  refine gr_icmp_lt (pc := 2) (tgt := 9) C rfl dJ16_max_2 (fun c9 => ?_) (fun c9 => ?_)
  · replace h := gh_ift h c9
    refine gr_iload_n (pc := 9) (i := 1) C rfl (gl_at hl 1 rfl) dJ16_max_9 ?_
    exact gr_iret (pc := 10) C dJ16_max_10 h hk
  · replace h := gh_iff h c9
    refine gr_iload_n (pc := 5) (i := 0) C rfl (gl_at hl 0 rfl) dJ16_max_5 ?_
    refine gr_goto (pc := 6) (tgt := 10) C rfl dJ16_max_6 ?_
    exact gr_iret (pc := 10) C dJ16_max_10 h hk

theorem k_J16_max {l : Launch} (hst : l.stackTraces = false) (p0 : Int32) (p1 : Int32) : gh_Ct l yJ16_max 0 13 (f_J16_max p0 p1) gh_rI [.int p0, .int p1] := gh_intro2 (L1 := 0) hst (by decide +kernel) q488 q96 rfl ⟨rfl, rfl, trivial⟩ (Nat.le_of_ble_eq_true rfl) fun x o ls hl C h hk => w_J16_max C p0 p1 hl h hk
-- Math.min(II)I
noncomputable def f_J16_min (p0 : Int32) (p1 : Int32) : gh_M Int32 :=
  if p1 < p0 then
  (gh_ret p1)
  else
  (gh_ret p0)
theorem w_J16_min {x : gh_C} {g : gh_G} {o : (Int32 ⊕ gh_X) × gh_G} {ls : Array Slot} (C : gh_K x cJ16_min "java/lang/Math" 2 (some .int) "min" 0 0 []) (p0 : Int32) (p1 : Int32) (hl : gh_lv ls 2 [(0, .int p0), (1, .int p1)]) (h : gh_run (f_J16_min p0 p1) g = some o) (hk : (gh_K0 x gh_rI) o) : gh_Wd x g (F0 (gh_cm x) 0 ls []) := by
  unfold f_J16_min at h
  refine gr_iload_n (pc := 0) (i := 0) C rfl (gl_at hl 0 rfl) dJ16_min_0 ?_
  refine gr_iload_n (pc := 1) (i := 1) C rfl (gl_at hl 1 rfl) dJ16_min_1 ?_
  refine gr_icmp_gt (pc := 2) (tgt := 9) C rfl dJ16_min_2 (fun c9 => ?_) (fun c9 => ?_)
  · replace h := gh_ift h c9
    refine gr_iload_n (pc := 9) (i := 1) C rfl (gl_at hl 1 rfl) dJ16_min_9 ?_
    exact gr_iret (pc := 10) C dJ16_min_10 h hk
  · replace h := gh_iff h c9
    refine gr_iload_n (pc := 5) (i := 0) C rfl (gl_at hl 0 rfl) dJ16_min_5 ?_
    refine gr_goto (pc := 6) (tgt := 10) C rfl dJ16_min_6 ?_
    exact gr_iret (pc := 10) C dJ16_min_10 h hk

theorem k_J16_min {l : Launch} (hst : l.stackTraces = false) (p0 : Int32) (p1 : Int32) : gh_Ct l yJ16_min 0 13 (f_J16_min p0 p1) gh_rI [.int p0, .int p1] := gh_intro2 (L1 := 0) hst (by decide +kernel) q506 q96 rfl ⟨rfl, rfl, trivial⟩ (Nat.le_of_ble_eq_true rfl) fun x o ls hl C h hk => w_J16_min C p0 p1 hl h hk
-- GargoyleTower$Holding.atLeastNothing(I)I
noncomputable def f_X10_atLeastNothing (p0 : Int32) : gh_M Int32 :=
  gh_bd (f_J16_max (0 : Int32) p0) fun v1 =>
  gh_ret v1
theorem w_X10_atLeastNothing {x : gh_C} {g : gh_G} {o : (Int32 ⊕ gh_X) × gh_G} {ls : Array Slot} (C : gh_K x cX10_atLeastNothing "GargoyleTower$Holding" 1 (some .int) "atLeastNothing" 1 21 []) (p0 : Int32) (hl : gh_lv ls 1 [(0, .int p0)]) (h : gh_run (f_X10_atLeastNothing p0) g = some o) (hk : (gh_K0 x gh_rI) o) : gh_Wd x g (F0 (gh_cm x) 0 ls []) := by
  unfold f_X10_atLeastNothing at h
  refine gr_iconst (pc := 0) (v := (0 : Int32)) C rfl dX10_atLeastNothing_0 ?_
  refine gr_iload_n (pc := 1) (i := 0) C rfl (gl_at hl 0 rfl) dX10_atLeastNothing_1 ?_
  refine gh_callI (pc := 2) (rest := []) C (k_J16_max C.tr (0 : Int32) p0) (Nat.le_of_ble_eq_true rfl) (Nat.le_of_ble_eq_true rfl) (gh_r4 (Nat.le_of_ble_eq_true rfl)) (fun H9 L9 hp9 => gi_S C q927 q487 q96 q488 mh_J16 np1 rfl hl.1.1 dX10_atLeastNothing_2 rfl) h (gh_K0_b _ hk) (fun v1 g h => ?_) (fun e g h => ?_)
  rotate_left
  ·
    exact gh_out C (fun _ h => nomatch h) h hk
  exact gr_iret (pc := 5) C dX10_atLeastNothing_5 h hk

theorem k_X10_atLeastNothing {l : Launch} (hst : l.stackTraces = false) (p0 : Int32) : gh_Ct l yX10_atLeastNothing 1 33 (f_X10_atLeastNothing p0) gh_rI [.int p0] := gh_intro2 (L1 := 21) hst (by decide +kernel) q926 q108 rfl ⟨rfl, trivial⟩ (Nat.le_of_ble_eq_true rfl) fun x o ls hl C h hk => w_X10_atLeastNothing C p0 hl h hk
-- GargoyleTower$Hit.isLoose()Z
noncomputable def f_X11_isLoose (t0 : Nat) : gh_M Int32 :=
  gh_bd (gh_is t0 5) fun _ =>
  gh_bd (f_X6_damage t0) fun v1 =>
  gh_bd (f_X11_isTooMuch v1) fun v2 =>
  gh_rz .boolean v2
theorem w_X11_isLoose {x : gh_C} {g : gh_G} {o : (Int32 ⊕ gh_X) × gh_G} {ls : Array Slot} (C : gh_K x cX11_isLoose "GargoyleTower$Hit" 1 (some .boolean) "isLoose" 1 20 []) (t0 : Nat) (hl : gh_lv ls 1 [(0, va_rf (some t0))]) (h : gh_run (f_X11_isLoose t0) g = some o) (hk : (gh_K0 x gh_rI) o) : gh_Wd x g (F0 (gh_cm x) 0 ls []) := by
  unfold f_X11_isLoose at h
  refine gr_aload_n (pc := 0) (i := 0) C rfl (gl_at hl 0 rfl) dX11_isLoose_0 ?_
  obtain ⟨⟨fs9, hg9⟩, h⟩ := gh_is_inv h
  refine gh_callI (pc := 1) (rest := []) C (k_X6_damage C.tr t0) (Nat.le_of_ble_eq_true rfl) (Nat.le_of_ble_eq_true rfl) (gh_r4 (Nat.le_of_ble_eq_true rfl)) (fun H9 L9 hp9 => gi_F C hp9 hg9 gh_cX6 q935 q937 (by decide +kernel) q939 q941 q942 q940 q938 q943 mh_X11 np0 rfl hl.1.1 dX11_isLoose_1 rfl) h (gh_K0_b _ hk) (fun v1 g h => ?_) (fun e g h => ?_)
  rotate_left
  ·
    exact gh_out C (fun _ h => nomatch h) h hk
  refine gh_callI (pc := 6) (rest := []) C (k_X11_isTooMuch C.tr v1) (Nat.le_of_ble_eq_true rfl) (Nat.le_of_ble_eq_true rfl) (gh_r4 (Nat.le_of_ble_eq_true rfl)) (fun H9 L9 hp9 => gi_S C q944 q945 q109 q946 mh_X11 np2 rfl hl.1.1 dX11_isLoose_6 rfl) h (gh_K0_b _ hk) (fun v2 g h => ?_) (fun e g h => ?_)
  rotate_left
  ·
    exact gh_out C (fun _ h => nomatch h) h hk
  exact gr_bret (pc := 9) C dX11_isLoose_9 h hk

theorem k_X11_isLoose {l : Launch} (hst : l.stackTraces = false) (t0 : Nat) : gh_Ct l yX11_isLoose 1 32 (f_X11_isLoose t0) gh_rI [va_rf (some t0)] := gh_intro2 (L1 := 20) hst (by decide +kernel) q933 q109 rfl ⟨gh_cat _, trivial⟩ (Nat.le_of_ble_eq_true rfl) fun x o ls hl C h hk => w_X11_isLoose C t0 hl h hk
-- GargoyleTower$Hit.wouldBeLoose(I)Z
noncomputable def f_X11_wouldBeLoose (t0 : Nat) (p1 : Int32) : gh_M Int32 :=
  gh_bd (gh_is t0 5) fun _ =>
  gh_bd (f_X6_damage t0) fun v1 =>
  gh_bd (f_X11_isTooMuch (v1 + p1)) fun v2 =>
  gh_rz .boolean v2
theorem w_X11_wouldBeLoose {x : gh_C} {g : gh_G} {o : (Int32 ⊕ gh_X) × gh_G} {ls : Array Slot} (C : gh_K x cX11_wouldBeLoose "GargoyleTower$Hit" 2 (some .boolean) "wouldBeLoose" 1 20 []) (t0 : Nat) (p1 : Int32) (hl : gh_lv ls 2 [(0, va_rf (some t0)), (1, .int p1)]) (h : gh_run (f_X11_wouldBeLoose t0 p1) g = some o) (hk : (gh_K0 x gh_rI) o) : gh_Wd x g (F0 (gh_cm x) 0 ls []) := by
  unfold f_X11_wouldBeLoose at h
  refine gr_aload_n (pc := 0) (i := 0) C rfl (gl_at hl 0 rfl) dX11_wouldBeLoose_0 ?_
  obtain ⟨⟨fs9, hg9⟩, h⟩ := gh_is_inv h
  refine gh_callI (pc := 1) (rest := []) C (k_X6_damage C.tr t0) (Nat.le_of_ble_eq_true rfl) (Nat.le_of_ble_eq_true rfl) (gh_r4 (Nat.le_of_ble_eq_true rfl)) (fun H9 L9 hp9 => gi_F C hp9 hg9 gh_cX6 q935 q937 (by decide +kernel) q939 q941 q942 q940 q938 q943 mh_X11 np0 rfl hl.1.1 dX11_wouldBeLoose_1 rfl) h (gh_K0_b _ hk) (fun v1 g h => ?_) (fun e g h => ?_)
  rotate_left
  ·
    exact gh_out C (fun _ h => nomatch h) h hk
  refine gr_iload_n (pc := 6) (i := 1) C rfl (gl_at hl 1 rfl) dX11_wouldBeLoose_6 ?_
  refine gr_iadd (pc := 7) C dX11_wouldBeLoose_7 ?_
  refine gh_callI (pc := 8) (rest := []) C (k_X11_isTooMuch C.tr (v1 + p1)) (Nat.le_of_ble_eq_true rfl) (Nat.le_of_ble_eq_true rfl) (gh_r4 (Nat.le_of_ble_eq_true rfl)) (fun H9 L9 hp9 => gi_S C q944 q945 q109 q946 mh_X11 np2 rfl hl.1.1 dX11_wouldBeLoose_8 rfl) h (gh_K0_b _ hk) (fun v2 g h => ?_) (fun e g h => ?_)
  rotate_left
  ·
    exact gh_out C (fun _ h => nomatch h) h hk
  exact gr_bret (pc := 11) C dX11_wouldBeLoose_11 h hk

theorem k_X11_wouldBeLoose {l : Launch} (hst : l.stackTraces = false) (t0 : Nat) (p1 : Int32) : gh_Ct l yX11_wouldBeLoose 1 33 (f_X11_wouldBeLoose t0 p1) gh_rI [va_rf (some t0), .int p1] := gh_intro2 (L1 := 20) hst (by decide +kernel) q1674 q109 rfl ⟨gh_cat _, rfl, trivial⟩ (Nat.le_of_ble_eq_true rfl) fun x o ls hl C h hk => w_X11_wouldBeLoose C t0 p1 hl h hk
-- GargoyleTower$Block.<init>(LGargoyleTower$Block;)V
noncomputable def f_X6_init (t0 : Nat) (p1 : Option Nat) : gh_M Unit :=
  gh_nn p1 fun a1 =>
  gh_bd (gh_geti a1 5 0) fun v2 =>
  gh_bd (gh_geti a1 5 1) fun v3 =>
  gh_bd (gh_geti a1 5 2) fun v4 =>
  gh_bd (f_X6_init_2 t0 v2 v3 v4) fun _ =>
  gh_bd (gh_geti a1 5 3) fun v6 =>
  gh_bd (gh_putv t0 5 3 .int (.int v6)) fun _ =>
  gh_bd (gh_geti a1 5 4) fun v7 =>
  gh_bd (gh_putv t0 5 4 .int (.int v7)) fun _ =>
  gh_bd (gh_geti a1 5 5) fun v8 =>
  gh_bd (gh_putv t0 5 5 .int (.int v8)) fun _ =>
  gh_bd (gh_geti a1 5 6) fun v9 =>
  gh_bd (gh_putv t0 5 6 .int (.int v9)) fun _ =>
  gh_bd (gh_geti a1 5 7) fun v10 =>
  gh_bd (gh_putv t0 5 7 .int (.int v10)) fun _ =>
  gh_ret ()
theorem w_X6_init {x : gh_C} {g : gh_G} {o : (Unit ⊕ gh_X) × gh_G} {ls : Array Slot} (C : gh_K x cX6_init "GargoyleTower$Block" 2 none "<init>" 2 43 []) (t0 : Nat) (p1 : Option Nat) (hl : gh_lv ls 2 [(0, va_rf (some t0)), (1, va_rf p1)]) (h : gh_run (f_X6_init t0 p1) g = some o) (hk : (gh_K0 x gh_rV) o) : gh_Wd x g (F0 (gh_cm x) 0 ls []) := by
  unfold f_X6_init at h
  refine gr_aload_n (pc := 0) (i := 0) C rfl (gl_at hl 0 rfl) dX6_init_0 ?_
  refine gr_aload_n (pc := 1) (i := 1) C rfl (gl_at hl 1 rfl) dX6_init_1 ?_
  rcases p1 with _ | a1
  · exact gh_stk_inv h
  replace h := gh_nn_ss h
  refine gr_geti (pc := 2) C gh_bX6 (k := 0) (Nat.le_of_ble_eq_true rfl) q975 (fun _ h => h) dX6_init_2 h fun v2 h => ?_
  refine gr_aload_n (pc := 5) (i := 1) C rfl (gl_at hl 1 rfl) dX6_init_5 ?_
  refine gr_geti (pc := 6) C gh_bX6 (k := 1) (Nat.le_of_ble_eq_true rfl) q978 (fun _ h => h) dX6_init_6 h fun v3 h => ?_
  refine gr_aload_n (pc := 9) (i := 1) C rfl (gl_at hl 1 rfl) dX6_init_9 ?_
  refine gr_geti (pc := 10) C gh_bX6 (k := 2) (Nat.le_of_ble_eq_true rfl) q981 (fun _ h => h) dX6_init_10 h fun v4 h => ?_
  refine gh_callV (pc := 13) (rest := []) C (k_X6_init_2 C.tr t0 v2 v3 v4) (Nat.le_of_ble_eq_true rfl) (Nat.le_of_ble_eq_true rfl) (gh_r4 (Nat.le_of_ble_eq_true rfl)) (fun H9 L9 hp9 => gi_I C q971 rfl q972 q973 mh_X6 np3 rfl hl.1.1 dX6_init_13 rfl) h (gh_K0_b _ hk) (fun g h => ?_) (fun e g h => ?_)
  rotate_left
  ·
    exact gh_out C (fun _ h => nomatch h) h hk
  refine gr_aload_n (pc := 16) (i := 0) C rfl (gl_at hl 0 rfl) dX6_init_16 ?_
  refine gr_aload_n (pc := 17) (i := 1) C rfl (gl_at hl 1 rfl) dX6_init_17 ?_
  refine gr_geti (pc := 18) C gh_bX6 (k := 3) (Nat.le_of_ble_eq_true rfl) q983 (fun _ h => h) dX6_init_18 h fun v6 h => ?_
  refine gr_putp (pc := 21) C gh_bX6 (k := 3) (Nat.le_of_ble_eq_true rfl) q983 (fun _ h => h) rfl dX6_init_21 h fun g h => ?_
  refine gr_aload_n (pc := 24) (i := 0) C rfl (gl_at hl 0 rfl) dX6_init_24 ?_
  refine gr_aload_n (pc := 25) (i := 1) C rfl (gl_at hl 1 rfl) dX6_init_25 ?_
  refine gr_geti (pc := 26) C gh_bX6 (k := 4) (Nat.le_of_ble_eq_true rfl) q986 (fun _ h => h) dX6_init_26 h fun v7 h => ?_
  refine gr_putp (pc := 29) C gh_bX6 (k := 4) (Nat.le_of_ble_eq_true rfl) q986 (fun _ h => h) rfl dX6_init_29 h fun g h => ?_
  refine gr_aload_n (pc := 32) (i := 0) C rfl (gl_at hl 0 rfl) dX6_init_32 ?_
  refine gr_aload_n (pc := 33) (i := 1) C rfl (gl_at hl 1 rfl) dX6_init_33 ?_
  refine gr_geti (pc := 34) C gh_bX6 (k := 5) (Nat.le_of_ble_eq_true rfl) q989 (fun _ h => h) dX6_init_34 h fun v8 h => ?_
  refine gr_putp (pc := 37) C gh_bX6 (k := 5) (Nat.le_of_ble_eq_true rfl) q989 (fun _ h => h) rfl dX6_init_37 h fun g h => ?_
  refine gr_aload_n (pc := 40) (i := 0) C rfl (gl_at hl 0 rfl) dX6_init_40 ?_
  refine gr_aload_n (pc := 41) (i := 1) C rfl (gl_at hl 1 rfl) dX6_init_41 ?_
  refine gr_geti (pc := 42) C gh_bX6 (k := 6) (Nat.le_of_ble_eq_true rfl) q992 (fun _ h => h) dX6_init_42 h fun v9 h => ?_
  refine gr_putp (pc := 45) C gh_bX6 (k := 6) (Nat.le_of_ble_eq_true rfl) q992 (fun _ h => h) rfl dX6_init_45 h fun g h => ?_
  refine gr_aload_n (pc := 48) (i := 0) C rfl (gl_at hl 0 rfl) dX6_init_48 ?_
  refine gr_aload_n (pc := 49) (i := 1) C rfl (gl_at hl 1 rfl) dX6_init_49 ?_
  refine gr_geti (pc := 50) C gh_bX6 (k := 7) (Nat.le_of_ble_eq_true rfl) q995 (fun _ h => h) dX6_init_50 h fun v10 h => ?_
  refine gr_putp (pc := 53) C gh_bX6 (k := 7) (Nat.le_of_ble_eq_true rfl) q995 (fun _ h => h) rfl dX6_init_53 h fun g h => ?_
  exact gr_vret (pc := 56) C dX6_init_56 h hk

theorem k_X6_init {l : Launch} (hst : l.stackTraces = false) (t0 : Nat) (p1 : Option Nat) : gh_Ct l yX6_init 2 56 (f_X6_init t0 p1) gh_rV [va_rf (some t0), va_rf p1] := gh_intro2 (L1 := 43) hst (by decide +kernel) q970 q104 rfl ⟨gh_cat _, gh_cat _, trivial⟩ (Nat.le_of_ble_eq_true rfl) fun x o ls hl C h hk => w_X6_init C t0 p1 hl h hk
-- GargoyleTower$Rope.<init>(LGargoyleTower$Rope;)V
noncomputable def f_X7_init (t0 : Nat) (p1 : Option Nat) : gh_M Unit :=
  gh_nn p1 fun a1 =>
  gh_bd (gh_geti a1 6 0) fun v2 =>
  gh_bd (f_X7_init_2 t0 v2) fun _ =>
  gh_bd (gh_geti a1 6 1) fun v4 =>
  gh_bd (gh_putv t0 6 1 .int (.int v4)) fun _ =>
  gh_bd (gh_geti a1 6 2) fun v5 =>
  gh_bd (gh_putv t0 6 2 .boolean (.int v5)) fun _ =>
  gh_bd (gh_geti a1 6 3) fun v6 =>
  gh_bd (gh_putv t0 6 3 .int (.int v6)) fun _ =>
  gh_ret ()
theorem w_X7_init {x : gh_C} {g : gh_G} {o : (Unit ⊕ gh_X) × gh_G} {ls : Array Slot} (C : gh_K x cX7_init "GargoyleTower$Rope" 2 none "<init>" 2 41 []) (t0 : Nat) (p1 : Option Nat) (hl : gh_lv ls 2 [(0, va_rf (some t0)), (1, va_rf p1)]) (h : gh_run (f_X7_init t0 p1) g = some o) (hk : (gh_K0 x gh_rV) o) : gh_Wd x g (F0 (gh_cm x) 0 ls []) := by
  unfold f_X7_init at h
  refine gr_aload_n (pc := 0) (i := 0) C rfl (gl_at hl 0 rfl) dX7_init_0 ?_
  refine gr_aload_n (pc := 1) (i := 1) C rfl (gl_at hl 1 rfl) dX7_init_1 ?_
  rcases p1 with _ | a1
  · exact gh_stk_inv h
  replace h := gh_nn_ss h
  refine gr_geti (pc := 2) C gh_bX7 (k := 0) (Nat.le_of_ble_eq_true rfl) q1051 (fun _ h => h) dX7_init_2 h fun v2 h => ?_
  refine gh_callV (pc := 5) (rest := []) C (k_X7_init_2 C.tr t0 v2) (Nat.le_of_ble_eq_true rfl) (Nat.le_of_ble_eq_true rfl) (gh_r4 (Nat.le_of_ble_eq_true rfl)) (fun H9 L9 hp9 => gi_I C q1047 rfl q1048 q1049 mh_X7 np4 rfl hl.1.1 dX7_init_5 rfl) h (gh_K0_b _ hk) (fun g h => ?_) (fun e g h => ?_)
  rotate_left
  ·
    exact gh_out C (fun _ h => nomatch h) h hk
  refine gr_aload_n (pc := 8) (i := 0) C rfl (gl_at hl 0 rfl) dX7_init_8 ?_
  refine gr_aload_n (pc := 9) (i := 1) C rfl (gl_at hl 1 rfl) dX7_init_9 ?_
  refine gr_geti (pc := 10) C gh_bX7 (k := 1) (Nat.le_of_ble_eq_true rfl) q1053 (fun _ h => h) dX7_init_10 h fun v4 h => ?_
  refine gr_putp (pc := 13) C gh_bX7 (k := 1) (Nat.le_of_ble_eq_true rfl) q1053 (fun _ h => h) rfl dX7_init_13 h fun g h => ?_
  refine gr_aload_n (pc := 16) (i := 0) C rfl (gl_at hl 0 rfl) dX7_init_16 ?_
  refine gr_aload_n (pc := 17) (i := 1) C rfl (gl_at hl 1 rfl) dX7_init_17 ?_
  refine gr_geti (pc := 18) C gh_bX7 (k := 2) (Nat.le_of_ble_eq_true rfl) q1055 (fun _ h => h) dX7_init_18 h fun v5 h => ?_
  refine gr_putp (pc := 21) C gh_bX7 (k := 2) (Nat.le_of_ble_eq_true rfl) q1055 (fun _ h => h) rfl dX7_init_21 h fun g h => ?_
  refine gr_aload_n (pc := 24) (i := 0) C rfl (gl_at hl 0 rfl) dX7_init_24 ?_
  refine gr_aload_n (pc := 25) (i := 1) C rfl (gl_at hl 1 rfl) dX7_init_25 ?_
  refine gr_geti (pc := 26) C gh_bX7 (k := 3) (Nat.le_of_ble_eq_true rfl) q1056 (fun _ h => h) dX7_init_26 h fun v6 h => ?_
  refine gr_putp (pc := 29) C gh_bX7 (k := 3) (Nat.le_of_ble_eq_true rfl) q1056 (fun _ h => h) rfl dX7_init_29 h fun g h => ?_
  exact gr_vret (pc := 32) C dX7_init_32 h hk

theorem k_X7_init {l : Launch} (hst : l.stackTraces = false) (t0 : Nat) (p1 : Option Nat) : gh_Ct l yX7_init 2 54 (f_X7_init t0 p1) gh_rV [va_rf (some t0), va_rf p1] := gh_intro2 (L1 := 41) hst (by decide +kernel) q1046 q105 rfl ⟨gh_cat _, gh_cat _, trivial⟩ (Nat.le_of_ble_eq_true rfl) fun x o ls hl C h hk => w_X7_init C t0 p1 hl h hk
-- GargoyleTower$Commission.<init>(LGargoyleTower$Commission;)V
noncomputable def f_X8_init (t0 : Nat) (p1 : Option Nat) : gh_M Unit :=
  gh_nn p1 fun a1 =>
  gh_bd (gh_geti a1 7 0) fun v2 =>
  gh_bd (gh_geti a1 7 1) fun v3 =>
  gh_bd (gh_geti a1 7 2) fun v4 =>
  gh_bd (f_X8_init_2 t0 v2 v3 v4) fun _ =>
  gh_bd (gh_geti a1 7 3) fun v6 =>
  gh_bd (gh_putv t0 7 3 .int (.int v6)) fun _ =>
  gh_ret ()
theorem w_X8_init {x : gh_C} {g : gh_G} {o : (Unit ⊕ gh_X) × gh_G} {ls : Array Slot} (C : gh_K x cX8_init "GargoyleTower$Commission" 2 none "<init>" 2 43 []) (t0 : Nat) (p1 : Option Nat) (hl : gh_lv ls 2 [(0, va_rf (some t0)), (1, va_rf p1)]) (h : gh_run (f_X8_init t0 p1) g = some o) (hk : (gh_K0 x gh_rV) o) : gh_Wd x g (F0 (gh_cm x) 0 ls []) := by
  unfold f_X8_init at h
  refine gr_aload_n (pc := 0) (i := 0) C rfl (gl_at hl 0 rfl) dX8_init_0 ?_
  refine gr_aload_n (pc := 1) (i := 1) C rfl (gl_at hl 1 rfl) dX8_init_1 ?_
  rcases p1 with _ | a1
  · exact gh_stk_inv h
  replace h := gh_nn_ss h
  refine gr_geti (pc := 2) C gh_bX8 (k := 0) (Nat.le_of_ble_eq_true rfl) q1076 (fun _ h => h) dX8_init_2 h fun v2 h => ?_
  refine gr_aload_n (pc := 5) (i := 1) C rfl (gl_at hl 1 rfl) dX8_init_5 ?_
  refine gr_geti (pc := 6) C gh_bX8 (k := 1) (Nat.le_of_ble_eq_true rfl) q1079 (fun _ h => h) dX8_init_6 h fun v3 h => ?_
  refine gr_aload_n (pc := 9) (i := 1) C rfl (gl_at hl 1 rfl) dX8_init_9 ?_
  refine gr_geti (pc := 10) C gh_bX8 (k := 2) (Nat.le_of_ble_eq_true rfl) q1082 (fun _ h => h) dX8_init_10 h fun v4 h => ?_
  refine gh_callV (pc := 13) (rest := []) C (k_X8_init_2 C.tr t0 v2 v3 v4) (Nat.le_of_ble_eq_true rfl) (Nat.le_of_ble_eq_true rfl) (gh_r4 (Nat.le_of_ble_eq_true rfl)) (fun H9 L9 hp9 => gi_I C q1072 rfl q1073 q1074 mh_X8 np5 rfl hl.1.1 dX8_init_13 rfl) h (gh_K0_b _ hk) (fun g h => ?_) (fun e g h => ?_)
  rotate_left
  ·
    exact gh_out C (fun _ h => nomatch h) h hk
  refine gr_aload_n (pc := 16) (i := 0) C rfl (gl_at hl 0 rfl) dX8_init_16 ?_
  refine gr_aload_n (pc := 17) (i := 1) C rfl (gl_at hl 1 rfl) dX8_init_17 ?_
  refine gr_geti (pc := 18) C gh_bX8 (k := 3) (Nat.le_of_ble_eq_true rfl) q1085 (fun _ h => h) dX8_init_18 h fun v6 h => ?_
  refine gr_putp (pc := 21) C gh_bX8 (k := 3) (Nat.le_of_ble_eq_true rfl) q1085 (fun _ h => h) rfl dX8_init_21 h fun g h => ?_
  exact gr_vret (pc := 24) C dX8_init_24 h hk

theorem k_X8_init {l : Launch} (hst : l.stackTraces = false) (t0 : Nat) (p1 : Option Nat) : gh_Ct l yX8_init 2 56 (f_X8_init t0 p1) gh_rV [va_rf (some t0), va_rf p1] := gh_intro2 (L1 := 43) hst (by decide +kernel) q1071 q106 rfl ⟨gh_cat _, gh_cat _, trivial⟩ (Nat.le_of_ble_eq_true rfl) fun x o ls hl C h hk => w_X8_init C t0 p1 hl h hk
-- GargoyleTower$Holding.holds()I
noncomputable def f_X10_holds (t0 : Nat) : gh_M Int32 :=
  gh_bd (gh_is t0 6) fun _ =>
  gh_bd (f_X7_strength t0) fun v1 =>
  gh_bd (gh_is t0 6) fun _ =>
  gh_bd (f_X7_wear t0) fun v2 =>
  gh_bd (f_X10_atLeastNothing (v1 - v2)) fun v3 =>
  gh_ret v3
theorem w_X10_holds {x : gh_C} {g : gh_G} {o : (Int32 ⊕ gh_X) × gh_G} {ls : Array Slot} (C : gh_K x cX10_holds "GargoyleTower$Holding" 1 (some .int) "holds" 2 41 []) (t0 : Nat) (hl : gh_lv ls 1 [(0, va_rf (some t0))]) (h : gh_run (f_X10_holds t0) g = some o) (hk : (gh_K0 x gh_rI) o) : gh_Wd x g (F0 (gh_cm x) 0 ls []) := by
  unfold f_X10_holds at h
  refine gr_aload_n (pc := 0) (i := 0) C rfl (gl_at hl 0 rfl) dX10_holds_0 ?_
  obtain ⟨⟨fs9, hg9⟩, h⟩ := gh_is_inv h
  refine gh_callI (pc := 1) (rest := []) C (k_X7_strength C.tr t0) (Nat.le_of_ble_eq_true rfl) (Nat.le_of_ble_eq_true rfl) (gh_r4 (Nat.le_of_ble_eq_true rfl)) (fun H9 L9 hp9 => gi_F C hp9 hg9 gh_cX7 q907 q909 (by decide +kernel) q910 q912 q913 q911 q893 q914 mh_X10 np0 rfl hl.1.1 dX10_holds_1 rfl) h (gh_K0_b _ hk) (fun v1 g h => ?_) (fun e g h => ?_)
  rotate_left
  ·
    exact gh_out C (fun _ h => nomatch h) h hk
  refine gr_aload_n (pc := 6) (i := 0) C rfl (gl_at hl 0 rfl) dX10_holds_6 ?_
  obtain ⟨⟨fs9, hg9⟩, h⟩ := gh_is_inv h
  refine gh_callI (pc := 7) (rest := [.int v1]) C (k_X7_wear C.tr t0) (Nat.le_of_ble_eq_true rfl) (Nat.le_of_ble_eq_true rfl) (gh_r4 (Nat.le_of_ble_eq_true rfl)) (fun H9 L9 hp9 => gi_F C hp9 hg9 gh_cX7 q916 q918 (by decide +kernel) q919 q921 q922 q920 q893 q923 mh_X10 np0 rfl hl.1.1 dX10_holds_7 rfl) h (gh_K0_b _ hk) (fun v2 g h => ?_) (fun e g h => ?_)
  rotate_left
  ·
    exact gh_out C (fun _ h => nomatch h) h hk
  refine gr_isub (pc := 12) C dX10_holds_12 ?_
  refine gh_callI (pc := 13) (rest := []) C (k_X10_atLeastNothing C.tr (v1 - v2)) (Nat.le_of_ble_eq_true rfl) (Nat.le_of_ble_eq_true rfl) (gh_r4 (Nat.le_of_ble_eq_true rfl)) (fun H9 L9 hp9 => gi_S C q924 q925 q108 q926 mh_X10 np6 rfl hl.1.1 dX10_holds_13 rfl) h (gh_K0_b _ hk) (fun v3 g h => ?_) (fun e g h => ?_)
  rotate_left
  ·
    exact gh_out C (fun _ h => nomatch h) h hk
  exact gr_iret (pc := 16) C dX10_holds_16 h hk

theorem k_X10_holds {l : Launch} (hst : l.stackTraces = false) (t0 : Nat) : gh_Ct l yX10_holds 2 53 (f_X10_holds t0) gh_rI [va_rf (some t0)] := gh_intro2 (L1 := 41) hst (by decide +kernel) q905 q108 rfl ⟨gh_cat _, trivial⟩ (Nat.le_of_ble_eq_true rfl) fun x o ls hl C h hk => w_X10_holds C t0 hl h hk
-- GargoyleTower$Holding.isTorn()Z
noncomputable def f_X10_isTorn (t0 : Nat) : gh_M Int32 :=
  gh_bd (gh_is t0 6) fun _ =>
  gh_bd (f_X10_holds t0) fun v1 =>
  if (1 : Int32) ≤ v1 then
  (gh_rz .boolean (0 : Int32))
  else
  (gh_rz .boolean (1 : Int32))
theorem w_X10_isTorn {x : gh_C} {g : gh_G} {o : (Int32 ⊕ gh_X) × gh_G} {ls : Array Slot} (C : gh_K x cX10_isTorn "GargoyleTower$Holding" 1 (some .boolean) "isTorn" 3 61 []) (t0 : Nat) (hl : gh_lv ls 1 [(0, va_rf (some t0))]) (h : gh_run (f_X10_isTorn t0) g = some o) (hk : (gh_K0 x gh_rI) o) : gh_Wd x g (F0 (gh_cm x) 0 ls []) := by
  unfold f_X10_isTorn at h
  refine gr_aload_n (pc := 0) (i := 0) C rfl (gl_at hl 0 rfl) dX10_isTorn_0 ?_
  obtain ⟨⟨fs9, hg9⟩, h⟩ := gh_is_inv h
  refine gh_callI (pc := 1) (rest := []) C (k_X10_holds C.tr t0) (Nat.le_of_ble_eq_true rfl) (Nat.le_of_ble_eq_true rfl) (gh_r4 (Nat.le_of_ble_eq_true rfl)) (fun H9 L9 hp9 => gi_FD C hp9 hg9 gh_cX7 q899 q901 (by decide +kernel) (by decide +kernel) q903 q904 q893 mh_X10 np0 rfl hl.1.1 dX10_isTorn_1 rfl) h (gh_K0_b _ hk) (fun v1 g h => ?_) (fun e g h => ?_)
  rotate_left
  ·
    exact gh_out C (fun _ h => nomatch h) h hk
  refine gr_iconst (pc := 6) (v := (1 : Int32)) C rfl dX10_isTorn_6 ?_
  refine gr_icmp_ge (pc := 7) (tgt := 14) C rfl dX10_isTorn_7 (fun c9 => ?_) (fun c9 => ?_)
  · replace h := gh_ift h c9
    refine gr_iconst (pc := 14) (v := (0 : Int32)) C rfl dX10_isTorn_14 ?_
    exact gr_bret (pc := 15) C dX10_isTorn_15 h hk
  · replace h := gh_iff h c9
    refine gr_iconst (pc := 10) (v := (1 : Int32)) C rfl dX10_isTorn_10 ?_
    refine gr_goto (pc := 11) (tgt := 15) C rfl dX10_isTorn_11 ?_
    exact gr_bret (pc := 15) C dX10_isTorn_15 h hk

theorem k_X10_isTorn {l : Launch} (hst : l.stackTraces = false) (t0 : Nat) : gh_Ct l yX10_isTorn 3 73 (f_X10_isTorn t0) gh_rI [va_rf (some t0)] := gh_intro2 (L1 := 61) hst (by decide +kernel) q897 q108 rfl ⟨gh_cat _, trivial⟩ (Nat.le_of_ble_eq_true rfl) fun x o ls hl C h hk => w_X10_isTorn C t0 hl h hk
-- GargoyleTower$Holding.canHold(I)Z
noncomputable def f_X10_canHold (t0 : Nat) (p1 : Int32) : gh_M Int32 :=
  gh_bd (gh_is t0 6) fun _ =>
  gh_bd (f_X10_isTorn t0) fun v1 =>
  if v1 = 0 then
  (gh_bd (gh_is t0 6) fun _ =>
  gh_bd (f_X10_holds t0) fun v2 =>
  if v2 < p1 then
  (gh_rz .boolean (0 : Int32))
  else
  (gh_rz .boolean (1 : Int32)))
  else
  (gh_rz .boolean (0 : Int32))
theorem w_X10_canHold {x : gh_C} {g : gh_G} {o : (Int32 ⊕ gh_X) × gh_G} {ls : Array Slot} (C : gh_K x cX10_canHold "GargoyleTower$Holding" 2 (some .boolean) "canHold" 4 81 []) (t0 : Nat) (p1 : Int32) (hl : gh_lv ls 2 [(0, va_rf (some t0)), (1, .int p1)]) (h : gh_run (f_X10_canHold t0 p1) g = some o) (hk : (gh_K0 x gh_rI) o) : gh_Wd x g (F0 (gh_cm x) 0 ls []) := by
  unfold f_X10_canHold at h
  refine gr_aload_n (pc := 0) (i := 0) C rfl (gl_at hl 0 rfl) dX10_canHold_0 ?_
  obtain ⟨⟨fs9, hg9⟩, h⟩ := gh_is_inv h
  refine gh_callI (pc := 1) (rest := []) C (k_X10_isTorn C.tr t0) (Nat.le_of_ble_eq_true rfl) (Nat.le_of_ble_eq_true rfl) (gh_r4 (Nat.le_of_ble_eq_true rfl)) (fun H9 L9 hp9 => gi_FD C hp9 hg9 gh_cX7 q890 q892 (by decide +kernel) (by decide +kernel) q895 q896 q893 mh_X10 np7 rfl hl.1.1 dX10_canHold_1 rfl) h (gh_K0_b _ hk) (fun v1 g h => ?_) (fun e g h => ?_)
  rotate_left
  ·
    exact gh_out C (fun _ h => nomatch h) h hk
  refine gr_if_ne (pc := 6) (tgt := 23) C rfl dX10_canHold_6 (fun c9 => ?_) (fun c9 => ?_)
  · replace h := gh_iff h c9
    refine gr_iconst (pc := 23) (v := (0 : Int32)) C rfl dX10_canHold_23 ?_
    exact gr_bret (pc := 24) C dX10_canHold_24 h hk
  · replace h := gh_ift h c9
    refine gr_iload_n (pc := 9) (i := 1) C rfl (gl_at hl 1 rfl) dX10_canHold_9 ?_
    refine gr_aload_n (pc := 10) (i := 0) C rfl (gl_at hl 0 rfl) dX10_canHold_10 ?_
    obtain ⟨⟨fs9, hg9⟩, h⟩ := gh_is_inv h
    refine gh_callI (pc := 11) (rest := [.int p1]) C (k_X10_holds C.tr t0) (Nat.le_of_ble_eq_true rfl) (Nat.le_of_ble_eq_true rfl) (gh_r4 (Nat.le_of_ble_eq_true rfl)) (fun H9 L9 hp9 => gi_FD C hp9 hg9 gh_cX7 q899 q901 (by decide +kernel) (by decide +kernel) q903 q904 q893 mh_X10 np0 rfl hl.1.1 dX10_canHold_11 rfl) h (gh_K0_b _ hk) (fun v2 g h => ?_) (fun e g h => ?_)
    rotate_left
    ·
      exact gh_out C (fun _ h => nomatch h) h hk
    refine gr_icmp_gt (pc := 16) (tgt := 23) C rfl dX10_canHold_16 (fun c9 => ?_) (fun c9 => ?_)
    · replace h := gh_ift h c9
      refine gr_iconst (pc := 23) (v := (0 : Int32)) C rfl dX10_canHold_23 ?_
      exact gr_bret (pc := 24) C dX10_canHold_24 h hk
    · replace h := gh_iff h c9
      refine gr_iconst (pc := 19) (v := (1 : Int32)) C rfl dX10_canHold_19 ?_
      refine gr_goto (pc := 20) (tgt := 24) C rfl dX10_canHold_20 ?_
      exact gr_bret (pc := 24) C dX10_canHold_24 h hk

theorem k_X10_canHold {l : Launch} (hst : l.stackTraces = false) (t0 : Nat) (p1 : Int32) : gh_Ct l yX10_canHold 4 94 (f_X10_canHold t0 p1) gh_rI [va_rf (some t0), .int p1] := gh_intro2 (L1 := 81) hst (by decide +kernel) q888 q108 rfl ⟨gh_cat _, rfl, trivial⟩ (Nat.le_of_ble_eq_true rfl) fun x o ls hl C h hk => w_X10_canHold C t0 p1 hl h hk
-- GargoyleTower$Rope.wearBy(II)Z
noncomputable def f_X7_wearBy_31 (t0 : Nat) (s0 : Option Nat) (s1 : Int32) : gh_M Int32 :=
  gh_nn s0 fun a1 =>
  gh_bd (gh_putv a1 6 2 .boolean (.int s1)) fun _ =>
  gh_bd (gh_geti t0 6 2) fun v2 =>
  gh_rz .boolean v2
theorem w_X7_wearBy_31 {x : gh_C} {g : gh_G} {o : (Int32 ⊕ gh_X) × gh_G} {ls : Array Slot} (C : gh_K x cX7_wearBy "GargoyleTower$Rope" 3 (some .boolean) "wearBy" 5 102 []) (t0 : Nat) (s0 : Option Nat) (s1 : Int32) (hl : gh_lv ls 3 [(0, va_rf (some t0))]) (h : gh_run (f_X7_wearBy_31 t0 s0 s1) g = some o) (hk : (gh_K0 x gh_rI) o) : gh_Wd x g (F0 (gh_cm x) 31 ls [.int s1, va_rf s0]) := by
  unfold f_X7_wearBy_31 at h
  rcases s0 with _ | a1
  · exact gh_stk_inv h
  replace h := gh_nn_ss h
  refine gr_putp (pc := 31) C gh_bX7 (k := 2) (Nat.le_of_ble_eq_true rfl) q1055 (fun _ h => h) rfl dX7_wearBy_31 h fun g h => ?_
  refine gr_aload_n (pc := 34) (i := 0) C rfl (gl_at hl 0 rfl) dX7_wearBy_34 ?_
  refine gr_geti (pc := 35) C gh_bX7 (k := 2) (Nat.le_of_ble_eq_true rfl) q1055 (fun _ h => h) dX7_wearBy_35 h fun v2 h => ?_
  exact gr_bret (pc := 38) C dX7_wearBy_38 h hk

noncomputable def f_X7_wearBy_26 (t0 : Nat) (s0 : Option Nat) : gh_M Int32 :=
  f_X7_wearBy_31 t0 s0 (1 : Int32)
theorem w_X7_wearBy_26 {x : gh_C} {g : gh_G} {o : (Int32 ⊕ gh_X) × gh_G} {ls : Array Slot} (C : gh_K x cX7_wearBy "GargoyleTower$Rope" 3 (some .boolean) "wearBy" 5 102 []) (t0 : Nat) (s0 : Option Nat) (hl : gh_lv ls 3 [(0, va_rf (some t0))]) (h : gh_run (f_X7_wearBy_26 t0 s0) g = some o) (hk : (gh_K0 x gh_rI) o) : gh_Wd x g (F0 (gh_cm x) 26 ls [va_rf s0]) := by
  unfold f_X7_wearBy_26 at h
  refine gr_iconst (pc := 26) (v := (1 : Int32)) C rfl dX7_wearBy_26 ?_
  refine gr_goto (pc := 27) (tgt := 31) C rfl dX7_wearBy_27 ?_
  exact w_X7_wearBy_31 C t0 s0 (1 : Int32) (gl_sub hl [0] rfl) h hk

noncomputable def f_X7_wearBy (t0 : Nat) (p1 : Int32) (p2 : Int32) : gh_M Int32 :=
  gh_bd (gh_geti t0 6 1) fun v1 =>
  gh_bd (gh_putv t0 6 1 .int (.int (v1 + p1))) fun _ =>
  gh_bd (gh_geti t0 6 2) fun v2 =>
  if v2 = 0 then
  (gh_bd (gh_is t0 6) fun _ =>
  gh_bd (f_X10_canHold t0 p2) fun v3 =>
  if v3 = 0 then
  (f_X7_wearBy_26 t0 (some t0))
  else
  (f_X7_wearBy_31 t0 (some t0) (0 : Int32)))
  else
  (f_X7_wearBy_26 t0 (some t0))
theorem w_X7_wearBy {x : gh_C} {g : gh_G} {o : (Int32 ⊕ gh_X) × gh_G} {ls : Array Slot} (C : gh_K x cX7_wearBy "GargoyleTower$Rope" 3 (some .boolean) "wearBy" 5 102 []) (t0 : Nat) (p1 : Int32) (p2 : Int32) (hl : gh_lv ls 3 [(0, va_rf (some t0)), (1, .int p1), (2, .int p2)]) (h : gh_run (f_X7_wearBy t0 p1 p2) g = some o) (hk : (gh_K0 x gh_rI) o) : gh_Wd x g (F0 (gh_cm x) 0 ls []) := by
  unfold f_X7_wearBy at h
  refine gr_aload_n (pc := 0) (i := 0) C rfl (gl_at hl 0 rfl) dX7_wearBy_0 ?_
  refine gr_dup (pc := 1) C (gh_cat _) dX7_wearBy_1 ?_
  refine gr_geti (pc := 2) C gh_bX7 (k := 1) (Nat.le_of_ble_eq_true rfl) q1053 (fun _ h => h) dX7_wearBy_2 h fun v1 h => ?_
  refine gr_iload_n (pc := 5) (i := 1) C rfl (gl_at hl 1 rfl) dX7_wearBy_5 ?_
  refine gr_iadd (pc := 6) C dX7_wearBy_6 ?_
  refine gr_putp (pc := 7) C gh_bX7 (k := 1) (Nat.le_of_ble_eq_true rfl) q1053 (fun _ h => h) rfl dX7_wearBy_7 h fun g h => ?_
  refine gr_aload_n (pc := 10) (i := 0) C rfl (gl_at hl 0 rfl) dX7_wearBy_10 ?_
  refine gr_aload_n (pc := 11) (i := 0) C rfl (gl_at hl 0 rfl) dX7_wearBy_11 ?_
  refine gr_geti (pc := 12) C gh_bX7 (k := 2) (Nat.le_of_ble_eq_true rfl) q1055 (fun _ h => h) dX7_wearBy_12 h fun v2 h => ?_
  refine gr_if_ne (pc := 15) (tgt := 26) C rfl dX7_wearBy_15 (fun c9 => ?_) (fun c9 => ?_)
  · replace h := gh_iff h c9
    exact w_X7_wearBy_26 C t0 (some t0) (gl_sub hl [0] rfl) h hk
  · replace h := gh_ift h c9
    refine gr_aload_n (pc := 18) (i := 0) C rfl (gl_at hl 0 rfl) dX7_wearBy_18 ?_
    refine gr_iload_n (pc := 19) (i := 2) C rfl (gl_at hl 2 rfl) dX7_wearBy_19 ?_
    obtain ⟨⟨fs9, hg9⟩, h⟩ := gh_is_inv h
    refine gh_callI (pc := 20) (rest := [va_rf (some t0)]) C (k_X10_canHold C.tr t0 p2) (Nat.le_of_ble_eq_true rfl) (Nat.le_of_ble_eq_true rfl) (gh_r4 (Nat.le_of_ble_eq_true rfl)) (fun H9 L9 hp9 => gi_VD C hp9 hg9 gh_cX7 (dw_8) (dw_1) q884 mh_X10 (by decide +kernel) q886 np2 rfl hl.1.1 dX7_wearBy_20 rfl) h (gh_K0_b _ hk) (fun v3 g h => ?_) (fun e g h => ?_)
    rotate_left
    ·
      exact gh_out C (fun _ h => nomatch h) h hk
    refine gr_if_ne (pc := 23) (tgt := 30) C rfl dX7_wearBy_23 (fun c9 => ?_) (fun c9 => ?_)
    · replace h := gh_iff h c9
      refine gr_iconst (pc := 30) (v := (0 : Int32)) C rfl dX7_wearBy_30 ?_
      exact w_X7_wearBy_31 C t0 (some t0) (0 : Int32) (gl_sub hl [0] rfl) h hk
    · replace h := gh_ift h c9
      exact w_X7_wearBy_26 C t0 (some t0) (gl_sub hl [0] rfl) h hk

theorem k_X7_wearBy {l : Launch} (hst : l.stackTraces = false) (t0 : Nat) (p1 : Int32) (p2 : Int32) : gh_Ct l yX7_wearBy 5 116 (f_X7_wearBy t0 p1 p2) gh_rI [va_rf (some t0), .int p1, .int p2] := gh_intro2 (L1 := 102) hst (by decide +kernel) q1321 q105 rfl ⟨gh_cat _, rfl, rfl, trivial⟩ (Nat.le_of_ble_eq_true rfl) fun x o ls hl C h hk => w_X7_wearBy C t0 p1 p2 hl h hk
