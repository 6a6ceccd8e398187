/-! rows of the plain instructions -/
theorem gh_cat (r : Option Nat) : (va_rf r).category = 1 := by cases r <;> rfl
/-- locals of category 1 alone -/
def gh_lv (ls : Array Slot) (nL : Nat) (l : List (Nat × Value)) : Prop := lv_has ls nL l ∧ ∀ q ∈ l, q.2.category = 1
theorem gl_at {ls : Array Slot} {nL : Nat} {l : List (Nat × Value)} (h : gh_lv ls nL l) (k : Nat) {i : Nat} {v : Value} (hk : l[k]? = some (i, v)) : ls[i]? = some (.val v) := lv_at h.1 k hk
theorem gl_sub {ls : Array Slot} {nL : Nat} {l l' : List (Nat × Value)} (h : gh_lv ls nL l) (ks : List Nat) (hl : lv_pick l ks = l') : gh_lv ls nL l' := by
  refine ⟨lv_sub h.1 ks hl, fun q hq => ?_⟩
  subst hl
  obtain ⟨k, -, hk⟩ := List.mem_filterMap.mp hq
  exact h.2 q (List.mem_of_getElem? hk)
theorem gl_store {ls : Array Slot} {nL : Nat} {l l' : List (Nat × Value)} {i : Nat} {v : Value} (h : gh_lv ls nL l) (hi : i < nL) (hc : v.category = 1) (hl : (i, v) :: l.filter (fun q => !(q.1 == i)) = l') : ∃ ls', storeLocals ls i v = some ls' ∧ gh_lv ls' nL l' := by
  obtain ⟨ls', e, h1⟩ := lv_store1 h.1 hi hc
  subst hl
  refine ⟨ls', e, ⟨h1.1, h1.2.1, fun q hq => h1.2.2 q ?_⟩, fun q hq => ?_⟩
  · rcases List.mem_cons.mp hq with rfl | hq
    · exact List.mem_cons_self
    · obtain ⟨a1, a2⟩ := List.mem_filter.mp hq
      refine List.mem_cons_of_mem _ (List.mem_filter.mpr ⟨a1, ?_⟩)
      have hcq := h.2 q a1
      simp only [Bool.and_eq_true, a2, true_and, hcq]
      simp
  · rcases List.mem_cons.mp hq with rfl | hq
    · exact hc
    · exact h.2 q (List.mem_filter.mp hq).1
def gh_al1 : List Value → Prop
  | [] => True
  | v :: l => v.category = 1 ∧ gh_al1 l
theorem gh_al1_sum : ∀ {l : List Value}, gh_al1 l → (l.map fun v => v.category).sum = l.length
  | [], _ => rfl
  | v :: l, h => by
    simp only [List.map_cons, List.sum_cons, List.length_cons, h.1, gh_al1_sum h.2]
    omega
section
variable {x : gh_C} {cc : ByteArray} {own : String} {nL : Nat} {ret : Option FieldType} {nm : String} {F L : Nat} {hh : List ExceptionTableEntry} {pc : Nat} {ls : Array Slot} {rest : List Value} {g : gh_G}
theorem gr_iconst (C : gh_K x cc own nL ret nm F L hh) {n : Int} {v : Int32} (hv : Int32.ofInt n = v) (hd : decode cc pc = .ok (.iconst n, 1)) (k : gh_Wd x g (F0 (gh_cm x) (pc + 1) ls (.int v :: rest))) : gh_Wd x g (F0 (gh_cm x) pc ls rest) := fun H locs h => lv_iconst C.1 C.2.1 hd hv (k H locs h)
theorem gr_bipush (C : gh_K x cc own nL ret nm F L hh) {n : Int} {v : Int32} (hv : (Int8.ofInt n).toInt32 = v) (hd : decode cc pc = .ok (.bipush n, 2)) (k : gh_Wd x g (F0 (gh_cm x) (pc + 2) ls (.int v :: rest))) : gh_Wd x g (F0 (gh_cm x) pc ls rest) := fun H locs h => lv_bipush C.1 C.2.1 hd hv (k H locs h)
theorem gr_sipush (C : gh_K x cc own nL ret nm F L hh) {n : Int} {v : Int32} (hv : (Int16.ofInt n).toInt32 = v) (hd : decode cc pc = .ok (.sipush n, 3)) (k : gh_Wd x g (F0 (gh_cm x) (pc + 3) ls (.int v :: rest))) : gh_Wd x g (F0 (gh_cm x) pc ls rest) := fun H locs h => lv_sipush C.1 C.2.1 hd hv (k H locs h)
theorem gr_null (C : gh_K x cc own nL ret nm F L hh) (hd : decode cc pc = .ok (.aconst_null, 1)) (k : gh_Wd x g (F0 (gh_cm x) (pc + 1) ls (va_rf none :: rest))) : gh_Wd x g (F0 (gh_cm x) pc ls rest) := fun H locs h => lv_null C.1 C.2.1 hd (k H locs h)
theorem gr_iload_n (C : gh_K x cc own nL ret nm F L hh) {j : Fin 4} {i : Nat} {v : Int32} (hi : (j : Nat) = i) (hl : ls[i]? = some (.val (.int v))) (hd : decode cc pc = .ok (.iload_n j, 1)) (k : gh_Wd x g (F0 (gh_cm x) (pc + 1) ls (.int v :: rest))) : gh_Wd x g (F0 (gh_cm x) pc ls rest) := fun H locs h => lv_iload_n C.1 C.2.1 hd hi hl (k H locs h)
theorem gr_iload (C : gh_K x cc own nL ret nm F L hh) {i : Nat} {v : Int32} (hl : ls[i]? = some (.val (.int v))) (hd : decode cc pc = .ok (.iload i, 2)) (k : gh_Wd x g (F0 (gh_cm x) (pc + 2) ls (.int v :: rest))) : gh_Wd x g (F0 (gh_cm x) pc ls rest) := fun H locs h => lv_iload C.1 C.2.1 hd hl (k H locs h)
theorem gr_fload_n (C : gh_K x cc own nL ret nm F L hh) {j : Fin 4} {i : Nat} {v : UInt32} (hi : (j : Nat) = i) (hl : ls[i]? = some (.val (.float v))) (hd : decode cc pc = .ok (.fload_n j, 1)) (k : gh_Wd x g (F0 (gh_cm x) (pc + 1) ls (.float v :: rest))) : gh_Wd x g (F0 (gh_cm x) pc ls rest) := fun H locs h => lv_fload_n C.1 C.2.1 hd hi hl (k H locs h)
theorem gr_fload (C : gh_K x cc own nL ret nm F L hh) {i : Nat} {v : UInt32} (hl : ls[i]? = some (.val (.float v))) (hd : decode cc pc = .ok (.fload i, 2)) (k : gh_Wd x g (F0 (gh_cm x) (pc + 2) ls (.float v :: rest))) : gh_Wd x g (F0 (gh_cm x) pc ls rest) := fun H locs h => lv_fload C.1 C.2.1 hd hl (k H locs h)
theorem gr_dload_n (C : gh_K x cc own nL ret nm F L hh) {j : Fin 4} {i : Nat} {v : UInt64} (hi : (j : Nat) = i) (hl : ls[i]? = some (.val (.double v))) (hd : decode cc pc = .ok (.dload_n j, 1)) (k : gh_Wd x g (F0 (gh_cm x) (pc + 1) ls (.double v :: rest))) : gh_Wd x g (F0 (gh_cm x) pc ls rest) := fun H locs h => lv_dload_n C.1 C.2.1 hd hi hl (k H locs h)
theorem gr_dload (C : gh_K x cc own nL ret nm F L hh) {i : Nat} {v : UInt64} (hl : ls[i]? = some (.val (.double v))) (hd : decode cc pc = .ok (.dload i, 2)) (k : gh_Wd x g (F0 (gh_cm x) (pc + 2) ls (.double v :: rest))) : gh_Wd x g (F0 (gh_cm x) pc ls rest) := fun H locs h => lv_dload C.1 C.2.1 hd hl (k H locs h)
theorem gr_aload_n (C : gh_K x cc own nL ret nm F L hh) {j : Fin 4} {i : Nat} {v : Option Nat} (hi : (j : Nat) = i) (hl : ls[i]? = some (.val (va_rf v))) (hd : decode cc pc = .ok (.aload_n j, 1)) (k : gh_Wd x g (F0 (gh_cm x) (pc + 1) ls (va_rf v :: rest))) : gh_Wd x g (F0 (gh_cm x) pc ls rest) := fun H locs h => by
  cases v with
  | none => exact lv_aload_nN C.1 C.2.1 hd hi hl (k H locs h)
  | some a => exact lv_aload_n C.1 C.2.1 hd hi hl (k H locs h)
theorem gr_aload (C : gh_K x cc own nL ret nm F L hh) {i : Nat} {v : Option Nat} (hl : ls[i]? = some (.val (va_rf v))) (hd : decode cc pc = .ok (.aload i, 2)) (k : gh_Wd x g (F0 (gh_cm x) (pc + 2) ls (va_rf v :: rest))) : gh_Wd x g (F0 (gh_cm x) pc ls rest) := fun H locs h => by
  cases v with
  | none => exact lv_aloadN C.1 C.2.1 hd hl (k H locs h)
  | some a => exact lv_aload C.1 C.2.1 hd hl (k H locs h)
theorem gr_iadd (C : gh_K x cc own nL ret nm F L hh) {a b : Int32} (hd : decode cc pc = .ok (.iadd, 1)) (k : gh_Wd x g (F0 (gh_cm x) (pc + 1) ls (.int (a + b) :: rest))) : gh_Wd x g (F0 (gh_cm x) pc ls (.int b :: .int a :: rest)) := fun H locs h => lv_iadd C.1 C.2.1 hd (k H locs h)
theorem gr_isub (C : gh_K x cc own nL ret nm F L hh) {a b : Int32} (hd : decode cc pc = .ok (.isub, 1)) (k : gh_Wd x g (F0 (gh_cm x) (pc + 1) ls (.int (a - b) :: rest))) : gh_Wd x g (F0 (gh_cm x) pc ls (.int b :: .int a :: rest)) := fun H locs h => lv_isub C.1 C.2.1 hd (k H locs h)
theorem gr_imul (C : gh_K x cc own nL ret nm F L hh) {a b : Int32} (hd : decode cc pc = .ok (.imul, 1)) (k : gh_Wd x g (F0 (gh_cm x) (pc + 1) ls (.int (a * b) :: rest))) : gh_Wd x g (F0 (gh_cm x) pc ls (.int b :: .int a :: rest)) := fun H locs h => lv_imul C.1 C.2.1 hd (k H locs h)
theorem gr_iand (C : gh_K x cc own nL ret nm F L hh) {a b : Int32} (hd : decode cc pc = .ok (.iand, 1)) (k : gh_Wd x g (F0 (gh_cm x) (pc + 1) ls (.int (a &&& b) :: rest))) : gh_Wd x g (F0 (gh_cm x) pc ls (.int b :: .int a :: rest)) := fun H locs h => lv_iand C.1 C.2.1 hd (k H locs h)
theorem gr_ior (C : gh_K x cc own nL ret nm F L hh) {a b : Int32} (hd : decode cc pc = .ok (.ior, 1)) (k : gh_Wd x g (F0 (gh_cm x) (pc + 1) ls (.int (a ||| b) :: rest))) : gh_Wd x g (F0 (gh_cm x) pc ls (.int b :: .int a :: rest)) := fun H locs h => lv_ior C.1 C.2.1 hd (k H locs h)
theorem gr_ixor (C : gh_K x cc own nL ret nm F L hh) {a b : Int32} (hd : decode cc pc = .ok (.ixor, 1)) (k : gh_Wd x g (F0 (gh_cm x) (pc + 1) ls (.int (a ^^^ b) :: rest))) : gh_Wd x g (F0 (gh_cm x) pc ls (.int b :: .int a :: rest)) := fun H locs h => lv_ixor C.1 C.2.1 hd (k H locs h)
theorem gr_ishl (C : gh_K x cc own nL ret nm F L hh) {a b : Int32} (hd : decode cc pc = .ok (.ishl, 1)) (k : gh_Wd x g (F0 (gh_cm x) (pc + 1) ls (.int (a <<< (b &&& 31)) :: rest))) : gh_Wd x g (F0 (gh_cm x) pc ls (.int b :: .int a :: rest)) := fun H locs h => lv_ishl C.1 C.2.1 hd (k H locs h)
theorem gr_ishr (C : gh_K x cc own nL ret nm F L hh) {a b : Int32} (hd : decode cc pc = .ok (.ishr, 1)) (k : gh_Wd x g (F0 (gh_cm x) (pc + 1) ls (.int (a >>> (b &&& 31)) :: rest))) : gh_Wd x g (F0 (gh_cm x) pc ls (.int b :: .int a :: rest)) := fun H locs h => lv_ishr C.1 C.2.1 hd (k H locs h)
theorem gr_idiv (C : gh_K x cc own nL ret nm F L hh) {a b : Int32} (hne : ¬ b = 0) (hd : decode cc pc = .ok (.idiv, 1)) (k : gh_Wd x g (F0 (gh_cm x) (pc + 1) ls (.int (a / b) :: rest))) : gh_Wd x g (F0 (gh_cm x) pc ls (.int b :: .int a :: rest)) := fun H locs h => lv_idiv C.1 C.2.1 hd hne (k H locs h)
theorem gr_irem (C : gh_K x cc own nL ret nm F L hh) {a b : Int32} (hne : ¬ b = 0) (hd : decode cc pc = .ok (.irem, 1)) (k : gh_Wd x g (F0 (gh_cm x) (pc + 1) ls (.int (a - a / b * b) :: rest))) : gh_Wd x g (F0 (gh_cm x) pc ls (.int b :: .int a :: rest)) := fun H locs h => lv_irem C.1 C.2.1 hd hne (k H locs h)
theorem gr_ineg (C : gh_K x cc own nL ret nm F L hh) {a : Int32} (hd : decode cc pc = .ok (.ineg, 1)) (k : gh_Wd x g (F0 (gh_cm x) (pc + 1) ls (.int (-a) :: rest))) : gh_Wd x g (F0 (gh_cm x) pc ls (.int a :: rest)) := fun H locs h => lv_ineg C.1 C.2.1 hd (k H locs h)
theorem gr_iushr (C : gh_K x cc own nL ret nm F L hh) {a b v : Int32} (hv : (a.toUInt32 >>> (b.toUInt32 &&& Int32.toUInt32 31)).toInt32 = v) (hd : decode cc pc = .ok (.iushr, 1)) (k : gh_Wd x g (F0 (gh_cm x) (pc + 1) ls (.int v :: rest))) : gh_Wd x g (F0 (gh_cm x) pc ls (.int b :: .int a :: rest)) := fun H locs h => lv_iushr C.1 C.2.1 hd hv (k H locs h)
theorem gr_i2c (C : gh_K x cc own nL ret nm F L hh) {a v : Int32} (hv : (a.toUInt32 % 65536).toInt32 = v) (hd : decode cc pc = .ok (.i2c, 1)) (k : gh_Wd x g (F0 (gh_cm x) (pc + 1) ls (.int v :: rest))) : gh_Wd x g (F0 (gh_cm x) pc ls (.int a :: rest)) := fun H locs h => lv_i2c C.1 C.2.1 hd hv (k H locs h)
theorem gr_i2b (C : gh_K x cc own nL ret nm F L hh) {a v : Int32} (hv : a.toInt8.toInt32 = v) (hd : decode cc pc = .ok (.i2b, 1)) (k : gh_Wd x g (F0 (gh_cm x) (pc + 1) ls (.int v :: rest))) : gh_Wd x g (F0 (gh_cm x) pc ls (.int a :: rest)) := fun H locs h => lv_i2b C.1 C.2.1 hd hv (k H locs h)
theorem gr_i2l (C : gh_K x cc own nL ret nm F L hh) {a : Int32} {v : Int64} (hv : a.toInt64 = v) (hd : decode cc pc = .ok (.i2l, 1)) (k : gh_Wd x g (F0 (gh_cm x) (pc + 1) ls (.long v :: rest))) : gh_Wd x g (F0 (gh_cm x) pc ls (.int a :: rest)) := fun H locs h => lv_i2l C.1 C.2.1 hd hv (k H locs h)
theorem gr_i2d (C : gh_K x cc own nL ret nm F L hh) {a : Int32} (hd : decode cc pc = .ok (.i2d, 1)) (k : gh_Wd x g (F0 (gh_cm x) (pc + 1) ls (.double (FP.i2d a) :: rest))) : gh_Wd x g (F0 (gh_cm x) pc ls (.int a :: rest)) := fun H locs h => lv_i2d C.1 C.2.1 hd (k H locs h)
theorem gr_i2f (C : gh_K x cc own nL ret nm F L hh) {a : Int32} (hd : decode cc pc = .ok (.i2f, 1)) (k : gh_Wd x g (F0 (gh_cm x) (pc + 1) ls (.float (FP.i2f a) :: rest))) : gh_Wd x g (F0 (gh_cm x) pc ls (.int a :: rest)) := fun H locs h => lv_i2f C.1 C.2.1 hd (k H locs h)
theorem gr_f2d (C : gh_K x cc own nL ret nm F L hh) {a : UInt32} (hne : vf_n64 (FP.f2d a)) (hd : decode cc pc = .ok (.f2d, 1)) (k : gh_Wd x g (F0 (gh_cm x) (pc + 1) ls (.double (FP.f2d a) :: rest))) : gh_Wd x g (F0 (gh_cm x) pc ls (.float a :: rest)) := fun H locs h => lv_f2d C.1 C.2.1 hd hne (k H locs h)
theorem gr_ddiv (C : gh_K x cc own nL ret nm F L hh) {a b : UInt64} (hne : vf_n64 (FP.ddiv a b)) (hd : decode cc pc = .ok (.ddiv, 1)) (k : gh_Wd x g (F0 (gh_cm x) (pc + 1) ls (.double (FP.ddiv a b) :: rest))) : gh_Wd x g (F0 (gh_cm x) pc ls (.double b :: .double a :: rest)) := fun H locs h => lv_ddiv C.1 C.2.1 hd hne (k H locs h)
theorem gr_fdiv (C : gh_K x cc own nL ret nm F L hh) {a b : UInt32} (hne : vf_n32 (FP.fdiv a b)) (hd : decode cc pc = .ok (.fdiv, 1)) (k : gh_Wd x g (F0 (gh_cm x) (pc + 1) ls (.float (FP.fdiv a b) :: rest))) : gh_Wd x g (F0 (gh_cm x) pc ls (.float b :: .float a :: rest)) := fun H locs h => lv_fdiv C.1 C.2.1 hd hne (k H locs h)
theorem gr_dcmp (C : gh_K x cc own nL ret nm F L hh) {a b : UInt64} {op : CmpOp} (hd : decode cc pc = .ok (.dcmp op, 1)) (k : gh_Wd x g (F0 (gh_cm x) (pc + 1) ls (.int (Op.cmpValue (FP.dcmp a b) op) :: rest))) : gh_Wd x g (F0 (gh_cm x) pc ls (.double b :: .double a :: rest)) := fun H locs h => lv_dcmp C.1 C.2.1 hd (k H locs h)
theorem gr_fcmp (C : gh_K x cc own nL ret nm F L hh) {a b : UInt32} {op : CmpOp} (hd : decode cc pc = .ok (.fcmp op, 1)) (k : gh_Wd x g (F0 (gh_cm x) (pc + 1) ls (.int (Op.cmpValue (FP.fcmp a b) op) :: rest))) : gh_Wd x g (F0 (gh_cm x) pc ls (.float b :: .float a :: rest)) := fun H locs h => lv_fcmp C.1 C.2.1 hd (k H locs h)
theorem gr_dup (C : gh_K x cc own nL ret nm F L hh) {v : Value} (hc : v.category = 1) (hd : decode cc pc = .ok (.dup, 1)) (k : gh_Wd x g (F0 (gh_cm x) (pc + 1) ls (v :: v :: rest))) : gh_Wd x g (F0 (gh_cm x) pc ls (v :: rest)) := fun H locs h => lv_dup C.1 C.2.1 hd hc (k H locs h)
theorem gr_pop (C : gh_K x cc own nL ret nm F L hh) {v : Value} (hc : v.category = 1) (hd : decode cc pc = .ok (.pop, 1)) (k : gh_Wd x g (F0 (gh_cm x) (pc + 1) ls rest)) : gh_Wd x g (F0 (gh_cm x) pc ls (v :: rest)) := fun H locs h => lv_pop C.1 C.2.1 hd hc (k H locs h)
theorem gr_dup_x1 (C : gh_K x cc own nL ret nm F L hh) {v w : Value} (hc : v.category = 1) (hw : w.category = 1) (hd : decode cc pc = .ok (.dup_x1, 1)) (k : gh_Wd x g (F0 (gh_cm x) (pc + 1) ls (v :: w :: v :: rest))) : gh_Wd x g (F0 (gh_cm x) pc ls (v :: w :: rest)) := fun H locs h => lv_dup_x1 C.1 C.2.1 hd hc hw (k H locs h)
theorem gr_dup2 (C : gh_K x cc own nL ret nm F L hh) {v w : Value} (hc : v.category = 1) (hw : w.category = 1) (hd : decode cc pc = .ok (.dup2, 1)) (k : gh_Wd x g (F0 (gh_cm x) (pc + 1) ls (v :: w :: v :: w :: rest))) : gh_Wd x g (F0 (gh_cm x) pc ls (v :: w :: rest)) := fun H locs h => lv_dup2_11 C.1 C.2.1 hd hc hw (k H locs h)
theorem gr_istore_n (C : gh_K x cc own nL ret nm F L hh) {j : Fin 4} {i : Nat} {v : Int32} (hi : (j : Nat) = i) {l l' : List (Nat × Value)} (h : gh_lv ls nL l) (hn : i < nL) (hl : (i, .int v) :: l.filter (fun q => !(q.1 == i)) = l') (hd : decode cc pc = .ok (.istore_n j, 1)) (k : ∀ ls' : Array Slot, gh_lv ls' nL l' → gh_Wd x g (F0 (gh_cm x) (pc + 1) ls' rest)) : gh_Wd x g (F0 (gh_cm x) pc ls (.int v :: rest)) := fun H locs hp => by
  obtain ⟨ls', e', h'⟩ := gl_store (v := .int v) h hn rfl hl
  intro T hT X
  obtain ⟨t, a, b⟩ := k ls' h' H locs hp T hT X
  refine ⟨t, ?_, b⟩
  subst hi; (jvm_step X.here [X.here.top, C.1, C.2.1, hd, e']; first | exact a | exact ⟨Or.inl rfl, a⟩)
theorem gr_istore (C : gh_K x cc own nL ret nm F L hh) {i : Nat} {v : Int32} {l l' : List (Nat × Value)} (h : gh_lv ls nL l) (hn : i < nL) (hl : (i, .int v) :: l.filter (fun q => !(q.1 == i)) = l') (hd : decode cc pc = .ok (.istore i, 2)) (k : ∀ ls' : Array Slot, gh_lv ls' nL l' → gh_Wd x g (F0 (gh_cm x) (pc + 2) ls' rest)) : gh_Wd x g (F0 (gh_cm x) pc ls (.int v :: rest)) := fun H locs hp => by
  obtain ⟨ls', e', h'⟩ := gl_store (v := .int v) h hn rfl hl
  intro T hT X
  obtain ⟨t, a, b⟩ := k ls' h' H locs hp T hT X
  refine ⟨t, ?_, b⟩
  (jvm_step X.here [X.here.top, C.1, C.2.1, hd, e']; first | exact a | exact ⟨Or.inl rfl, a⟩)
theorem gr_fstore (C : gh_K x cc own nL ret nm F L hh) {i : Nat} {v : UInt32} {l l' : List (Nat × Value)} (h : gh_lv ls nL l) (hn : i < nL) (hl : (i, .float v) :: l.filter (fun q => !(q.1 == i)) = l') (hd : decode cc pc = .ok (.fstore i, 2)) (k : ∀ ls' : Array Slot, gh_lv ls' nL l' → gh_Wd x g (F0 (gh_cm x) (pc + 2) ls' rest)) : gh_Wd x g (F0 (gh_cm x) pc ls (.float v :: rest)) := fun H locs hp => by
  obtain ⟨ls', e', h'⟩ := gl_store (v := .float v) h hn rfl hl
  intro T hT X
  obtain ⟨t, a, b⟩ := k ls' h' H locs hp T hT X
  refine ⟨t, ?_, b⟩
  (jvm_step X.here [X.here.top, C.1, C.2.1, hd, e']; first | exact a | exact ⟨Or.inl rfl, a⟩)
theorem gr_astore_n (C : gh_K x cc own nL ret nm F L hh) {j : Fin 4} {i : Nat} {v : Option Nat} (hi : (j : Nat) = i) {l l' : List (Nat × Value)} (h : gh_lv ls nL l) (hn : i < nL) (hl : (i, va_rf v) :: l.filter (fun q => !(q.1 == i)) = l') (hd : decode cc pc = .ok (.astore_n j, 1)) (k : ∀ ls' : Array Slot, gh_lv ls' nL l' → gh_Wd x g (F0 (gh_cm x) (pc + 1) ls' rest)) : gh_Wd x g (F0 (gh_cm x) pc ls (va_rf v :: rest)) := fun H locs hp => by
  obtain ⟨ls', e', h'⟩ := gl_store (v := va_rf v) h hn (gh_cat v) hl
  intro T hT X
  obtain ⟨t, a, b⟩ := k ls' h' H locs hp T hT X
  refine ⟨t, ?_, b⟩
  subst hi; cases v <;> (jvm_step X.here [X.here.top, C.1, C.2.1, hd, e']; first | exact a | exact ⟨Or.inl rfl, a⟩)
theorem gr_astore (C : gh_K x cc own nL ret nm F L hh) {i : Nat} {v : Option Nat} {l l' : List (Nat × Value)} (h : gh_lv ls nL l) (hn : i < nL) (hl : (i, va_rf v) :: l.filter (fun q => !(q.1 == i)) = l') (hd : decode cc pc = .ok (.astore i, 2)) (k : ∀ ls' : Array Slot, gh_lv ls' nL l' → gh_Wd x g (F0 (gh_cm x) (pc + 2) ls' rest)) : gh_Wd x g (F0 (gh_cm x) pc ls (va_rf v :: rest)) := fun H locs hp => by
  obtain ⟨ls', e', h'⟩ := gl_store (v := va_rf v) h hn (gh_cat v) hl
  intro T hT X
  obtain ⟨t, a, b⟩ := k ls' h' H locs hp T hT X
  refine ⟨t, ?_, b⟩
  cases v <;> (jvm_step X.here [X.here.top, C.1, C.2.1, hd, e']; first | exact a | exact ⟨Or.inl rfl, a⟩)
theorem gr_iinc (C : gh_K x cc own nL ret nm F L hh) {i z : Nat} {n : Int} {a v : Int32} {l l' : List (Nat × Value)} (h : gh_lv ls nL l) (hk : l[z]? = some (i, .int a)) (hv : a + Int32.ofInt n = v) (hn : i < nL) (hl : (i, .int v) :: l.filter (fun q => !(q.1 == i)) = l') (hd : decode cc pc = .ok (.iinc i n, 3)) (k : ∀ ls' : Array Slot, gh_lv ls' nL l' → gh_Wd x g (F0 (gh_cm x) (pc + 3) ls' rest)) : gh_Wd x g (F0 (gh_cm x) pc ls rest) := fun H locs hp => by
  subst hv
  obtain ⟨ls', e', h'⟩ := gl_store (v := .int (a + Int32.ofInt n)) h hn rfl hl
  intro T hT X
  obtain ⟨t, a1, b⟩ := k ls' h' H locs hp T hT X
  refine ⟨t, ?_, b⟩
  jvm_step X.here [X.here.top, C.1, C.2.1, hd, gl_at h z hk, e']
  exact a1
theorem gr_if_eq (C : gh_K x cc own nL ret nm F L hh) {a : Int32} {off : Int} {tgt : Nat} (ht : (pc : Int) + off = (tgt : Int)) (hd : decode cc pc = .ok (.ifCond .eq off, 3)) (kt : a = 0 → gh_Wd x g (F0 (gh_cm x) tgt ls rest)) (kf : ¬ a = 0 → gh_Wd x g (F0 (gh_cm x) (pc + 3) ls rest)) : gh_Wd x g (F0 (gh_cm x) pc ls (.int a :: rest)) := fun H locs h => lv_if_eq C.1 C.2.1 hd ht (fun c => kt c H locs h) (fun c => kf c H locs h)
theorem gr_icmp_eq (C : gh_K x cc own nL ret nm F L hh) {a b : Int32} {off : Int} {tgt : Nat} (ht : (pc : Int) + off = (tgt : Int)) (hd : decode cc pc = .ok (.if_icmp .eq off, 3)) (kt : a = b → gh_Wd x g (F0 (gh_cm x) tgt ls rest)) (kf : ¬ a = b → gh_Wd x g (F0 (gh_cm x) (pc + 3) ls rest)) : gh_Wd x g (F0 (gh_cm x) pc ls (.int b :: .int a :: rest)) := fun H locs h => lv_icmp_eq C.1 C.2.1 hd ht (fun c => kt c H locs h) (fun c => kf c H locs h)
theorem gr_if_ne (C : gh_K x cc own nL ret nm F L hh) {a : Int32} {off : Int} {tgt : Nat} (ht : (pc : Int) + off = (tgt : Int)) (hd : decode cc pc = .ok (.ifCond .ne off, 3)) (kt : ¬ a = 0 → gh_Wd x g (F0 (gh_cm x) tgt ls rest)) (kf : a = 0 → gh_Wd x g (F0 (gh_cm x) (pc + 3) ls rest)) : gh_Wd x g (F0 (gh_cm x) pc ls (.int a :: rest)) := fun H locs h => lv_if_ne C.1 C.2.1 hd ht (fun c => kt c H locs h) (fun c => kf c H locs h)
theorem gr_icmp_ne (C : gh_K x cc own nL ret nm F L hh) {a b : Int32} {off : Int} {tgt : Nat} (ht : (pc : Int) + off = (tgt : Int)) (hd : decode cc pc = .ok (.if_icmp .ne off, 3)) (kt : ¬ a = b → gh_Wd x g (F0 (gh_cm x) tgt ls rest)) (kf : a = b → gh_Wd x g (F0 (gh_cm x) (pc + 3) ls rest)) : gh_Wd x g (F0 (gh_cm x) pc ls (.int b :: .int a :: rest)) := fun H locs h => lv_icmp_ne C.1 C.2.1 hd ht (fun c => kt c H locs h) (fun c => kf c H locs h)
theorem gr_if_lt (C : gh_K x cc own nL ret nm F L hh) {a : Int32} {off : Int} {tgt : Nat} (ht : (pc : Int) + off = (tgt : Int)) (hd : decode cc pc = .ok (.ifCond .lt off, 3)) (kt : a < 0 → gh_Wd x g (F0 (gh_cm x) tgt ls rest)) (kf : ¬ a < 0 → gh_Wd x g (F0 (gh_cm x) (pc + 3) ls rest)) : gh_Wd x g (F0 (gh_cm x) pc ls (.int a :: rest)) := fun H locs h => lv_if_lt C.1 C.2.1 hd ht (fun c => kt c H locs h) (fun c => kf c H locs h)
theorem gr_icmp_lt (C : gh_K x cc own nL ret nm F L hh) {a b : Int32} {off : Int} {tgt : Nat} (ht : (pc : Int) + off = (tgt : Int)) (hd : decode cc pc = .ok (.if_icmp .lt off, 3)) (kt : a < b → gh_Wd x g (F0 (gh_cm x) tgt ls rest)) (kf : ¬ a < b → gh_Wd x g (F0 (gh_cm x) (pc + 3) ls rest)) : gh_Wd x g (F0 (gh_cm x) pc ls (.int b :: .int a :: rest)) := fun H locs h => lv_icmp_lt C.1 C.2.1 hd ht (fun c => kt c H locs h) (fun c => kf c H locs h)
theorem gr_if_ge (C : gh_K x cc own nL ret nm F L hh) {a : Int32} {off : Int} {tgt : Nat} (ht : (pc : Int) + off = (tgt : Int)) (hd : decode cc pc = .ok (.ifCond .ge off, 3)) (kt : 0 ≤ a → gh_Wd x g (F0 (gh_cm x) tgt ls rest)) (kf : ¬ 0 ≤ a → gh_Wd x g (F0 (gh_cm x) (pc + 3) ls rest)) : gh_Wd x g (F0 (gh_cm x) pc ls (.int a :: rest)) := fun H locs h => lv_if_ge C.1 C.2.1 hd ht (fun c => kt c H locs h) (fun c => kf c H locs h)
theorem gr_icmp_ge (C : gh_K x cc own nL ret nm F L hh) {a b : Int32} {off : Int} {tgt : Nat} (ht : (pc : Int) + off = (tgt : Int)) (hd : decode cc pc = .ok (.if_icmp .ge off, 3)) (kt : b ≤ a → gh_Wd x g (F0 (gh_cm x) tgt ls rest)) (kf : ¬ b ≤ a → gh_Wd x g (F0 (gh_cm x) (pc + 3) ls rest)) : gh_Wd x g (F0 (gh_cm x) pc ls (.int b :: .int a :: rest)) := fun H locs h => lv_icmp_ge C.1 C.2.1 hd ht (fun c => kt c H locs h) (fun c => kf c H locs h)
theorem gr_if_gt (C : gh_K x cc own nL ret nm F L hh) {a : Int32} {off : Int} {tgt : Nat} (ht : (pc : Int) + off = (tgt : Int)) (hd : decode cc pc = .ok (.ifCond .gt off, 3)) (kt : 0 < a → gh_Wd x g (F0 (gh_cm x) tgt ls rest)) (kf : ¬ 0 < a → gh_Wd x g (F0 (gh_cm x) (pc + 3) ls rest)) : gh_Wd x g (F0 (gh_cm x) pc ls (.int a :: rest)) := fun H locs h => lv_if_gt C.1 C.2.1 hd ht (fun c => kt c H locs h) (fun c => kf c H locs h)
theorem gr_icmp_gt (C : gh_K x cc own nL ret nm F L hh) {a b : Int32} {off : Int} {tgt : Nat} (ht : (pc : Int) + off = (tgt : Int)) (hd : decode cc pc = .ok (.if_icmp .gt off, 3)) (kt : b < a → gh_Wd x g (F0 (gh_cm x) tgt ls rest)) (kf : ¬ b < a → gh_Wd x g (F0 (gh_cm x) (pc + 3) ls rest)) : gh_Wd x g (F0 (gh_cm x) pc ls (.int b :: .int a :: rest)) := fun H locs h => lv_icmp_gt C.1 C.2.1 hd ht (fun c => kt c H locs h) (fun c => kf c H locs h)
theorem gr_if_le (C : gh_K x cc own nL ret nm F L hh) {a : Int32} {off : Int} {tgt : Nat} (ht : (pc : Int) + off = (tgt : Int)) (hd : decode cc pc = .ok (.ifCond .le off, 3)) (kt : a ≤ 0 → gh_Wd x g (F0 (gh_cm x) tgt ls rest)) (kf : ¬ a ≤ 0 → gh_Wd x g (F0 (gh_cm x) (pc + 3) ls rest)) : gh_Wd x g (F0 (gh_cm x) pc ls (.int a :: rest)) := fun H locs h => lv_if_le C.1 C.2.1 hd ht (fun c => kt c H locs h) (fun c => kf c H locs h)
theorem gr_icmp_le (C : gh_K x cc own nL ret nm F L hh) {a b : Int32} {off : Int} {tgt : Nat} (ht : (pc : Int) + off = (tgt : Int)) (hd : decode cc pc = .ok (.if_icmp .le off, 3)) (kt : a ≤ b → gh_Wd x g (F0 (gh_cm x) tgt ls rest)) (kf : ¬ a ≤ b → gh_Wd x g (F0 (gh_cm x) (pc + 3) ls rest)) : gh_Wd x g (F0 (gh_cm x) pc ls (.int b :: .int a :: rest)) := fun H locs h => lv_icmp_le C.1 C.2.1 hd ht (fun c => kt c H locs h) (fun c => kf c H locs h)
theorem gr_acmp_eq (C : gh_K x cc own nL ret nm F L hh) {a b : Option Nat} {off : Int} {tgt : Nat} (ht : (pc : Int) + off = (tgt : Int)) (hd : decode cc pc = .ok (.if_acmp .eq off, 3)) (kt : a = b → gh_Wd x g (F0 (gh_cm x) tgt ls rest)) (kf : ¬ a = b → gh_Wd x g (F0 (gh_cm x) (pc + 3) ls rest)) : gh_Wd x g (F0 (gh_cm x) pc ls (va_rf b :: va_rf a :: rest)) := fun H locs h => lv_acmp_eq C.1 C.2.1 hd ht (fun c => kt c H locs h) (fun c => kf c H locs h)
theorem gr_acmp_ne (C : gh_K x cc own nL ret nm F L hh) {a b : Option Nat} {off : Int} {tgt : Nat} (ht : (pc : Int) + off = (tgt : Int)) (hd : decode cc pc = .ok (.if_acmp .ne off, 3)) (kt : ¬ a = b → gh_Wd x g (F0 (gh_cm x) tgt ls rest)) (kf : a = b → gh_Wd x g (F0 (gh_cm x) (pc + 3) ls rest)) : gh_Wd x g (F0 (gh_cm x) pc ls (va_rf b :: va_rf a :: rest)) := fun H locs h => lv_acmp_ne C.1 C.2.1 hd ht (fun c => kt c H locs h) (fun c => kf c H locs h)
theorem gr_ifnull (C : gh_K x cc own nL ret nm F L hh) {a : Option Nat} {off : Int} {tgt : Nat} (ht : (pc : Int) + off = (tgt : Int)) (hd : decode cc pc = .ok (.ifnull off, 3)) (kt : a = none → gh_Wd x g (F0 (gh_cm x) tgt ls rest)) (kf : ∀ b, a = some b → gh_Wd x g (F0 (gh_cm x) (pc + 3) ls rest)) : gh_Wd x g (F0 (gh_cm x) pc ls (va_rf a :: rest)) := fun H locs h => by
  cases a with
  | none => exact lv_ifnullN C.1 C.2.1 hd ht (kt rfl H locs h)
  | some b => exact lv_ifnull C.1 C.2.1 hd (kf b rfl H locs h)
theorem gr_ifnonnull (C : gh_K x cc own nL ret nm F L hh) {a : Option Nat} {off : Int} {tgt : Nat} (ht : (pc : Int) + off = (tgt : Int)) (hd : decode cc pc = .ok (.ifnonnull off, 3)) (kt : ∀ b, a = some b → gh_Wd x g (F0 (gh_cm x) tgt ls rest)) (kf : a = none → gh_Wd x g (F0 (gh_cm x) (pc + 3) ls rest)) : gh_Wd x g (F0 (gh_cm x) pc ls (va_rf a :: rest)) := fun H locs h => by
  cases a with
  | none => exact lv_ifnonnullN C.1 C.2.1 hd (kf rfl H locs h)
  | some b => exact lv_ifnonnull C.1 C.2.1 hd ht (kt b rfl H locs h)
theorem gr_goto (C : gh_K x cc own nL ret nm F L hh) {off : Int} {tgt : Nat} (ht : (pc : Int) + off = (tgt : Int)) (hd : decode cc pc = .ok (.goto off, 3)) (k : gh_Wd x g (F0 (gh_cm x) tgt ls rest)) : gh_Wd x g (F0 (gh_cm x) pc ls rest) := fun H locs h => lv_goto C.1 C.2.1 hd ht (k H locs h)
theorem gr_table (C : gh_K x cc own nL ret nm F L hh) {dflt lo hi : Int} {offs : Array Int} {len : Nat} {a v : Int32} {off : Int} {tgt : Nat} (hv : a = v) (h1 : ¬ v.toInt < lo) (h2 : ¬ hi < v.toInt) (ho : offs[(v.toInt - lo).toNat]? = some off) (ht : (pc : Int) + off = (tgt : Int)) (hd : decode cc pc = .ok (.tableswitch dflt lo hi offs, len)) (k : gh_Wd x g (F0 (gh_cm x) tgt ls rest)) : gh_Wd x g (F0 (gh_cm x) pc ls (.int a :: rest)) := fun H locs h => lv_tableIn C.1 C.2.1 hd (by rw [hv]; exact h1) (by rw [hv]; exact h2) (by rw [hv]; exact ho) ht (k H locs h)
theorem gr_tableD (C : gh_K x cc own nL ret nm F L hh) {dflt lo hi : Int} {offs : Array Int} {len : Nat} {a : Int32} {tgt : Nat} (hv : a.toInt < lo ∨ hi < a.toInt) (ht : (pc : Int) + dflt = (tgt : Int)) (hd : decode cc pc = .ok (.tableswitch dflt lo hi offs, len)) (k : gh_Wd x g (F0 (gh_cm x) tgt ls rest)) : gh_Wd x g (F0 (gh_cm x) pc ls (.int a :: rest)) := fun H locs h => lv_tableOut C.1 C.2.1 hd hv ht (k H locs h)
theorem gr_lookup (C : gh_K x cc own nL ret nm F L hh) {dflt : Int} {ps : Array (Int × Int)} {len : Nat} {a : Int32} {off : Int} {tgt : Nat} (hp : (ps.toList.zip (ps.toList.drop 1)).all (fun (a, next) => a.1 < next.1) = true) (ho : Op.lookupswitch.offset ps.toList dflt a.toInt = off) (ht : (pc : Int) + off = (tgt : Int)) (hd : decode cc pc = .ok (.lookupswitch dflt ps, len)) (k : gh_Wd x g (F0 (gh_cm x) tgt ls rest)) : gh_Wd x g (F0 (gh_cm x) pc ls (.int a :: rest)) := fun H locs h => lv_lookup C.1 C.2.1 hd hp ho ht (k H locs h)
end
/-- out of a table's range, by its values one by one (a table that begins at 0) -/
theorem gh_tout {a : Int32} {n : Nat} (hn : n < 1000) (h : ∀ k, k ≤ n → ¬ a = nI k) : a.toInt < 0 ∨ (n : Int) < a.toInt := by
  rcases Int.lt_or_le a.toInt 0 with h0 | h0
  · exact Or.inl h0
  · refine Or.inr (Int.not_le.mp fun hle => ?_)
    refine h a.toInt.toNat (by omega) ?_
    apply Int32.toInt_inj.mp
    rw [nI_toInt (by omega)]
    omega
theorem gh_all0 {p : Nat → Prop} (h : p 0) : ∀ k, k ≤ 0 → p k := fun k hk => by rw [Nat.le_zero.mp hk]; exact h
theorem gh_allS {p : Nat → Prop} {n : Nat} (h : ∀ k, k ≤ n → p k) (hn : p (n + 1)) : ∀ k, k ≤ n + 1 → p k := fun k hk => by
  rcases Nat.lt_or_eq_of_le hk with h1 | h1
  · exact h k (by omega)
  · rw [h1]; exact hn
