/-! the machine's heap against the pure one; a method's walk; rows -/
abbrev gh_D : Type := (Nat → ClassId) × (Nat → Nat → Nat) × (Nat → ClassId)
def gh_tys : List FieldType := [.int, .long, .double, .char, .byte, .object "java/lang/Object"]
/-- nobody holds the monitor -/
def gh_um (a : Nat) (H : Heap) : Prop := ∀ c : Cell, H[a]? = some c → c.monitor = ({} : Monitor)
def gh_cty (c : Nat) : FieldType := if c = 10 then .int else if c = 29 then .object "java/lang/Object" else .byte
def gh_val (x : vp_A) (j : Nat) : Value := match x.2 with
  | .inl f => .int (f j)
  | _ => .null
def gh_at (D : gh_D) (a : Nat) (e : gh_E) (H : Heap) : Prop := match e with
  | .inl x => if x.1 < 10 then H[a]? = some (vp_cell (D.2.2 x.1) x.2) else ∃ cell : Cell, H[a]? = some cell ∧ cell.cls = D.2.2 x.1 ∧ (∀ k, cell.vm ≠ .statics k) ∧ cell.vm ≠ .unknown ∧ x.2.1 ≤ cell.slots.size ∧ cell.slots.size.toInt32 = Int32.ofNat x.2.1 ∧ ∀ j : Nat, j < x.2.1 → cell.slots[j]? = some (gh_val x.2 j)
  | .inr o => if o.1 < 100 then ∃ r : vw_C, gh_cl[o.1]? = some r ∧ t_OB a (D.1 o.1) r.2.2 (D.2.1 o.1) H (vp_V o.2) ∧ (o.1 = 8 → gh_um a H) else ∃ (r : vw_C) (cell : Cell), gh_cl[o.1 - 100]? = some r ∧ H[a]? = some cell ∧ cell.cls = D.1 (o.1 - 100) ∧ cell.vm.isStatics = false ∧ cell.vm ≠ .unknown ∧ ∀ k : Nat, k < r.2.2 → cell.slots[D.2.1 (o.1 - 100) k]? = some (vp_V o.2 k)
theorem gh_at_a {D : gh_D} {a k : Nat} {x : vp_A} {H : Heap} (hk : k < 10) : gh_at D a (.inl (k, x)) H = (H[a]? = some (vp_cell (D.2.2 k) x)) := if_pos hk
theorem gh_at_o {D : gh_D} {a c : Nat} {fs : List Value} {H : Heap} (hc : c < 100) : gh_at D a (.inr (c, fs)) H = (∃ r : vw_C, gh_cl[c]? = some r ∧ t_OB a (D.1 c) r.2.2 (D.2.1 c) H (vp_V fs) ∧ (c = 8 → gh_um a H)) := if_pos hc
theorem gh_at_A {D : gh_D} {a k : Nat} {x : vp_A} {H : Heap} (hk : 10 ≤ k) : gh_at D a (.inl (k, x)) H = (∃ cell : Cell, H[a]? = some cell ∧ cell.cls = D.2.2 k ∧ (∀ k, cell.vm ≠ .statics k) ∧ cell.vm ≠ .unknown ∧ x.1 ≤ cell.slots.size ∧ cell.slots.size.toInt32 = Int32.ofNat x.1 ∧ ∀ j : Nat, j < x.1 → cell.slots[j]? = some (gh_val x j)) := if_neg (Nat.not_lt.mpr hk)
theorem gh_at_O {D : gh_D} {a c : Nat} {fs : List Value} {H : Heap} : gh_at D a (.inr (c + 100, fs)) H = (∃ (r : vw_C) (cell : Cell), gh_cl[c]? = some r ∧ H[a]? = some cell ∧ cell.cls = D.1 c ∧ cell.vm.isStatics = false ∧ cell.vm ≠ .unknown ∧ ∀ k : Nat, k < r.2.2 → cell.slots[D.2.1 c k]? = some (vp_V fs k)) := by
  unfold gh_at
  dsimp only
  rw [if_neg (Nat.not_lt.mpr (Nat.le_add_left 100 c)), Nat.add_sub_cancel]
theorem gh_cl_lt {c : Nat} {q : vw_C} (h : gh_cl[c]? = some q) : c < 100 := Nat.lt_of_lt_of_le (List.getElem?_eq_some_iff.mp h).1 (by decide)
def gh_w (D : gh_D) (H : Heap) (g : gh_G) : Prop := H.size = g.2.1 ∧ ∀ (a : Nat) (e : gh_E), g.1 a = some e → gh_at D a e H
abbrev gh_A (lo : Nat) : Nat → Prop := fun q => lo ≤ q
theorem gh_at.kept {D : gh_D} {a : Nat} {e : gh_E} {H H1 : Heap} (h : gh_at D a e H) (hq : H1[a]? = H[a]?) : gh_at D a e H1 := by
  unfold gh_at at h ⊢
  cases e with
  | inl x =>
    dsimp only at h ⊢
    rw [hq]
    exact h
  | inr o =>
    dsimp only at h ⊢
    by_cases hc : o.1 < 100
    · rw [if_pos hc] at h ⊢
      obtain ⟨r, h1, h2, h3⟩ := h
      exact ⟨r, h1, h2.kept hq, fun e c hc => h3 e c (hq.symm.trans hc)⟩
    · rw [if_neg hc] at h ⊢
      rw [hq]
      exact h
theorem gh_at.lt {D : gh_D} {a : Nat} {e : gh_E} {H : Heap} (h : gh_at D a e H) : a < H.size := by
  unfold gh_at at h
  cases e with
  | inl x =>
    dsimp only at h
    by_cases hc : x.1 < 10
    · rw [if_pos hc] at h
      exact (Array.getElem?_eq_some_iff.mp h).1
    · rw [if_neg hc] at h
      obtain ⟨cell, h1, -⟩ := h
      exact (Array.getElem?_eq_some_iff.mp h1).1
  | inr o =>
    dsimp only at h
    by_cases hc : o.1 < 100
    · rw [if_pos hc] at h
      obtain ⟨r, h1, ⟨cell, h2, -⟩, -⟩ := h
      exact (Array.getElem?_eq_some_iff.mp h2).1
    · rw [if_neg hc] at h
      obtain ⟨r, cell, -, h1, -⟩ := h
      exact (Array.getElem?_eq_some_iff.mp h1).1
theorem gh_w.lt {D : gh_D} {H : Heap} {g : gh_G} (h : gh_w D H g) {a : Nat} {e : gh_E} (ha : g.1 a = some e) : a < g.2.1 := by
  rw [← h.1]; exact (h.2 a e ha).lt
theorem gh_w.put {D : gh_D} {H H1 : Heap} {g : gh_G} (h : gh_w D H g) {a : Nat} {e : gh_E} (he : gh_at D a e H1) (hz : H1.size = H.size) (oq : ∀ q : Nat, q ≠ a → H1[q]? = H[q]?) : gh_w D H1 (gh_set g.1 a e, g.2) := by
  refine ⟨hz.trans h.1, fun b e1 hb => ?_⟩
  by_cases hba : b = a
  · subst hba
    have h1 : gh_set g.1 b e b = some e1 := hb
    rw [gh_set_s] at h1
    cases h1
    exact he
  · have h1 : gh_set g.1 a e b = some e1 := hb
    rw [gh_set_n hba] at h1
    exact (h.2 b e1 h1).kept (oq b hba)
theorem gh_w.new {D : gh_D} {H H1 : Heap} {g : gh_G} {n : Nat} (h : gh_w D H g) {e : gh_E} (he : gh_at D g.2.1 e H1) (hz : H1.size = H.size + 1) (oq : ∀ q : Nat, q < H.size → H1[q]? = H[q]?) : gh_w D H1 (gh_set g.1 g.2.1 e, g.2.1 + 1, g.2.2.1 + n, g.2.2.2) := by
  refine ⟨by show H1.size = g.2.1 + 1; rw [hz, h.1], fun b e1 hb => ?_⟩
  by_cases hba : b = g.2.1
  · subst hba
    have h1 : gh_set g.1 g.2.1 e g.2.1 = some e1 := hb
    rw [gh_set_s] at h1
    cases h1
    exact he
  · have h1 : gh_set g.1 g.2.1 e b = some e1 := hb
    rw [gh_set_n hba] at h1
    exact (h.2 b e1 h1).kept (oq b (h.2 b e1 h1).lt)
/-- strings: (class, place in its pool, text, place among the constants); statics: (class, name, type, place) -/
abbrev gh_ST : Type := String × Nat × String × Nat
abbrev gh_SF : Type := String × String × String × Nat
def gh_strs : List gh_ST := [("GargoyleTower", 90, "block", 0), ("GargoyleTower", 98, "carve ", 1), ("GargoyleTower", 100, "whet", 2), ("GargoyleTower", 175, "rope", 3), ("GargoyleTower", 196, "hoist ", 4), ("GargoyleTower", 198, "lower ", 5), ("GargoyleTower", 200, "set ", 6), ("GargoyleTower", 220, "push", 7), ("GargoyleTower", 222, "commission", 8), ("GargoyleTower", 226, "deliver ", 9), ("GargoyleTower", 255, "seed", 10), ("GargoyleTower", 274, "wait ", 11), ("GargoyleTower", 291, "[", 12), ("GargoyleTower", 376, "", 13), ("GargoyleTower$Deed", 34, "carve ", 1), ("GargoyleTower$Deed", 40, "whet", 2), ("GargoyleTower$Deed", 42, "hoist ", 4), ("GargoyleTower$Deed", 44, "lower ", 5), ("GargoyleTower$Deed", 46, "set ", 6), ("GargoyleTower$Deed", 48, "deliver ", 9), ("GargoyleTower$Deed", 50, "wait ", 11), ("GargoyleTower$Deed", 52, "block", 0), ("GargoyleTower$Deed", 54, "rope", 3), ("GargoyleTower$Deed", 56, "push", 7), ("GargoyleTower$Deed", 58, "commission", 8), ("GargoyleTower$Reader", 88, "carve ", 1), ("GargoyleTower$Reader", 94, "hoist ", 4), ("GargoyleTower$Reader", 96, "set ", 6), ("GargoyleTower$Reader", 98, "deliver ", 9), ("GargoyleTower$Reader", 100, "lower ", 5), ("GargoyleTower$Reader", 102, "wait ", 11)]
def gh_stats : List gh_SF := [("java/util/ArrayList", "DEFAULTCAPACITY_EMPTY_ELEMENTDATA", "[Ljava/lang/Object;", 14), ("java/lang/String", "COMPACT_STRINGS", "Z", 15), ("java/lang/Throwable", "UNASSIGNED_STACK", "[Ljava/lang/StackTraceElement;", 16), ("java/lang/Throwable", "SUPPRESSED_SENTINEL", "Ljava/util/List;", 17), ("java/lang/Integer", "DigitOnes", "[B", 18), ("java/lang/Integer", "DigitTens", "[B", 19), ("jdk/internal/util/Preconditions", "SIOOBE_FORMATTER", "Ljava/util/function/BiFunction;", 20)]
def gh_ncs : List (String × String) := [("java/lang/IllegalArgumentException", "java/lang/UnsupportedOperationException"), ("java/lang/IllegalArgumentException", "java/lang/IndexOutOfBoundsException"), ("java/lang/IllegalArgumentException", "java/util/NoSuchElementException"), ("java/lang/IllegalArgumentException", "java/lang/IllegalStateException"), ("java/lang/IllegalArgumentException", "java/lang/ArithmeticException"), ("java/lang/IllegalArgumentException", "GargoyleTower$RefusedException"), ("java/lang/IllegalArgumentException", "GargoyleTower$TextException"), ("java/lang/UnsupportedOperationException", "java/lang/IllegalArgumentException"), ("java/lang/UnsupportedOperationException", "java/lang/IndexOutOfBoundsException"), ("java/lang/UnsupportedOperationException", "java/util/NoSuchElementException"), ("java/lang/UnsupportedOperationException", "java/lang/IllegalStateException"), ("java/lang/UnsupportedOperationException", "java/lang/ArithmeticException"), ("java/lang/UnsupportedOperationException", "GargoyleTower$RefusedException"), ("java/lang/UnsupportedOperationException", "GargoyleTower$TextException"), ("java/lang/IndexOutOfBoundsException", "java/lang/IllegalArgumentException"), ("java/lang/IndexOutOfBoundsException", "java/lang/UnsupportedOperationException"), ("java/lang/IndexOutOfBoundsException", "java/util/NoSuchElementException"), ("java/lang/IndexOutOfBoundsException", "java/lang/IllegalStateException"), ("java/lang/IndexOutOfBoundsException", "java/lang/ArithmeticException"), ("java/lang/IndexOutOfBoundsException", "GargoyleTower$RefusedException"), ("java/lang/IndexOutOfBoundsException", "GargoyleTower$TextException"), ("java/util/NoSuchElementException", "java/lang/IllegalArgumentException"), ("java/util/NoSuchElementException", "java/lang/UnsupportedOperationException"), ("java/util/NoSuchElementException", "java/lang/IndexOutOfBoundsException"), ("java/util/NoSuchElementException", "java/lang/IllegalStateException"), ("java/util/NoSuchElementException", "java/lang/ArithmeticException"), ("java/util/NoSuchElementException", "GargoyleTower$RefusedException"), ("java/util/NoSuchElementException", "GargoyleTower$TextException"), ("java/lang/IllegalStateException", "java/lang/IllegalArgumentException"), ("java/lang/IllegalStateException", "java/lang/UnsupportedOperationException"), ("java/lang/IllegalStateException", "java/lang/IndexOutOfBoundsException"), ("java/lang/IllegalStateException", "java/util/NoSuchElementException"), ("java/lang/IllegalStateException", "java/lang/ArithmeticException"), ("java/lang/IllegalStateException", "GargoyleTower$RefusedException"), ("java/lang/IllegalStateException", "GargoyleTower$TextException"), ("java/lang/ArithmeticException", "java/lang/IllegalArgumentException"), ("java/lang/ArithmeticException", "java/lang/UnsupportedOperationException"), ("java/lang/ArithmeticException", "java/lang/IndexOutOfBoundsException"), ("java/lang/ArithmeticException", "java/util/NoSuchElementException"), ("java/lang/ArithmeticException", "java/lang/IllegalStateException"), ("java/lang/ArithmeticException", "GargoyleTower$RefusedException"), ("java/lang/ArithmeticException", "GargoyleTower$TextException"), ("GargoyleTower$RefusedException", "java/lang/IllegalArgumentException"), ("GargoyleTower$RefusedException", "java/lang/UnsupportedOperationException"), ("GargoyleTower$RefusedException", "java/lang/IndexOutOfBoundsException"), ("GargoyleTower$RefusedException", "java/util/NoSuchElementException"), ("GargoyleTower$RefusedException", "java/lang/IllegalStateException"), ("GargoyleTower$RefusedException", "java/lang/ArithmeticException"), ("GargoyleTower$RefusedException", "GargoyleTower$TextException"), ("GargoyleTower$TextException", "java/lang/IllegalArgumentException"), ("GargoyleTower$TextException", "java/lang/UnsupportedOperationException"), ("GargoyleTower$TextException", "java/lang/IndexOutOfBoundsException"), ("GargoyleTower$TextException", "java/util/NoSuchElementException"), ("GargoyleTower$TextException", "java/lang/IllegalStateException"), ("GargoyleTower$TextException", "java/lang/ArithmeticException"), ("GargoyleTower$TextException", "GargoyleTower$RefusedException"), ("java/lang/StringBuilder", "java/lang/String")]
def gh_lands : List (String × MethodName × MethodName) := [("GargoyleTower$Block", ({ cls := "GargoyleTower$Block", name := "isLoose", desc := "()Z" } : Jvm.MethodName), ({ cls := "GargoyleTower$Hit", name := "isLoose", desc := "()Z" } : Jvm.MethodName)), ("GargoyleTower$Block", ({ cls := "GargoyleTower$Block", name := "wouldBeLoose", desc := "(I)Z" } : Jvm.MethodName), ({ cls := "GargoyleTower$Hit", name := "wouldBeLoose", desc := "(I)Z" } : Jvm.MethodName)), ("GargoyleTower$Rope", ({ cls := "GargoyleTower$Holding", name := "holds", desc := "()I" } : Jvm.MethodName), ({ cls := "GargoyleTower$Holding", name := "holds", desc := "()I" } : Jvm.MethodName)), ("GargoyleTower$Rope", ({ cls := "GargoyleTower$Holding", name := "isTorn", desc := "()Z" } : Jvm.MethodName), ({ cls := "GargoyleTower$Holding", name := "isTorn", desc := "()Z" } : Jvm.MethodName)), ("GargoyleTower$Rope", ({ cls := "GargoyleTower$Rope", name := "canHold", desc := "(I)Z" } : Jvm.MethodName), ({ cls := "GargoyleTower$Holding", name := "canHold", desc := "(I)Z" } : Jvm.MethodName)), ("GargoyleTower$Rope", ({ cls := "GargoyleTower$Rope", name := "holds", desc := "()I" } : Jvm.MethodName), ({ cls := "GargoyleTower$Holding", name := "holds", desc := "()I" } : Jvm.MethodName)), ("GargoyleTower$Rope", ({ cls := "GargoyleTower$Rope", name := "isTorn", desc := "()Z" } : Jvm.MethodName), ({ cls := "GargoyleTower$Holding", name := "isTorn", desc := "()Z" } : Jvm.MethodName))]
def gh_ifs : List MethodName := [({ cls := "jdk/internal/access/JavaLangAccess", name := "getUTF16Char", desc := "([BI)C" } : MethodName), ({ cls := "GargoyleTower$Holding", name := "isTorn", desc := "()Z" } : MethodName), ({ cls := "GargoyleTower$Holding", name := "holds", desc := "()I" } : MethodName), ({ cls := "GargoyleTower$Holding", name := "strength", desc := "()I" } : MethodName), ({ cls := "GargoyleTower$Holding", name := "wear", desc := "()I" } : MethodName), ({ cls := "GargoyleTower$Hit", name := "damage", desc := "()I" } : MethodName), ({ cls := "java/util/Iterator", name := "hasNext", desc := "()Z" } : MethodName), ({ cls := "java/util/Iterator", name := "next", desc := "()Ljava/lang/Object;" } : MethodName), ({ cls := "java/lang/CharSequence", name := "length", desc := "()I" } : MethodName), ({ cls := "java/lang/CharSequence", name := "charAt", desc := "(I)C" } : MethodName)]
theorem gh_ifs_ok : ∀ q ∈ gh_ifs, Cond.declares q ∈ lw_tbl ∧ q.cls ≠ "java/lang/invoke/MethodHandle" ∧ q.cls ≠ "java/lang/invoke/VarHandle" := List.forall_mem_cons.mpr ⟨⟨(lw_at lw_m5 130 rfl), by decide, by decide⟩, List.forall_mem_cons.mpr ⟨⟨(lw_at lw_m4 98 rfl), by decide, by decide⟩, List.forall_mem_cons.mpr ⟨⟨(lw_at lw_m4 107 rfl), by decide, by decide⟩, List.forall_mem_cons.mpr ⟨⟨(lw_at lw_m4 115 rfl), by decide, by decide⟩, List.forall_mem_cons.mpr ⟨⟨(lw_at lw_m4 124 rfl), by decide, by decide⟩, List.forall_mem_cons.mpr ⟨⟨(lw_at lw_m4 143 rfl), by decide, by decide⟩, List.forall_mem_cons.mpr ⟨⟨(lw_at lw_m2 22 rfl), by decide, by decide⟩, List.forall_mem_cons.mpr ⟨⟨(lw_at lw_m2 56 rfl), by decide, by decide⟩, List.forall_mem_cons.mpr ⟨⟨(lw_at lw_m8 129 rfl), by decide, by decide⟩, List.forall_mem_cons.mpr ⟨⟨(lw_at lw_m8 180 rfl), by decide, by decide⟩, fun _ h => nomatch h⟩⟩⟩⟩⟩⟩⟩⟩⟩⟩
/-- words of the tables that ride along any warming -/
def gh_tw (w : Cond) : Bool := w.onTables && (w.keepsCast || w.keepsH)
theorem gh_tw_at {A A' : Array Value} {s U : State} (hW : s.WarmedH U.vm) {w : Cond} (hg : gh_tw w = true) (h : w.before A s = true) : w.before A' U = true := by
  simp only [gh_tw, Bool.and_eq_true, Bool.or_eq_true] at hg
  obtain ⟨h1, h2⟩ := hg
  rcases h2 with h2 | h2
  · have e := Cond.before_shiftedCast (args := A) (State.Shifted.of_warmed hW) w h2 h
    rw [Cond.onTables_vm (A' := A') (U' := U) U.vm w h1] at e
    rwa [State.setVm_self] at e
  · have e := Cond.onTables_warmH (args' := A') (T := U) hW h1 h2 h
    rwa [State.setVm_self] at e
/-- what every method's start knows of the tables and of the constants -/
def gh_en (D : gh_D) (lo : Nat) (K : Nat → Value) (U : State) : Prop :=
  (∀ (c : Nat) (q : vw_C), gh_cl[c]? = some q → u_Kn U q.1 q.2.1 q.2.2 (D.1 c) (D.2.1 c)) ∧
  (∀ (k : Nat) (ty : FieldType), gh_tys[k]? = some ty → ArrOfT U (D.2.2 k) ty ∧ va_RA U (D.2.2 k) ty) ∧
  (∀ w ∈ lw_tbl, gh_tw w = true → w.before #[] U = true) ∧
  (∀ q ∈ gh_strs, ∃ a : Nat, K q.2.2.2 = .ref a ∧ vk_R q.1 q.2.1 q.2.2.1 a U) ∧
  (∀ q ∈ gh_stats, va_Z q.1 q.2.1 q.2.2.1 (K q.2.2.2) (gh_A lo) U U.heap) ∧
  (va_AO "java/lang/Object" U ∧ ∃ mi : Nat, K 30 = .ref mi ∧ va_Mi "[Ljava/lang/Object;" mi U) ∧
  (∀ q ∈ gh_ncs, va_Nc q.1 q.2 U) ∧
  (vx_Zq Bundle.tN "UNASSIGNED_STACK" Bundle.steD (gh_A lo) U U.heap ∧ vx_Zq Bundle.tN "SUPPRESSED_SENTINEL" Bundle.listD (gh_A lo) U U.heap) ∧
  (∀ w ∈ defaultWords_1, w.before #[] U = true) ∧
  (∀ q ∈ gh_lands, (Cond.landsInDefault q.1 q.2.1 q.2.2).before #[] U = true) ∧
  (∀ q ∈ gh_ifs, (Cond.interfaceMethod q.cls q.cls q.name q.desc).before #[] U = true) ∧
  (∀ (c : Nat) (cell : Cell), 10 ≤ c → c < 30 → cell.cls = D.2.2 c → (∀ k, cell.vm ≠ .statics k) → U.isArrayOf cell (gh_cty c))
theorem gh_dw_ok : ∀ w ∈ defaultWords_1, gh_tw w = true := by decide +kernel
theorem gh_en.moved {D : gh_D} {lo : Nat} {K : Nat → Value} {s U : State} (h : gh_en D lo K s) (hW : s.WarmedH U.vm) (hk : ∀ a : Nat, a < s.heap.size → ¬ gh_A lo a → U.heap[a]? = s.heap[a]?) : gh_en D lo K U := by
  obtain ⟨h1, h2, h3, h4, h5, ⟨h6, mi, h6a, h6b⟩, h7, ⟨h8, h9⟩, h10, h11, h12, h13⟩ := h
  have hal := hW.alike
  refine ⟨fun c q hq => u_Kn_moved hal (h1 c q hq), fun k ty hk => ⟨arrOfT_moved hal (h2 k ty hk).1, (h2 k ty hk).2.moved hal⟩, fun w hw hg => gh_tw_at hW hg (h3 w hw hg), fun q hq => ?_, fun q hq => va_Z.kept (va_Z.moved hal (h5 q hq)) hk, ⟨h6.moved hal, mi, h6a, h6b.moved hal⟩, fun q hq => (h7 q hq).moved hal, ⟨vx_Zq.kept (vx_Zq.moved hal h8) hk, vx_Zq.kept (vx_Zq.moved hal h9) hk⟩, fun w hw => gh_tw_at hW (gh_dw_ok w hw) (h10 w hw), fun q hq => ?_, fun q hq => ?_, fun c cell e1 e2 e3 e4 => State.isArrayOf_alike hal (h13 c cell e1 e2 e3 e4)⟩
  · obtain ⟨a, e1, e2⟩ := h4 q hq
    exact ⟨a, e1, vk_R.warm hW e2⟩
  · have e := (Cond.landsInDefault_setVm (args := #[]) (args' := #[]) hal (State.methodFound?_setVm hal _ _ _)).trans (h11 q hq)
    exact e
  · obtain ⟨d1, d2⟩ := gh_ifs_ok q hq
    obtain ⟨r, meth, hn, -⟩ := Cond.declares_spec (h3 _ d1 rfl)
    have e1 : (Cond.interfaceMethod q.cls q.cls q.name q.desc).before #[] (s.setVm U.vm) = true := by rw [Cond.interfaceMethod_setVm hal (r := r) hn d2]; exact h12 q hq
    have e2 := Cond.onTables_vm (A := #[]) (A' := #[]) (U := s) (U' := U) U.vm (.interfaceMethod q.cls q.cls q.name q.desc) rfl
    rw [State.setVm_self] at e2
    rw [← e2]
    exact e1
/-! a walk's context: machine, method, end, pure heap at the start and at the end -/
abbrev gh_C : Type := Program × Launch × Env × Room × State × MethodId × Array Value × List Frame × Method × Code × (State → Prop) × gh_D × gh_G × gh_G
abbrev gh_cp (x : gh_C) : Program := x.1
abbrev gh_cL (x : gh_C) : Launch := x.2.1
abbrev gh_ce (x : gh_C) : Env := x.2.2.1
abbrev gh_cR (x : gh_C) : Room := x.2.2.2.1
abbrev gh_cs (x : gh_C) : State := x.2.2.2.2.1
abbrev gh_cm (x : gh_C) : MethodId := x.2.2.2.2.2.1
abbrev gh_ca (x : gh_C) : Array Value := x.2.2.2.2.2.2.1
abbrev gh_cb (x : gh_C) : List Frame := x.2.2.2.2.2.2.2.1
abbrev gh_ct (x : gh_C) : Method := x.2.2.2.2.2.2.2.2.1
abbrev gh_cc (x : gh_C) : Code := x.2.2.2.2.2.2.2.2.2.1
abbrev gh_cq (x : gh_C) : State → Prop := x.2.2.2.2.2.2.2.2.2.2.1
abbrev gh_cd (x : gh_C) : gh_D := x.2.2.2.2.2.2.2.2.2.2.2.1
abbrev gh_c0 (x : gh_C) : gh_G := x.2.2.2.2.2.2.2.2.2.2.2.2.1
abbrev gh_cf (x : gh_C) : gh_G := x.2.2.2.2.2.2.2.2.2.2.2.2.2
abbrev gh_St (x : gh_C) (T : State) (locs : List Loc) (cells slots : Nat) : Prop := Stand (gh_cp x) (gh_cL x) (gh_ce x) (gh_cR x) (gh_cs x) (gh_cm x) (gh_ca x) (gh_cb x) (gh_ct x) (gh_cc x) T locs cells slots
abbrev gh_WW (x : gh_C) (H : Heap) (locs : List Loc) (cells slots : Nat) (fr : JFrame) : Prop := W (gh_cp x) (gh_cL x) (gh_ce x) (gh_cR x) (gh_cs x) (gh_cm x) (gh_ca x) (gh_cb x) (gh_ct x) (gh_cc x) H locs cells slots (gh_cq x) fr
def gh_hp (x : gh_C) (g : gh_G) (H : Heap) (locs : List Loc) : Prop := gh_le (gh_c0 x) g ∧ gh_w (gh_cd x) H g ∧ va_S (gh_A (gh_lo (gh_c0 x))) (gh_cs x).heap H locs
/-- the walk goes on from the frame fr with the pure heap g -/
def gh_Wd (x : gh_C) (g : gh_G) (fr : JFrame) : Prop := ∀ (H : Heap) (locs : List Loc), gh_hp x g H locs → gh_WW x H locs (g.2.1 - (gh_c0 x).2.1) (g.2.2.1 - (gh_c0 x).2.2.1) fr
/-- .. with something thrown over the frame fr -/
def gh_Wx (x : gh_C) (g : gh_G) (fr : JFrame) (e : gh_X) : Prop := ∀ (H : Heap) (locs : List Loc) (ce : Cell) (c : vw_C), gh_hp x g H locs → H[e.2]? = some ce → ce.vm = .none → gh_cl[e.1]? = some c → (gh_cs x).vm.findClass c.1 = some ce.cls → vx_W (gh_cp x) (gh_cL x) (gh_ce x) (gh_cR x) (gh_cs x) (gh_cm x) (gh_ca x) (gh_cb x) (gh_ct x) (gh_cc x) H locs (g.2.1 - (gh_c0 x).2.1) (g.2.2.1 - (gh_c0 x).2.2.1) (gh_cq x) fr e.2
/-- what a method says of its end -/
def gh_Po (D : gh_D) (g : gh_G) (st t : State) : Prop := gh_w D t.heap g ∧ va_F (gh_A (gh_lo g)) st t
def gh_Qc {α : Type} (D : gh_D) (rv : α → Option Value) (r : α ⊕ gh_X) (g : gh_G) : Array Value → State → Outcome → State → Prop := fun _ st o t => (∃ v, r = .inl v ∧ o = .returned (rv v)) ∧ gh_Po D g st t
def gh_XC {α : Type} (D : gh_D) (r : α ⊕ gh_X) (g : gh_G) : Addr → String → State → State → Prop := fun q E st t => (∃ (ci : Nat) (c : vw_C), r = .inr (ci, q) ∧ gh_cl[ci]? = some c ∧ c.1 = E) ∧ gh_Po D g st t
def gh_Pc (D : gh_D) (g : gh_G) (As : List Value) : Array Value → State → Prop := fun a U => a = As.toArray ∧ gh_en D (gh_lo g) (gh_co g) U ∧ gh_w D U.heap g
/-- A CONTRACT: whatever run the pure function has, the method has it too: F frames, L words of locals are enough -/
def gh_Ct {α : Type} (l : Launch) (y : MethodName) (F L : Nat) (f : gh_M α) (rv : α → Option Value) (As : List Value) : Prop := ∀ (D : gh_D) (g g1 : gh_G) (r : α ⊕ gh_X), gh_run f g = some (r, g1) → ∀ (R : Room) (p : Program) (e : Env) (below : List Frame) (s : State) (sargs : Array Value) (len : Nat), (∀ w ∈ lw_all, w.before sargs s = true) → F + 1 ≤ R.frames → 8 + L ≤ R.locals → vx_Back l R p e below s sargs y len 8 (PreOf R (g1.2.1 - g.2.1) (g1.2.2.1 - g.2.2.1) (gh_Pc D g As)) (PostOf (gh_Qc D rv r g1) (g1.2.1 - g.2.1) (g1.2.2.1 - g.2.2.1) (gh_A (gh_lo g))) (vx_Post (gh_XC D r g1) (g1.2.1 - g.2.1) (g1.2.2.1 - g.2.2.1) (gh_A (gh_lo g)))
def gh_rI (v : Int32) : Option Value := some (.int v)
def gh_rJ (v : Int64) : Option Value := some (.long v)
def gh_rF (v : UInt32) : Option Value := some (.float v)
def gh_rD (v : UInt64) : Option Value := some (.double v)
def gh_rQ (v : Option Nat) : Option Value := some (va_rf v)
def gh_rV (_ : Unit) : Option Value := none
/-- the method's facts: code, class, locals, answer's type, name, room, handlers -/
def gh_K (x : gh_C) (cc : ByteArray) (own : String) (nL : Nat) (ret : Option FieldType) (nm : String) (F L : Nat) (hh : List ExceptionTableEntry) : Prop :=
  (gh_cp x).tables.exec = Jvm.exec ∧ (gh_cc x).code = cc ∧ (gh_cs x).vm.findClass own = some (gh_cm x).cls ∧ (∀ w ∈ lw_all, w.before (gh_ca x) (gh_cs x) = true) ∧ (gh_cc x).maxLocals = nL ∧ (gh_ct x).locks = false ∧ (gh_ct x).sig.returnType = ret ∧ (gh_ct x).name = nm ∧
  gh_cR x = ({ frames := F, cells := (gh_cf x).2.1 - (gh_c0 x).2.1, slots := (gh_cf x).2.2.1 - (gh_c0 x).2.2.1, locals := L } : Room) ∧ (gh_cc x).exceptionTable.toList = hh ∧ (gh_cL x).stackTraces = false ∧ gh_en (gh_cd x) (gh_lo (gh_c0 x)) (gh_co (gh_c0 x)) (gh_cs x)
def gh_Qm {α : Type} (x : gh_C) (rv : α → Option Value) (r : α ⊕ gh_X) : State → Prop := vx_MQ (gh_cb x) (gh_Qc (gh_cd x) rv r (gh_cf x)) (gh_XC (gh_cd x) r (gh_cf x)) (gh_ca x) (gh_cs x) ((gh_cf x).2.1 - (gh_c0 x).2.1) ((gh_cf x).2.2.1 - (gh_c0 x).2.2.1) (gh_A (gh_lo (gh_c0 x)))
/-- the run's end is the end that is owed -/
def gh_K0 {α : Type} (x : gh_C) (rv : α → Option Value) (o : (α ⊕ gh_X) × gh_G) : Prop := gh_cq x = gh_Qm x rv o.1 ∧ o.2 = gh_cf x
/-- .. inside a loop: once more from a state that P allows, or out -/
def gh_K1 {S β : Type} (x : gh_C) (kd : (β ⊕ gh_X) × gh_G → Prop) (P : S → gh_G → Prop) (o : ((S ⊕ β) ⊕ gh_X) × gh_G) : Prop := match o.1 with
  | .inl (.inl st) => P st o.2 ∧ gh_le o.2 (gh_cf x)
  | .inl (.inr b) => kd (.inl b, o.2)
  | .inr e => kd (.inr e, o.2)
def gh_Kb {β : Type} (x : gh_C) (kd : (β ⊕ gh_X) × gh_G → Prop) : Prop := ∀ o, kd o → gh_le o.2 (gh_cf x)
theorem gh_K0_b {α : Type} {x : gh_C} {rv : α → Option Value} : gh_Kb x (gh_K0 x rv) := fun o h => by rw [h.2]; exact gh_le.rf
theorem gh_K1_b {S β : Type} {x : gh_C} {kd : (β ⊕ gh_X) × gh_G → Prop} {P : S → gh_G → Prop} (h : gh_Kb x kd) : gh_Kb x (gh_K1 x kd P) := by
  intro o ho
  obtain ⟨r, g⟩ := o
  match r, ho with
  | .inl (.inl st), ho => exact ho.2
  | .inl (.inr b), ho => exact h (.inl b, g) ho
  | .inr e, ho => exact h (.inr e, g) ho
theorem gh_up_inv {S β : Type} {x : gh_M β} {g : gh_G} {o : ((S ⊕ β) ⊕ gh_X) × gh_G} (h : gh_run (gh_up (S := S) x) g = some o) : ∃ o1 : (β ⊕ gh_X) × gh_G, gh_run x g = some o1 ∧ o = (match o1.1 with | .inl b => .inl (.inr b) | .inr e => .inr e, o1.2) := by
  rcases gh_tc_cases h with ⟨a, g1, e, h1⟩ | ⟨a, g1, e, h1⟩
  · exact ⟨_, e, gh_ret_inv h1⟩
  · exact ⟨_, e, gh_thr_inv h1⟩
theorem gh_K1_up {S β : Type} {x : gh_C} {kd : (β ⊕ gh_X) × gh_G → Prop} {P : S → gh_G → Prop} {y : gh_M β} {g : gh_G} {o : ((S ⊕ β) ⊕ gh_X) × gh_G} (h : gh_run (gh_up (S := S) y) g = some o) (ho : gh_K1 x kd P o) : ∃ o1, gh_run y g = some o1 ∧ kd o1 := by
  obtain ⟨o1, h1, rfl⟩ := gh_up_inv h
  refine ⟨o1, h1, ?_⟩
  obtain ⟨r, g1⟩ := o1
  cases r with
  | inl b => exact ho
  | inr e => exact ho
/-- a loop -/
theorem gh_loop {S β : Type} {x : gh_C} {kd : (β ⊕ gh_X) × gh_G → Prop} (hkb : gh_Kb x kd) (body : S → gh_M (S ⊕ β)) (P : S → gh_G → Prop)
    (hb : ∀ (st : S) (g : gh_G) (o : ((S ⊕ β) ⊕ gh_X) × gh_G), gh_run (body st) g = some o → gh_K1 x kd P o → P st g) :
    ∀ (st : S) (g : gh_G) (o : (β ⊕ gh_X) × gh_G), gh_run (gh_it body st) g = some o → kd o → P st g := by
  intro st g o h hk
  refine gh_it_ind (o := o) P (fun st st1 g g1 h1 hle hp => hb st g _ h1 ⟨hp, hle.tr (hkb o hk)⟩) (fun st g b g1 h1 e => ?_) (fun st g b g1 h1 e => ?_) st g h
  · subst e
    exact hb st g _ h1 hk
  · subst e
    exact hb st g _ h1 hk

