/-! the law's start in the pure heap -/
set_option maxRecDepth 100000
section
variable {s : State} {A : Array Value}
theorem gs_isA {c1 c2 : Cell} {t : FieldType} (h : s.isArrayOf c1 t) (hc : c2.cls = c1.cls) (hv : ∀ k, c2.vm ≠ .statics k) : s.isArrayOf c2 t := ⟨hv, by rw [hc]; exact h.2⟩
theorem gs_cls (hts : ∀ w ∈ lw_tbl, w.before A s = true) : ∃ D : Nat → ClassId × (Nat → Nat), ∀ (c : Nat) (q : vw_C), gh_cl[c]? = some q → u_Kn s q.1 q.2.1 q.2.2 (D c).1 (D c).2 := by
  have h : ∀ c : Nat, ∃ d : ClassId × (Nat → Nat), ∀ q : vw_C, gh_cl[c]? = some q → u_Kn s q.1 q.2.1 q.2.2 d.1 d.2 := by
    intro c
    cases hq : gh_cl[c]? with
    | none => exact ⟨(0, fun _ => 0), fun q h => by cases h⟩
    | some q0 =>
      obtain ⟨h1, n, h2⟩ := gs_in q0 (List.mem_of_getElem? hq)
      obtain ⟨cC, iS, h3⟩ := u_known (ws := lw_all) (fun w h => hts w (lw_all_tbl h)) h1 (hts _ h2)
      exact ⟨(cC, iS), fun q h => by cases h; exact h3⟩
  exact Classical.axiomOfChoice h
theorem gs_arr {ty : FieldType} (hac : (Cond.arrayClass ty).before A s = true) : ∃ cA : ClassId, ArrOfT s cA ty ∧ s.vm.findClass ("[" ++ ty.toString) = some cA := by
  obtain ⟨c, k, comp, h1, h2, h3⟩ := Cond.arrayClass_spec hac
  exact ⟨c, fun n z => ⟨fun _ h => (by cases h), k, h2, comp, h3⟩, h1⟩
theorem gs_tys (hts : ∀ w ∈ lw_tbl, w.before A s = true) : ∃ cA : Nat → ClassId, ∀ (k : Nat) (ty : FieldType), gh_tys[k]? = some ty → ArrOfT s (cA k) ty ∧ va_RA s (cA k) ty := by
  obtain ⟨c0, a0, b0⟩ := gs_arr (hts _ gs_ac_int)
  obtain ⟨c1, a1, b1⟩ := gs_arr (hts _ gs_ac_long)
  obtain ⟨c2, a2, b2⟩ := gs_arr (hts _ gs_ac_double)
  obtain ⟨c3, a3, b3⟩ := gs_arr (hts _ gs_ac_char)
  obtain ⟨c4, a4, b4⟩ := gs_arr (hts _ gs_ac_byte)
  obtain ⟨comp, c5, k5, e1, -, e3, e4, e5⟩ := Cond.arrayOver_spec (hts _ gs_ao)
  refine ⟨fun k => [c0, c1, c2, c3, c4, c5].getD k 0, fun k ty hk => ?_⟩
  match k, hk with
  | 0, hk => cases hk; exact ⟨a0, b0⟩
  | 1, hk => cases hk; exact ⟨a1, b1⟩
  | 2, hk => cases hk; exact ⟨a2, b2⟩
  | 3, hk => cases hk; exact ⟨a3, b3⟩
  | 4, hk => cases hk; exact ⟨a4, b4⟩
  | 5, hk => cases hk; exact ⟨fun n z => ⟨fun _ h => (by cases h), k5, e3, comp, e4⟩, k5, comp, e3, e4, e1, e5⟩
  | k + 6, hk => cases hk
theorem gs_len : ∀ i, i < 14 → (gs_bs i).length < 2 ^ 31 := by decide +kernel
theorem gs_str {D : gh_D} (hK : u_Kn s RJ6 TJ6 4 (D.1 14) (D.2.1 14)) (hs : ∀ w, gs_N w → w.before A s = true) (i : Nat) (hi : i < 14) : ∃ q : Nat × Nat, (gs_st i).eval A s none [] s = some (.ref q.1) ∧ gh_at D q.1 (.inr (14 + 100, [.ref q.2, .int 0, .int (gs_hs i), .int (gs_hz i)])) s.heap ∧ va_T .byte q.2 (gs_bs i).length (fun j => .int ((gs_bs i).getD j 0)) (gh_A s.heap.size) s s.heap := by
  have hA : ∀ a : Nat, a < s.heap.size → ¬ gh_A s.heap.size a := fun a h h2 => absurd h (Nat.not_lt.mpr h2)
  obtain ⟨a, c, cell, kA, q1, q2, q3, q4, q5, q6, -⟩ := Cond.exactly_spec (args := A) (first := s) (o := none) (s := s) (idx := []) (hs _ (gs_m1 i hi))
  obtain ⟨t, ht, hT⟩ := va_Tof (f := fun j => .int ((gs_bs i).getD j 0)) (A := gh_A s.heap.size) (gs_len i hi) (hs _ (gs_m3 i hi)) (va_eqt (hs _ (gs_m4 i hi))) (fun j hj => va_eqt (hs _ (gs_m5 i hi j hj))) hA
  have f0 : va_OF "java/lang/String" "value" "[B" (.ref t) a (gh_A s.heap.size) s s.heap := vk_OFof q1 ht hA
  have f1 : va_OF "java/lang/String" "coder" "B" (.int 0) a (gh_A s.heap.size) s s.heap := vk_OFof q1 (va_eqt (hs _ (gs_m2 i hi))) hA
  have f2 : va_OF "java/lang/String" "hash" "I" (.int (gs_hs i)) a (gh_A s.heap.size) s s.heap := vk_OFof q1 (va_eqt (hs _ (gs_m6 i hi))) hA
  have f3 : va_OF "java/lang/String" "hashIsZero" "Z" (.int (gs_hz i)) a (gh_A s.heap.size) s s.heap := vk_OFof q1 (va_eqt (hs _ (gs_m7 i hi))) hA
  refine ⟨(a, t), q1, ?_, hT⟩
  rw [gh_at_O]
  refine ⟨(RJ6, TJ6, 4), cell, rfl, q3, ?_, q5, ?_, ?_⟩
  · rw [q6]
    exact Option.some.inj (q2.symm.trans hK.2.1)
  · obtain ⟨cf', k', i', f', cell', g1, -, g3, g4, g5, -⟩ := f0
    cases q3.symm.trans g3
    exact g4
  · intro k hk
    obtain ⟨cf, kf, fi, fd, e1, e2⟩ := hK.1 k hk
    rw [← e2]
    match k, hk, e1 with
    | 0, _, e1 =>
      obtain ⟨cf', k', i', f', cell', g1, -, g3, g4, g5, -⟩ := f0
      cases q3.symm.trans g3
      cases e1.symm.trans g1
      exact g5
    | 1, _, e1 =>
      obtain ⟨cf', k', i', f', cell', g1, -, g3, g4, g5, -⟩ := f1
      cases q3.symm.trans g3
      cases e1.symm.trans g1
      exact g5
    | 2, _, e1 =>
      obtain ⟨cf', k', i', f', cell', g1, -, g3, g4, g5, -⟩ := f2
      cases q3.symm.trans g3
      cases e1.symm.trans g1
      exact g5
    | 3, _, e1 =>
      obtain ⟨cf', k', i', f', cell', g1, -, g3, g4, g5, -⟩ := f3
      cases q3.symm.trans g3
      cases e1.symm.trans g1
      exact g5
    | k + 4, hk, _ => exact absurd hk (by simp)
theorem gs_va {D : gh_D} {ty : FieldType} {t N c : Nat} {f : Nat → Value} {x : vp_A} {B : Nat → Prop} (hT : va_T ty t N f B s s.heap) (hc : 10 ≤ c) (hD : ∀ cell, s.heap[t]? = some cell → D.2.2 c = cell.cls) (hx : x.1 = N) (hf : ∀ j, j < N → f j = gh_val x j) : gh_at D t (.inl (c, x)) s.heap := by
  obtain ⟨cell, h1, h2, h3, h4, h5, h6, -⟩ := hT
  rw [gh_at_A hc]
  subst hx
  exact ⟨cell, h1, (hD cell h1).symm, h2.1, h3, h4, h5, fun j hj => by rw [h6 j hj, hf j hj]⟩
/-- the constants by number: 10 the script, 11 .. 24 the strings' bytes, 25, 26 the digits, 29 the empty array, 30 .. 43 the strings -/
def gs_ok (c : Nat) : Prop := 10 ≤ c ∧ c < 44 ∧ c ≠ 27 ∧ c ≠ 28
def gs_by (c : Nat) : List Int32 := if c = 25 then gs_ones else if c = 26 then gs_tens else gs_bs (c - 11)
def gs_ad (b d1 d2 e : Nat) (q : Nat → Nat × Nat) (c : Nat) : Nat := if c = 10 then b else if c = 25 then d1 else if c = 26 then d2 else if c = 29 then e else if 30 ≤ c then (q (c - 30)).1 else if c < 25 then (q (c - 11)).2 else (q 0).2
def gs_en (L : Nat) (xs : Nat → Int32) (q : Nat → Nat × Nat) (c : Nat) : gh_E := if c = 10 then .inl (10, L, .inl xs) else if c = 29 then .inl (29, 0, .inr (.inr (.inr (.inr fun _ => none)))) else if 30 ≤ c then .inr (14 + 100, [.ref (q (c - 30)).2, .int 0, .int (gs_hs (c - 30)), .int (gs_hz (c - 30))]) else .inl (c, (gs_by c).length, .inl fun j => (gs_by c).getD j 0)
noncomputable def gs_map (ad : Nat → Nat) (en : Nat → gh_E) (a : Nat) : Option gh_E := @dite _ (∃ c, gs_ok c ∧ ad c = a) (Classical.propDecidable _) (fun h => some (en (Classical.choose h))) (fun _ => none)
theorem gs_map_inv {ad : Nat → Nat} {en : Nat → gh_E} {a : Nat} {e : gh_E} (h : gs_map ad en a = some e) : ∃ c, gs_ok c ∧ ad c = a ∧ en c = e := by
  unfold gs_map at h
  by_cases hx : ∃ c, gs_ok c ∧ ad c = a
  · rw [dif_pos hx] at h
    cases h
    exact ⟨_, (Classical.choose_spec hx).1, (Classical.choose_spec hx).2, rfl⟩
  · rw [dif_neg hx] at h
    cases h
theorem gs_map_of {ad : Nat → Nat} {en : Nat → gh_E} (hinj : ∀ c c', gs_ok c → gs_ok c' → ad c = ad c' → c = c') {c : Nat} (hc : gs_ok c) : gs_map ad en (ad c) = some (en c) := by
  have hx : ∃ c', gs_ok c' ∧ ad c' = ad c := ⟨c, hc, rfl⟩
  unfold gs_map
  rw [dif_pos hx, hinj _ _ (Classical.choose_spec hx).1 hc (Classical.choose_spec hx).2]
/-- what lies at a constant's address: its type, and if it is an array of bytes, what it holds; a String holds its bytes -/
def gs_ty (c : Nat) : Option FieldType := if c = 10 then some .int else if c = 29 then some (.object "java/lang/Object") else if 30 ≤ c then none else some .byte
def gs_Is (s : State) (c : Nat) (a v : Nat) (i0 : Nat) : Prop := ∃ cell : Cell, s.heap[a]? = some cell ∧ (match gs_ty c with
  | some t => s.isArrayOf cell t
  | none => (∃ k : Class, s.vm.classes[cell.cls]? = some k ∧ k.kind = .ordinary) ∧ cell.slots[i0]? = some (.ref v)) ∧ (11 ≤ c → c < 27 → cell.slots.size.toInt32 = Int32.ofNat (gs_by c).length ∧ ∀ j, j < (gs_by c).length → cell.slots[j]? = some (.int ((gs_by c).getD j 0)))
theorem gs_tyk {s : State} {cell : Cell} {t t' : FieldType} (h : s.isArrayOf cell t) (h' : s.isArrayOf cell t') : t = t' := by
  obtain ⟨-, k, h1, comp, h2⟩ := h
  obtain ⟨-, k', h1', comp', h2'⟩ := h'
  cases h1.symm.trans h1'
  cases h2.symm.trans h2'
  rfl
theorem gs_tyo {s : State} {cell : Cell} {t : FieldType} (h : s.isArrayOf cell t) (h' : ∃ k : Class, s.vm.classes[cell.cls]? = some k ∧ k.kind = .ordinary) : False := by
  obtain ⟨-, k, h1, comp, h2⟩ := h
  obtain ⟨k', h1', h2'⟩ := h'
  cases h1.symm.trans h1'
  cases h2.symm.trans h2'
theorem gs_byl : ∀ c, c < 27 → (gs_by c).length < 200 := by decide +kernel
theorem gs_byi : ∀ c, c < 27 → 11 ≤ c → ∀ c', c' < 27 → 11 ≤ c' → gs_by c = gs_by c' → c = c' := by decide +kernel
theorem gs_tyI : ∀ c, c < 44 → gs_ty c = some .int → c = 10 := by decide +kernel
theorem gs_tyO : ∀ c, c < 44 → gs_ty c = some (.object "java/lang/Object") → c = 29 := by decide +kernel
theorem gs_tyB0 : ∀ c, c < 44 → c = 27 ∨ c = 28 ∨ c < 10 ∨ gs_ty c ≠ some .byte ∨ (11 ≤ c ∧ c < 27) := by decide +kernel
theorem gs_tyB (c : Nat) (h : c < 44) (h1 : c ≠ 27) (h2 : c ≠ 28) (h3 : 10 ≤ c) (h4 : gs_ty c = some .byte) : 11 ≤ c ∧ c < 27 := by
  rcases gs_tyB0 c h with e | e | e | e | e
  · exact absurd e h1
  · exact absurd e h2
  · omega
  · exact absurd h4 e
  · exact e
theorem gs_tyN : ∀ c, c < 44 → gs_ty c = none → 30 ≤ c := by decide +kernel
theorem gs_tyA : ∀ c, c < 44 → gs_ty c = none ∨ gs_ty c = some .int ∨ gs_ty c = some .byte ∨ gs_ty c = some (.object "java/lang/Object") := by decide +kernel
theorem gs_bytes {s : State} {c c' a v v' i0 : Nat} (h : gs_Is s c a v i0) (h' : gs_Is s c' a v' i0) (hc : 11 ≤ c ∧ c < 27) (hc' : 11 ≤ c' ∧ c' < 27) : c = c' := by
  obtain ⟨cell, h1, -, h3⟩ := h
  obtain ⟨cell', h1', -, h3'⟩ := h'
  cases h1.symm.trans h1'
  obtain ⟨e1, e2⟩ := h3 hc.1 hc.2
  obtain ⟨e1', e2'⟩ := h3' hc'.1 hc'.2
  have hl : (gs_by c).length = (gs_by c').length := by
    have e := e1.symm.trans e1'
    have g1 := gs_byl c hc.2
    have g2 := gs_byl c' hc'.2
    have e9 := congrArg Int32.toNatClampNeg e
    rw [Int32.toNatClampNeg_ofNat_of_lt (by omega), Int32.toNatClampNeg_ofNat_of_lt (by omega)] at e9
    exact e9
  refine gs_byi c hc.2 hc.1 c' hc'.2 hc'.1 (List.ext_getElem hl fun j hj hj' => ?_)
  have e := (e2 j hj).symm.trans (e2' j hj')
  injection e with e
  injection e with e
  rw [List.getD_eq_getElem?_getD, List.getD_eq_getElem?_getD, List.getElem?_eq_getElem hj, List.getElem?_eq_getElem hj'] at e
  exact e
/-- the constants lie apart -/
theorem gs_inj {s : State} {ad : Nat → Nat} {v : Nat → Nat} {i0 : Nat} (hv : ∀ c, 30 ≤ c → c < 44 → v c = ad (c - 19)) (hI : ∀ c, gs_ok c → gs_Is s c (ad c) (v c) i0) : ∀ c c', gs_ok c → gs_ok c' → ad c = ad c' → c = c' := by
  intro c c' hc hc' he
  have h := hI c hc
  have h' := hI c' hc'
  rw [← he] at h'
  have hty : gs_ty c = gs_ty c' := by
    obtain ⟨cell, h1, h2, -⟩ := h
    obtain ⟨cell', h1', h2', -⟩ := h'
    cases h1.symm.trans h1'
    revert h2 h2'
    cases gs_ty c with
    | none =>
      cases gs_ty c' with
      | none => intros; rfl
      | some t => intro h2 h2'; exact (gs_tyo h2' h2.1).elim
    | some t =>
      cases gs_ty c' with
      | none => intro h2 h2'; exact (gs_tyo h2 h2'.1).elim
      | some t' => intro h2 h2'; rw [gs_tyk h2 h2']
  rcases gs_tyA c hc.2.1 with e | e | e | e
  · have k1 := gs_tyN c hc.2.1 e
    have k2 := gs_tyN c' hc'.2.1 (hty.symm.trans e)
    have hvv : v c = v c' := by
      obtain ⟨cell, h1, h2, -⟩ := h
      obtain ⟨cell', h1', h2', -⟩ := h'
      cases h1.symm.trans h1'
      rw [e] at h2
      rw [hty.symm.trans e] at h2'
      have e9 := h2.2.symm.trans h2'.2
      injection e9 with e9
      injection e9 with e9
    rw [hv c k1 hc.2.1, hv c' k2 hc'.2.1] at hvv
    have o1 : gs_ok (c - 19) := ⟨by omega, by have := hc.2.1; omega, by have := hc.2.1; omega, by have := hc.2.1; omega⟩
    have o2 : gs_ok (c' - 19) := ⟨by omega, by have := hc'.2.1; omega, by have := hc'.2.1; omega, by have := hc'.2.1; omega⟩
    have p1 := hI _ o1
    have p2 := hI _ o2
    rw [← hvv] at p2
    have := gs_bytes p1 p2 ⟨by omega, by have := hc.2.1; omega⟩ ⟨by omega, by have := hc'.2.1; omega⟩
    omega
  · rw [gs_tyI c hc.2.1 e, gs_tyI c' hc'.2.1 (hty.symm.trans e)]
  · exact gs_bytes h h' (gs_tyB c hc.2.1 hc.2.2.1 hc.2.2.2 hc.1 e) (gs_tyB c' hc'.2.1 hc'.2.2.1 hc'.2.2.2 hc'.1 (hty.symm.trans e))
  · rw [gs_tyO c hc.2.1 e, gs_tyO c' hc'.2.1 (hty.symm.trans e)]
end
/-- what the pure side knows of the start -/
def gp_Init (g : gh_G) (b L : Nat) (xs : Nat → Int32) : Prop :=
  g.1 b = some (.inl (10, L, .inl xs)) ∧
  (∀ i, i < 14 → ∃ a v : Nat, gh_co g i = .ref a ∧ g.1 a = some (.inr (114, [.ref v, .int 0, .int (gs_hs i), .int (gs_hz i)])) ∧ g.1 v = some (.inl (11 + i, (gs_bs i).length, .inl fun j => (gs_bs i).getD j 0))) ∧
  (∃ a : Nat, gh_co g 14 = .ref a ∧ g.1 a = some (.inl (29, 0, .inr (.inr (.inr (.inr fun _ => none)))))) ∧
  gh_co g 15 = .int 1 ∧ (∃ x, gh_co g 16 = va_rf x) ∧ (∃ x, gh_co g 17 = va_rf x) ∧
  (∃ a : Nat, gh_co g 18 = .ref a ∧ g.1 a = some (.inl (25, 100, .inl fun j => gs_ones.getD j 0))) ∧
  (∃ a : Nat, gh_co g 19 = .ref a ∧ g.1 a = some (.inl (26, 100, .inl fun j => gs_tens.getD j 0))) ∧
  (∃ x, gh_co g 20 = va_rf x) ∧ (∃ a : Nat, gh_co g 30 = .ref a) ∧ gh_lo g = g.2.1 ∧ g.2.2.1 = 0 ∧ (∀ a e, g.1 a = some e → a < gh_lo g)
theorem gs_rf {v : Value} (h : v.isRef = true) : ∃ x, v = va_rf x := by
  cases v with
  | null => exact ⟨none, rfl⟩
  | ref a => exact ⟨some a, rfl⟩
  | _ => cases h
theorem gs_sfld {s : State} {i : Nat} : (SlotIs s "java/lang/String" "value" "[B" i) → SlotIs s "java/lang/String" "value" "[B" i := id
theorem gh_start {s : State} {A : Array Value} {b L : Nat} {xs : Nat → Int32} (hts : ∀ w ∈ lw_tbl, w.before A s = true) (hs : ∀ w, gs_N w → w.before A s = true) (hL : L < 2 ^ 31) (hX : va_X b L xs s s.heap) : ∃ (D : gh_D) (K : Nat → Value) (m0 : Nat → Option gh_E), gh_en D s.heap.size K s ∧ gh_w D s.heap (m0, s.heap.size, 0, s.heap.size, K) ∧ gp_Init (m0, s.heap.size, 0, s.heap.size, K) b L xs := by
  have hA : ∀ a : Nat, a < s.heap.size → ¬ gh_A s.heap.size a := fun a h h2 => absurd h (Nat.not_lt.mpr h2)
  obtain ⟨D0, hD0⟩ := gs_cls hts
  obtain ⟨cA, hcA⟩ := gs_tys hts
  have hD14 := hD0 14 (RJ6, TJ6, 4) rfl
  -- constants
  have hstr0 : ∀ i : Nat, ∃ q : Nat × Nat, i < 14 → (gs_st i).eval A s none [] s = some (.ref q.1) ∧ gh_at ((fun c => (D0 c).1, fun c => (D0 c).2, cA) : gh_D) q.1 (.inr (14 + 100, [.ref q.2, .int 0, .int (gs_hs i), .int (gs_hz i)])) s.heap ∧ va_T .byte q.2 (gs_bs i).length (fun j => .int ((gs_bs i).getD j 0)) (gh_A s.heap.size) s s.heap := by
    intro i
    by_cases hi : i < 14
    · obtain ⟨q, hq⟩ := gs_str (D := ((fun c => (D0 c).1, fun c => (D0 c).2, cA) : gh_D)) hD14 hs i hi
      exact ⟨q, fun _ => hq⟩
    · exact ⟨(0, 0), fun h => absurd h hi⟩
  obtain ⟨q, hq⟩ := Classical.axiomOfChoice hstr0
  obtain ⟨d1, t1, T1⟩ := va_Tof (N := 100) (f := fun j => .int (gs_ones.getD j 0)) (A := gh_A s.heap.size) (by decide) (hs _ gs_ones_1) (va_eqt (hs _ gs_ones_2)) (fun j hj => va_eqt (hs _ (gs_ones_3 j hj))) hA
  obtain ⟨d2, t2, T2⟩ := va_Tof (N := 100) (f := fun j => .int (gs_tens.getD j 0)) (A := gh_A s.heap.size) (by decide) (hs _ gs_tens_1) (va_eqt (hs _ gs_tens_2)) (fun j hj => va_eqt (hs _ (gs_tens_3 j hj))) hA
  obtain ⟨e, te, Te⟩ := va_Tof (N := 0) (f := fun _ => .null) (A := gh_A s.heap.size) (by decide) (hs _ gs_dc1) (va_eqt (hs _ gs_dc2)) (fun j hj => absurd hj (Nat.not_lt_zero j)) hA
  obtain ⟨vu, tu, ru⟩ := Cond.isRef_spec (hs _ gs_us)
  obtain ⟨vs, tss, rs⟩ := Cond.isRef_spec (hs _ gs_ss)
  obtain ⟨vi, ti, ri⟩ := Cond.isRef_spec (hs _ gs_si)
  obtain ⟨mi, hmi⟩ := va_Mi.of (hs _ gs_mi)
  have tc := va_eqi (hs _ gs_cs)
  let ad : Nat → Nat := gs_ad b d1 d2 e q
  let D : gh_D := (fun c => (D0 c).1, fun c => (D0 c).2, fun k => if k < 10 then cA k else ((s.heap[ad k]?).map Cell.cls).getD 0)
  have hDk : ∀ k, 10 ≤ k → ∀ cell, s.heap[ad k]? = some cell → D.2.2 k = cell.cls := by
    intro k hk cell hc
    show (if k < 10 then cA k else ((s.heap[ad k]?).map Cell.cls).getD 0) = _
    rw [if_neg (Nat.not_lt.mpr hk), hc]
    rfl
  let K : Nat → Value := fun p => if p < 14 then .ref (q p).1 else if p = 14 then .ref e else if p = 15 then .int 1 else if p = 16 then vu else if p = 17 then vs else if p = 18 then .ref d1 else if p = 19 then .ref d2 else if p = 20 then vi else .ref mi
  -- the places of the constants
  have a10 : ad 10 = b := rfl
  have a25 : ad 25 = d1 := rfl
  have a26 : ad 26 = d2 := rfl
  have a29 : ad 29 = e := rfl
  have aS : ∀ i, i < 14 → ad (30 + i) = (q i).1 := by
    intro i hi
    show gs_ad b d1 d2 e q (30 + i) = _
    unfold gs_ad
    rw [if_neg (by omega), if_neg (by omega), if_neg (by omega), if_neg (by omega), if_pos (by omega), Nat.add_sub_cancel_left]
  have aB : ∀ i, i < 14 → ad (11 + i) = (q i).2 := by
    intro i hi
    show gs_ad b d1 d2 e q (11 + i) = _
    unfold gs_ad
    rw [if_neg (by omega), if_neg (by omega), if_neg (by omega), if_neg (by omega), if_neg (by omega), if_pos (by omega), Nat.add_sub_cancel_left]
  have bS : ∀ i, i < 14 → gs_by (11 + i) = gs_bs i := by
    intro i hi
    unfold gs_by
    rw [if_neg (by omega), if_neg (by omega), Nat.add_sub_cancel_left]
  have eS : ∀ i, i < 14 → gs_en L xs q (30 + i) = .inr (14 + 100, [.ref (q i).2, .int 0, .int (gs_hs i), .int (gs_hz i)]) := by
    intro i hi
    unfold gs_en
    rw [if_neg (by omega), if_neg (by omega), if_pos (by omega), Nat.add_sub_cancel_left]
  have eB : ∀ i, i < 14 → gs_en L xs q (11 + i) = .inl (11 + i, (gs_bs i).length, .inl fun j => (gs_bs i).getD j 0) := by
    intro i hi
    unfold gs_en
    rw [if_neg (by omega), if_neg (by omega), if_neg (by omega), bS i hi]
  obtain ⟨scr, x1, x2, x3, x4, x5⟩ := hX
  -- every case of the numbers
  have hcase : ∀ c, gs_ok c → c = 10 ∨ c = 25 ∨ c = 26 ∨ c = 29 ∨ (∃ i, i < 14 ∧ c = 30 + i) ∨ ∃ i, i < 14 ∧ c = 11 + i := by
    intro c hc
    obtain ⟨h1, h2, h3, h4⟩ := hc
    by_cases k1 : 30 ≤ c
    · exact Or.inr (Or.inr (Or.inr (Or.inr (Or.inl ⟨c - 30, by omega, by omega⟩))))
    · by_cases k2 : 11 ≤ c ∧ c < 25
      · exact Or.inr (Or.inr (Or.inr (Or.inr (Or.inr ⟨c - 11, by omega, by omega⟩))))
      · omega
  have hat : ∀ c, gs_ok c → gh_at D (ad c) (gs_en L xs q c) s.heap := by
    intro c hc
    rcases hcase c hc with rfl | rfl | rfl | rfl | ⟨i, hi, rfl⟩ | ⟨i, hi, rfl⟩
    · show gh_at D b (.inl (10, L, .inl xs)) s.heap
      rw [gh_at_A (by decide)]
      exact ⟨scr, x1, (hDk 10 (by decide) scr x1).symm, x2.1, x3, Nat.le_of_eq x4.symm, by rw [x4], fun j hj => x5 j hj⟩
    · exact gs_va T1 (by decide) (hDk 25 (by decide)) (by decide +kernel) (fun j hj => rfl)
    · exact gs_va T2 (by decide) (hDk 26 (by decide)) (by decide +kernel) (fun j hj => rfl)
    · exact gs_va Te (by decide) (hDk 29 (by decide)) rfl (fun j hj => absurd hj (Nat.not_lt_zero j))
    · rw [eS i hi, aS i hi]
      have h9 := (hq i hi).2.1
      rw [gh_at_O] at h9 ⊢
      exact h9
    · rw [eB i hi]
      have h9 := (hq i hi).2.2
      rw [← aB i hi] at h9
      exact gs_va h9 (by omega) (hDk (11 + i) (by omega)) rfl (fun j hj => rfl)
  obtain ⟨i0, hi0⟩ : ∃ i0, SlotIs s "java/lang/String" "value" "[B" i0 := ⟨_, hD14.1 0 (by decide)⟩
  have hIs : ∀ c, gs_ok c → gs_Is s c (ad c) (if 30 ≤ c then ad (c - 19) else 0) i0 := by
    intro c hc
    rcases hcase c hc with rfl | rfl | rfl | rfl | ⟨i, hi, rfl⟩ | ⟨i, hi, rfl⟩
    · exact ⟨scr, x1, x2, fun h => absurd h (by decide)⟩
    · obtain ⟨cell, h1, h2, h3, h4, h5, h6, -⟩ := T1
      exact ⟨cell, h1, h2, fun _ _ => ⟨h5.trans (by decide +kernel), fun j hj => h6 j (Nat.lt_of_lt_of_le hj (by decide +kernel))⟩⟩
    · obtain ⟨cell, h1, h2, h3, h4, h5, h6, -⟩ := T2
      exact ⟨cell, h1, h2, fun _ _ => ⟨h5.trans (by decide +kernel), fun j hj => h6 j (Nat.lt_of_lt_of_le hj (by decide +kernel))⟩⟩
    · obtain ⟨cell, h1, h2, h3, h4, h5, h6, -⟩ := Te
      exact ⟨cell, h1, h2, fun _ h => absurd h (by decide)⟩
    · have h9 := (hq i hi).2.1
      rw [gh_at_O] at h9
      obtain ⟨r, cell, h1, h2, h3, h4, h5, h6⟩ := h9
      cases (show gh_cl[14]? = some (RJ6, TJ6, 4) from rfl).symm.trans h1
      obtain ⟨k1, k2, k3⟩ := hD14.2.2
      refine ⟨cell, by rw [aS i hi]; exact h2, ?_, fun _ h => absurd h (by omega)⟩
      rw [show gs_ty (30 + i) = none by unfold gs_ty; rw [if_neg (by omega), if_neg (by omega), if_pos (by omega)]]
      refine ⟨⟨k1, by rw [h3]; exact k2, k3⟩, ?_⟩
      rw [if_pos (by omega), show 30 + i - 19 = 11 + i by omega, aB i hi]
      have h7 := h6 0 (by decide)
      obtain ⟨cf, kf, fi, fd, e1, e2⟩ := hD14.1 0 (by decide)
      obtain ⟨cf', kf', fi', fd', e1', e2'⟩ := hi0
      cases e1.symm.trans e1'
      rw [← e2', e2]
      exact h7
    · have h9 := (hq i hi).2.2
      obtain ⟨cell, h1, h2, h3, h4, h5, h6, -⟩ := h9
      refine ⟨cell, by rw [aB i hi]; exact h1, ?_, fun _ _ => ?_⟩
      · rw [show gs_ty (11 + i) = some .byte by unfold gs_ty; rw [if_neg (by omega), if_neg (by omega), if_neg (by omega)]]
        exact h2
      · rw [bS i hi]
        exact ⟨h5, h6⟩
  have hinj := gs_inj (ad := ad) (v := fun c => if 30 ≤ c then ad (c - 19) else 0) (fun c h _ => if_pos h) hIs
  have hmap : ∀ c, gs_ok c → gs_map ad (gs_en L xs q) (ad c) = some (gs_en L xs q c) := fun c hc => gs_map_of hinj hc
  have hw : gh_w D s.heap (gs_map ad (gs_en L xs q), s.heap.size, 0, s.heap.size, K) := by
    refine ⟨rfl, fun a e he => ?_⟩
    obtain ⟨c, h1, rfl, rfl⟩ := gs_map_inv he
    exact hat c h1
  refine ⟨D, K, gs_map ad (gs_en L xs q), ?_, hw, ?_⟩
  · refine ⟨hD0, fun k ty hk => ?_, fun w hw hg => gh_tw_at (State.WarmedH.refl s) hg (hts w hw), fun p hp => ?_, fun p hp => ?_, ⟨va_AO.of (hts _ gs_ao), mi, rfl, hmi⟩, fun p hp => va_Nc.of (hs _ (gs_nc p hp)), ⟨vx_Zqof (hts _ (gs_sl _ (List.mem_of_getElem? (i := 2) rfl)).1) (hts _ (gs_sl _ (List.mem_of_getElem? (i := 2) rfl)).2) (hs _ gs_us) hA, vx_Zqof (hts _ (gs_sl _ (List.mem_of_getElem? (i := 3) rfl)).1) (hts _ (gs_sl _ (List.mem_of_getElem? (i := 3) rfl)).2) (hs _ gs_ss) hA⟩, fun w hw => gh_tw_at (State.WarmedH.refl s) (gh_dw_ok w hw) (hs w (gs_dw w hw)), fun p hp => hs _ (gs_ld p hp), fun p hp => ?_, fun c cell h1 h2 h3 h4 => ?_⟩
    · have hk6 : k < 10 := Nat.lt_of_lt_of_le (List.getElem?_eq_some_iff.mp hk).1 (by decide)
      show ArrOfT s (if k < 10 then cA k else _) ty ∧ va_RA s (if k < 10 then cA k else _) ty
      rw [if_pos hk6]
      exact hcA k ty hk
    · have h14 := gs_pl p hp
      have hev : (Term.string p.1 p.2.1).eval A s none [] s = some (.ref (q p.2.2.2).1) := by
        rcases gs_eq p hp with h | h | h
        · rw [← h]; exact (hq _ h14).1
        · exact va_eqR (hs _ h) (hq _ h14).1
        · exact va_eqv (hs _ h) (hq _ h14).1
      exact ⟨(q p.2.2.2).1, if_pos h14, vk_R.of (hts _ (gs_sr p hp)) hev⟩
    · obtain ⟨l1, l2⟩ := gs_sl p hp
      have hall : ∀ p ∈ gh_stats, (Term.static p.1 p.2.1 p.2.2.1).eval A s none [] s = some (K p.2.2.2) := List.forall_mem_cons.mpr ⟨te, List.forall_mem_cons.mpr ⟨tc, List.forall_mem_cons.mpr ⟨tu, List.forall_mem_cons.mpr ⟨tss, List.forall_mem_cons.mpr ⟨t1, List.forall_mem_cons.mpr ⟨t2, List.forall_mem_cons.mpr ⟨ti, fun _ h => nomatch h⟩⟩⟩⟩⟩⟩⟩
      have hev := hall p hp
      exact va_Zof (hts _ l1) (hts _ l2) hev hA
    · have h9 := hts _ (gs_im p hp)
      have e2 := Cond.onTables_vm (A := A) (A' := #[]) (U := s) (U' := s) s.vm (.interfaceMethod p.cls p.cls p.name p.desc) rfl
      rw [State.setVm_self] at e2
      rw [← e2]
      exact h9
    · by_cases k0 : c = 10
      · subst k0
        exact gs_isA x2 (h3.trans (hDk 10 (by decide) scr x1)) h4
      · by_cases k1 : c = 29
        · subst k1
          obtain ⟨ce, y1, y2, -⟩ := Te
          exact gs_isA y2 (h3.trans (hDk 29 (by decide) ce y1)) h4
        · have hty : gh_cty c = .byte := by unfold gh_cty; rw [if_neg k0, if_neg k1]
          rw [hty]
          by_cases k2 : c = 25
          · subst k2
            obtain ⟨ce, y1, y2, -⟩ := T1
            exact gs_isA y2 (h3.trans (hDk 25 (by decide) ce y1)) h4
          · by_cases k3 : c = 26
            · subst k3
              obtain ⟨ce, y1, y2, -⟩ := T2
              exact gs_isA y2 (h3.trans (hDk 26 (by decide) ce y1)) h4
            · by_cases k4 : c < 25
              · obtain ⟨ce, y1, y2, -⟩ := (hq (c - 11) (by omega)).2.2
                rw [← aB (c - 11) (by omega), show 11 + (c - 11) = c by omega] at y1
                exact gs_isA y2 (h3.trans (hDk c h1 ce y1)) h4
              · have k5 : c = 27 ∨ c = 28 := by omega
                obtain ⟨ce, y1, y2, -⟩ := (hq 0 (by decide)).2.2
                rcases k5 with rfl | rfl
                · exact gs_isA y2 (h3.trans (hDk 27 (by decide) ce y1)) h4
                · exact gs_isA y2 (h3.trans (hDk 28 (by decide) ce y1)) h4
  · refine ⟨hmap 10 (by unfold gs_ok; omega), fun i hi => ⟨(q i).1, (q i).2, if_pos hi, ?_, ?_⟩, ⟨e, rfl, hmap 29 (by unfold gs_ok; omega)⟩, rfl, gs_rf ru, gs_rf rs, ⟨d1, rfl, (hmap 25 (by unfold gs_ok; omega)).trans (by rfl)⟩, ⟨d2, rfl, (hmap 26 (by unfold gs_ok; omega)).trans (by rfl)⟩, gs_rf ri, ⟨mi, rfl⟩, rfl, rfl, fun a e9 h => hw.lt h⟩
    · have h9 := hmap (30 + i) (by unfold gs_ok; omega)
      rw [aS i hi, eS i hi] at h9
      exact h9
    · have h9 := hmap (11 + i) (by unfold gs_ok; omega)
      rw [aB i hi, eB i hi] at h9
      exact h9
