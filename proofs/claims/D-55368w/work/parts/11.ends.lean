/-! System.arraycopy; casts of arrays; the class of an array; what is thrown and caught; methods as contracts -/
section
variable {x : gh_C} {cc : ByteArray} {own : String} {nL : Nat} {ret : Option FieldType} {nm : String} {F L : Nat} {hh : List ExceptionTableEntry} {pc : Nat} {ls : Array Slot} {rest : List Value} {g : gh_G} {β : Type} {kx : gh_X → gh_M β} {o : (β ⊕ gh_X) × gh_G}
theorem gh_nnz {z : Int32} (hz : ¬ z < 0) : z.toInt = (z.toNatClampNeg : Int) := by
  have hz0 : (0 : Int) ≤ z.toInt := by
    have := Int32.not_lt.mp hz
    simpa using Int32.le_iff_toInt_le.mp this
  show z.toInt = ((z.toInt.toNat : Nat) : Int)
  omega
theorem gh_hp.cpy {g : gh_G} {H H1 : Heap} {locs : List Loc} (h : gh_hp x g H locs) {a : Nat} {e : gh_E} (ha : gh_lo g ≤ a) (he : gh_at (gh_cd x) a e H1) (hz : H1.size = H.size) (oq : ∀ q : Nat, q ≠ a → H1[q]? = H[q]?) {L2 : List Loc} (hL : ∀ q ∈ L2, q.base = a) : gh_hp x (gh_set g.1 a e, g.2) H1 (locs ++ L2) := by
  have ha' : gh_lo (gh_c0 x) ≤ a := by rw [← gh_lo_eq h.1]; exact ha
  refine ⟨⟨h.1.1, h.1.2.1, h.1.2.2⟩, h.2.1.put he hz oq, by rw [hz]; exact h.2.2.1, fun q h1 h2 => ?_, fun q hq => ?_⟩
  · rw [oq q (fun e => h2 (by rw [e]; exact ha'))]
    exact h.2.2.2.1 q h1 h2
  · rcases List.mem_append.mp hq with h1 | h1
    · exact h.2.2.2.2 q h1
    · rw [hL q h1]; exact ha'
theorem gh_setH {H : Heap} {b : Nat} {v : Cell} (hl : b < H.size) : (H.setIfInBounds b v)[b]? = some v ∧ (H.setIfInBounds b v).size = H.size ∧ ∀ q : Nat, q ≠ b → (H.setIfInBounds b v)[q]? = H[q]? :=
  ⟨by simp [Array.getElem?_setIfInBounds, hl], by simp, fun q hq => by simp [Array.getElem?_setIfInBounds, Ne.symm hq]⟩
theorem gr_cpyi (C : gh_K x cc own nL ret nm F L hh) {k a b index : Nat} {sp dp n : Int32} (hk : k = 0 ∨ k = 3 ∨ k = 4) (hlink : Cond.methodLink own index arraycopyName ∈ lw_all) (hnat : Cond.native arraycopyName ∈ lw_all) (hstat : Cond.static arraycopyName ∈ lw_all) (hini : Cond.initialized "java/lang/System" ∈ lw_all) (hz : ls.size = nL) (hF : 1 ≤ F) (hL : 60 ≤ L) (hrest : rest.length ≤ 4) (hd : decode cc pc = .ok (.invokestatic index, 3))
    {kt : Unit → gh_M β} (h : gh_run (gh_tc (gh_cpyi k a sp b dp n) kt kx) g = some o) (kk : ∀ g1, gh_run (kt ()) g1 = some o → gh_Wd x g1 (F0 (gh_cm x) (pc + 3) ls rest)) : gh_Wd x g (F0 (gh_cm x) pc ls (.int n :: .int dp :: va_rf (some b) :: .int sp :: va_rf (some a) :: rest)) := by
  intro H locs hp T hT X
  obtain ⟨c, n0, n1, f, f1, ⟨hlo, hab, h1, h2, h3⟩, hkin, hga, hgb, h4, h5, hfit, hrun⟩ := gh_cpyi_inv h
  have hk10 : k < 10 := by rcases hk with rfl | rfl | rfl <;> decide
  have hc1 : H[b]? = some (vp_cell ((gh_cd x).2.2 k) (n1, .inl f1)) := gh_hpa hp hgb hk10
  have hra : ArrOfT (gh_cs x) ((gh_cd x).2.2 k) (gh_tyk k) := by
    rcases hk with rfl | rfl | rfl
    · exact (C.en.2.1 0 _ rfl).1
    · exact (C.en.2.1 3 _ rfl).1
    · exact (C.en.2.1 4 _ rfl).1
  have hprim : refKind (gh_tyk k) = false := by rcases hk with rfl | rfl | rfl <;> rfl
  obtain ⟨scr, hc0, hof, hs3, hs4, hs5⟩ : ∃ scr : Cell, H[a]? = some scr ∧ (gh_cs x).isArrayOf scr (gh_tyk k) ∧ scr.vm ≠ .unknown ∧ n0 ≤ scr.slots.size ∧ ∀ j : Nat, j < n0 → scr.slots[j]? = some (.int (f j)) := by
    by_cases hcc : c = k
    · subst hcc
      exact ⟨_, gh_hpa hp hga hk10, hra n0 (fun j => .int (f j)), (fun h => by cases h), by show _ ≤ (arrV _ _ _).slots.size; rw [arrV_size]; exact Nat.le_refl _, fun j hj => by show (arrV _ _ _).slots[_]? = _; rw [arrV_read _ _ hj]⟩
    · have hc2 : 10 ≤ c ∧ c < 30 ∧ gh_cty c = gh_tyk k := by
        rcases hk with rfl | rfl | rfl
        · exact gh_kin_0 hkin hcc
        · exfalso
          unfold gh_kin at hkin
          simp at hkin
          exact hcc hkin
        · exact gh_kin_4 hkin hcc
      have h9 := hp.2.1.2 a _ hga
      rw [gh_at_A hc2.1] at h9
      obtain ⟨cell, r1, r2, r3, r4, r5, r6, r7⟩ := h9
      have hof := C.en.2.2.2.2.2.2.2.2.2.2.2 c cell hc2.1 hc2.2.1 r2 r3
      rw [hc2.2.2] at hof
      exact ⟨cell, r1, hof, r4, r5, r7⟩
  obtain ⟨hs6, k0, hk0, cm0, hkk0⟩ := hof
  obtain ⟨-, k1, hk1, cm1, hkk1⟩ := hra n1 (fun j => .int (f1 j))
  have hw : nativeFrameWords "java/lang/System" "arraycopy" 5 ≤ 30 := by decide
  have hsum := gh_sumle hrest
  obtain ⟨vm', X', step⟩ := X.arraycopy C.1 C.ow (C.ts _ hlink) (C.ts _ hnat) (C.ts _ hstat) (C.ts _ hini) (src := a) (dst := b) (cs := scr) (cd := vp_cell ((gh_cd x).2.2 k) (n1, .inl f1)) (srcPos := sp) (destPos := dp) (n := n) (by rw [hT]; exact hc0) (by rw [hT]; exact hc1)
    hs6 (fun _ h => by cases h) hs3 (fun h => by cases h) hk0 hk1 hkk0 hkk1 (by simp [hprim]) h1 h2 h3
    (by rw [gh_nnz h1, gh_nnz h3]; omega)
    (by rw [gh_nnz h2, gh_nnz h3]; show ¬ _ > ((arrV ((gh_cd x).2.2 k) n1 (fun j => .int (f1 j))).slots.size : Int); rw [arrV_size]; omega)
    (fun vm₁ _ i hi => by
      have e : scr.slots.getD (sp.toNatClampNeg + i) .null = .int (f (sp.toNatClampNeg + i)) := by
        rw [Array.getD_eq_getD_getElem?, hs5 _ (by omega)]
        rfl
      refine ⟨?_, ?_⟩
      · rw [e]
        exact hfit i hi
      · rw [e]
        exact trivial)
    (g := F0 (gh_cm x) pc ls (.int n :: .int dp :: .ref b :: .int sp :: .ref a :: rest)) rfl (hz.trans C.ml.symm) (rest := rest) rfl (by rw [C.2.1]; exact hd) (by rw [C.room]; exact hF) (by rw [C.room]; show 2 * 0 + _ + (_ + 11) ≤ L; omega)
  have e1 : copied scr (vp_cell ((gh_cd x).2.2 k) (n1, .inl f1)) sp dp n = vp_cell ((gh_cd x).2.2 k) (n1, .inl (va_cpy f f1 sp.toNatClampNeg dp.toNatClampNeg n.toNatClampNeg)) := va_copiedX (fun z => .int z) scr _ f f1 hs5 h4
  rw [e1] at X' step
  have hl : b < H.size := (Array.getElem?_eq_some_iff.mp hc1).1
  have hheap : ((T.setVm vm').setCell b (vp_cell ((gh_cd x).2.2 k) (n1, .inl (va_cpy f f1 sp.toNatClampNeg dp.toNatClampNeg n.toNatClampNeg)))).heap = H.setIfInBounds b (vp_cell ((gh_cd x).2.2 k) (n1, .inl (va_cpy f f1 sp.toNatClampNeg dp.toNatClampNeg n.toNatClampNeg))) := by rw [← hT]; rfl
  have hse := gh_setH (v := vp_cell ((gh_cd x).2.2 k) (n1, .inl (va_cpy f f1 sp.toNatClampNeg dp.toNatClampNeg n.toNatClampNeg))) hl
  have hp1 : ∀ L2 : List Loc, (∀ q ∈ L2, q.base = b) → gh_hp x (gh_set g.1 b (.inl (k, n1, .inl (va_cpy f f1 sp.toNatClampNeg dp.toNatClampNeg n.toNatClampNeg))), g.2) (H.setIfInBounds b _) (locs ++ L2) := fun L2 hL2 => hp.cpy (e := .inl (k, n1, .inl (va_cpy f f1 sp.toNatClampNeg dp.toNatClampNeg n.toNatClampNeg))) hlo (by rw [gh_at_a hk10]; exact hse.1) hse.2.1 hse.2.2 hL2
  obtain ⟨t, a1, b1⟩ := kk _ hrun _ _ (hp1 _ (fun q hq => by
    obtain ⟨z, -, hz⟩ := List.mem_map.mp hq
    rw [← hz])) _ hheap X'
  exact ⟨t, step t a1, b1⟩
theorem gr_cpyq (C : gh_K x cc own nL ret nm F L hh) {a b index : Nat} {sp dp n : Int32} (hlink : Cond.methodLink own index arraycopyName ∈ lw_all) (hnat : Cond.native arraycopyName ∈ lw_all) (hstat : Cond.static arraycopyName ∈ lw_all) (hini : Cond.initialized "java/lang/System" ∈ lw_all) (hz : ls.size = nL) (hF : 1 ≤ F) (hL : 60 ≤ L) (hrest : rest.length ≤ 4) (hd : decode cc pc = .ok (.invokestatic index, 3))
    {kt : Unit → gh_M β} (h : gh_run (gh_tc (gh_cpyq a sp b dp n) kt kx) g = some o) (kk : ∀ g1, gh_run (kt ()) g1 = some o → gh_Wd x g1 (F0 (gh_cm x) (pc + 3) ls rest)) : gh_Wd x g (F0 (gh_cm x) pc ls (.int n :: .int dp :: va_rf (some b) :: .int sp :: va_rf (some a) :: rest)) := by
  intro H locs hp T hT X
  obtain ⟨n0, n1, f, f1, ⟨hlo, hab, h1, h2, h3⟩, hga, hgb, h4, h5, hokr, hrun⟩ := gh_cpyq_inv h
  have hc0 : H[a]? = some (vp_cell ((gh_cd x).2.2 5) (n0, .inr (.inr (.inr (.inr f))))) := gh_hpa hp hga (by decide)
  have hc1 : H[b]? = some (vp_cell ((gh_cd x).2.2 5) (n1, .inr (.inr (.inr (.inr f1))))) := gh_hpa hp hgb (by decide)
  have hra := C.en.2.1 5 _ rfl
  obtain ⟨-, k0, hk0, cm0, hkk0⟩ := hra.1 n0 (fun j => va_rf (f j))
  obtain ⟨-, k1, hk1, cm1, hkk1⟩ := hra.1 n1 (fun j => va_rf (f1 j))
  have hw : nativeFrameWords "java/lang/System" "arraycopy" 5 ≤ 30 := by decide
  have hsum := gh_sumle hrest
  obtain ⟨vm', X', step⟩ := X.arraycopy C.1 C.ow (C.ts _ hlink) (C.ts _ hnat) (C.ts _ hstat) (C.ts _ hini) (src := a) (dst := b) (cs := vp_cell ((gh_cd x).2.2 5) (n0, .inr (.inr (.inr (.inr f))))) (cd := vp_cell ((gh_cd x).2.2 5) (n1, .inr (.inr (.inr (.inr f1))))) (srcPos := sp) (destPos := dp) (n := n) (by rw [hT]; exact hc0) (by rw [hT]; exact hc1)
    (fun _ h => by cases h) (fun _ h => by cases h) (fun h => by cases h) (fun h => by cases h) hk0 hk1 hkk0 hkk1 rfl h1 h2 h3
    (by rw [gh_nnz h1, gh_nnz h3]; show ¬ _ > ((arrV ((gh_cd x).2.2 5) n0 (fun j => va_rf (f j))).slots.size : Int); rw [arrV_size]; omega)
    (by rw [gh_nnz h2, gh_nnz h3]; show ¬ _ > ((arrV ((gh_cd x).2.2 5) n1 (fun j => va_rf (f1 j))).slots.size : Int); rw [arrV_size]; omega)
    (fun vm₁ hal i hi => by
      have e : (vp_cell ((gh_cd x).2.2 5) (n0, .inr (.inr (.inr (.inr f))))).slots.getD (sp.toNatClampNeg + i) .null = va_rf (f (sp.toNatClampNeg + i)) := by
        show (arrV ((gh_cd x).2.2 5) n0 (fun j => va_rf (f j))).slots.getD _ _ = _
        rw [Array.getD_eq_getD_getElem?, arrV_read _ _ (by omega)]
        rfl
      rw [e]
      cases hy : f (sp.toNatClampNeg + i) with
      | none => exact ⟨rfl, trivial⟩
      | some y =>
        obtain ⟨kA, comp, r1, r2, r3, -⟩ := hra.2
        cases hk1.symm.trans r1
        cases hkk1.symm.trans r2
        have hoy := hokr (sp.toNatClampNeg + i) (by omega)
        rw [hy] at hoy
        obtain ⟨cellV, g1, g2, ⟨kC, hkC⟩, g4⟩ := gh_asg C hp hoy r3
        obtain ⟨kE, hkE, -⟩ := Vm.findClass_spec r3
        obtain ⟨kC', hkC', -⟩ := hal.2.2 _ _ hkC
        obtain ⟨kE', hkE', -⟩ := hal.2.2 _ _ hkE
        refine ⟨rfl, cellV, (show T.heap[y]? = some cellV by rw [hT]; exact g1), (fun q h => by rw [h] at g2; cases g2), ⟨kC', hkC'⟩, ?_, ?_⟩
        · exact ⟨kE', hkE'⟩
        · show vm₁.assignable _ _ = true
          rw [hal.assignable]
          exact g4)
    (g := F0 (gh_cm x) pc ls (.int n :: .int dp :: .ref b :: .int sp :: .ref a :: rest)) rfl (hz.trans C.ml.symm) (rest := rest) rfl (by rw [C.2.1]; exact hd) (by rw [C.room]; exact hF) (by rw [C.room]; show 2 * 0 + _ + (_ + 11) ≤ L; omega)
  have e1 : copied (vp_cell ((gh_cd x).2.2 5) (n0, .inr (.inr (.inr (.inr f))))) (vp_cell ((gh_cd x).2.2 5) (n1, .inr (.inr (.inr (.inr f1))))) sp dp n = vp_cell ((gh_cd x).2.2 5) (n1, .inr (.inr (.inr (.inr (va_cpy f f1 sp.toNatClampNeg dp.toNatClampNeg n.toNatClampNeg))))) := by
    rw [vp_cell_q, vp_cell_q, vp_cell_q]
    exact va_copied (fun z => va_rf z) _ _ f f1 h4
  rw [e1] at X' step
  have hl : b < H.size := (Array.getElem?_eq_some_iff.mp hc1).1
  have hheap : ((T.setVm vm').setCell b (vp_cell ((gh_cd x).2.2 5) (n1, .inr (.inr (.inr (.inr (va_cpy f f1 sp.toNatClampNeg dp.toNatClampNeg n.toNatClampNeg))))))).heap = H.setIfInBounds b (vp_cell ((gh_cd x).2.2 5) (n1, .inr (.inr (.inr (.inr (va_cpy f f1 sp.toNatClampNeg dp.toNatClampNeg n.toNatClampNeg)))))) := by rw [← hT]; rfl
  have hse := gh_setH (v := vp_cell ((gh_cd x).2.2 5) (n1, .inr (.inr (.inr (.inr (va_cpy f f1 sp.toNatClampNeg dp.toNatClampNeg n.toNatClampNeg)))))) hl
  have hp1 : ∀ L2 : List Loc, (∀ q ∈ L2, q.base = b) → gh_hp x (gh_set g.1 b (.inl (5, n1, .inr (.inr (.inr (.inr (va_cpy f f1 sp.toNatClampNeg dp.toNatClampNeg n.toNatClampNeg)))))), g.2) (H.setIfInBounds b _) (locs ++ L2) := fun L2 hL2 => hp.cpy (e := .inl (5, n1, .inr (.inr (.inr (.inr (va_cpy f f1 sp.toNatClampNeg dp.toNatClampNeg n.toNatClampNeg)))))) hlo (by rw [gh_at_a (by decide)]; exact hse.1) hse.2.1 hse.2.2 hL2
  obtain ⟨t, a1, b1⟩ := kk _ hrun _ _ (hp1 _ (fun q hq => by
    obtain ⟨z, -, hz⟩ := List.mem_map.mp hq
    rw [← hz])) _ hheap X'
  exact ⟨t, step t a1, b1⟩
/-- a cast of an array to its own class; k: its kind -/
def gh_aka (k a : Nat) : gh_M Unit := gh_get fun g => match g.1 a with
  | some (.inl (c, _)) => if c = k then some () else none
  | _ => none
theorem gh_aka_inv {k a : Nat} {kt : Unit → gh_M β} {g : gh_G} (h : gh_run (gh_tc (gh_aka k a) kt kx) g = some o) : (∃ y : vp_A, g.1 a = some (.inl (k, y))) ∧ gh_run (kt ()) g = some o := by
  obtain ⟨u, hu, h1⟩ := gh_bd_get h
  split at hu
  · rename_i c y e
    split at hu
    · rename_i hc
      subst hc
      exact ⟨⟨y, e⟩, h1⟩
    · cases hu
  · cases hu
theorem gr_castA (C : gh_K x cc own nL ret nm F L hh) {k a index : Nat} {name : String} (hkn : (k = 5 ∧ name = "[Ljava/lang/Object;") ∨ (k = 4 ∧ name = "[B")) (hlink : Cond.classLink own index name ∈ lw_all) (hd : decode cc pc = .ok (.checkcast index, 3)) {kt : Unit → gh_M β} (h : gh_run (gh_tc (gh_aka k a) kt kx) g = some o)
    (kk : gh_run (kt ()) g = some o → gh_Wd x g (F0 (gh_cm x) (pc + 3) ls (va_rf (some a) :: rest))) : gh_Wd x g (F0 (gh_cm x) pc ls (va_rf (some a) :: rest)) := fun H locs hp => by
  obtain ⟨⟨y, hy⟩, h1⟩ := gh_aka_inv h
  have hnm : (gh_cs x).vm.findClass name = some ((gh_cd x).2.2 k) := by
    rcases hkn with ⟨rfl, rfl⟩ | ⟨rfl, rfl⟩
    · obtain ⟨_, _, _, _, _, h9⟩ := (C.en.2.1 5 _ rfl).2
      exact h9
    · exact (C.en.2.1 4 _ rfl).2
  exact va_castA C.1 C.2.1 C.ow (C.ts _ hlink) (gh_pa (q := (_, _)) (by rcases hkn with ⟨rfl, -⟩ | ⟨rfl, -⟩ <;> exact Nat.le_of_ble_eq_true rfl) (hp.2.1.2 a _ hy)) 0 rfl hnm hd (kk h1 H locs hp)
/-! what is thrown -/
theorem gr_athrow (C : gh_K x cc own nL ret nm F L hh) {ci a : Nat} {fs : List Value} (hg : g.1 a = some (.inr (ci, fs))) (hci : ci < 100) (hd : decode cc pc = .ok (.athrow, 1)) (k : gh_Wx x g (F0 (gh_cm x) pc ls rest) (ci, a)) : gh_Wd x g (F0 (gh_cm x) pc ls (va_rf (some a) :: rest)) := fun H locs hp => by
  have h9 := hp.2.1.2 a _ hg
  rw [gh_at_o hci] at h9
  obtain ⟨r, h1, ⟨cell, q1, q2, q3, q4⟩, -⟩ := h9
  have h9 := (C.en.1 ci r h1).2.1
  exact vx_athrow C.1 C.2.1 hd (k H locs cell r hp q1 q3 h1 (by rw [q2]; exact h9))
/-- .. by 'athrow' of a thing whose class is told by the pure heap -/
def gh_clx (a : Nat) : gh_M Nat := gh_get fun g => match g.1 a with
  | some (.inr (c, _)) => if c < 100 then some c else none
  | _ => none
theorem gh_clx_inv {a : Nat} {kt : Nat → gh_M β} {g : gh_G} (h : gh_run (gh_tc (gh_clx a) kt kx) g = some o) : ∃ (c : Nat) (fs : List Value), g.1 a = some (.inr (c, fs)) ∧ c < 100 ∧ gh_run (kt c) g = some o := by
  obtain ⟨y, hy, h1⟩ := gh_bd_get h
  split at hy
  · rename_i c fs e
    split at hy
    · rename_i hc
      cases hy
      exact ⟨_, fs, e, hc, h1⟩
    · cases hy
  · cases hy
def gh_ath {α : Type} (a : Nat) (k : gh_X → gh_M α) : gh_M α := gh_tc (gh_clx a) (fun c => k (c, a)) gh_thr
theorem gr_ath (C : gh_K x cc own nL ret nm F L hh) {a : Nat} {k : gh_X → gh_M β} (hd : decode cc pc = .ok (.athrow, 1)) (h : gh_run (gh_ath a k) g = some o) (kk : ∀ c : Nat, gh_run (k (c, a)) g = some o → gh_Wx x g (F0 (gh_cm x) pc ls rest) (c, a)) : gh_Wd x g (F0 (gh_cm x) pc ls (va_rf (some a) :: rest)) := by
  obtain ⟨c, fs, h1, h0, h2⟩ := gh_clx_inv h
  exact gr_athrow C h1 h0 hd (kk c h2)
/-- caught by the entry z of the method's table: e's class is the class of gh_cl at c -/
theorem gh_catch (C : gh_K x cc own nL ret nm F L hh) {e : gh_X} {q : vw_C} (hc : gh_cl[e.1]? = some q) {name : String} (pre : List ExceptionTableEntry) (z : ExceptionTableEntry) (suf : List ExceptionTableEntry) (hsplit : hh = pre ++ z :: suf)
    (hpass : ∀ y ∈ pre, covers y pc = false ∨ (y.catchType ≠ 0 ∧ ∃ n9 : String, Cond.classLink own y.catchType n9 ∈ lw_all ∧ (q.1, n9) ∈ gh_ncs)) (hx : covers z pc = true) (h0 : z.catchType ≠ 0) (hlink : Cond.classLink own z.catchType name ∈ lw_all) (hcast : Cond.castable q.1 name ∈ lw_tbl)
    (kk : gh_Wd x g (F0 (gh_cm x) z.handlerPc ls [va_rf (some e.2)])) : gh_Wx x g (F0 (gh_cm x) pc ls rest) e := by
  intro H locs ce c hp hce hcv hc' hcl
  cases hc.symm.trans hc'
  exact vx_catch C.ow pre z suf (by rw [C.tab]; exact hsplit) (fun y hy => (hpass y hy).imp id fun ⟨h1, n9, h2, h3⟩ => ⟨h1, n9, C.ts _ h2, C.en.2.2.2.2.2.2.1 _ h3⟩) hx h0 (C.ts _ hlink) (C.tw hcast rfl) hce hcv hcl (kk H locs hp)
/-- caught by an entry for anything -/
theorem gh_catchAny (C : gh_K x cc own nL ret nm F L hh) {e : gh_X} {q : vw_C} (hc : gh_cl[e.1]? = some q) (pre : List ExceptionTableEntry) (z : ExceptionTableEntry) (suf : List ExceptionTableEntry) (hsplit : hh = pre ++ z :: suf)
    (hpass : ∀ y ∈ pre, covers y pc = false ∨ (y.catchType ≠ 0 ∧ ∃ n9 : String, Cond.classLink own y.catchType n9 ∈ lw_all ∧ (q.1, n9) ∈ gh_ncs)) (hx : covers z pc = true) (h0 : z.catchType = 0)
    (kk : gh_Wd x g (F0 (gh_cm x) z.handlerPc ls [va_rf (some e.2)])) : gh_Wx x g (F0 (gh_cm x) pc ls rest) e := by
  intro H locs ce c hp hce hcv hc' hcl
  cases hc.symm.trans hc'
  intro T hT X
  have hpl : (gh_ce x).platform.magicAccessors = ({} : Platform).magicAccessors := by rw [X.admits.platform]
  obtain ⟨vm', X', st⟩ := X.thenCaughtThrough e.2 (g := F0 (gh_cm x) pc ls rest) rfl (Steps.refl _) (by rw [hT]; exact hce) (by rw [hcv]; rfl) (by obtain ⟨k9, h9, -⟩ := Vm.findClass_spec hcl; exact ⟨k9, h9⟩) pre z suf (by rw [C.tab]; exact hsplit)
    (fun y hy => by
      rcases hpass y hy with h | ⟨hz0, n9, hl1, hn1⟩
      · exact Or.inl h
      · obtain ⟨c6, hc6, hcl6⟩ := Cond.classLink_spec C.ow (C.ts _ hl1) (gh_ce x).platform hpl
        obtain ⟨a8, b8, h1, h2, h3⟩ := C.en.2.2.2.2.2.2.1 _ hn1
        cases Option.some.inj (h1.symm.trans hcl)
        cases Option.some.inj (h2.symm.trans hc6)
        exact Or.inr ⟨hz0, _, hcl6, h3⟩) hx (Or.inl h0)
  obtain ⟨t, a1, b1⟩ := kk H locs hp (T.setVm vm') hT X'
  exact ⟨t, st.trans a1, b1⟩
/-- 'throw new E()', out of the method -/
theorem gr_tro (C : gh_K x cc own nL ret nm F L hh) {α : Type} {rv : α → Option Value} {cls : String} {names : List String} {ik ic ci : Nat} {T : u_T} {N : Nat} {o : (α ⊕ gh_X) × gh_G} (hc : gh_cl[ci]? = some (cls, T, N)) (hcls : Bundle.fit cls = true) (hnames : ∀ n ∈ names, Bundle.fit n = true)
    (hk : Cond.classLink own ik cls ∈ lw_all) (hini : Cond.initialized cls ∈ lw_all) (hat : ∀ w ∈ vx_at0 own ic cls names, w ∈ lw_tbl ∧ (gh_tw w = true)) (hz : ls.size = nL)
    (d0 : decode cc pc = .ok (.new ik, 3)) (d3 : decode cc (pc + 3) = .ok (.dup, 1)) (d4 : decode cc (pc + 4) = .ok (.invokespecial ic, 3)) (d7 : decode cc (pc + 7) = .ok (.athrow, 1)) (hcov : ∀ z ∈ hh, covers z (pc + 7) = false)
    (hnl : names.length ≤ 3) (hF : 7 ≤ F) (hL : 110 ≤ L) (hrest : rest.length ≤ 4) (h : gh_run (gh_tro ci : gh_M α) g = some o) (hkk : gh_K0 x rv o) : gh_Wd x g (F0 (gh_cm x) pc ls rest) := by
  intro H locs hp
  have ho : o = (.inr (ci, g.2.1), (g.1, g.2.1 + 1, g.2.2.1 + 6, g.2.2.2)) := (Option.some.inj h).symm
  obtain ⟨h1, h2⟩ := hkk
  subst ho
  have h2' : ((g.1, g.2.1 + 1, g.2.2.1 + 6, g.2.2.2) : gh_G) = gh_cf x := h2
  have hroom := gh_room1 C hp (n := 1) (m := 6) (by rw [← h2']; exact Nat.le_refl _) (by rw [← h2']; exact Nat.le_refl _)
  have hsum := gh_sumle hrest
  unfold gh_WW
  rw [h1]
  unfold gh_Qm
  have b1 := hp.1.1
  have b2 := hp.1.2.1
  refine vx_throw0 (A := gh_A (gh_lo (gh_c0 x))) (names := names) (ik := ik) (ic := ic) (cls := cls) C.1 C.2.1 C.tr C.ow hcls hnames (C.ts _ hk) (C.ts _ hini) (fun w hw => C.tw (hat w hw).1 (hat w hw).2) ?_ C.en.2.2.2.2.2.2.2.1.1 C.en.2.2.2.2.2.2.2.1.2 hp.2.2 (hz.trans C.ml.symm) d0 d3 d4 d7 (by rw [C.tab]; exact hcov)
    (by rw [C.room]; show names.length + 3 < F; omega) (by rw [C.room]; show _ ≤ L; omega) hroom.1 hroom.2 C.locks (fun t hA ht ho => ⟨⟨ci, _, by rw [hp.2.1.1], hc, rfl⟩, ⟨by rw [← h2']; show t.heap.size = g.2.1 + 1; rw [ht, hp.2.1.1], fun a e ha => ?_⟩, ?_, ?_⟩) hp.2.2.2.2 ?_ ?_
  · intro w hw
    rcases List.mem_cons.mp hw with rfl | hw
    · rfl
    rcases List.mem_cons.mp hw with rfl | hw
    · rfl
    have := (hat w hw).2
    simp only [gh_tw, Bool.and_eq_true] at this
    unfold vx_ot
    rw [this.1]
    rfl
  · rw [← h2'] at ha
    have ha' : g.1 a = some e := ha
    have he := hp.2.1.2 a e ha'
    exact he.kept (ho a he.lt)
  · rw [ht]
    exact Nat.le_succ_of_le hp.2.2.1
  · intro q hq hnq
    rw [ho q (Nat.lt_of_lt_of_le hq hp.2.2.1)]
    refine hp.2.2.2.1 q hq ?_
    intro hh9
    apply hnq
    show gh_lo (gh_cf x) ≤ q
    rw [← h2']
    show gh_lo g ≤ q
    rw [gh_lo_eq hp.1]
    exact hh9
  · rw [← h2']
    show g.2.1 - (gh_c0 x).2.1 + 1 ≤ g.2.1 + 1 - (gh_c0 x).2.1
    omega
  · rw [← h2']
    show g.2.2.1 - (gh_c0 x).2.2.1 + 6 ≤ g.2.2.1 + 6 - (gh_c0 x).2.2.1
    omega
end
/-! methods as contracts -/
theorem gh_ofW {l : Launch} {y : MethodName} {ws ws' : List Cond} {rm : Room} {Pc : Array Value → State → Prop} {Qc : Array Value → State → Outcome → State → Prop} {XC : Addr → String → State → State → Prop} {mc ms : Nat} {free : Addr → Prop} {cc : ByteArray} {maxL : Nat} {ret : Option FieldType}
    (hy : plainFor y = true) (hw : ws = Cond.code y cc maxL ret :: ws')
    (body : ∀ p e s m args below meth c s₁, BodyLoose p l y (headSpec ws rm) cc maxL ret e s m args below meth c s₁ → c.maxLocals = maxL → c.exceptionTable.toList = [] → Pc args s →
      W p l e (headSpec ws rm).room s m args below meth c s.heap [] 0 0 (vx_MQ below Qc XC args s mc ms free) (entryFrame m args maxL)) : vx_Met l y ws rm Pc Qc XC mc ms free := by
  refine MetFree.of_bodySF (code := cc) (maxLocals := maxL) (ret := ret) hy ?_ ?_
  · intro args s m h hn
    obtain ⟨meth, c, h1, h2, h3, h4, h5, h6, -, -⟩ := Cond.code_spec hn (atoms_spec (ws := ws) h _ (by rw [hw]; exact List.mem_cons_self))
    exact ⟨meth, c, h1, h2, h3, h4, h5, h6⟩
  · intro p e s m args below meth c s₁ B hml hP _
    have hh0 : s₁.heap = s.heap := by rw [B.state]; rfl
    have ht : c.exceptionTable.toList = [] := by
      obtain ⟨meth9, c9, h1, h2, -, -, -, -, h7, -⟩ := Cond.code_spec B.named (atoms_spec (ws := ws) B.pre _ (by rw [hw]; exact List.mem_cons_self))
      cases Option.some.inj (h1.symm.trans B.method)
      cases Option.some.inj (h2.symm.trans (Stand.of_body B).code)
      rw [Array.isEmpty_iff.mp h7]
    obtain ⟨t, a1, o, b1, b2, b3⟩ := body p e s m args below meth c s₁ B hml ht hP s₁ hh0 (Stand.of_body B)
    exact ⟨t, o, a1, b1, b2, b3⟩
theorem gh_ofWH {l : Launch} {y : MethodName} {ws ws' : List Cond} {rm : Room} {Pc : Array Value → State → Prop} {Qc : Array Value → State → Outcome → State → Prop} {XC : Addr → String → State → State → Prop} {mc ms : Nat} {free : Addr → Prop} {cc : ByteArray} {maxL : Nat} {ret : Option FieldType} {hh : List (Nat × Nat × Nat × Nat)}
    (hy : plainFor y = true) (hw : ws = Cond.codeWith y cc maxL ret hh :: ws')
    (body : ∀ p e s m args below meth c s₁, BodyLoose p l y (headSpec ws rm) cc maxL ret e s m args below meth c s₁ → c.maxLocals = maxL → c.exceptionTable.toList = tableOf hh → Pc args s →
      W p l e (headSpec ws rm).room s m args below meth c s.heap [] 0 0 (vx_MQ below Qc XC args s mc ms free) (entryFrame m args maxL)) : vx_Met l y ws rm Pc Qc XC mc ms free := by
  refine MetFree.of_bodySF (code := cc) (maxLocals := maxL) (ret := ret) hy ?_ ?_
  · intro args s m h hn
    obtain ⟨m9, meth, c, hn9, h1, h2, h3, h4, -, h5, h6, -⟩ := Cond.codeWith_spec (atoms_spec (ws := ws) h _ (by rw [hw]; exact List.mem_cons_self))
    cases hn.symm.trans hn9
    exact ⟨meth, c, h1, h2, h3, h4, h5, h6⟩
  · intro p e s m args below meth c s₁ B hml hP _
    have hh0 : s₁.heap = s.heap := by rw [B.state]; rfl
    have ht := vx_table (x := y) B (atoms_spec (ws := ws) B.pre _ (by rw [hw]; exact List.mem_cons_self))
    obtain ⟨t, a1, o, b1, b2, b3⟩ := body p e s m args below meth c s₁ B hml ht hP s₁ hh0 (Stand.of_body B)
    exact ⟨t, o, a1, b1, b2, b3⟩
theorem gh_blind {D : gh_D} {g : gh_G} {As : List Value} : FrameBlind (gh_Pc D g As) := by
  intro a s fr mk h
  obtain ⟨h1, h2, h3⟩ := h
  exact ⟨h1, h2.moved (U := s.calling fr mk a) (State.WarmedH.refl s) (fun _ _ _ => rfl), h3⟩
theorem gh_intro {l : Launch} (hst : l.stackTraces = false) {α : Type} {y : MethodName} {cc : ByteArray} {maxL : Nat} {ret : Option FieldType} {F L L1 : Nat} {f : gh_M α} {rv : α → Option Value} {As : List Value}
    (hy : plainFor y = true) (hcode : Cond.code y cc maxL ret ∈ lw_all) (hini : Cond.initialized y.cls ∈ lw_all) (hL : maxL + 11 + L1 = L)
    (body : ∀ (x : gh_C) (o : (α ⊕ gh_X) × gh_G) (ls : Array Slot), gh_cL x = l → gh_K x cc y.cls maxL ret y.name F L1 [] → gh_run f (gh_c0 x) = some o → gh_K0 x rv o → lv_has ls maxL (lv_args 0 As) → gh_Wd x (gh_c0 x) (F0 (gh_cm x) 0 ls []))
    (hlen : (lg_sl As).length ≤ maxL) : gh_Ct l y F L f rv As := by
  intro D g g1 r hrun R p e below s sargs len hws hF hL9
  have hM : vx_Met l y (Cond.code y cc maxL ret :: lw_all) ({ frames := F, cells := g1.2.1 - g.2.1, slots := g1.2.2.1 - g.2.2.1, locals := L1 } : Room) (gh_Pc D g As) (gh_Qc D rv r g1) (gh_XC D r g1) (g1.2.1 - g.2.1) (g1.2.2.1 - g.2.2.1) (gh_A (gh_lo g)) := by
    refine gh_ofW hy rfl ?_
    intro p e s m args below meth c s₁ B hml ht hv
    obtain ⟨rfl, hen, hw⟩ := hv
    have hts := atoms_spec (ws := Cond.code y cc maxL ret :: lw_all) B.pre
    have hl := lv_entry As (n := maxL) hlen
    have hle := gh_run_le hrun
    rw [lg_entry_eq]
    exact body (p, l, e, _, s, m, As.toArray, below, meth, c, _, D, g, g1) (r, g1) _ rfl ⟨B.exec, B.bytes, findClass_of_methodNamed B.named, fun w hw => hts w (List.mem_cons_of_mem _ hw), hml, B.notSynchronized, B.returns, (name_of_methodNamed B.named B.method).1, rfl, ht, hst, hen⟩ hrun ⟨rfl, rfl⟩ hl s.heap [] ⟨gh_le.rf, hw, va_S.rf⟩ |> fun w => by
      rw [Nat.sub_self, Nat.sub_self] at w
      exact w
  exact vx_back (bytes := cc) (maxL := maxL) (ret := ret) hM gh_blind rfl rfl hF (by show 8 + (maxL + 11) + L1 ≤ R.locals; omega) (fun w hw a' U hW => by
    rcases List.mem_cons.mp hw with rfl | hw
    · exact word_at hW (Or.inl rfl) (hws _ hcode)
    · exact word_at hW (lw_self w hw).2 (hws w hw)) List.mem_cons_self (fun a' U hW => word_at hW (Or.inl rfl) (hws _ hini))
theorem gh_introW {l : Launch} (hst : l.stackTraces = false) {α : Type} {y : MethodName} {cc : ByteArray} {maxL : Nat} {ret : Option FieldType} {F L L1 : Nat} {h4 : List (Nat × Nat × Nat × Nat)} {f : gh_M α} {rv : α → Option Value} {As : List Value}
    (hy : plainFor y = true) (hcode : Cond.codeWith y cc maxL ret h4 ∈ lw_all) (hini : Cond.initialized y.cls ∈ lw_all) (hL : maxL + 11 + L1 = L)
    (body : ∀ (x : gh_C) (o : (α ⊕ gh_X) × gh_G) (ls : Array Slot), gh_cL x = l → gh_K x cc y.cls maxL ret y.name F L1 (tableOf h4) → gh_run f (gh_c0 x) = some o → gh_K0 x rv o → lv_has ls maxL (lv_args 0 As) → gh_Wd x (gh_c0 x) (F0 (gh_cm x) 0 ls []))
    (hlen : (lg_sl As).length ≤ maxL) : gh_Ct l y F L f rv As := by
  intro D g g1 r hrun R p e below s sargs len hws hF hL9
  have hM : vx_Met l y (Cond.codeWith y cc maxL ret h4 :: lw_all) ({ frames := F, cells := g1.2.1 - g.2.1, slots := g1.2.2.1 - g.2.2.1, locals := L1 } : Room) (gh_Pc D g As) (gh_Qc D rv r g1) (gh_XC D r g1) (g1.2.1 - g.2.1) (g1.2.2.1 - g.2.2.1) (gh_A (gh_lo g)) := by
    refine gh_ofWH hy rfl ?_
    intro p e s m args below meth c s₁ B hml ht hv
    obtain ⟨rfl, hen, hw⟩ := hv
    have hts := atoms_spec (ws := Cond.codeWith y cc maxL ret h4 :: lw_all) B.pre
    have hl := lv_entry As (n := maxL) hlen
    have hle := gh_run_le hrun
    rw [lg_entry_eq]
    exact body (p, l, e, _, s, m, As.toArray, below, meth, c, _, D, g, g1) (r, g1) _ rfl ⟨B.exec, B.bytes, findClass_of_methodNamed B.named, fun w hw => hts w (List.mem_cons_of_mem _ hw), hml, B.notSynchronized, B.returns, (name_of_methodNamed B.named B.method).1, rfl, ht, hst, hen⟩ hrun ⟨rfl, rfl⟩ hl s.heap [] ⟨gh_le.rf, hw, va_S.rf⟩ |> fun w => by
      rw [Nat.sub_self, Nat.sub_self] at w
      exact w
  exact vx_backW (hh := h4) (bytes := cc) (maxL := maxL) (ret := ret) hM gh_blind rfl rfl hF (by show 8 + (maxL + 11) + L1 ≤ R.locals; omega) (fun w hw a' U hW => by
    rcases List.mem_cons.mp hw with rfl | hw
    · exact word_at hW (Or.inl rfl) (hws _ hcode)
    · exact word_at hW (lw_self w hw).2 (hws w hw)) List.mem_cons_self (fun a' U hW => word_at hW (Or.inl rfl) (hws _ hini))
