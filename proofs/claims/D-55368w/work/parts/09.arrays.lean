/-! arrays, casts, constants; what is thrown; ends -/
section
variable {x : gh_C} {cc : ByteArray} {own : String} {nL : Nat} {ret : Option FieldType} {nm : String} {F L : Nat} {hh : List ExceptionTableEntry} {pc : Nat} {ls : Array Slot} {rest : List Value} {g : gh_G} {β : Type} {kx : gh_X → gh_M β} {o : (β ⊕ gh_X) × gh_G}
theorem gh_hpa {H : Heap} {locs : List Loc} (hp : gh_hp x g H locs) {a k : Nat} {y : vp_A} (hg : g.1 a = some (.inl (k, y))) (hk : k < 10) : H[a]? = some (vp_cell ((gh_cd x).2.2 k) y) := by
  have h9 := hp.2.1.2 a _ hg
  rwa [gh_at_a hk] at h9
theorem gh_kin_0 {c : Nat} (h : gh_kin c 0 = true) (hc : ¬ c = 0) : 10 ≤ c ∧ c < 30 ∧ gh_cty c = .int := by
  unfold gh_kin at h
  simp [hc] at h
  subst h
  exact ⟨by decide, by decide, rfl⟩
theorem gh_kin_4 {c : Nat} (h : gh_kin c 4 = true) (hc : ¬ c = 4) : 10 ≤ c ∧ c < 30 ∧ gh_cty c = .byte := by
  unfold gh_kin at h
  simp [hc] at h
  refine ⟨by omega, by omega, ?_⟩
  unfold gh_cty
  rw [if_neg (by omega), if_neg (by omega)]
theorem gh_oc_new {g : gh_G} {a ci : Nat} {fs : List Value} (h : g.1 a = some (.inr (ci, fs))) : gh_oc g a ci fs := Or.inl h
theorem gr_alen (C : gh_K x cc own nL ret nm F L hh) {a : Nat} (hd : decode cc pc = .ok (.arraylength, 1)) {kt : Int32 → gh_M β} (h : gh_run (gh_tc (gh_alen a) kt kx) g = some o) (kk : ∀ v, gh_run (kt v) g = some o → gh_Wd x g (F0 (gh_cm x) (pc + 1) ls (.int v :: rest))) : gh_Wd x g (F0 (gh_cm x) pc ls (va_rf (some a) :: rest)) := fun H locs hp => by
  obtain ⟨c, q, hc, hg, h1⟩ := gh_alen_inv h
  rcases hc with hc | hc
  · have ht : ∃ ty, (gh_kt (gh_cd x))[c]? = some ((gh_cd x).2.2 c, ty) := by
      match c, hc with
      | 0, _ => exact ⟨_, rfl⟩
      | 1, _ => exact ⟨_, rfl⟩
      | 2, _ => exact ⟨_, rfl⟩
      | 3, _ => exact ⟨_, rfl⟩
      | 4, _ => exact ⟨_, rfl⟩
      | 5, _ => exact ⟨_, rfl⟩
      | k + 6, hc => exact absurd hc (by omega)
    obtain ⟨ty, ht⟩ := ht
    exact va_alen C.1 C.2.1 C.k0 (gh_pa (Nat.lt_of_lt_of_le hc (by decide)) (hp.2.1.2 a _ hg)) 0 c rfl ht rfl hd (kk _ h1 H locs hp)
  · have h9 := hp.2.1.2 a _ hg
    rw [gh_at_A hc.1] at h9
    obtain ⟨cell, r1, r2, r3, r4, r5, r6, r7⟩ := h9
    exact W.alen C.1 C.2.1 r1 (C.en.2.2.2.2.2.2.2.2.2.2.2 c cell hc.1 hc.2 r2 r3) r6 rfl rfl hd (kk _ h1 H locs hp)
theorem gr_iald (C : gh_K x cc own nL ret nm F L hh) {a : Nat} {i : Int32} (hd : decode cc pc = .ok (.iaload, 1)) {kt : Int32 → gh_M β} (h : gh_run (gh_tc (gh_iald 0 a i) kt kx) g = some o) (kk : ∀ v, gh_run (kt v) g = some o → gh_Wd x g (F0 (gh_cm x) (pc + 1) ls (.int v :: rest))) : gh_Wd x g (F0 (gh_cm x) pc ls (.int i :: va_rf (some a) :: rest)) := fun H locs hp => by
  obtain ⟨c, n, f, hk, hg, hin, h1⟩ := gh_iald_inv h
  by_cases hc : c = 0
  · subst hc
    exact va_iald C.1 C.2.1 C.k0 (gh_pa (q := (_, _)) (Nat.le_of_ble_eq_true rfl) (hp.2.1.2 a _ hg)) 0 0 rfl rfl hin hd (kk _ h1 H locs hp)
  · have hc2 : 10 ≤ c ∧ c < 30 ∧ gh_cty c = .int := gh_kin_0 hk hc
    have h9 := hp.2.1.2 a _ hg
    rw [gh_at_A hc2.1] at h9
    obtain ⟨cell, r1, r2, r3, r4, r5, r6, r7⟩ := h9
    have hof := C.en.2.2.2.2.2.2.2.2.2.2.2 c cell hc2.1 hc2.2.1 r2 r3
    rw [hc2.2.2] at hof
    have hlt : i.toNatClampNeg < n := Nat.not_le.mp fun q => hin (Or.inr q)
    exact W.iald (v := .int (f i.toNatClampNeg)) C.1 C.2.1 r1 hof r4 (fun q => q.elim (fun q => hin (Or.inl q)) (fun q => absurd (Nat.le_trans r5 q) (Nat.not_le.mpr hlt))) (r7 _ hlt) rfl rfl hd (kk _ h1 H locs hp)
theorem gr_cald (C : gh_K x cc own nL ret nm F L hh) {a : Nat} {i : Int32} (hd : decode cc pc = .ok (.caload, 1)) {kt : Int32 → gh_M β} (h : gh_run (gh_tc (gh_iald 3 a i) kt kx) g = some o) (kk : ∀ v, gh_run (kt v) g = some o → gh_Wd x g (F0 (gh_cm x) (pc + 1) ls (.int v :: rest))) : gh_Wd x g (F0 (gh_cm x) pc ls (.int i :: va_rf (some a) :: rest)) := fun H locs hp => by
  obtain ⟨c, n, f, hk, hg, hin, h1⟩ := gh_iald_inv h
  by_cases hc : c = 3
  · subst hc
    exact va_cald C.1 C.2.1 C.k0 (gh_pa (q := (_, _)) (Nat.le_of_ble_eq_true rfl) (hp.2.1.2 a _ hg)) 0 3 rfl rfl hin hd (kk _ h1 H locs hp)
  · exfalso
    unfold gh_kin at hk
    simp at hk
    exact hc hk
theorem gr_bald (C : gh_K x cc own nL ret nm F L hh) {a : Nat} {i : Int32} (hd : decode cc pc = .ok (.baload, 1)) {kt : Int32 → gh_M β} (h : gh_run (gh_tc (gh_iald 4 a i) kt kx) g = some o) (kk : ∀ v, gh_run (kt v) g = some o → gh_Wd x g (F0 (gh_cm x) (pc + 1) ls (.int v :: rest))) : gh_Wd x g (F0 (gh_cm x) pc ls (.int i :: va_rf (some a) :: rest)) := fun H locs hp => by
  obtain ⟨c, n, f, hk, hg, hin, h1⟩ := gh_iald_inv h
  by_cases hc : c = 4
  · subst hc
    exact va_bald C.1 C.2.1 C.k0 (gh_pa (q := (_, _)) (Nat.le_of_ble_eq_true rfl) (hp.2.1.2 a _ hg)) 0 4 rfl rfl hin hd (kk _ h1 H locs hp)
  · have hc2 : 10 ≤ c ∧ c < 30 ∧ gh_cty c = .byte := gh_kin_4 hk hc
    have h9 := hp.2.1.2 a _ hg
    rw [gh_at_A hc2.1] at h9
    obtain ⟨cell, r1, r2, r3, r4, r5, r6, r7⟩ := h9
    have hof := C.en.2.2.2.2.2.2.2.2.2.2.2 c cell hc2.1 hc2.2.1 r2 r3
    rw [hc2.2.2] at hof
    have hlt : i.toNatClampNeg < n := Nat.not_le.mp fun q => hin (Or.inr q)
    exact W.bald (v := .int (f i.toNatClampNeg)) C.1 C.2.1 r1 hof r4 (fun q => q.elim (fun q => hin (Or.inl q)) (fun q => absurd (Nat.le_trans r5 q) (Nat.not_le.mpr hlt))) (r7 _ hlt) rfl rfl hd (kk _ h1 H locs hp)
theorem gr_lald (C : gh_K x cc own nL ret nm F L hh) {a : Nat} {i : Int32} (hd : decode cc pc = .ok (.laload, 1)) {kt : Int64 → gh_M β} (h : gh_run (gh_tc (gh_lald a i) kt kx) g = some o) (kk : ∀ v, gh_run (kt v) g = some o → gh_Wd x g (F0 (gh_cm x) (pc + 1) ls (.long v :: rest))) : gh_Wd x g (F0 (gh_cm x) pc ls (.int i :: va_rf (some a) :: rest)) := fun H locs hp => by
  obtain ⟨n, f, hg, hin, h1⟩ := gh_lald_inv h
  exact va_lald C.1 C.2.1 C.k0 (gh_pa (q := (_, _)) (Nat.le_of_ble_eq_true rfl) (hp.2.1.2 a _ hg)) 0 1 rfl rfl hin hd (kk _ h1 H locs hp)
theorem gr_dald (C : gh_K x cc own nL ret nm F L hh) {a : Nat} {i : Int32} (hd : decode cc pc = .ok (.daload, 1)) {kt : UInt64 → gh_M β} (h : gh_run (gh_tc (gh_dald a i) kt kx) g = some o) (kk : ∀ v, gh_run (kt v) g = some o → gh_Wd x g (F0 (gh_cm x) (pc + 1) ls (.double v :: rest))) : gh_Wd x g (F0 (gh_cm x) pc ls (.int i :: va_rf (some a) :: rest)) := fun H locs hp => by
  obtain ⟨n, f, hg, hin, h1⟩ := gh_dald_inv h
  exact va_dald C.1 C.2.1 C.k0 (gh_pa (q := (_, _)) (Nat.le_of_ble_eq_true rfl) (hp.2.1.2 a _ hg)) 0 2 rfl rfl hin hd (kk _ h1 H locs hp)
theorem gr_aald (C : gh_K x cc own nL ret nm F L hh) {a : Nat} {i : Int32} (hd : decode cc pc = .ok (.aaload, 1)) {kt : Option Nat → gh_M β} (h : gh_run (gh_tc (gh_aald a i) kt kx) g = some o) (kk : ∀ v, gh_run (kt v) g = some o → gh_Wd x g (F0 (gh_cm x) (pc + 1) ls (va_rf v :: rest))) : gh_Wd x g (F0 (gh_cm x) pc ls (.int i :: va_rf (some a) :: rest)) := fun H locs hp => by
  obtain ⟨n, f, hg, hin, h1⟩ := gh_aald_inv h
  exact va_aldq C.1 C.2.1 C.k0 (gh_pa (q := (_, _)) (Nat.le_of_ble_eq_true rfl) (hp.2.1.2 a _ hg)) 0 5 rfl rfl hin hd (kk _ h1 H locs hp)
theorem gr_iast (C : gh_K x cc own nL ret nm F L hh) {a : Nat} {i : Int32} {v : Int32} (hd : decode cc pc = .ok (.iastore, 1)) {kt : Unit → gh_M β} (h : gh_run (gh_tc (gh_iast 0 a i v) kt kx) g = some o) (kk : ∀ g1, gh_run (kt ()) g1 = some o → gh_Wd x g1 (F0 (gh_cm x) (pc + 1) ls rest)) : gh_Wd x g (F0 (gh_cm x) pc ls (.int v :: .int i :: va_rf (some a) :: rest)) := fun H locs hp => by
  obtain ⟨n, f, ha, hg, hin, h1⟩ := gh_iast_inv h
  refine W.iast C.1 C.2.1 (gh_hpa hp hg (by decide)) ((C.en.2.1 0 _ rfl).1 n (fun j => .int (f j))) (fun q => by cases q) (by show ¬ (i < 0 ∨ (arrV _ _ _).slots.size ≤ _); rw [arrV_size]; exact hin) rfl rfl hd fun H1 e z oq => ?_
  refine kk _ h1 H1 _ (hp.put ha ?_ z oq)
  rw [gh_at_a (by decide)]
  show H1[a]? = some (vp_cell _ _)
  rw [e]
  rw [vp_cell_i, vp_cell_i, arrV_store]
  congr 2
  funext q
  by_cases hq : q = i.toNatClampNeg
  · subst hq
    simp [updV, upd, gh_nar, narrow]
  · simp [updV, upd, hq]
theorem gr_bast (C : gh_K x cc own nL ret nm F L hh) {a : Nat} {i : Int32} {v : Int32} (hd : decode cc pc = .ok (.bastore, 1)) {kt : Unit → gh_M β} (h : gh_run (gh_tc (gh_iast 4 a i v) kt kx) g = some o) (kk : ∀ g1, gh_run (kt ()) g1 = some o → gh_Wd x g1 (F0 (gh_cm x) (pc + 1) ls rest)) : gh_Wd x g (F0 (gh_cm x) pc ls (.int v :: .int i :: va_rf (some a) :: rest)) := fun H locs hp => by
  obtain ⟨n, f, ha, hg, hin, h1⟩ := gh_iast_inv h
  refine W.bast C.1 C.2.1 (gh_hpa hp hg (by decide)) ((C.en.2.1 4 _ rfl).1 n (fun j => .int (f j))) (fun q => by cases q) (by show ¬ (i < 0 ∨ (arrV _ _ _).slots.size ≤ _); rw [arrV_size]; exact hin) rfl rfl hd fun H1 e z oq => ?_
  refine kk _ h1 H1 _ (hp.put ha ?_ z oq)
  rw [gh_at_a (by decide)]
  show H1[a]? = some (vp_cell _ _)
  rw [e]
  rw [vp_cell_i, vp_cell_i, arrV_store]
  congr 2
  funext q
  by_cases hq : q = i.toNatClampNeg
  · subst hq
    simp [updV, upd, gh_nar, narrow]
  · simp [updV, upd, hq]
theorem gr_cast (C : gh_K x cc own nL ret nm F L hh) {a : Nat} {i : Int32} {v : Int32} (hd : decode cc pc = .ok (.castore, 1)) {kt : Unit → gh_M β} (h : gh_run (gh_tc (gh_iast 3 a i v) kt kx) g = some o) (kk : ∀ g1, gh_run (kt ()) g1 = some o → gh_Wd x g1 (F0 (gh_cm x) (pc + 1) ls rest)) : gh_Wd x g (F0 (gh_cm x) pc ls (.int v :: .int i :: va_rf (some a) :: rest)) := fun H locs hp => by
  obtain ⟨n, f, ha, hg, hin, h1⟩ := gh_iast_inv h
  refine W.cast C.1 C.2.1 (gh_hpa hp hg (by decide)) ((C.en.2.1 3 _ rfl).1 n (fun j => .int (f j))) (fun q => by cases q) (by show ¬ (i < 0 ∨ (arrV _ _ _).slots.size ≤ _); rw [arrV_size]; exact hin) rfl rfl hd fun H1 e z oq => ?_
  refine kk _ h1 H1 _ (hp.put ha ?_ z oq)
  rw [gh_at_a (by decide)]
  show H1[a]? = some (vp_cell _ _)
  rw [e]
  rw [vp_cell_i, vp_cell_i, arrV_store]
  congr 2
  funext q
  by_cases hq : q = i.toNatClampNeg
  · subst hq
    simp [updV, upd, gh_nar, narrow]
  · simp [updV, upd, hq]
theorem gr_last (C : gh_K x cc own nL ret nm F L hh) {a : Nat} {i : Int32} {v : Int64} (hd : decode cc pc = .ok (.lastore, 1)) {kt : Unit → gh_M β} (h : gh_run (gh_tc (gh_last a i v) kt kx) g = some o) (kk : ∀ g1, gh_run (kt ()) g1 = some o → gh_Wd x g1 (F0 (gh_cm x) (pc + 1) ls rest)) : gh_Wd x g (F0 (gh_cm x) pc ls (.long v :: .int i :: va_rf (some a) :: rest)) := fun H locs hp => by
  obtain ⟨n, f, ha, hg, hin, h1⟩ := gh_last_inv h
  refine W.last C.1 C.2.1 (gh_hpa hp hg (by decide)) ((C.en.2.1 1 _ rfl).1 n (fun j => .long (f j))) (fun q => by cases q) (by show ¬ (i < 0 ∨ (arrV _ _ _).slots.size ≤ _); rw [arrV_size]; exact hin) rfl rfl hd fun H1 e z oq => ?_
  refine kk _ h1 H1 _ (hp.put ha ?_ z oq)
  rw [gh_at_a (by decide)]
  show H1[a]? = some (vp_cell _ _)
  rw [e]
  rw [vp_cell_l, vp_cell_l, arrV_store]
  congr 2
  funext q
  by_cases hq : q = i.toNatClampNeg
  · subst hq
    simp [updV, vp_updL, gh_nar, narrow]
  · simp [updV, vp_updL, hq]
theorem gr_dast (C : gh_K x cc own nL ret nm F L hh) {a : Nat} {i : Int32} {v : UInt64} (hd : decode cc pc = .ok (.dastore, 1)) {kt : Unit → gh_M β} (h : gh_run (gh_tc (gh_dast a i v) kt kx) g = some o) (kk : ∀ g1, gh_run (kt ()) g1 = some o → gh_Wd x g1 (F0 (gh_cm x) (pc + 1) ls rest)) : gh_Wd x g (F0 (gh_cm x) pc ls (.double v :: .int i :: va_rf (some a) :: rest)) := fun H locs hp => by
  obtain ⟨n, f, ha, hg, hin, h1⟩ := gh_dast_inv h
  refine W.dast C.1 C.2.1 (gh_hpa hp hg (by decide)) ((C.en.2.1 2 _ rfl).1 n (fun j => .double (f j))) (fun q => by cases q) (by show ¬ (i < 0 ∨ (arrV _ _ _).slots.size ≤ _); rw [arrV_size]; exact hin) rfl rfl hd fun H1 e z oq => ?_
  refine kk _ h1 H1 _ (hp.put ha ?_ z oq)
  rw [gh_at_a (by decide)]
  show H1[a]? = some (vp_cell _ _)
  rw [e]
  rw [vp_cell_d, vp_cell_d, arrV_store]
  congr 2
  funext q
  by_cases hq : q = i.toNatClampNeg
  · subst hq
    simp [updV, vf_upd, gh_nar, narrow]
  · simp [updV, vf_upd, hq]
theorem gh_cl_obj : ∀ (c : Nat) (q : vw_C), gh_cl[c]? = some q → Cond.castable q.1 "java/lang/Object" ∈ lw_tbl := by
  intro c q hq
  match c, hq with
  | 0, hq => cases hq; exact (lw_at lw_m12 29 rfl)
  | 1, hq => cases hq; exact (lw_at lw_m12 30 rfl)
  | 2, hq => cases hq; exact (lw_at lw_m12 32 rfl)
  | 3, hq => cases hq; exact (lw_at lw_m12 35 rfl)
  | 4, hq => cases hq; exact (lw_at lw_m12 36 rfl)
  | 5, hq => cases hq; exact (lw_at lw_m12 39 rfl)
  | 6, hq => cases hq; exact (lw_at lw_m12 40 rfl)
  | 7, hq => cases hq; exact (lw_at lw_m12 41 rfl)
  | 8, hq => cases hq; exact (lw_at lw_m12 46 rfl)
  | 9, hq => cases hq; exact (lw_at lw_m12 54 rfl)
  | 10, hq => cases hq; exact (lw_at lw_m12 55 rfl)
  | 11, hq => cases hq; exact (lw_at lw_m12 31 rfl)
  | 12, hq => cases hq; exact (lw_at lw_m12 33 rfl)
  | 13, hq => cases hq; exact (lw_at lw_m12 34 rfl)
  | 14, hq => cases hq; exact (lw_at lw_m12 44 rfl)
  | 15, hq => cases hq; exact (lw_at lw_m12 37 rfl)
  | 16, hq => cases hq; exact (lw_at lw_m12 45 rfl)
  | 17, hq => cases hq; exact (lw_at lw_m12 43 rfl)
  | 18, hq => cases hq; exact (lw_at lw_m12 38 rfl)
  | 19, hq => cases hq; exact (lw_at lw_m12 47 rfl)
  | 20, hq => cases hq; exact (lw_at lw_m12 48 rfl)
  | 21, hq => cases hq; exact (lw_at lw_m12 50 rfl)
  | 22, hq => cases hq; exact (lw_at lw_m12 51 rfl)
  | 23, hq => cases hq; exact (lw_at lw_m12 53 rfl)
  | 24, hq => cases hq; exact (lw_at lw_m12 58 rfl)
  | k + 25, hq => simp [gh_cl] at hq
theorem gh_asg (C : gh_K x cc own nL ret nm F L hh) {H : Heap} {locs : List Loc} (hp : gh_hp x g H locs) {b : Nat} (hb : gh_okr g (some b) = true) {comp : ClassId} (hcomp : (gh_cs x).vm.findClass "java/lang/Object" = some comp) : ∃ cv : Cell, H[b]? = some cv ∧ cv.vm = .none ∧ (∃ kv, (gh_cs x).vm.classes[cv.cls]? = some kv) ∧ (gh_cs x).vm.assignable cv.cls comp = true := by
  obtain ⟨c, fs, hg, hlc⟩ := gh_okr_inv hb
  have h9 := hp.2.1.2 b _ hg
  rw [gh_at_o (Nat.lt_of_lt_of_le hlc (by decide))] at h9
  obtain ⟨r, h1, ⟨cell, q1, q2, q3, q4⟩, -⟩ := h9
  have hKn := C.k0.1 c _ h1
  have hcw : (Cond.castable r.1 "java/lang/Object").before (gh_ca x) (gh_cs x) = true := C.tw (gh_cl_obj c _ h1) rfl
  obtain ⟨c0, t0, f1, f2, f3⟩ := Cond.castable_spec hcw
  have e1 : c0 = cell.cls := by rw [q2]; exact Option.some.inj (f1.symm.trans hKn.2.1)
  have e2 : t0 = comp := Option.some.inj (f2.symm.trans hcomp)
  subst e1; subst e2
  obtain ⟨kv, hkv, -⟩ := Vm.findClass_spec f1
  exact ⟨cell, q1, q3, ⟨kv, hkv⟩, f3⟩
theorem gr_aast (C : gh_K x cc own nL ret nm F L hh) {a : Nat} {i : Int32} {v : Option Nat} (hd : decode cc pc = .ok (.aastore, 1)) {kt : Unit → gh_M β} (h : gh_run (gh_tc (gh_aast a i v) kt kx) g = some o) (kk : ∀ g1, gh_run (kt ()) g1 = some o → gh_Wd x g1 (F0 (gh_cm x) (pc + 1) ls rest)) : gh_Wd x g (F0 (gh_cm x) pc ls (va_rf v :: .int i :: va_rf (some a) :: rest)) := fun H locs hp => by
  obtain ⟨n, f, ha, hokr, hg, hin, h1⟩ := gh_aast_inv h
  have hlt : i.toNatClampNeg < n := Nat.not_le.mp fun q => hin (Or.inr q)
  have h0 : ¬ i < 0 := fun q => hin (Or.inl q)
  obtain ⟨kA, comp, k1, k2, k3, -⟩ := (C.en.2.1 5 _ rfl).2
  cases v with
  | none =>
    refine va_WaastN (C := "java/lang/Object") C.1 C.2.1 (gh_hpa hp hg (by decide)) ((C.en.2.1 5 _ rfl).1 n (fun j => va_rf (f j))) (fun h => by cases h) (by show ¬ (i < 0 ∨ (arrV _ _ _).slots.size ≤ _); rw [arrV_size]; exact hin) rfl rfl hd fun H1 e z oq => ?_
    refine kk _ h1 H1 _ (hp.put ha ?_ z oq)
    rw [gh_at_a (by decide)]
    show H1[a]? = some (vp_cell _ _)
    rw [e]
    rw [vp_cell_q, vp_cell_q, arrV_store]
    congr 2
    funext q
    by_cases hq : q = i.toNatClampNeg
    · subst hq
      simp [updV, va_up, va_rf]
    · simp [updV, va_up, hq]
  | some b =>
    obtain ⟨cv, e1, e2, ⟨kv, e3⟩, e4⟩ := gh_asg C hp hokr k3
    obtain ⟨kC, hkC, -⟩ := Vm.findClass_spec k3
    refine W.aast C.1 C.2.1 (gh_hpa hp hg (by decide)) (fun q h => by cases h) (fun h => by cases h) k1 k2 rfl hkC ⟨h0, by show _ < (arrV _ _ _).slots.size; rw [arrV_size]; exact hlt⟩ e1 (fun q h => by rw [e2] at h; cases h) e3 e4 rfl rfl hd fun H1 e z oq => ?_
    refine kk _ h1 H1 _ (hp.put ha ?_ z oq)
    rw [gh_at_a (by decide)]
    show H1[a]? = some (vp_cell _ _)
    rw [e]
    rw [vp_cell_q, vp_cell_q, arrV_store]
    congr 2
    funext q
    by_cases hq : q = i.toNatClampNeg
    · subst hq
      simp [updV, va_up, va_rf]
    · simp [updV, va_up, hq]
/-- a receiver's cell -/
theorem gh_recv (C : gh_K x cc own nL ret nm F L hh) {H : Heap} {locs : List Loc} (hp : gh_hp x g H locs) {a c : Nat} {fs : List Value} (hg : gh_oc g a c fs) {q : vw_C} (hc : gh_cl[c]? = some q) : ∃ cell : Cell, H[a]? = some cell ∧ cell.vm.isStatics = false ∧ (gh_cs x).vm.findClass q.1 = some cell.cls := by
  rcases hg with hg | hg
  · exact va_recv C.k0 (gh_po (gh_cl_lt hc) (hp.2.1.2 a _ hg)) hc (q0 := 0) rfl
  · have h9 := hp.2.1.2 a _ hg
    rw [gh_at_O] at h9
    obtain ⟨r, cell, r1, r2, r3, r4, r5, r6⟩ := h9
    exact ⟨cell, r2, r4, by rw [r3]; exact (C.k0.1 c _ hc).2.1⟩
theorem gr_castN (C : gh_K x cc own nL ret nm F L hh) {index : Nat} (hd : decode cc pc = .ok (.checkcast index, 3)) (k : gh_Wd x g (F0 (gh_cm x) (pc + 3) ls (va_rf none :: rest))) : gh_Wd x g (F0 (gh_cm x) pc ls (va_rf none :: rest)) := fun H locs h => lv_castN C.1 C.2.1 hd (k H locs h)
theorem gr_castY (C : gh_K x cc own nL ret nm F L hh) {index a ci : Nat} {name : String} {q : vw_C} (hc : gh_cl[ci]? = some q) (hlink : Cond.classLink own index name ∈ lw_all) (hcs : q.1 = name ∨ Cond.castable q.1 name ∈ lw_tbl) (hd : decode cc pc = .ok (.checkcast index, 3)) {fs : List Value} (hg : gh_oc g a ci fs) (k : gh_Wd x g (F0 (gh_cm x) (pc + 3) ls (va_rf (some a) :: rest))) : gh_Wd x g (F0 (gh_cm x) pc ls (va_rf (some a) :: rest)) := fun H locs h => by
  have hr := gh_recv C h hg hc
  rcases hcs with rfl | hcs
  · exact va_castS C.1 C.2.1 C.ow (C.ts _ hlink) (C.k0.1 ci _ hc).2 hr hd (k H locs h)
  · exact va_castY C.1 C.2.1 C.ow (C.ts _ hlink) (C := q.1) (va_Nw.of rfl (C.tw hcs rfl)) hr hd (k H locs h)
theorem gr_instN (C : gh_K x cc own nL ret nm F L hh) {index : Nat} (hd : decode cc pc = .ok (.instanceof index, 3)) (k : gh_Wd x g (F0 (gh_cm x) (pc + 3) ls (.int 0 :: rest))) : gh_Wd x g (F0 (gh_cm x) pc ls (va_rf none :: rest)) := fun H locs h => lv_instN C.1 C.2.1 hd (k H locs h)
theorem gr_instY (C : gh_K x cc own nL ret nm F L hh) {index a ci : Nat} {name : String} {q : vw_C} (hc : gh_cl[ci]? = some q) (hlink : Cond.classLink own index name ∈ lw_all) (hcs : q.1 = name ∨ Cond.castable q.1 name ∈ lw_tbl) (hd : decode cc pc = .ok (.instanceof index, 3)) {fs : List Value} (hg : gh_oc g a ci fs) (k : gh_Wd x g (F0 (gh_cm x) (pc + 3) ls (.int 1 :: rest))) : gh_Wd x g (F0 (gh_cm x) pc ls (va_rf (some a) :: rest)) := fun H locs h => by
  have hr := gh_recv C h hg hc
  rcases hcs with rfl | hcs
  · exact va_instS C.1 C.2.1 C.ow (C.ts _ hlink) (C.k0.1 ci _ hc).2 hr hd (k H locs h)
  · exact va_instY C.1 C.2.1 C.ow (C.ts _ hlink) (C := q.1) (va_Nw.of rfl (C.tw hcs rfl)) hr hd (k H locs h)
theorem gr_instNo (C : gh_K x cc own nL ret nm F L hh) {index a ci : Nat} {name : String} {q : vw_C} (hc : gh_cl[ci]? = some q) (hlink : Cond.classLink own index name ∈ lw_all) (hcs : (q.1, name) ∈ gh_ncs) (hd : decode cc pc = .ok (.instanceof index, 3)) {fs : List Value} (hg : gh_oc g a ci fs) (k : gh_Wd x g (F0 (gh_cm x) (pc + 3) ls (.int 0 :: rest))) : gh_Wd x g (F0 (gh_cm x) pc ls (va_rf (some a) :: rest)) := fun H locs h => by
  have hr := gh_recv C h hg hc
  exact va_instNo C.1 C.2.1 C.ow (C.ts _ hlink) (C.en.2.2.2.2.2.2.1 _ hcs) hr hd (k H locs h)
theorem gr_ldcS (C : gh_K x cc own nL ret nm F L hh) {index j : Nat} {tx : String} (hs : (own, index, tx, j) ∈ gh_strs) (hd : decode cc pc = .ok (.ldc index, 2)) {kt : Option Nat → gh_M β} (h : gh_run (gh_tc (gh_cst j) kt kx) g = some o) (kk : ∀ v, gh_run (kt v) g = some o → gh_Wd x g (F0 (gh_cm x) (pc + 2) ls (va_rf v :: rest))) : gh_Wd x g (F0 (gh_cm x) pc ls rest) := fun H locs hp => by
  obtain ⟨v, hv, h1⟩ := gh_cst_inv h
  obtain ⟨a, e1, e2⟩ := C.en.2.2.2.1 _ hs
  have e3 : va_rf v = .ref a := by rw [← hv, gh_co_eq hp.1]; exact e1
  have hw := kk v h1 H locs hp
  rw [e3] at hw
  exact va_ldcS C.1 C.2.1 C.ow e2 hd hw
theorem gr_ldcSw (C : gh_K x cc own nL ret nm F L hh) {index j : Nat} {tx : String} (hs : (own, index, tx, j) ∈ gh_strs) (hd : decode cc pc = .ok (.ldc_w index, 3)) {kt : Option Nat → gh_M β} (h : gh_run (gh_tc (gh_cst j) kt kx) g = some o) (kk : ∀ v, gh_run (kt v) g = some o → gh_Wd x g (F0 (gh_cm x) (pc + 3) ls (va_rf v :: rest))) : gh_Wd x g (F0 (gh_cm x) pc ls rest) := fun H locs hp => by
  obtain ⟨v, hv, h1⟩ := gh_cst_inv h
  obtain ⟨a, e1, e2⟩ := C.en.2.2.2.1 _ hs
  have e3 : va_rf v = .ref a := by rw [← hv, gh_co_eq hp.1]; exact e1
  have hw := kk v h1 H locs hp
  rw [e3] at hw
  intro T hT X
  obtain ⟨t, a1, b1⟩ := hw T hT X
  exact ⟨t, X.ldcStringW C.1 C.ow (text := tx) (a := a) e2.1 (e2.2) (g := F0 (gh_cm x) pc ls rest) rfl (by rw [C.2.1]; exact hd) t a1, b1⟩
theorem gr_ldc (C : gh_K x cc own nL ret nm F L hh) {index : Nat} {v : Int32} (hc : Cond.constant own index v ∈ lw_all) (hd : decode cc pc = .ok (.ldc index, 2)) (k : gh_Wd x g (F0 (gh_cm x) (pc + 2) ls (.int v :: rest))) : gh_Wd x g (F0 (gh_cm x) pc ls rest) := fun H locs h => lv_ldc C.1 C.2.1 C.ow (C.ts _ hc) hd (k H locs h)
theorem gr_ldcM (C : gh_K x cc own nL ret nm F L hh) {index : Nat} (hlink : Cond.classLink own index "[Ljava/lang/Object;" ∈ lw_all) (hd : decode cc pc = .ok (.ldc index, 2)) {kt : Option Nat → gh_M β} (h : gh_run (gh_tc (gh_cst 30) kt kx) g = some o) (kk : ∀ v, gh_run (kt v) g = some o → gh_Wd x g (F0 (gh_cm x) (pc + 2) ls (va_rf v :: rest))) : gh_Wd x g (F0 (gh_cm x) pc ls rest) := fun H locs hp => by
  obtain ⟨v, hv, h1⟩ := gh_cst_inv h
  obtain ⟨mi, e1, e2⟩ := C.en.2.2.2.2.2.1.2
  have e3 : va_rf v = .ref mi := by rw [← hv, gh_co_eq hp.1]; exact e1
  have hw := kk v h1 H locs hp
  rw [e3] at hw
  exact va_ldcM C.1 C.2.1 C.ow (C.ts _ hlink) e2 hd hw
def gh_csti (k : Nat) : gh_M Int32 := gh_get fun g => gh_vI (some (gh_co g k))
theorem gh_csti_inv {k : Nat} {kt : Int32 → gh_M β} (h : gh_run (gh_tc (gh_csti k) kt kx) g = some o) : ∃ v : Int32, gh_co g k = .int v ∧ gh_run (kt v) g = some o := by
  obtain ⟨v, hx, h1⟩ := gh_bd_get h
  exact ⟨v, Option.some.inj (gh_vI_inv hx), h1⟩
theorem gr_gets (C : gh_K x cc own nL ret nm F L hh) {index j : Nat} {Cn n d ref : String} (hs : (Cn, n, d, j) ∈ gh_stats) (hlink : Cond.fieldLink own index ref n d ∈ lw_all) (hsame : ∀ y, (gh_cs x).fieldFound? Cn n d = some y → (gh_cs x).fieldFound? ref n d = some y) (hd : decode cc pc = .ok (.getstatic index, 3)) {kt : Option Nat → gh_M β} (h : gh_run (gh_tc (gh_cst j) kt kx) g = some o) (kk : ∀ v, gh_run (kt v) g = some o → gh_Wd x g (F0 (gh_cm x) (pc + 3) ls (va_rf v :: rest))) : gh_Wd x g (F0 (gh_cm x) pc ls rest) := fun H locs hp => by
  obtain ⟨v, hv, h1⟩ := gh_cst_inv h
  have e1 := C.en.2.2.2.2.1 _ hs
  have e3 : gh_co (gh_c0 x) j = va_rf v := by rw [← gh_co_eq hp.1]; exact hv
  dsimp only at e1
  rw [e3] at e1
  exact va_gets C.1 C.2.1 e1 hp.2.2 C.ow (C.ts _ hlink) hsame hd (kk v h1 H locs hp)
theorem gr_getsi (C : gh_K x cc own nL ret nm F L hh) {index j : Nat} {Cn n d ref : String} (hs : (Cn, n, d, j) ∈ gh_stats) (hlink : Cond.fieldLink own index ref n d ∈ lw_all) (hsame : ∀ y, (gh_cs x).fieldFound? Cn n d = some y → (gh_cs x).fieldFound? ref n d = some y) (hd : decode cc pc = .ok (.getstatic index, 3)) {kt : Int32 → gh_M β} (h : gh_run (gh_tc (gh_csti j) kt kx) g = some o) (kk : ∀ v, gh_run (kt v) g = some o → gh_Wd x g (F0 (gh_cm x) (pc + 3) ls (.int v :: rest))) : gh_Wd x g (F0 (gh_cm x) pc ls rest) := fun H locs hp => by
  obtain ⟨v, hv, h1⟩ := gh_csti_inv h
  have e1 := C.en.2.2.2.2.1 _ hs
  have e3 : gh_co (gh_c0 x) j = .int v := by rw [← gh_co_eq hp.1]; exact hv
  dsimp only at e1
  rw [e3] at e1
  exact va_gets C.1 C.2.1 e1 hp.2.2 C.ow (C.ts _ hlink) hsame hd (kk v h1 H locs hp)
end
