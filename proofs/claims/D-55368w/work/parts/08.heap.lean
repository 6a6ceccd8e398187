/-! rows that read and write the heap; ends of a method; what is thrown and caught -/
theorem gh_hp.S {x : gh_C} {g : gh_G} {H : Heap} {locs : List Loc} (h : gh_hp x g H locs) : va_S (gh_A (gh_lo (gh_c0 x))) (gh_cs x).heap H locs := h.2.2
theorem gh_lo_eq {g g1 : gh_G} (h : gh_le g g1) : gh_lo g1 = gh_lo g := by unfold gh_lo; rw [h.2.2]
theorem gh_co_eq {g g1 : gh_G} (h : gh_le g g1) : gh_co g1 = gh_co g := by unfold gh_co; rw [h.2.2]
/-- one cell anew: the walk's invariant -/
theorem gh_hp.put {x : gh_C} {g : gh_G} {H H1 : Heap} {locs : List Loc} (h : gh_hp x g H locs) {a i : Nat} {e : gh_E} (ha : gh_lo g ≤ a) (he : gh_at (gh_cd x) a e H1) (hz : H1.size = H.size) (oq : ∀ q : Nat, q ≠ a → H1[q]? = H[q]?) : gh_hp x (gh_set g.1 a e, g.2) H1 (locs ++ [⟨a, i⟩]) :=
  ⟨⟨h.1.1, h.1.2.1, h.1.2.2⟩, h.2.1.put he hz oq, h.2.2.put hz oq (by show gh_lo (gh_c0 x) ≤ a; rw [← gh_lo_eq h.1]; exact ha)⟩
theorem gh_hp.new {x : gh_C} {g : gh_G} {H H1 : Heap} {locs : List Loc} (h : gh_hp x g H locs) {e : gh_E} {n : Nat} (he : gh_at (gh_cd x) g.2.1 e H1) (hz : H1.size = H.size + 1) (oq : ∀ q : Nat, q < H.size → H1[q]? = H[q]?) : gh_hp x (gh_set g.1 g.2.1 e, g.2.1 + 1, g.2.2.1 + n, g.2.2.2) H1 locs :=
  ⟨⟨Nat.le_succ_of_le h.1.1, Nat.le_trans h.1.2.1 (Nat.le_add_right _ _), h.1.2.2⟩, h.2.1.new he hz oq, ⟨Nat.le_trans h.2.2.1 (by rw [hz]; exact Nat.le_succ _), fun q h1 h2 => (oq q (Nat.lt_of_lt_of_le h1 h.2.2.1)).trans (h.2.2.2.1 q h1 h2), h.2.2.2.2⟩⟩
def gh_kt (D : gh_D) : List (ClassId × FieldType) := [(D.2.2 0, .int), (D.2.2 1, .long), (D.2.2 2, .double), (D.2.2 3, .char), (D.2.2 4, .byte), (D.2.2 5, .object "java/lang/Object")]
/-- what a class's table says: its words, its fields' types, no two names alike, its place -/
def gh_Cb (ci : Nat) (Cn : String) (T : u_T) (N : Nat) (ty : Nat → FieldType) : Prop := (∀ w ∈ u_ws Cn T N, w ∈ lw_all) ∧ (∀ k, k < N → parseFieldDescriptor (T k).2.2.1 = some (ty k)) ∧ (∀ a, a < N → ∀ b, b < N → a ≠ b → (T a).2.1 ≠ (T b).2.1) ∧ gh_cl[ci]? = some (Cn, T, N)
section
variable {x : gh_C} {cc : ByteArray} {own : String} {nL : Nat} {ret : Option FieldType} {nm : String} {F L : Nat} {hh : List ExceptionTableEntry} {pc : Nat} {ls : Array Slot} {rest : List Value} {g : gh_G} {β : Type} {kx : gh_X → gh_M β} {o : (β ⊕ gh_X) × gh_G}
theorem gh_K.ow (C : gh_K x cc own nL ret nm F L hh) : (gh_cs x).vm.findClass own = some (gh_cm x).cls := C.2.2.1
theorem gh_K.ts (C : gh_K x cc own nL ret nm F L hh) : ∀ w ∈ lw_all, w.before (gh_ca x) (gh_cs x) = true := C.2.2.2.1
theorem gh_K.ml (C : gh_K x cc own nL ret nm F L hh) : (gh_cc x).maxLocals = nL := C.2.2.2.2.1
theorem gh_K.locks (C : gh_K x cc own nL ret nm F L hh) : (gh_ct x).locks = false := C.2.2.2.2.2.1
theorem gh_K.re (C : gh_K x cc own nL ret nm F L hh) : (gh_ct x).sig.returnType = ret := C.2.2.2.2.2.2.1
theorem gh_K.na (C : gh_K x cc own nL ret nm F L hh) : (gh_ct x).name = nm := C.2.2.2.2.2.2.2.1
theorem gh_K.room (C : gh_K x cc own nL ret nm F L hh) : gh_cR x = ({ frames := F, cells := (gh_cf x).2.1 - (gh_c0 x).2.1, slots := (gh_cf x).2.2.1 - (gh_c0 x).2.2.1, locals := L } : Room) := C.2.2.2.2.2.2.2.2.1
theorem gh_K.tab (C : gh_K x cc own nL ret nm F L hh) : (gh_cc x).exceptionTable.toList = hh := C.2.2.2.2.2.2.2.2.2.1
theorem gh_K.tr (C : gh_K x cc own nL ret nm F L hh) : (gh_cL x).stackTraces = false := C.2.2.2.2.2.2.2.2.2.2.1
theorem gh_K.en (C : gh_K x cc own nL ret nm F L hh) : gh_en (gh_cd x) (gh_lo (gh_c0 x)) (gh_co (gh_c0 x)) (gh_cs x) := C.2.2.2.2.2.2.2.2.2.2.2
theorem gh_K.tw (C : gh_K x cc own nL ret nm F L hh) {w : Cond} (h : w ∈ lw_tbl) (hg : gh_tw w = true) : w.before (gh_ca x) (gh_cs x) = true := va_any (by simp only [gh_tw, Bool.and_eq_true] at hg; exact hg.1) (C.en.2.2.1 w h hg)
theorem gh_K.k0 (C : gh_K x cc own nL ret nm F L hh) : va_K ((gh_cd x).1, (gh_cd x).2.1) gh_cl (gh_kt (gh_cd x)) (gh_cs x) := by
  refine ⟨C.en.1, fun k q hk => ?_⟩
  match k, hk with
  | 0, hk => cases hk; exact C.en.2.1 0 _ rfl
  | 1, hk => cases hk; exact C.en.2.1 1 _ rfl
  | 2, hk => cases hk; exact C.en.2.1 2 _ rfl
  | 3, hk => cases hk; exact C.en.2.1 3 _ rfl
  | 4, hk => cases hk; exact C.en.2.1 4 _ rfl
  | 5, hk => cases hk; exact C.en.2.1 5 _ rfl
  | k + 6, hk => simp [gh_kt] at hk
theorem gh_po {D : gh_D} {a : Nat} {q : Nat × List Value} {H : Heap} (hq9 : q.1 < 100) (h : gh_at D a (.inr q) H) : va_P (D.1, D.2.1) gh_cl [(a, .inr q)] H := by
  rw [gh_at_o (c := q.1) (fs := q.2) hq9] at h
  intro k y hk
  match k, hk with
  | 0, hk => cases hk; obtain ⟨r, h1, h2, -⟩ := h; exact ⟨r, h1, h2⟩
  | k + 1, hk => simp at hk
theorem gh_pa {D : gh_D} {a : Nat} {q : Nat × vp_A} {H : Heap} (hq9 : q.1 < 10) (h : gh_at D a (.inl q) H) : va_P (D.1, D.2.1) gh_cl [(a, .inl (D.2.2 q.1, q.2))] H := by
  rw [gh_at_a (k := q.1) (x := q.2) hq9] at h
  intro k y hk
  match k, hk with
  | 0, hk => cases hk; exact h
  | k + 1, hk => simp at hk
theorem gh_room1 (C : gh_K x cc own nL ret nm F L hh) {H : Heap} {locs : List Loc} (h : gh_hp x g H locs) {n m : Nat} (hc : g.2.1 + n ≤ (gh_cf x).2.1) (hs : g.2.2.1 + m ≤ (gh_cf x).2.2.1) : (g.2.1 - (gh_c0 x).2.1) + n ≤ (gh_cR x).cells ∧ (g.2.2.1 - (gh_c0 x).2.2.1) + m ≤ (gh_cR x).slots := by
  rw [C.room]
  have h1 := h.1.1
  have h2 := h.1.2.1
  constructor <;> show _ ≤ _ - _ <;> omega
/-! fields -/
theorem gr_getv (C : gh_K x cc own nL ret nm F L hh) {ci : Nat} {Cn : String} {T : u_T} {N : Nat} {ty : Nat → FieldType} (B : gh_Cb ci Cn T N ty) {k index a : Nat} {ref : String} (hk : k < N) (hlink : Cond.fieldLink own index ref (T k).2.1 (T k).2.2.1 ∈ lw_all) (hsame : ∀ y, (gh_cs x).fieldFound? (T k).1 (T k).2.1 (T k).2.2.1 = some y → (gh_cs x).fieldFound? ref (T k).2.1 (T k).2.2.1 = some y) (hd : decode cc pc = .ok (.getfield index, 3)) {fs : List Value} {v : Value} (hg : gh_oc g a ci fs) (hv : fs[k]? = some v) (kk : gh_Wd x g (F0 (gh_cm x) (pc + 3) ls (v :: rest))) : gh_Wd x g (F0 (gh_cm x) pc ls (va_rf (some a) :: rest)) := fun H locs h => by
  rcases hg with hg | hg
  · exact va_get C.1 C.2.1 C.ts B.1 C.ow C.k0 (gh_po (gh_cl_lt B.2.2.2) (h.2.1.2 a _ hg)) 0 rfl B.2.2.2 k hk (C.ts _ hlink) hsame hv hd (kk H locs h)
  · have h9 := h.2.1.2 a _ hg
    rw [gh_at_O] at h9
    obtain ⟨r, cell, r1, r2, r3, r4, r5, r6⟩ := h9
    cases B.2.2.2.symm.trans r1
    obtain ⟨hS, hfc, kC, hkC, hkind⟩ := C.k0.1 ci _ B.2.2.2
    obtain ⟨cf, kf, fi, f, hi, hsl⟩ := hS k hk
    refine W.getf C.1 C.2.1 C.ow (C.ts _ hlink) (hsame _ hi) (u_facts hfc hkC (u_lays C.ts B.1 hk) hi).1 r2 r5 (v := v) ?_ rfl rfl hd (kk H locs h)
    rw [hsl, r6 k hk]
    simp [vp_V, hv]
theorem gr_getvN (C : gh_K x cc own nL ret nm F L hh) {ci : Nat} {Cn : String} {T : u_T} {N : Nat} {ty : Nat → FieldType} (B : gh_Cb ci Cn T N ty) {k index a : Nat} {ref host : String} (hk : k < N) (hlink : Cond.fieldLinkNest own index ref (T k).2.1 (T k).2.2.1 host ∈ lw_tbl) (hsame : ∀ y, (gh_cs x).fieldFound? (T k).1 (T k).2.1 (T k).2.2.1 = some y → (gh_cs x).fieldFound? ref (T k).2.1 (T k).2.2.1 = some y) (hd : decode cc pc = .ok (.getfield index, 3)) {fs : List Value} {v : Value} (hg : gh_oc g a ci fs) (hv : fs[k]? = some v) (kk : gh_Wd x g (F0 (gh_cm x) (pc + 3) ls (v :: rest))) : gh_Wd x g (F0 (gh_cm x) pc ls (va_rf (some a) :: rest)) := fun H locs h => by
  rcases hg with hg | hg
  · exact va_getN C.1 C.2.1 C.ts B.1 C.ow C.k0 (gh_po (gh_cl_lt B.2.2.2) (h.2.1.2 a _ hg)) 0 rfl B.2.2.2 k hk (C.tw hlink rfl) hsame hv hd (kk H locs h)
  · have h9 := h.2.1.2 a _ hg
    rw [gh_at_O] at h9
    obtain ⟨r, cell, r1, r2, r3, r4, r5, r6⟩ := h9
    cases B.2.2.2.symm.trans r1
    obtain ⟨hS, hfc, kC, hkC, hkind⟩ := C.k0.1 ci _ B.2.2.2
    obtain ⟨cf, kf, fi, f, hi, hsl⟩ := hS k hk
    refine va_Wgetf C.1 C.2.1 C.ow (C.tw hlink rfl) (hsame _ hi) (u_facts hfc hkC (u_lays C.ts B.1 hk) hi).1 r2 r5 (v := v) ?_ rfl rfl hd (kk H locs h)
    rw [hsl, r6 k hk]
    simp [vp_V, hv]
theorem gr_geti (C : gh_K x cc own nL ret nm F L hh) {ci : Nat} {Cn : String} {T : u_T} {N : Nat} {ty : Nat → FieldType} (B : gh_Cb ci Cn T N ty) {k index a : Nat} {ref : String} (hk : k < N) (hlink : Cond.fieldLink own index ref (T k).2.1 (T k).2.2.1 ∈ lw_all) (hsame : ∀ y, (gh_cs x).fieldFound? (T k).1 (T k).2.1 (T k).2.2.1 = some y → (gh_cs x).fieldFound? ref (T k).2.1 (T k).2.2.1 = some y) (hd : decode cc pc = .ok (.getfield index, 3)) {kt : Int32 → gh_M β} (h : gh_run (gh_tc (gh_geti a ci k) kt kx) g = some o) (kk : ∀ v, gh_run (kt v) g = some o → gh_Wd x g (F0 (gh_cm x) (pc + 3) ls (.int v :: rest))) : gh_Wd x g (F0 (gh_cm x) pc ls (va_rf (some a) :: rest)) := by
  obtain ⟨v, fs, h1, h2, h3⟩ := gh_geti_inv h
  exact gr_getv C B hk hlink hsame hd h1 h2 (kk v h3)
theorem gr_getr (C : gh_K x cc own nL ret nm F L hh) {ci : Nat} {Cn : String} {T : u_T} {N : Nat} {ty : Nat → FieldType} (B : gh_Cb ci Cn T N ty) {k index a : Nat} {ref : String} (hk : k < N) (hlink : Cond.fieldLink own index ref (T k).2.1 (T k).2.2.1 ∈ lw_all) (hsame : ∀ y, (gh_cs x).fieldFound? (T k).1 (T k).2.1 (T k).2.2.1 = some y → (gh_cs x).fieldFound? ref (T k).2.1 (T k).2.2.1 = some y) (hd : decode cc pc = .ok (.getfield index, 3)) {kt : Option Nat → gh_M β} (h : gh_run (gh_tc (gh_getr a ci k) kt kx) g = some o) (kk : ∀ v, gh_run (kt v) g = some o → gh_Wd x g (F0 (gh_cm x) (pc + 3) ls (va_rf v :: rest))) : gh_Wd x g (F0 (gh_cm x) pc ls (va_rf (some a) :: rest)) := by
  obtain ⟨v, fs, h1, h2, h3⟩ := gh_getr_inv h
  exact gr_getv C B hk hlink hsame hd h1 h2 (kk v h3)
theorem gr_getiN (C : gh_K x cc own nL ret nm F L hh) {ci : Nat} {Cn : String} {T : u_T} {N : Nat} {ty : Nat → FieldType} (B : gh_Cb ci Cn T N ty) {k index a : Nat} {ref host : String} (hk : k < N) (hlink : Cond.fieldLinkNest own index ref (T k).2.1 (T k).2.2.1 host ∈ lw_tbl) (hsame : ∀ y, (gh_cs x).fieldFound? (T k).1 (T k).2.1 (T k).2.2.1 = some y → (gh_cs x).fieldFound? ref (T k).2.1 (T k).2.2.1 = some y) (hd : decode cc pc = .ok (.getfield index, 3)) {kt : Int32 → gh_M β} (h : gh_run (gh_tc (gh_geti a ci k) kt kx) g = some o) (kk : ∀ v, gh_run (kt v) g = some o → gh_Wd x g (F0 (gh_cm x) (pc + 3) ls (.int v :: rest))) : gh_Wd x g (F0 (gh_cm x) pc ls (va_rf (some a) :: rest)) := by
  obtain ⟨v, fs, h1, h2, h3⟩ := gh_geti_inv h
  exact gr_getvN C B hk hlink hsame hd h1 h2 (kk v h3)
theorem gr_getrN (C : gh_K x cc own nL ret nm F L hh) {ci : Nat} {Cn : String} {T : u_T} {N : Nat} {ty : Nat → FieldType} (B : gh_Cb ci Cn T N ty) {k index a : Nat} {ref host : String} (hk : k < N) (hlink : Cond.fieldLinkNest own index ref (T k).2.1 (T k).2.2.1 host ∈ lw_tbl) (hsame : ∀ y, (gh_cs x).fieldFound? (T k).1 (T k).2.1 (T k).2.2.1 = some y → (gh_cs x).fieldFound? ref (T k).2.1 (T k).2.2.1 = some y) (hd : decode cc pc = .ok (.getfield index, 3)) {kt : Option Nat → gh_M β} (h : gh_run (gh_tc (gh_getr a ci k) kt kx) g = some o) (kk : ∀ v, gh_run (kt v) g = some o → gh_Wd x g (F0 (gh_cm x) (pc + 3) ls (va_rf v :: rest))) : gh_Wd x g (F0 (gh_cm x) pc ls (va_rf (some a) :: rest)) := by
  obtain ⟨v, fs, h1, h2, h3⟩ := gh_getr_inv h
  exact gr_getvN C B hk hlink hsame hd h1 h2 (kk v h3)
theorem gr_putp (C : gh_K x cc own nL ret nm F L hh) {ci : Nat} {Cn : String} {T : u_T} {N : Nat} {ty : Nat → FieldType} (B : gh_Cb ci Cn T N ty) {k index a : Nat} {ref : String} (hk : k < N) (hlink : Cond.fieldLink own index ref (T k).2.1 (T k).2.2.1 ∈ lw_all) (hsame : ∀ y, (gh_cs x).fieldFound? (T k).1 (T k).2.1 (T k).2.2.1 = some y → (gh_cs x).fieldFound? ref (T k).2.1 (T k).2.2.1 = some y) (hfin : (T k).2.2.2 = false) (hd : decode cc pc = .ok (.putfield index, 3)) {v : Value} {kt : Unit → gh_M β} (h : gh_run (gh_tc (gh_putv a ci k (ty k) v) kt kx) g = some o) (kk : ∀ g1, gh_run (kt ()) g1 = some o → gh_Wd x g1 (F0 (gh_cm x) (pc + 3) ls rest)) : gh_Wd x g (F0 (gh_cm x) pc ls (v :: va_rf (some a) :: rest)) := fun H locs hp => by
  obtain ⟨fs, ha, hn, hfit, hg, hl, h3⟩ := gh_putv_inv h
  have hK := C.k0
  have hap := va_apart (own := own) C.ts B.1 ty B.2.1 B.2.2.1 hK B.2.2.2
  have h9 := hp.2.1.2 a _ hg
  rw [gh_at_o (gh_cl_lt B.2.2.2)] at h9
  obtain ⟨r, h1, ⟨cell, q1, q2, q3, q4⟩, hum⟩ := h9
  have hr : r = (Cn, T, N) := Option.some.inj (h1.symm.trans B.2.2.2)
  subst hr
  obtain ⟨hS, hfc, kC, hkC, hkind⟩ := hK.1 ci _ B.2.2.2
  obtain ⟨cf, kf, fi, f, hi, hsl⟩ := hS k hk
  have hlay := C.ts _ (B.1 _ (u_in_lay hk))
  unfold u_lay at hlay
  rw [if_neg (by rw [hfin]; decide)] at hlay
  have hst := (u_facts hfc hkC (u_lays C.ts B.1 hk) hi).1
  have h6 := u_store hfc hkC hkind hlay hi (B.2.1 k hk) hn hfit
  refine W.putK C.1 C.2.1 (f := f) ⟨C.ow, C.ts _ hlink, ⟨_, _, _, hsame _ hi⟩, hst⟩ (by rw [q2]; exact h6) q1 q3 (by rw [hsl]; exact k2_hasslot (q4 k hk)) rfl rfl hd fun H' e1 e2 e3 => ?_
  rw [hsl] at e1 ⊢
  exact kk _ h3 H' _ (hp.put ha (by rw [gh_at_o (gh_cl_lt B.2.2.2)]; exact ⟨_, B.2.2.2, t_OB.to (V := updV (vp_V fs) k v) ⟨_, e1, q2, q3, t_set q4 hap hk v⟩ (fun j _ => vp_updV_set hl v j), fun e9 c9 hc9 => by rw [e1] at hc9; cases hc9; exact hum e9 cell q1⟩) e2 e3)
theorem gr_putN (C : gh_K x cc own nL ret nm F L hh) {ci : Nat} {Cn : String} {T : u_T} {N : Nat} {ty : Nat → FieldType} (B : gh_Cb ci Cn T N ty) {k index a : Nat} {ref host : String} (hk : k < N) (hlink : Cond.fieldLinkNest own index ref (T k).2.1 (T k).2.2.1 host ∈ lw_tbl) (hsame : ∀ y, (gh_cs x).fieldFound? (T k).1 (T k).2.1 (T k).2.2.1 = some y → (gh_cs x).fieldFound? ref (T k).2.1 (T k).2.2.1 = some y) (hfin : (T k).2.2.2 = false) (hd : decode cc pc = .ok (.putfield index, 3)) {v : Value} {kt : Unit → gh_M β} (h : gh_run (gh_tc (gh_putv a ci k (ty k) v) kt kx) g = some o) (kk : ∀ g1, gh_run (kt ()) g1 = some o → gh_Wd x g1 (F0 (gh_cm x) (pc + 3) ls rest)) : gh_Wd x g (F0 (gh_cm x) pc ls (v :: va_rf (some a) :: rest)) := fun H locs hp => by
  obtain ⟨fs, ha, hn, hfit, hg, hl, h3⟩ := gh_putv_inv h
  have hK := C.k0
  have hap := va_apart (own := own) C.ts B.1 ty B.2.1 B.2.2.1 hK B.2.2.2
  have h9 := hp.2.1.2 a _ hg
  rw [gh_at_o (gh_cl_lt B.2.2.2)] at h9
  obtain ⟨r, h1, ⟨cell, q1, q2, q3, q4⟩, hum⟩ := h9
  have hr : r = (Cn, T, N) := Option.some.inj (h1.symm.trans B.2.2.2)
  subst hr
  obtain ⟨hS, hfc, kC, hkC, hkind⟩ := hK.1 ci _ B.2.2.2
  obtain ⟨cf, kf, fi, f, hi, hsl⟩ := hS k hk
  have hlay := C.ts _ (B.1 _ (u_in_lay hk))
  unfold u_lay at hlay
  rw [if_neg (by rw [hfin]; decide)] at hlay
  have hst := (u_facts hfc hkC (u_lays C.ts B.1 hk) hi).1
  have h6 := u_store hfc hkC hkind hlay hi (B.2.1 k hk) hn hfit
  refine va_WputK C.1 C.2.1 (f := f) C.ow (C.tw hlink rfl) (hsame _ hi) hst (by rw [q2]; exact h6) q1 q3 (by rw [hsl]; exact k2_hasslot (q4 k hk)) rfl rfl hd fun H' e1 e2 e3 => ?_
  rw [hsl] at e1 ⊢
  exact kk _ h3 H' _ (hp.put ha (by rw [gh_at_o (gh_cl_lt B.2.2.2)]; exact ⟨_, B.2.2.2, t_OB.to (V := updV (vp_V fs) k v) ⟨_, e1, q2, q3, t_set q4 hap hk v⟩ (fun j _ => vp_updV_set hl v j), fun e9 c9 hc9 => by rw [e1] at hc9; cases hc9; exact hum e9 cell q1⟩) e2 e3)
theorem gr_putF (C : gh_K x cc own nL ret "<init>" F L hh) {ci : Nat} {Cn : String} {T : u_T} {N : Nat} {ty : Nat → FieldType} (B : gh_Cb ci Cn T N ty) {k index a : Nat} {ref : String} (hk : k < N) (hlink : Cond.fieldLink own index ref (T k).2.1 (T k).2.2.1 ∈ lw_all) (hsame : ∀ y, (gh_cs x).fieldFound? (T k).1 (T k).2.1 (T k).2.2.1 = some y → (gh_cs x).fieldFound? ref (T k).2.1 (T k).2.2.1 = some y) (hfin : (T k).2.2.2 = true) (hdecl : (T k).1 = own) (hd : decode cc pc = .ok (.putfield index, 3)) {v : Value} {kt : Unit → gh_M β} (h : gh_run (gh_tc (gh_putv a ci k (ty k) v) kt kx) g = some o) (kk : ∀ g1, gh_run (kt ()) g1 = some o → gh_Wd x g1 (F0 (gh_cm x) (pc + 3) ls rest)) : gh_Wd x g (F0 (gh_cm x) pc ls (v :: va_rf (some a) :: rest)) := fun H locs hp => by
  obtain ⟨fs, ha, hn, hfit, hg, hl, h3⟩ := gh_putv_inv h
  have hK := C.k0
  have hap := va_apart (own := own) C.ts B.1 ty B.2.1 B.2.2.1 hK B.2.2.2
  have h9 := hp.2.1.2 a _ hg
  rw [gh_at_o (gh_cl_lt B.2.2.2)] at h9
  obtain ⟨r, h1, ⟨cell, q1, q2, q3, q4⟩, hum⟩ := h9
  have hr : r = (Cn, T, N) := Option.some.inj (h1.symm.trans B.2.2.2)
  subst hr
  obtain ⟨hS, hfc, kC, hkC, hkind⟩ := hK.1 ci _ B.2.2.2
  obtain ⟨cf, kf, fi, f, hi, hsl⟩ := hS k hk
  have hlay := C.ts _ (B.1 _ (u_in_lay hk))
  unfold u_lay at hlay
  rw [if_pos hfin] at hlay
  have hst := (u_facts hfc hkC (u_lays C.ts B.1 hk) hi).1
  have hcf : (gh_cm x).cls = cf := by
    obtain ⟨_, _, c', _, _, _, -, -, hf', -, -, -, hown2, -⟩ := Cond.laysFinal_spec hlay
    have e1 : c' = cf := by have := hi.symm.trans hf'; simp at this; exact this.1.symm
    rw [hdecl] at hown2
    rw [← e1]; exact Option.some.inj (C.ow.symm.trans hown2)
  have h6 := u_fits hfc hkC hkind (Or.inr hlay) hi (B.2.1 k hk) hn hfit
  refine W.putFinK C.1 C.2.1 C.ow (C.ts _ hlink) (hsame _ hi) hst hcf C.na (by rw [q2]; exact h6) q1 q3 (by rw [hsl]; exact k2_hasslot (q4 k hk)) rfl rfl hd fun H' e1 e2 e3 => ?_
  rw [hsl] at e1 ⊢
  exact kk _ h3 H' _ (hp.put ha (by rw [gh_at_o (gh_cl_lt B.2.2.2)]; exact ⟨_, B.2.2.2, t_OB.to (V := updV (vp_V fs) k v) ⟨_, e1, q2, q3, t_set q4 hap hk v⟩ (fun j _ => vp_updV_set hl v j), fun e9 c9 hc9 => by rw [e1] at hc9; cases hc9; exact hum e9 cell q1⟩) e2 e3)
/-! new objects, new arrays -/
theorem gr_newo (C : gh_K x cc own nL ret nm F L hh) {ci : Nat} {Cn : String} {T : u_T} {N : Nat} {ty : Nat → FieldType} (B : gh_Cb ci Cn T N ty) {index : Nat} (hclink : Cond.classLink own index Cn ∈ lw_all) (hins : Cond.instantiable Cn N ∈ lw_all) (hini : Cond.initialized Cn ∈ lw_all) {fs : List Value} (hfs : ∀ j, j < N → defaultValue (ty j) = vp_V fs j) (hd : decode cc pc = .ok (.new index, 3)) {kt : Nat → gh_M β} (h : gh_run (gh_tc (gh_new ci N fs) kt kx) g = some o) (ho : gh_le o.2 (gh_cf x)) (kk : ∀ a g1, gh_run (kt a) g1 = some o → gh_Wd x g1 (F0 (gh_cm x) (pc + 3) ls (va_rf (some a) :: rest))) : gh_Wd x g (F0 (gh_cm x) pc ls rest) := fun H locs hp => by
  have h3 := gh_new_inv h
  have hle := (gh_run_le' h3).tr ho
  have hr := gh_room1 C hp (n := 1) (m := N) hle.1 hle.2.1
  have hKn := C.k0.1 ci _ B.2.2.2
  refine W.newcK C.1 C.2.1 C.ow (C.ts _ hclink) (C.ts _ hins) (C.ts _ hini) rfl hd hr.1 hr.2 hKn.2.1 hp.2.1.1 fun H1 kC hkC e1 z1 o1 => ?_
  have hw := kk _ _ h3 H1 locs (hp.new (n := N) (by rw [gh_at_o (gh_cl_lt B.2.2.2)]; exact ⟨_, B.2.2.2, (u_born ty C.ts B.1 hKn hkC e1 B.2.1).to hfs, fun _ c9 hc9 => by rw [e1] at hc9; cases hc9; rfl⟩) (by rw [z1, hp.2.1.1]) (fun q hq => o1 q (by rw [← hp.2.1.1]; exact hq)))
  have a1 := hp.1.1
  have a2 := hp.1.2.1
  rw [show g.2.1 - (gh_c0 x).2.1 + 1 = g.2.1 + 1 - (gh_c0 x).2.1 by omega, show g.2.2.1 - (gh_c0 x).2.2.1 + N = g.2.2.1 + N - (gh_c0 x).2.2.1 by omega]
  exact hw
theorem gr_newa (C : gh_K x cc own nL ret nm F L hh) {k : Nat} {atype : ArrayType} {n : Int32} (hk : (k = 0 ∧ atype = .int) ∨ (k = 1 ∧ atype = .long) ∨ (k = 2 ∧ atype = .double) ∨ (k = 3 ∧ atype = .char) ∨ (k = 4 ∧ atype = .byte)) (harr : Cond.arrayClass (newarray.typeOf atype) ∈ lw_all) (hd : decode cc pc = .ok (.newarray atype, 2)) {kt : Nat → gh_M β} (h : gh_run (gh_tc (gh_newa k n) kt kx) g = some o) (ho : gh_le o.2 (gh_cf x)) (kk : ∀ a g1, gh_run (kt a) g1 = some o → gh_Wd x g1 (F0 (gh_cm x) (pc + 2) ls (va_rf (some a) :: rest))) : gh_Wd x g (F0 (gh_cm x) pc ls (.int n :: rest)) := fun H locs hp => by
  obtain ⟨N, b1, b2, b3, h3⟩ := gh_newa_inv h
  have hle := (gh_run_le' h3).tr ho
  have hr := gh_room1 C hp (n := 1) (m := N) hle.1 hle.2.1
  have hbytes : N * componentBytes (newarray.typeOf atype) ≤ 536870912 := by
    refine Nat.le_trans (Nat.le_of_eq ?_) b3
    rcases hk with ⟨rfl, rfl⟩ | ⟨rfl, rfl⟩ | ⟨rfl, rfl⟩ | ⟨rfl, rfl⟩ | ⟨rfl, rfl⟩ <;> rfl
  refine va_newaK C.1 C.2.1 (C.ts _ harr) rfl hd rfl b1 b2 hbytes hr.1 hr.2 hp.2.1.1 fun H1 cA e1 z1 o1 hAr hNm => ?_
  have hcA : cA = (gh_cd x).2.2 k := by
    have hra := (C.en.2.1 k)
    rcases hk with ⟨rfl, rfl⟩ | ⟨rfl, rfl⟩ | ⟨rfl, rfl⟩ | ⟨rfl, rfl⟩ | ⟨rfl, rfl⟩ <;> exact Option.some.inj (hNm.symm.trans (hra _ rfl).2)
  have hat : gh_at (gh_cd x) g.2.1 (.inl (k, gh_blk k N)) H1 := by
    rw [gh_at_a (by rcases hk with ⟨rfl, -⟩ | ⟨rfl, -⟩ | ⟨rfl, -⟩ | ⟨rfl, -⟩ | ⟨rfl, -⟩ <;> decide)]
    show H1[g.2.1]? = some (vp_cell ((gh_cd x).2.2 k) (gh_blk k N))
    rw [← hcA, e1]
    rcases hk with ⟨rfl, rfl⟩ | ⟨rfl, rfl⟩ | ⟨rfl, rfl⟩ | ⟨rfl, rfl⟩ | ⟨rfl, rfl⟩ <;> rfl
  have hw := kk _ _ h3 H1 locs (hp.new (n := N) hat (by rw [z1, hp.2.1.1]) (fun q hq => o1 q (by rw [← hp.2.1.1]; exact hq)))
  have a1 := hp.1.1
  have a2 := hp.1.2.1
  rw [show g.2.1 - (gh_c0 x).2.1 + 1 = g.2.1 + 1 - (gh_c0 x).2.1 by omega, show g.2.2.1 - (gh_c0 x).2.2.1 + N = g.2.2.1 + N - (gh_c0 x).2.2.1 by omega]
  exact hw
theorem gr_newq (C : gh_K x cc own nL ret nm F L hh) {n : Int32} {index : Nat} (hclink : Cond.classLink own index "java/lang/Object" ∈ lw_all) (hd : decode cc pc = .ok (.anewarray index, 3)) {kt : Nat → gh_M β} (h : gh_run (gh_tc (gh_newa 5 n) kt kx) g = some o) (ho : gh_le o.2 (gh_cf x)) (kk : ∀ a g1, gh_run (kt a) g1 = some o → gh_Wd x g1 (F0 (gh_cm x) (pc + 3) ls (va_rf (some a) :: rest))) : gh_Wd x g (F0 (gh_cm x) pc ls (.int n :: rest)) := fun H locs hp => by
  obtain ⟨N, b1, b2, b3, h3⟩ := gh_newa_inv h
  subst b2
  have hle := (gh_run_le' h3).tr ho
  have hr := gh_room1 C hp (n := 1) (m := n.toNatClampNeg) hle.1 hle.2.1
  refine W.anew C.1 C.2.1 C.ow (C.ts _ hclink) (va_AO.use C.en.2.2.2.2.2.1.1) rfl hd rfl b1 b3 hr.1 hr.2 fun cA kA comp f1 f2 f3 f4 => ?_
  generalize hH1 : H.push ({ cls := cA, slots := Array.replicate n.toNatClampNeg .null, vm := .none } : Cell) = H1
  have z1 : H1.size = H.size + 1 := by rw [← hH1, Array.size_push]
  have e1 : H1[H.size]? = some (arrV cA n.toNatClampNeg (fun _ => .null)) := by rw [← hH1, Array.getElem?_push_size, ← arrV_new]
  have o1 : ∀ q : Nat, q < H.size → H1[q]? = H[q]? := fun q hq => by rw [← hH1, Array.getElem?_push, if_neg (Nat.ne_of_lt hq)]
  have hcA : cA = (gh_cd x).2.2 5 := by
    obtain ⟨_, _, _, _, _, h9⟩ := (C.en.2.1 5 _ rfl).2
    exact Option.some.inj (f1.symm.trans h9)
  have hat : gh_at (gh_cd x) g.2.1 (.inl (5, gh_blk 5 n.toNatClampNeg)) H1 := by
    rw [gh_at_a (by decide)]
    show H1[g.2.1]? = some (vp_cell ((gh_cd x).2.2 5) (gh_blk 5 n.toNatClampNeg))
    rw [← hcA, ← hp.2.1.1, e1]
    rfl
  have hw := kk _ _ h3 H1 locs (hp.new (n := n.toNatClampNeg) hat z1 o1)
  have a1 := hp.1.1
  have a2 := hp.1.2.1
  rw [show g.2.1 - (gh_c0 x).2.1 + 1 = g.2.1 + 1 - (gh_c0 x).2.1 by omega, show g.2.2.1 - (gh_c0 x).2.2.1 + n.toNatClampNeg = g.2.2.1 + n.toNatClampNeg - (gh_c0 x).2.2.1 by omega]
  rw [hp.2.1.1]
  exact hw
end
