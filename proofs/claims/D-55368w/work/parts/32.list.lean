/-! ArrayList: get, add, making one -/
set_option maxRecDepth 100000
/-- an ArrayList at l of n objects at the addresses F, its array at arr -/
def gq_Ar (g : gh_G) (arr n : Nat) (F : Nat → Nat) : Prop :=
  (n = 0 ∧ arr < gh_lo g ∧ gh_co g 14 = .ref arr ∧ g.1 arr = some (.inl (29, 0, .inr (.inr (.inr (.inr fun _ => none)))))) ∨
  ∃ (cap : Nat) (f : Nat → Option Nat), gh_lo g ≤ arr ∧ 0 < cap ∧ n ≤ cap ∧ cap ≤ 1000 ∧ g.1 arr = some (.inl (5, cap, .inr (.inr (.inr (.inr f))))) ∧ (∀ i, i < n → f i = some (F i) ∧ gh_okr g (some (F i)) = true) ∧ ∀ i, n ≤ i → f i = none
def gq_Ls (g : gh_G) (l arr n : Nat) (F : Nat → Nat) : Prop :=
  (∃ md : Int32, g.1 l = some (.inr (11, [.int md, .ref arr, .int (Int32.ofNat n)]))) ∧ gh_lo g ≤ l ∧ l < g.2.1 ∧ arr < g.2.1 ∧ l ≠ arr ∧ (∀ i, i < n → F i < g.2.1) ∧ gq_Ar g arr n F
section
variable {g : gh_G}
theorem gq_Ar.small {arr n : Nat} {F : Nat → Nat} (h : gq_Ar g arr n F) : n ≤ 1000 := by
  rcases h with h | ⟨cap, f, -, -, h1, h2, -⟩ <;> omega
theorem gq_size {l arr n : Nat} {F : Nat → Nat} (h : gq_Ls g l arr n F) : gh_run (f_J2_size l) g = some (.inl (Int32.ofNat n), g) := by
  obtain ⟨⟨md, h1⟩, -⟩ := h
  refine gq_eq ?_
  unfold f_J2_size
  refine gq_geti (x := Int32.ofNat n) h1 rfl ?_
  exact gq_ret ⟨rfl, rfl⟩
theorem gq_ckIx {i n : Nat} (hi : i < n) (hn : n ≤ 1000) : gh_run (f_J9_checkIndex (Int32.ofNat i) (Int32.ofNat n)) g = some (.inl (Int32.ofNat i), g) := by
  refine gq_eq ?_
  unfold f_J9_checkIndex
  refine gq_tc ?_
  unfold f_J10_checkIndex
  refine gq_f (gq_ofNat hi (by omega)).2.1 ?_
  refine gq_t ((gq_ofNat_lt (by omega) (by omega)).mpr hi) ?_
  refine gq_ret ?_
  exact gq_ret ⟨rfl, rfl⟩
/-- an element -/
theorem gq_lget {l arr n i : Nat} {F : Nat → Nat} (h : gq_Ls g l arr n F) (hi : i < n) : gh_run (f_J2_get l (Int32.ofNat i)) g = some (.inl (some (F i)), g) := by
  obtain ⟨⟨md, h1⟩, h2, h3, h4, h5, h6, h7⟩ := h
  have hn := h7.small
  rcases h7 with h7 | ⟨cap, f, a1, a2, a3, a4, a5, a6, a7⟩
  · omega
  refine gq_eq ?_
  unfold f_J2_get
  refine gq_geti (x := Int32.ofNat n) h1 rfl ?_
  refine gq_l (gq_ckIx hi hn) ?_
  refine gq_is h1 ?_
  refine gq_tc ?_
  unfold f_J2_elementData
  refine gq_getr (x := some arr) h1 rfl ?_
  refine gq_nn ?_
  refine gq_aald a5 (gq_ofNat (Nat.lt_of_lt_of_le hi a3) (by omega)) ?_
  refine gq_ret ?_
  rw [(a6 i hi).1]
  exact gq_ret ⟨rfl, rfl⟩
theorem gq_lt_ofNat {i : Nat} (hi : i < 2147483648) : ((0 : Int32) < Int32.ofNat i) ↔ 0 < i := gq_ofNat_lt (i := 0) (by omega) hi
theorem gq_le_ofNat {i n : Nat} (hi : i < 2147483648) (hn : n < 2147483648) : (Int32.ofNat i ≤ Int32.ofNat n) ↔ i ≤ n := by
  rw [Int32.le_iff_toInt_le, Int32.toInt_ofNat_of_lt (by omega), Int32.toInt_ofNat_of_lt (by omega)]
  omega
theorem gq_ofNat_add (i n : Nat) : Int32.ofNat i + Int32.ofNat n = Int32.ofNat (i + n) := (Int32.ofNat_add i n).symm
theorem gq_shr1 : ∀ n, n ≤ 1000 → (Int32.ofNat n >>> ((1 : Int32) &&& 31)) = Int32.ofNat (n / 2) := by decide +kernel
/-- the new length of a list's array that is full -/
theorem gq_newLen {n : Nat} (h1 : 0 < n) (h2 : n ≤ 1000) : gh_run (f_J15_newLength (Int32.ofNat n) (Int32.ofNat (n + 1) - Int32.ofNat n) (Int32.ofNat n >>> ((1 : Int32) &&& 31))) g = some (.inl (Int32.ofNat (n + max 1 (n / 2))), g) := by
  refine gq_eq ?_
  have e1 : Int32.ofNat (n + 1) - Int32.ofNat n = Int32.ofNat 1 := by
    rw [Nat.add_comm, Int32.ofNat_add, Int32.add_sub_cancel]
  rw [e1, gq_shr1 n h2]
  unfold f_J15_newLength
  refine gq_l (a := Int32.ofNat (max 1 (n / 2))) (g1 := g) ?_ ?_
  · refine gq_eq ?_
    unfold f_J16_max
    refine gq_if (fun hc => ?_) (fun hc => ?_)
    · have h9 := (gq_ofNat_lt (by omega) (by omega)).mp hc
      rw [Nat.max_eq_right (by omega)]
      exact gq_ret ⟨rfl, rfl⟩
    · have h9 : ¬ 1 < n / 2 := fun h => hc ((gq_ofNat_lt (by omega) (by omega)).mpr h)
      rw [Nat.max_eq_left (by omega)]
      exact gq_ret ⟨rfl, rfl⟩
  · rw [gq_ofNat_add]
    refine gq_f (fun hc => ?_) ?_
    · have h9 := (gq_le_ofNat (n := 0) (by omega) (by omega)).mp hc
      omega
    refine gq_f (fun hc => ?_) ?_
    · have h9 := (gq_ofNat_lt (i := 2147483639) (by omega) (by omega)).mp hc
      omega
    exact gq_ret ⟨rfl, rfl⟩
theorem gq_min {g : gh_G} {n m : Nat} (hn : n ≤ m) (hm : m < 2147483648) : gh_run (f_J16_min (Int32.ofNat n) (Int32.ofNat m)) g = some (.inl (Int32.ofNat n), g) := by
  refine gq_eq ?_
  unfold f_J16_min
  refine gq_f (fun hc => ?_) ?_
  · have h9 := (gq_ofNat_lt (by omega) (by omega)).mp hc
    omega
  exact gq_ret ⟨rfl, rfl⟩
/-- a bigger copy of an array of objects -/
theorem gq_copyOf {arr n m : Nat} {f : Nat → Option Nat} {mi : Nat} (hlo : gh_lo g ≤ g.2.1) (hm : gh_co g 30 = .ref mi) (ha : g.1 arr = some (.inl (5, n, .inr (.inr (.inr (.inr f)))))) (hl : arr < g.2.1) (hn : n ≤ m) (hm9 : m ≤ 2000) (hok : ∀ j, j < n → gh_okr g (f j) = true) (hlt : ∀ (j b : Nat), j < n → f j = some b → b < g.2.1) : gh_run (f_J17_copyOf_2 (some arr) (Int32.ofNat m)) g = some (.inl (some g.2.1), (gh_set g.1 g.2.1 (.inl (5, m, .inr (.inr (.inr (.inr (va_cpy f (fun _ => none) 0 0 n)))))), g.2.1 + 1, g.2.2.1 + m, g.2.2.2)) := by
  refine gq_eq ?_
  unfold f_J17_copyOf_2
  refine gq_nn ?_
  refine gq_get (a := ()) (by show (match g.1 arr with | _ => _) = _; rw [ha]; rfl) ?_
  refine gq_cst (x := some mi) hm ?_
  refine gq_tc ?_
  unfold f_J17_copyOf_3
  refine gq_cst (x := some mi) hm ?_
  refine gq_t rfl ?_
  refine gq_newa (N := m) (gq_ofNat (j := m) (n := m + 1) (by omega) (by omega)).2.1 (gq_ofNat (j := m) (n := m + 1) (by omega) (by omega)).1 (by show m * 4 ≤ _; omega) ?_
  refine gq_nn ?_
  refine gq_alen ((gh_set_n (by omega)).trans ha) (Or.inl (by decide)) ?_
  refine gq_l (gq_min hn (by omega)) ?_
  · refine gq_cpyq (n0 := n) (n1 := m) (i0 := 0) (i1 := 0) (m := n) (f0 := f) (f1 := fun _ => none) hlo (by omega) ((gh_set_n (by omega)).trans ha) gh_set_s ⟨by decide, by decide⟩ ⟨by decide, by decide⟩ ⟨(gq_ofNat (j := n) (n := n + 1) (by omega) (by omega)).1, (gq_ofNat (j := n) (n := n + 1) (by omega) (by omega)).2.1⟩ (by omega) (by omega) (fun j hj => ?_) ?_
    · cases hf : f j with
      | none => rfl
      | some b =>
        have h9 := hok j hj
        rw [hf] at h9
        obtain ⟨c, fs, e1, e2⟩ := gh_okr_inv h9
        exact gh_okr_of ((gh_set_n (by have := hlt j b hj hf; omega)).trans e1) e2
    · refine gq_ret ?_
      refine gq_ret ⟨rfl, ?_⟩
      simp only [gh_set_set]
/-- the array of a list that is full grows -/
theorem gq_grow {l arr n : Nat} {md : Int32} {mi : Nat} {f : Nat → Option Nat} (hlo : gh_lo g ≤ g.2.1) (hm : gh_co g 30 = .ref mi) (hl : gh_lo g ≤ l) (hl2 : l < g.2.1) (hal : arr < g.2.1) (h1 : g.1 l = some (.inr (11, [.int md, .ref arr, .int (Int32.ofNat n)]))) (h0 : 0 < n) (hn : n ≤ 1000) (ha : g.1 arr = some (.inl (5, n, .inr (.inr (.inr (.inr f)))))) (hok : ∀ j, j < n → gh_okr g (f j) = true) (hlt : ∀ (j b : Nat), j < n → f j = some b → b < g.2.1) :
    gh_run (f_J2_grow l) g = some (.inl (some g.2.1), (gh_set (gh_set g.1 g.2.1 (.inl (5, n + max 1 (n / 2), .inr (.inr (.inr (.inr (va_cpy f (fun _ => none) 0 0 n))))))) l (.inr (11, [.int md, .ref g.2.1, .int (Int32.ofNat n)])), g.2.1 + 1, g.2.2.1 + (n + max 1 (n / 2)), g.2.2.2)) := by
  refine gq_eq ?_
  unfold f_J2_grow
  refine gq_geti (x := Int32.ofNat n) h1 rfl ?_
  refine gq_is h1 ?_
  refine gq_tc ?_
  unfold f_J2_grow_2
  refine gq_getr (x := some arr) h1 rfl ?_
  refine gq_nn ?_
  refine gq_alen ha (Or.inl (by decide)) ?_
  refine gq_t ((gq_lt_ofNat (by omega)).mpr h0) ?_
  unfold f_J2_grow_2_20
  rw [gq_ofNat_succ]
  refine gq_l (gq_newLen h0 hn) ?_
  refine gq_getr (x := some arr) h1 rfl ?_
  refine gq_l (gq_copyOf hlo hm ha hal (by omega) (by omega) hok hlt) ?_
  refine gq_putv hl rfl rfl ((gh_set_n (by omega)).trans h1) (show 1 < 3 by decide) ?_
  refine gq_ret ?_
  exact gq_ret ⟨rfl, rfl⟩
/-- .. of an empty list -/
theorem gq_grow0 {l arr : Nat} {md : Int32} (hl : gh_lo g ≤ l) (hl2 : l < g.2.1) (hc : gh_co g 14 = .ref arr) (h1 : g.1 l = some (.inr (11, [.int md, .ref arr, .int 0]))) (ha : g.1 arr = some (.inl (29, 0, .inr (.inr (.inr (.inr fun _ => none)))))) :
    gh_run (f_J2_grow l) g = some (.inl (some g.2.1), (gh_set (gh_set g.1 g.2.1 (.inl (5, 10, .inr (.inr (.inr (.inr fun _ => none)))))) l (.inr (11, [.int md, .ref g.2.1, .int 0])), g.2.1 + 1, g.2.2.1 + 10, g.2.2.2)) := by
  refine gq_eq ?_
  unfold f_J2_grow
  refine gq_geti (x := 0) h1 rfl ?_
  refine gq_is h1 ?_
  refine gq_tc ?_
  unfold f_J2_grow_2
  refine gq_getr (x := some arr) h1 rfl ?_
  refine gq_nn ?_
  refine gq_alen ha (Or.inr (by decide)) ?_
  refine gq_f (by decide) ?_
  refine gq_getr (x := some arr) h1 rfl ?_
  refine gq_cst (x := some arr) hc ?_
  refine gq_t rfl ?_
  refine gq_l (a := 10) (g1 := g) ?_ ?_
  · refine gq_eq ?_
    unfold f_J16_max
    refine gq_f (by decide) ?_
    exact gq_ret ⟨rfl, rfl⟩
  refine gq_newa (N := 10) (by decide) (by decide) (by decide) ?_
  refine gq_putv hl rfl rfl ((gh_set_n (by omega)).trans h1) (show 1 < 3 by decide) ?_
  refine gq_ret ?_
  exact gq_ret ⟨rfl, rfl⟩
end
