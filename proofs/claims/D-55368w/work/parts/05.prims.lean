/-! what the instructions do to the pure heap; each with what a run through it says -/
def gh_lo (g : gh_G) : Nat := g.2.2.2.1
def gh_co (g : gh_G) : Nat → Value := g.2.2.2.2
def gh_set (f : Nat → Option gh_E) (a : Nat) (e : gh_E) : Nat → Option gh_E := fun q => if q = a then some e else f q
theorem gh_set_s {f : Nat → Option gh_E} {a : Nat} {e : gh_E} : gh_set f a e a = some e := if_pos rfl
theorem gh_set_n {f : Nat → Option gh_E} {a q : Nat} {e : gh_E} (h : q ≠ a) : gh_set f a e q = f q := if_neg h
def gh_ob (g : gh_G) (a ci : Nat) : Option (List Value) := match g.1 a with
  | some (.inr (c, fs)) => if c = ci then some fs else none
  | _ => none
theorem gh_ob_inv {g : gh_G} {a ci : Nat} {fs : List Value} (h : gh_ob g a ci = some fs) : g.1 a = some (.inr (ci, fs)) := by
  unfold gh_ob at h
  split at h
  · rename_i c fs1 e
    by_cases hc : c = ci
    · rw [if_pos hc] at h
      cases h
      rw [e, hc]
    · rw [if_neg hc] at h
      cases h
  · cases h
theorem gh_ob_of {g : gh_G} {a ci : Nat} {fs : List Value} (h : g.1 a = some (.inr (ci, fs))) : gh_ob g a ci = some fs := by
  unfold gh_ob
  rw [h]
  exact if_pos rfl
/-- entries of constants: objects of class c by the number c + 100, arrays by the numbers 10 .. 29 (10 the script, 11 .. 28 bytes, 29 the empty one); they are only read -/
def gh_kin (c k : Nat) : Bool := c == k || (k == 0 && c == 10) || (k == 4 && (decide (11 ≤ c) && decide (c < 29)))
def gh_oc (g : gh_G) (a ci : Nat) (fs : List Value) : Prop := g.1 a = some (.inr (ci, fs)) ∨ g.1 a = some (.inr (ci + 100, fs))
def gh_obr (g : gh_G) (a ci : Nat) : Option (List Value) := match g.1 a with
  | some (.inr (c, fs)) => if c = ci ∨ c = ci + 100 then some fs else none
  | _ => none
theorem gh_obr_inv {g : gh_G} {a ci : Nat} {fs : List Value} (h : gh_obr g a ci = some fs) : gh_oc g a ci fs := by
  unfold gh_obr at h
  split at h
  · rename_i c fs1 e
    by_cases hc : c = ci ∨ c = ci + 100
    · rw [if_pos hc] at h
      cases h
      rcases hc with rfl | rfl
      · exact Or.inl e
      · exact Or.inr e
    · rw [if_neg hc] at h
      cases h
  · cases h
theorem gh_obr_of {g : gh_G} {a ci : Nat} {fs : List Value} (h : gh_oc g a ci fs) : gh_obr g a ci = some fs := by
  unfold gh_obr
  rcases h with h | h
  · rw [h]
    exact if_pos (Or.inl rfl)
  · rw [h]
    exact if_pos (Or.inr rfl)
def gh_air (g : gh_G) (a k : Nat) : Option (Nat × (Nat → Int32)) := match g.1 a with
  | some (.inl (c, n, .inl f)) => if gh_kin c k = true then some (n, f) else none
  | _ => none
theorem gh_air_inv {g : gh_G} {a k : Nat} {x : Nat × (Nat → Int32)} (h : gh_air g a k = some x) : ∃ c : Nat, gh_kin c k = true ∧ g.1 a = some (.inl (c, x.1, .inl x.2)) := by
  unfold gh_air at h
  split at h
  · rename_i c n f e
    by_cases hc : gh_kin c k = true
    · rw [if_pos hc] at h
      cases h
      exact ⟨c, hc, e⟩
    · rw [if_neg hc] at h
      cases h
  · cases h
theorem gh_air_of {g : gh_G} {a c k n : Nat} {f : Nat → Int32} (hc : gh_kin c k = true) (h : g.1 a = some (.inl (c, n, .inl f))) : gh_air g a k = some (n, f) := by
  unfold gh_air
  rw [h]
  exact if_pos hc
def gh_ai (g : gh_G) (a k : Nat) : Option (Nat × (Nat → Int32)) := match g.1 a with
  | some (.inl (c, n, .inl f)) => if c = k then some (n, f) else none
  | _ => none
theorem gh_ai_inv {g : gh_G} {a k : Nat} {x : Nat × (Nat → Int32)} (h : gh_ai g a k = some x) : g.1 a = some (.inl (k, x.1, .inl x.2)) := by
  unfold gh_ai at h
  split at h
  · rename_i c n f e
    by_cases hc : c = k
    · rw [if_pos hc] at h
      cases h
      rw [e, hc]
    · rw [if_neg hc] at h
      cases h
  · cases h
theorem gh_ai_of {g : gh_G} {a k n : Nat} {f : Nat → Int32} (h : g.1 a = some (.inl (k, n, .inl f))) : gh_ai g a k = some (n, f) := by
  unfold gh_ai
  rw [h]
  exact if_pos rfl
def gh_al (g : gh_G) (a k : Nat) : Option (Nat × (Nat → Int64)) := match g.1 a with
  | some (.inl (c, n, .inr (.inl f))) => if c = k then some (n, f) else none
  | _ => none
theorem gh_al_inv {g : gh_G} {a k : Nat} {x : Nat × (Nat → Int64)} (h : gh_al g a k = some x) : g.1 a = some (.inl (k, x.1, .inr (.inl x.2))) := by
  unfold gh_al at h
  split at h
  · rename_i c n f e
    by_cases hc : c = k
    · rw [if_pos hc] at h
      cases h
      rw [e, hc]
    · rw [if_neg hc] at h
      cases h
  · cases h
theorem gh_al_of {g : gh_G} {a k n : Nat} {f : Nat → Int64} (h : g.1 a = some (.inl (k, n, .inr (.inl f)))) : gh_al g a k = some (n, f) := by
  unfold gh_al
  rw [h]
  exact if_pos rfl
def gh_ad (g : gh_G) (a k : Nat) : Option (Nat × (Nat → UInt64)) := match g.1 a with
  | some (.inl (c, n, .inr (.inr (.inr (.inl f))))) => if c = k then some (n, f) else none
  | _ => none
theorem gh_ad_inv {g : gh_G} {a k : Nat} {x : Nat × (Nat → UInt64)} (h : gh_ad g a k = some x) : g.1 a = some (.inl (k, x.1, .inr (.inr (.inr (.inl x.2))))) := by
  unfold gh_ad at h
  split at h
  · rename_i c n f e
    by_cases hc : c = k
    · rw [if_pos hc] at h
      cases h
      rw [e, hc]
    · rw [if_neg hc] at h
      cases h
  · cases h
theorem gh_ad_of {g : gh_G} {a k n : Nat} {f : Nat → UInt64} (h : g.1 a = some (.inl (k, n, .inr (.inr (.inr (.inl f)))))) : gh_ad g a k = some (n, f) := by
  unfold gh_ad
  rw [h]
  exact if_pos rfl
def gh_aq (g : gh_G) (a k : Nat) : Option (Nat × (Nat → Option Nat)) := match g.1 a with
  | some (.inl (c, n, .inr (.inr (.inr (.inr f))))) => if c = k then some (n, f) else none
  | _ => none
theorem gh_aq_inv {g : gh_G} {a k : Nat} {x : Nat × (Nat → Option Nat)} (h : gh_aq g a k = some x) : g.1 a = some (.inl (k, x.1, .inr (.inr (.inr (.inr x.2))))) := by
  unfold gh_aq at h
  split at h
  · rename_i c n f e
    by_cases hc : c = k
    · rw [if_pos hc] at h
      cases h
      rw [e, hc]
    · rw [if_neg hc] at h
      cases h
  · cases h
theorem gh_aq_of {g : gh_G} {a k n : Nat} {f : Nat → Option Nat} (h : g.1 a = some (.inl (k, n, .inr (.inr (.inr (.inr f)))))) : gh_aq g a k = some (n, f) := by
  unfold gh_aq
  rw [h]
  exact if_pos rfl
def gh_vI : Option Value → Option Int32
  | some (.int x) => some x
  | _ => none
def gh_vR : Option Value → Option (Option Nat)
  | some (.ref x) => some (some x)
  | some .null => some none
  | _ => none
theorem gh_vI_inv {v : Option Value} {x : Int32} (h : gh_vI v = some x) : v = some (.int x) := by
  unfold gh_vI at h
  split at h
  · cases h; rfl
  · cases h
theorem gh_vR_inv {v : Option Value} {x : Option Nat} (h : gh_vR v = some x) : v = some (va_rf x) := by
  unfold gh_vR at h
  split at h
  · cases h; rfl
  · cases h; rfl
  · cases h
theorem gh_vR_of (x : Option Nat) : gh_vR (some (va_rf x)) = some x := by cases x <;> rfl
/-- not null -/
def gh_nn {α : Type} (x : Option Nat) (k : Nat → gh_M α) : gh_M α := match x with
  | none => gh_stk
  | some a => k a
theorem gh_nn_inv {α : Type} {x : Option Nat} {k : Nat → gh_M α} {g : gh_G} {o : (α ⊕ gh_X) × gh_G} (h : gh_run (gh_nn x k) g = some o) : ∃ a, x = some a ∧ gh_run (k a) g = some o := by
  cases x with
  | none => cases h
  | some a => exact ⟨a, rfl, h⟩
theorem gh_nn_s {α : Type} {a : Nat} {k : Nat → gh_M α} : gh_nn (some a) k = k a := rfl
theorem gh_stk_inv {α : Type} {g : gh_G} {o : (α ⊕ gh_X) × gh_G} (h : gh_run (gh_stk : gh_M α) g = some o) {P : Prop} : P := by cases h
theorem gh_ret_inv {α : Type} {a : α} {g : gh_G} {o : (α ⊕ gh_X) × gh_G} (h : gh_run (gh_ret a) g = some o) : o = (.inl a, g) := by cases h; rfl
theorem gh_thr_inv {α : Type} {e : gh_X} {g : gh_G} {o : (α ⊕ gh_X) × gh_G} (h : gh_run (gh_thr e : gh_M α) g = some o) : o = (.inr e, g) := by cases h; rfl
theorem gh_bd_get {α β : Type} {f : gh_G → Option α} {k : α → gh_M β} {kx : gh_X → gh_M β} {g : gh_G} {o : (β ⊕ gh_X) × gh_G} (h : gh_run (gh_tc (gh_get f) k kx) g = some o) : ∃ a, f g = some a ∧ gh_run (k a) g = some o := by
  rcases gh_tc_cases h with ⟨a, g1, e, h1⟩ | ⟨a, g1, e, h1⟩
  · obtain ⟨b, hb, e1, rfl⟩ := gh_get_inv e
    cases e1
    exact ⟨a, hb, h1⟩
  · obtain ⟨b, hb, e1, -⟩ := gh_get_inv e
    cases e1
theorem gh_bd_wr {α β : Type} {f : gh_G → Option (α × (Nat → Option gh_E) × Nat × Nat)} {k : α → gh_M β} {kx : gh_X → gh_M β} {g : gh_G} {o : (β ⊕ gh_X) × gh_G} (h : gh_run (gh_tc (gh_wr f) k kx) g = some o) : ∃ q, f g = some q ∧ gh_run (k q.1) (q.2.1, g.2.1 + q.2.2.1, g.2.2.1 + q.2.2.2, g.2.2.2) = some o := by
  rcases gh_tc_cases h with ⟨a, g1, e, h1⟩ | ⟨a, g1, e, h1⟩
  · obtain ⟨b, hb, e1, rfl⟩ := gh_wr_inv e
    cases e1
    exact ⟨b, hb, h1⟩
  · obtain ⟨b, hb, e1, -⟩ := gh_wr_inv e
    cases e1
/-! objects -/
def gh_geti (a ci k : Nat) : gh_M Int32 := gh_get fun g => (gh_obr g a ci).bind fun fs => gh_vI fs[k]?
def gh_getr (a ci k : Nat) : gh_M (Option Nat) := gh_get fun g => (gh_obr g a ci).bind fun fs => gh_vR fs[k]?
theorem gh_geti_inv {β : Type} {a ci k : Nat} {kt : Int32 → gh_M β} {kx : gh_X → gh_M β} {g : gh_G} {o : (β ⊕ gh_X) × gh_G} (h : gh_run (gh_tc (gh_geti a ci k) kt kx) g = some o) : ∃ (x : Int32) (fs : List Value), gh_oc g a ci fs ∧ fs[k]? = some (.int x) ∧ gh_run (kt x) g = some o := by
  obtain ⟨x, hx, h1⟩ := gh_bd_get h
  obtain ⟨fs, h2, h3⟩ := Option.bind_eq_some_iff.mp hx
  exact ⟨x, fs, gh_obr_inv h2, gh_vI_inv h3, h1⟩
theorem gh_getr_inv {β : Type} {a ci k : Nat} {kt : Option Nat → gh_M β} {kx : gh_X → gh_M β} {g : gh_G} {o : (β ⊕ gh_X) × gh_G} (h : gh_run (gh_tc (gh_getr a ci k) kt kx) g = some o) : ∃ (x : Option Nat) (fs : List Value), gh_oc g a ci fs ∧ fs[k]? = some (va_rf x) ∧ gh_run (kt x) g = some o := by
  obtain ⟨x, hx, h1⟩ := gh_bd_get h
  obtain ⟨fs, h2, h3⟩ := Option.bind_eq_some_iff.mp hx
  exact ⟨x, fs, gh_obr_inv h2, gh_vR_inv h3, h1⟩
/-- a store into a field: of a value that the field's type takes -/
def gh_putv (a ci k : Nat) (ty : FieldType) (v : Value) : gh_M Unit := gh_wr fun g => if gh_lo g ≤ a ∧ narrow ty v = v ∧ fits ty v = true then (gh_ob g a ci).bind fun fs => if k < fs.length then some ((), gh_set g.1 a (.inr (ci, fs.set k v)), 0, 0) else none else none
theorem gh_putv_inv {β : Type} {a ci k : Nat} {ty : FieldType} {v : Value} {kt : Unit → gh_M β} {kx : gh_X → gh_M β} {g : gh_G} {o : (β ⊕ gh_X) × gh_G} (h : gh_run (gh_tc (gh_putv a ci k ty v) kt kx) g = some o) : ∃ (fs : List Value), gh_lo g ≤ a ∧ narrow ty v = v ∧ fits ty v = true ∧ g.1 a = some (.inr (ci, fs)) ∧ k < fs.length ∧ gh_run (kt ()) (gh_set g.1 a (.inr (ci, fs.set k v)), g.2) = some o := by
  obtain ⟨q, hq, h1⟩ := gh_bd_wr h
  split at hq
  · rename_i hc
    obtain ⟨fs, h2, h3⟩ := Option.bind_eq_some_iff.mp hq
    split at h3
    · rename_i hk
      cases h3
      exact ⟨fs, hc.1, hc.2.1, hc.2.2, gh_ob_inv h2, hk, h1⟩
    · cases h3
  · cases hq
def gh_new (ci n : Nat) (fs : List Value) : gh_M Nat := gh_wr fun g => some (g.2.1, gh_set g.1 g.2.1 (.inr (ci, fs)), 1, n)
theorem gh_new_inv {β : Type} {ci n : Nat} {fs : List Value} {kt : Nat → gh_M β} {kx : gh_X → gh_M β} {g : gh_G} {o : (β ⊕ gh_X) × gh_G} (h : gh_run (gh_tc (gh_new ci n fs) kt kx) g = some o) : gh_run (kt g.2.1) (gh_set g.1 g.2.1 (.inr (ci, fs)), g.2.1 + 1, g.2.2.1 + n, g.2.2.2) = some o := by
  obtain ⟨q, hq, h1⟩ := gh_bd_wr h
  cases hq
  exact h1
/-- the object at a is of the class ci -/
def gh_is (a ci : Nat) : gh_M Unit := gh_get fun g => (gh_obr g a ci).map fun _ => ()
theorem gh_is_inv {β : Type} {a ci : Nat} {kt : Unit → gh_M β} {kx : gh_X → gh_M β} {g : gh_G} {o : (β ⊕ gh_X) × gh_G} (h : gh_run (gh_tc (gh_is a ci) kt kx) g = some o) : (∃ fs : List Value, gh_oc g a ci fs) ∧ gh_run (kt ()) g = some o := by
  obtain ⟨x, hx, h1⟩ := gh_bd_get h
  obtain ⟨fs, h2, -⟩ := Option.map_eq_some_iff.mp hx
  exact ⟨⟨fs, gh_obr_inv h2⟩, h1⟩
/-- the class of the object at a -/
def gh_cls (a : Nat) : gh_M Nat := gh_get fun g => match g.1 a with
  | some (.inr (c, _)) => some (if 100 ≤ c then c - 100 else c)
  | _ => none
theorem gh_cls_inv {β : Type} {a : Nat} {kt : Nat → gh_M β} {kx : gh_X → gh_M β} {g : gh_G} {o : (β ⊕ gh_X) × gh_G} (h : gh_run (gh_tc (gh_cls a) kt kx) g = some o) : ∃ (c : Nat) (fs : List Value), gh_oc g a c fs ∧ gh_run (kt c) g = some o := by
  obtain ⟨x, hx, h1⟩ := gh_bd_get h
  split at hx
  · rename_i c fs e
    cases hx
    refine ⟨_, fs, ?_, h1⟩
    by_cases hc : 100 ≤ c
    · rw [if_pos hc]
      refine Or.inr ?_
      rw [show c - 100 + 100 = c by omega]
      exact e
    · rw [if_neg hc]
      exact Or.inl e
  · cases hx
/-! arrays: kinds by their place in gh_tys: 0 int, 1 long, 2 double, 3 char, 4 byte, 5 Object -/
def gh_alen (a : Nat) : gh_M Int32 := gh_get fun g => match g.1 a with
  | some (.inl (c, n, _)) => if c < 6 ∨ 10 ≤ c ∧ c < 30 then some (Int32.ofNat n) else none
  | _ => none
theorem gh_alen_inv {β : Type} {a : Nat} {kt : Int32 → gh_M β} {kx : gh_X → gh_M β} {g : gh_G} {o : (β ⊕ gh_X) × gh_G} (h : gh_run (gh_tc (gh_alen a) kt kx) g = some o) : ∃ (c : Nat) (x : vp_A), (c < 6 ∨ 10 ≤ c ∧ c < 30) ∧ g.1 a = some (.inl (c, x)) ∧ gh_run (kt (Int32.ofNat x.1)) g = some o := by
  obtain ⟨x, hx, h1⟩ := gh_bd_get h
  split at hx
  · rename_i c n z e
    split at hx
    · rename_i hc
      cases hx
      exact ⟨c, (n, z), hc, e, h1⟩
    · cases hx
  · cases hx
def gh_iald (k a : Nat) (i : Int32) : gh_M Int32 := gh_get fun g => (gh_air g a k).bind fun x => if i < 0 ∨ x.1 ≤ i.toNatClampNeg then none else some (x.2 i.toNatClampNeg)
theorem gh_iald_inv {β : Type} {k a : Nat} {i : Int32} {kt : Int32 → gh_M β} {kx : gh_X → gh_M β} {g : gh_G} {o : (β ⊕ gh_X) × gh_G} (h : gh_run (gh_tc (gh_iald k a i) kt kx) g = some o) : ∃ (c n : Nat) (f : Nat → Int32), gh_kin c k = true ∧ g.1 a = some (.inl (c, n, .inl f)) ∧ vp_in i n ∧ gh_run (kt (f i.toNatClampNeg)) g = some o := by
  obtain ⟨x, hx, h1⟩ := gh_bd_get h
  obtain ⟨q, h2, h3⟩ := Option.bind_eq_some_iff.mp hx
  split at h3
  · cases h3
  · rename_i hc
    cases h3
    obtain ⟨c, e1, e2⟩ := gh_air_inv h2
    exact ⟨c, q.1, q.2, e1, e2, hc, h1⟩
def gh_lald (a : Nat) (i : Int32) : gh_M Int64 := gh_get fun g => (gh_al g a 1).bind fun x => if i < 0 ∨ x.1 ≤ i.toNatClampNeg then none else some (x.2 i.toNatClampNeg)
theorem gh_lald_inv {β : Type} {a : Nat} {i : Int32} {kt : Int64 → gh_M β} {kx : gh_X → gh_M β} {g : gh_G} {o : (β ⊕ gh_X) × gh_G} (h : gh_run (gh_tc (gh_lald a i) kt kx) g = some o) : ∃ (n : Nat) (f : Nat → Int64), g.1 a = some (.inl (1, n, .inr (.inl f))) ∧ vp_in i n ∧ gh_run (kt (f i.toNatClampNeg)) g = some o := by
  obtain ⟨x, hx, h1⟩ := gh_bd_get h
  obtain ⟨q, h2, h3⟩ := Option.bind_eq_some_iff.mp hx
  split at h3
  · cases h3
  · rename_i hc
    cases h3
    exact ⟨q.1, q.2, gh_al_inv h2, hc, h1⟩
def gh_dald (a : Nat) (i : Int32) : gh_M UInt64 := gh_get fun g => (gh_ad g a 2).bind fun x => if i < 0 ∨ x.1 ≤ i.toNatClampNeg then none else some (x.2 i.toNatClampNeg)
theorem gh_dald_inv {β : Type} {a : Nat} {i : Int32} {kt : UInt64 → gh_M β} {kx : gh_X → gh_M β} {g : gh_G} {o : (β ⊕ gh_X) × gh_G} (h : gh_run (gh_tc (gh_dald a i) kt kx) g = some o) : ∃ (n : Nat) (f : Nat → UInt64), g.1 a = some (.inl (2, n, .inr (.inr (.inr (.inl f))))) ∧ vp_in i n ∧ gh_run (kt (f i.toNatClampNeg)) g = some o := by
  obtain ⟨x, hx, h1⟩ := gh_bd_get h
  obtain ⟨q, h2, h3⟩ := Option.bind_eq_some_iff.mp hx
  split at h3
  · cases h3
  · rename_i hc
    cases h3
    exact ⟨q.1, q.2, gh_ad_inv h2, hc, h1⟩
def gh_aald (a : Nat) (i : Int32) : gh_M (Option Nat) := gh_get fun g => (gh_aq g a 5).bind fun x => if i < 0 ∨ x.1 ≤ i.toNatClampNeg then none else some (x.2 i.toNatClampNeg)
theorem gh_aald_inv {β : Type} {a : Nat} {i : Int32} {kt : Option Nat → gh_M β} {kx : gh_X → gh_M β} {g : gh_G} {o : (β ⊕ gh_X) × gh_G} (h : gh_run (gh_tc (gh_aald a i) kt kx) g = some o) : ∃ (n : Nat) (f : Nat → Option Nat), g.1 a = some (.inl (5, n, .inr (.inr (.inr (.inr f))))) ∧ vp_in i n ∧ gh_run (kt (f i.toNatClampNeg)) g = some o := by
  obtain ⟨x, hx, h1⟩ := gh_bd_get h
  obtain ⟨q, h2, h3⟩ := Option.bind_eq_some_iff.mp hx
  split at h3
  · cases h3
  · rename_i hc
    cases h3
    exact ⟨q.1, q.2, gh_aq_inv h2, hc, h1⟩
def gh_nar (k : Nat) (x : Int32) : Int32 := if k = 4 then x.toInt8.toInt32 else if k = 3 then x.toUInt32.toUInt16.toUInt32.toInt32 else x
def gh_iast (k a : Nat) (i x : Int32) : gh_M Unit := gh_wr fun g => if gh_lo g ≤ a then (gh_ai g a k).bind fun q => if i < 0 ∨ q.1 ≤ i.toNatClampNeg then none else some ((), gh_set g.1 a (.inl (k, q.1, .inl (upd q.2 i.toNatClampNeg (gh_nar k x)))), 0, 0) else none
theorem gh_iast_inv {β : Type} {k a : Nat} {i x : Int32} {kt : Unit → gh_M β} {kx : gh_X → gh_M β} {g : gh_G} {o : (β ⊕ gh_X) × gh_G} (h : gh_run (gh_tc (gh_iast k a i x) kt kx) g = some o) : ∃ (n : Nat) (f : Nat → Int32), gh_lo g ≤ a ∧ g.1 a = some (.inl (k, n, .inl f)) ∧ vp_in i n ∧ gh_run (kt ()) (gh_set g.1 a (.inl (k, n, .inl (upd f i.toNatClampNeg (gh_nar k x)))), g.2) = some o := by
  obtain ⟨z, hz, h1⟩ := gh_bd_wr h
  split at hz
  · rename_i hlo
    obtain ⟨q, h2, h3⟩ := Option.bind_eq_some_iff.mp hz
    split at h3
    · cases h3
    · rename_i hc
      cases h3
      exact ⟨q.1, q.2, hlo, gh_ai_inv h2, hc, h1⟩
  · cases hz
def gh_last (a : Nat) (i : Int32) (x : Int64) : gh_M Unit := gh_wr fun g => if gh_lo g ≤ a then (gh_al g a 1).bind fun q => if i < 0 ∨ q.1 ≤ i.toNatClampNeg then none else some ((), gh_set g.1 a (.inl (1, q.1, .inr (.inl (vp_updL q.2 i.toNatClampNeg x)))), 0, 0) else none
theorem gh_last_inv {β : Type} {a : Nat} {i : Int32} {x : Int64} {kt : Unit → gh_M β} {kx : gh_X → gh_M β} {g : gh_G} {o : (β ⊕ gh_X) × gh_G} (h : gh_run (gh_tc (gh_last a i x) kt kx) g = some o) : ∃ (n : Nat) (f : Nat → Int64), gh_lo g ≤ a ∧ g.1 a = some (.inl (1, n, .inr (.inl f))) ∧ vp_in i n ∧ gh_run (kt ()) (gh_set g.1 a (.inl (1, n, .inr (.inl (vp_updL f i.toNatClampNeg x)))), g.2) = some o := by
  obtain ⟨z, hz, h1⟩ := gh_bd_wr h
  split at hz
  · rename_i hlo
    obtain ⟨q, h2, h3⟩ := Option.bind_eq_some_iff.mp hz
    split at h3
    · cases h3
    · rename_i hc
      cases h3
      exact ⟨q.1, q.2, hlo, gh_al_inv h2, hc, h1⟩
  · cases hz
def gh_dast (a : Nat) (i : Int32) (x : UInt64) : gh_M Unit := gh_wr fun g => if gh_lo g ≤ a then (gh_ad g a 2).bind fun q => if i < 0 ∨ q.1 ≤ i.toNatClampNeg then none else some ((), gh_set g.1 a (.inl (2, q.1, .inr (.inr (.inr (.inl (vf_upd q.2 i.toNatClampNeg x)))))), 0, 0) else none
theorem gh_dast_inv {β : Type} {a : Nat} {i : Int32} {x : UInt64} {kt : Unit → gh_M β} {kx : gh_X → gh_M β} {g : gh_G} {o : (β ⊕ gh_X) × gh_G} (h : gh_run (gh_tc (gh_dast a i x) kt kx) g = some o) : ∃ (n : Nat) (f : Nat → UInt64), gh_lo g ≤ a ∧ g.1 a = some (.inl (2, n, .inr (.inr (.inr (.inl f))))) ∧ vp_in i n ∧ gh_run (kt ()) (gh_set g.1 a (.inl (2, n, .inr (.inr (.inr (.inl (vf_upd f i.toNatClampNeg x)))))), g.2) = some o := by
  obtain ⟨z, hz, h1⟩ := gh_bd_wr h
  split at hz
  · rename_i hlo
    obtain ⟨q, h2, h3⟩ := Option.bind_eq_some_iff.mp hz
    split at h3
    · cases h3
    · rename_i hc
      cases h3
      exact ⟨q.1, q.2, hlo, gh_ad_inv h2, hc, h1⟩
  · cases hz
/-- what may lie in an array of Objects: null, or an object of a class that we know -/
def gh_okr (g : gh_G) (x : Option Nat) : Bool := match x with
  | none => true
  | some b => match g.1 b with
    | some (.inr o) => decide (o.1 < gh_cl.length)
    | _ => false
theorem gh_okr_inv {g : gh_G} {b : Nat} (h : gh_okr g (some b) = true) : ∃ (c : Nat) (fs : List Value), g.1 b = some (.inr (c, fs)) ∧ c < gh_cl.length := by
  unfold gh_okr at h
  dsimp only at h
  split at h
  · rename_i o e
    exact ⟨o.1, o.2, e, of_decide_eq_true h⟩
  · cases h
theorem gh_okr_of {g : gh_G} {b c : Nat} {fs : List Value} (h : g.1 b = some (.inr (c, fs))) (hc : c < gh_cl.length) : gh_okr g (some b) = true := by
  unfold gh_okr
  dsimp only
  rw [h]
  exact decide_eq_true hc
def gh_aast (a : Nat) (i : Int32) (x : Option Nat) : gh_M Unit := gh_wr fun g => if gh_lo g ≤ a ∧ gh_okr g x = true then (gh_aq g a 5).bind fun q => if i < 0 ∨ q.1 ≤ i.toNatClampNeg then none else some ((), gh_set g.1 a (.inl (5, q.1, .inr (.inr (.inr (.inr (va_up q.2 i.toNatClampNeg x)))))), 0, 0) else none
theorem gh_aast_inv {β : Type} {a : Nat} {i : Int32} {x : Option Nat} {kt : Unit → gh_M β} {kx : gh_X → gh_M β} {g : gh_G} {o : (β ⊕ gh_X) × gh_G} (h : gh_run (gh_tc (gh_aast a i x) kt kx) g = some o) : ∃ (n : Nat) (f : Nat → Option Nat), gh_lo g ≤ a ∧ gh_okr g x = true ∧ g.1 a = some (.inl (5, n, .inr (.inr (.inr (.inr f))))) ∧ vp_in i n ∧ gh_run (kt ()) (gh_set g.1 a (.inl (5, n, .inr (.inr (.inr (.inr (va_up f i.toNatClampNeg x)))))), g.2) = some o := by
  obtain ⟨z, hz, h1⟩ := gh_bd_wr h
  split at hz
  · rename_i hlo
    obtain ⟨q, h2, h3⟩ := Option.bind_eq_some_iff.mp hz
    split at h3
    · cases h3
    · rename_i hc
      cases h3
      exact ⟨q.1, q.2, hlo.1, hlo.2, gh_aq_inv h2, hc, h1⟩
  · cases hz
/-- new arrays -/
def gh_nlen (w : Nat) (n : Int32) : Option Nat := if n < 0 ∨ 536870912 < n.toNatClampNeg * w then none else some n.toNatClampNeg
theorem gh_nlen_inv {w N : Nat} {n : Int32} (h : gh_nlen w n = some N) : ¬ n < 0 ∧ n.toNatClampNeg = N ∧ N * w ≤ 536870912 := by
  unfold gh_nlen at h
  split at h
  · cases h
  · rename_i hc
    cases h
    exact ⟨fun z => hc (Or.inl z), rfl, Nat.not_lt.mp fun z => hc (Or.inr z)⟩
def gh_wid (k : Nat) : Nat := if k = 0 then 4 else if k = 3 then 2 else if k = 4 then 1 else if k = 5 then 4 else 8
def gh_blk (k n : Nat) : vp_A := if k = 1 then (n, .inr (.inl fun _ => 0)) else if k = 2 then (n, .inr (.inr (.inr (.inl fun _ => 0)))) else if k = 5 then (n, .inr (.inr (.inr (.inr fun _ => none)))) else (n, .inl fun _ => 0)
def gh_newa (k : Nat) (n : Int32) : gh_M Nat := gh_wr fun g => (gh_nlen (gh_wid k) n).map fun N => (g.2.1, gh_set g.1 g.2.1 (.inl (k, gh_blk k N)), 1, N)
theorem gh_newa_inv {β : Type} {k : Nat} {n : Int32} {kt : Nat → gh_M β} {kx : gh_X → gh_M β} {g : gh_G} {o : (β ⊕ gh_X) × gh_G} (h : gh_run (gh_tc (gh_newa k n) kt kx) g = some o) : ∃ N : Nat, ¬ n < 0 ∧ n.toNatClampNeg = N ∧ N * gh_wid k ≤ 536870912 ∧ gh_run (kt g.2.1) (gh_set g.1 g.2.1 (.inl (k, gh_blk k N)), g.2.1 + 1, g.2.2.1 + N, g.2.2.2) = some o := by
  obtain ⟨q, hq, h1⟩ := gh_bd_wr h
  obtain ⟨N, h2, h3⟩ := Option.map_eq_some_iff.mp hq
  cases h3
  obtain ⟨a1, a2, a3⟩ := gh_nlen_inv h2
  exact ⟨N, a1, a2, a3, h1⟩
/-- a constant of the run by its place: a String, a static field -/
def gh_cst (k : Nat) : gh_M (Option Nat) := gh_get fun g => gh_vR (some (gh_co g k))
theorem gh_cst_inv {β : Type} {k : Nat} {kt : Option Nat → gh_M β} {kx : gh_X → gh_M β} {g : gh_G} {o : (β ⊕ gh_X) × gh_G} (h : gh_run (gh_tc (gh_cst k) kt kx) g = some o) : ∃ x : Option Nat, gh_co g k = va_rf x ∧ gh_run (kt x) g = some o := by
  obtain ⟨x, hx, h1⟩ := gh_bd_get h
  exact ⟨x, Option.some.inj (gh_vR_inv hx), h1⟩
/-- System.arraycopy, of ints, chars or bytes (kind k), and of Objects -/
def gh_tyk (k : Nat) : FieldType := if k = 3 then .char else if k = 4 then .byte else .int
def gh_cpyi (k : Nat) (a : Nat) (sp : Int32) (b : Nat) (dp n : Int32) : gh_M Unit := gh_wr fun g => if gh_lo g ≤ b ∧ a ≠ b ∧ ¬ sp < 0 ∧ ¬ dp < 0 ∧ ¬ n < 0 then (gh_air g a k).bind fun q => (gh_ai g b k).bind fun z => if sp.toNatClampNeg + n.toNatClampNeg ≤ q.1 ∧ dp.toNatClampNeg + n.toNatClampNeg ≤ z.1 ∧ ((List.range n.toNatClampNeg).all fun j => fits (gh_tyk k) (.int (q.2 (sp.toNatClampNeg + j)))) = true then some ((), gh_set g.1 b (.inl (k, z.1, .inl (va_cpy q.2 z.2 sp.toNatClampNeg dp.toNatClampNeg n.toNatClampNeg))), 0, 0) else none else none
theorem gh_cpyi_inv {β : Type} {k a b : Nat} {sp dp n : Int32} {kt : Unit → gh_M β} {kx : gh_X → gh_M β} {g : gh_G} {o : (β ⊕ gh_X) × gh_G} (h : gh_run (gh_tc (gh_cpyi k a sp b dp n) kt kx) g = some o) : ∃ (c n0 n1 : Nat) (f0 f1 : Nat → Int32), (gh_lo g ≤ b ∧ a ≠ b ∧ ¬ sp < 0 ∧ ¬ dp < 0 ∧ ¬ n < 0) ∧ gh_kin c k = true ∧ g.1 a = some (.inl (c, n0, .inl f0)) ∧ g.1 b = some (.inl (k, n1, .inl f1)) ∧ sp.toNatClampNeg + n.toNatClampNeg ≤ n0 ∧ dp.toNatClampNeg + n.toNatClampNeg ≤ n1 ∧ (∀ j, j < n.toNatClampNeg → fits (gh_tyk k) (.int (f0 (sp.toNatClampNeg + j))) = true) ∧ gh_run (kt ()) (gh_set g.1 b (.inl (k, n1, .inl (va_cpy f0 f1 sp.toNatClampNeg dp.toNatClampNeg n.toNatClampNeg))), g.2) = some o := by
  obtain ⟨z, hz, h1⟩ := gh_bd_wr h
  split at hz
  · rename_i hlo
    obtain ⟨q, h2, h3⟩ := Option.bind_eq_some_iff.mp hz
    obtain ⟨q2, h4, h5⟩ := Option.bind_eq_some_iff.mp h3
    split at h5
    · rename_i hc
      cases h5
      obtain ⟨c, e1, e2⟩ := gh_air_inv h2
      exact ⟨c, q.1, q2.1, q.2, q2.2, hlo, e1, e2, gh_ai_inv h4, hc.1, hc.2.1, fun j hj => List.all_eq_true.mp hc.2.2 j (List.mem_range.mpr hj), h1⟩
    · cases h5
  · cases hz
def gh_cpyq (a : Nat) (sp : Int32) (b : Nat) (dp n : Int32) : gh_M Unit := gh_wr fun g => if gh_lo g ≤ b ∧ a ≠ b ∧ ¬ sp < 0 ∧ ¬ dp < 0 ∧ ¬ n < 0 then (gh_aq g a 5).bind fun q => (gh_aq g b 5).bind fun z => if sp.toNatClampNeg + n.toNatClampNeg ≤ q.1 ∧ dp.toNatClampNeg + n.toNatClampNeg ≤ z.1 ∧ ((List.range q.1).all fun j => gh_okr g (q.2 j)) = true then some ((), gh_set g.1 b (.inl (5, z.1, .inr (.inr (.inr (.inr (va_cpy q.2 z.2 sp.toNatClampNeg dp.toNatClampNeg n.toNatClampNeg)))))), 0, 0) else none else none
theorem gh_cpyq_inv {β : Type} {a b : Nat} {sp dp n : Int32} {kt : Unit → gh_M β} {kx : gh_X → gh_M β} {g : gh_G} {o : (β ⊕ gh_X) × gh_G} (h : gh_run (gh_tc (gh_cpyq a sp b dp n) kt kx) g = some o) : ∃ (n0 n1 : Nat) (f0 f1 : Nat → Option Nat), (gh_lo g ≤ b ∧ a ≠ b ∧ ¬ sp < 0 ∧ ¬ dp < 0 ∧ ¬ n < 0) ∧ g.1 a = some (.inl (5, n0, .inr (.inr (.inr (.inr f0))))) ∧ g.1 b = some (.inl (5, n1, .inr (.inr (.inr (.inr f1))))) ∧ sp.toNatClampNeg + n.toNatClampNeg ≤ n0 ∧ dp.toNatClampNeg + n.toNatClampNeg ≤ n1 ∧ (∀ j, j < n0 → gh_okr g (f0 j) = true) ∧ gh_run (kt ()) (gh_set g.1 b (.inl (5, n1, .inr (.inr (.inr (.inr (va_cpy f0 f1 sp.toNatClampNeg dp.toNatClampNeg n.toNatClampNeg)))))), g.2) = some o := by
  obtain ⟨z, hz, h1⟩ := gh_bd_wr h
  split at hz
  · rename_i hlo
    obtain ⟨q, h2, h3⟩ := Option.bind_eq_some_iff.mp hz
    obtain ⟨q2, h4, h5⟩ := Option.bind_eq_some_iff.mp h3
    split at h5
    · rename_i hc
      cases h5
      exact ⟨q.1, q2.1, q.2, q2.2, hlo, gh_aq_inv h2, gh_aq_inv h4, hc.1, hc.2.1, fun j hj => List.all_eq_true.mp hc.2.2 j (List.mem_range.mpr hj), h1⟩
    · cases h5
  · cases hz
/-- 'throw new E()' -/
def gh_trf {α : Type} (ci : Nat) (g : gh_G) : Option ((α ⊕ gh_X) × gh_G) := some (.inr (ci, g.2.1), (g.1, g.2.1 + 1, g.2.2.1 + 6, g.2.2.2))
def gh_tro {α : Type} (ci : Nat) : gh_M α := ⟨gh_trf ci, fun g r g' h => by
  cases h
  exact ⟨Nat.le_add_right _ _, Nat.le_add_right _ _, rfl⟩⟩
/-- a condition that must hold -/
def gh_ok {α : Type} (c : Bool) (x : gh_M α) : gh_M α := match c with
  | true => x
  | false => gh_stk
theorem gh_ok_inv {α : Type} {c : Bool} {x : gh_M α} {g : gh_G} {o : (α ⊕ gh_X) × gh_G} (h : gh_run (gh_ok c x) g = some o) : c = true ∧ gh_run x g = some o := by
  cases c with
  | true => exact ⟨rfl, h⟩
  | false => cases h
