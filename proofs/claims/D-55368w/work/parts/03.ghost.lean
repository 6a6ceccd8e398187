/-! the pure heap: cells by address, how many cells there are, how many slots they have; below 'lo' nothing is written; constants -/
abbrev gh_E : Type := (Nat × vp_A) ⊕ (Nat × List Value)
abbrev gh_G : Type := (Nat → Option gh_E) × Nat × Nat × Nat × (Nat → Value)
abbrev gh_X : Type := Nat × Nat
def gh_le (g g' : gh_G) : Prop := g.2.1 ≤ g'.2.1 ∧ g.2.2.1 ≤ g'.2.2.1 ∧ g'.2.2.2 = g.2.2.2
theorem gh_le.rf {g : gh_G} : gh_le g g := ⟨Nat.le_refl _, Nat.le_refl _, rfl⟩
theorem gh_le.tr {a b c : gh_G} (h : gh_le a b) (k : gh_le b c) : gh_le a c := ⟨Nat.le_trans h.1 k.1, Nat.le_trans h.2.1 k.2.1, k.2.2.trans h.2.2⟩
/-- runs over the pure heap: stuck (none), an answer, or something thrown (its class's number, its address) -/
def gh_M (α : Type) : Type := { f : gh_G → Option ((α ⊕ gh_X) × gh_G) // ∀ g r g', f g = some (r, g') → gh_le g g' }
def gh_run {α : Type} (x : gh_M α) (g : gh_G) : Option ((α ⊕ gh_X) × gh_G) := x.1 g
theorem gh_run_le {α : Type} {x : gh_M α} {g g' : gh_G} {r : α ⊕ gh_X} (h : gh_run x g = some (r, g')) : gh_le g g' := x.2 g r g' h
theorem gh_run_le' {α : Type} {x : gh_M α} {g : gh_G} {o : (α ⊕ gh_X) × gh_G} (h : gh_run x g = some o) : gh_le g o.2 := x.2 g o.1 o.2 h
def gh_ret {α : Type} (a : α) : gh_M α := ⟨fun g => some (.inl a, g), fun g r g' h => by cases h; exact gh_le.rf⟩
def gh_thr {α : Type} (e : gh_X) : gh_M α := ⟨fun g => some (.inr e, g), fun g r g' h => by cases h; exact gh_le.rf⟩
def gh_stk {α : Type} : gh_M α := ⟨fun _ => none, fun g r g' h => by cases h⟩
def gh_tcf {α β : Type} (x : gh_M α) (k : α → gh_M β) (kx : gh_X → gh_M β) (g : gh_G) : Option ((β ⊕ gh_X) × gh_G) := match x.1 g with
  | none => none
  | some (.inl a, g1) => (k a).1 g1
  | some (.inr e, g1) => (kx e).1 g1
def gh_tc {α β : Type} (x : gh_M α) (k : α → gh_M β) (kx : gh_X → gh_M β) : gh_M β := ⟨gh_tcf x k kx, fun g r g' h => by
  unfold gh_tcf at h
  split at h
  · cases h
  · rename_i a g1 e
    exact (x.2 g _ g1 e).tr ((k a).2 g1 r g' h)
  · rename_i a g1 e
    exact (x.2 g _ g1 e).tr ((kx a).2 g1 r g' h)⟩
abbrev gh_bd {α β : Type} (x : gh_M α) (k : α → gh_M β) : gh_M β := gh_tc x k gh_thr
theorem gh_tc_l {α β : Type} {x : gh_M α} {k : α → gh_M β} {kx : gh_X → gh_M β} {g g1 : gh_G} {a : α} (h : gh_run x g = some (.inl a, g1)) : gh_run (gh_tc x k kx) g = gh_run (k a) g1 := by
  show gh_tcf x k kx g = _
  unfold gh_tcf
  rw [show x.1 g = _ from h]
  rfl
theorem gh_tc_r {α β : Type} {x : gh_M α} {k : α → gh_M β} {kx : gh_X → gh_M β} {g g1 : gh_G} {a : gh_X} (h : gh_run x g = some (.inr a, g1)) : gh_run (gh_tc x k kx) g = gh_run (kx a) g1 := by
  show gh_tcf x k kx g = _
  unfold gh_tcf
  rw [show x.1 g = _ from h]
  rfl
theorem gh_tc_cases {α β : Type} {x : gh_M α} {k : α → gh_M β} {kx : gh_X → gh_M β} {g : gh_G} {o : (β ⊕ gh_X) × gh_G} (h : gh_run (gh_tc x k kx) g = some o) : (∃ a g1, gh_run x g = some (.inl a, g1) ∧ gh_run (k a) g1 = some o) ∨ (∃ a g1, gh_run x g = some (.inr a, g1) ∧ gh_run (kx a) g1 = some o) := by
  have h1 : gh_tcf x k kx g = some o := h
  unfold gh_tcf at h1
  split at h1
  · cases h1
  · rename_i a g1 e
    exact Or.inl ⟨a, g1, e, h1⟩
  · rename_i a g1 e
    exact Or.inr ⟨a, g1, e, h1⟩
/-- reading only -/
def gh_get {α : Type} (f : gh_G → Option α) : gh_M α := ⟨fun g => (f g).map fun a => (.inl a, g), fun g r g' h => by
  dsimp only at h
  cases hf : f g with
  | none => rw [hf] at h; cases h
  | some a => rw [hf] at h; cases h; exact gh_le.rf⟩
theorem gh_get_some {α : Type} {f : gh_G → Option α} {g : gh_G} {a : α} (h : f g = some a) : gh_run (gh_get f) g = some (.inl a, g) := by
  show (f g).map _ = _
  rw [h]; rfl
theorem gh_get_inv {α : Type} {f : gh_G → Option α} {g g1 : gh_G} {r : α ⊕ gh_X} (h : gh_run (gh_get f) g = some (r, g1)) : ∃ a, f g = some a ∧ r = .inl a ∧ g1 = g := by
  have h1 : (f g).map (fun a => ((Sum.inl a : α ⊕ gh_X), g)) = some (r, g1) := h
  cases hf : f g with
  | none => rw [hf] at h1; cases h1
  | some a => rw [hf] at h1; cases h1; exact ⟨a, rfl, rfl, rfl⟩
/-- writing: the cells, and how many new cells and slots -/
def gh_wr {α : Type} (f : gh_G → Option (α × (Nat → Option gh_E) × Nat × Nat)) : gh_M α := ⟨fun g => (f g).map fun q => (.inl q.1, (q.2.1, g.2.1 + q.2.2.1, g.2.2.1 + q.2.2.2, g.2.2.2)), fun g r g' h => by
  dsimp only at h
  cases hf : f g with
  | none => rw [hf] at h; cases h
  | some a => rw [hf] at h; cases h; exact ⟨Nat.le_add_right _ _, Nat.le_add_right _ _, rfl⟩⟩
theorem gh_wr_some {α : Type} {f : gh_G → Option (α × (Nat → Option gh_E) × Nat × Nat)} {g : gh_G} {q : α × (Nat → Option gh_E) × Nat × Nat} (h : f g = some q) : gh_run (gh_wr f) g = some (.inl q.1, (q.2.1, g.2.1 + q.2.2.1, g.2.2.1 + q.2.2.2, g.2.2.2)) := by
  show (f g).map _ = _
  rw [h]; rfl
theorem gh_wr_inv {α : Type} {f : gh_G → Option (α × (Nat → Option gh_E) × Nat × Nat)} {g g1 : gh_G} {r : α ⊕ gh_X} (h : gh_run (gh_wr f) g = some (r, g1)) : ∃ q, f g = some q ∧ r = .inl q.1 ∧ g1 = (q.2.1, g.2.1 + q.2.2.1, g.2.2.1 + q.2.2.2, g.2.2.2) := by
  have h1 : (f g).map (fun q => ((Sum.inl q.1 : α ⊕ gh_X), ((q.2.1, g.2.1 + q.2.2.1, g.2.2.1 + q.2.2.2, g.2.2.2) : gh_G))) = some (r, g1) := h
  cases hf : f g with
  | none => rw [hf] at h1; cases h1
  | some a => rw [hf] at h1; cases h1; exact ⟨a, rfl, rfl, rfl⟩
/-! loops: a body answers .inl (once more, with this state) or .inr (out, with this answer) -/
def gh_itn {S β : Type} (body : S → gh_M (S ⊕ β)) : Nat → S → gh_G → Option ((β ⊕ gh_X) × gh_G)
  | 0, _, _ => none
  | n + 1, st, g => match (body st).1 g with
    | none => none
    | some (.inl (.inl st1), g1) => gh_itn body n st1 g1
    | some (.inl (.inr b), g1) => some (.inl b, g1)
    | some (.inr e, g1) => some (.inr e, g1)
theorem gh_itn_le {S β : Type} {body : S → gh_M (S ⊕ β)} : ∀ (n : Nat) (st : S) (g : gh_G) (r : β ⊕ gh_X) (g' : gh_G), gh_itn body n st g = some (r, g') → gh_le g g' := by
  intro n
  induction n with
  | zero => intro st g r g' h; cases h
  | succ n ih =>
    intro st g r g' h
    unfold gh_itn at h
    split at h
    · cases h
    · rename_i st1 g1 e
      exact ((body st).2 _ _ _ e).tr (ih _ _ _ _ h)
    · rename_i b g1 e
      cases h
      exact (body st).2 _ _ _ e
    · rename_i b g1 e
      cases h
      exact (body st).2 _ _ _ e
theorem gh_itn_more {S β : Type} {body : S → gh_M (S ⊕ β)} : ∀ (n k : Nat) (st : S) (g : gh_G) (o : (β ⊕ gh_X) × gh_G), gh_itn body n st g = some o → gh_itn body (n + k) st g = some o := by
  intro n
  induction n with
  | zero => intro k st g o h; cases h
  | succ n ih =>
    intro k st g o h
    rw [show n + 1 + k = (n + k) + 1 by omega]
    unfold gh_itn at h ⊢
    split at h
    · cases h
    · exact ih _ _ _ _ h
    · exact h
    · exact h
noncomputable def gh_itf {S β : Type} (body : S → gh_M (S ⊕ β)) (st : S) (g : gh_G) : Option ((β ⊕ gh_X) × gh_G) := @dite _ (∃ n, (gh_itn body n st g).isSome = true) (Classical.propDecidable _) (fun h => gh_itn body (Classical.choose h) st g) (fun _ => none)
theorem gh_itf_of {S β : Type} {body : S → gh_M (S ⊕ β)} {st : S} {g : gh_G} {n : Nat} {o : (β ⊕ gh_X) × gh_G} (h : gh_itn body n st g = some o) : gh_itf body st g = some o := by
  have hx : ∃ n, (gh_itn body n st g).isSome = true := ⟨n, by rw [h]; rfl⟩
  unfold gh_itf
  rw [dif_pos hx]
  have h1 := Classical.choose_spec hx
  obtain ⟨o', ho'⟩ := Option.isSome_iff_exists.mp h1
  rw [ho']
  have a1 := gh_itn_more n (Classical.choose hx) st g o h
  have a2 := gh_itn_more (Classical.choose hx) n st g o' ho'
  rw [Nat.add_comm, a2] at a1
  exact a1
theorem gh_itf_inv {S β : Type} {body : S → gh_M (S ⊕ β)} {st : S} {g : gh_G} {o : (β ⊕ gh_X) × gh_G} (h : gh_itf body st g = some o) : ∃ n, gh_itn body n st g = some o := by
  unfold gh_itf at h
  by_cases hx : ∃ n, (gh_itn body n st g).isSome = true
  · rw [dif_pos hx] at h
    exact ⟨_, h⟩
  · rw [dif_neg hx] at h
    cases h
noncomputable def gh_it {S β : Type} (body : S → gh_M (S ⊕ β)) (st : S) : gh_M β := ⟨gh_itf body st, fun g r g' h => by
  obtain ⟨n, hn⟩ := gh_itf_inv h
  exact gh_itn_le n _ _ _ _ hn⟩
theorem gh_it_in {S β : Type} {body : S → gh_M (S ⊕ β)} {st st1 : S} {g g1 : gh_G} (h : gh_run (body st) g = some (.inl (.inl st1), g1)) : gh_run (gh_it body st) g = gh_run (gh_it body st1) g1 := by
  show gh_itf body st g = gh_itf body st1 g1
  have h' : (body st).1 g = some (.inl (.inl st1), g1) := h
  cases hq : gh_itf body st1 g1 with
  | some o =>
    obtain ⟨n, hn⟩ := gh_itf_inv hq
    refine gh_itf_of (n := n + 1) ?_
    unfold gh_itn
    rw [h']
    exact hn
  | none =>
    cases hr : gh_itf body st g with
    | none => rfl
    | some o =>
      obtain ⟨n, hn⟩ := gh_itf_inv hr
      cases n with
      | zero => cases hn
      | succ n =>
        unfold gh_itn at hn
        rw [h'] at hn
        have hn2 : gh_itn body n st1 g1 = some o := hn
        rw [gh_itf_of hn2] at hq
        cases hq
theorem gh_it_out {S β : Type} {body : S → gh_M (S ⊕ β)} {st : S} {b : β} {g g1 : gh_G} (h : gh_run (body st) g = some (.inl (.inr b), g1)) : gh_run (gh_it body st) g = some (.inl b, g1) := by
  have h' : (body st).1 g = some (.inl (.inr b), g1) := h
  refine gh_itf_of (n := 1) ?_
  unfold gh_itn
  rw [h']
theorem gh_it_x {S β : Type} {body : S → gh_M (S ⊕ β)} {st : S} {e : gh_X} {g g1 : gh_G} (h : gh_run (body st) g = some (.inr e, g1)) : gh_run (gh_it body st) g = some (.inr e, g1) := by
  have h' : (body st).1 g = some (.inr e, g1) := h
  refine gh_itf_of (n := 1) ?_
  unfold gh_itn
  rw [h']
/-- out of a loop: the rest's answer is the loop's -/
def gh_up {S β : Type} (x : gh_M β) : gh_M (S ⊕ β) := gh_bd x fun b => gh_ret (.inr b)
theorem gh_up_l {S β : Type} {x : gh_M β} {b : β} {g g1 : gh_G} (h : gh_run x g = some (.inl b, g1)) : gh_run (gh_up (S := S) x) g = some (.inl (.inr b), g1) := (gh_tc_l h).trans rfl
theorem gh_up_r {S β : Type} {x : gh_M β} {b : gh_X} {g g1 : gh_G} (h : gh_run x g = some (.inr b, g1)) : gh_run (gh_up (S := S) x) g = some (.inr b, g1) := (gh_tc_r h).trans rfl
/-- the loop is left by what goes on behind it -/
theorem gh_it_up {S β : Type} {body : S → gh_M (S ⊕ β)} {st : S} {x : gh_M β} {g g1 : gh_G} (h : gh_run (body st) g = gh_run (gh_up x) g1) : gh_run (gh_it body st) g = gh_run x g1 := by
  cases hx : gh_run x g1 with
  | none =>
    have hu : gh_run (gh_up (S := S) x) g1 = none := by
      cases hq : gh_run (gh_up (S := S) x) g1 with
      | none => rfl
      | some o =>
        rcases gh_tc_cases hq with ⟨a, g2, e, -⟩ | ⟨a, g2, e, -⟩
        · rw [e] at hx; cases hx
        · rw [e] at hx; cases hx
    rw [hu] at h
    cases hr : gh_run (gh_it body st) g with
    | none => rfl
    | some o =>
      obtain ⟨n, hn⟩ := gh_itf_inv (show gh_itf body st g = some o from hr)
      cases n with
      | zero => cases hn
      | succ n =>
        unfold gh_itn at hn
        rw [show (body st).1 g = none from h] at hn
        cases hn
  | some o =>
    obtain ⟨r, g2⟩ := o
    cases r with
    | inl b => exact gh_it_out (h.trans (gh_up_l hx))
    | inr e => exact gh_it_x (h.trans (gh_up_r hx))
/-- every run of a loop, step by step -/
theorem gh_it_ind {S β : Type} {body : S → gh_M (S ⊕ β)} (P : S → gh_G → Prop) {o : (β ⊕ gh_X) × gh_G}
    (hin : ∀ (st st1 : S) (g g1 : gh_G), gh_run (body st) g = some (.inl (.inl st1), g1) → gh_le g1 o.2 → P st1 g1 → P st g)
    (hout : ∀ (st : S) (g : gh_G) (b : β) (g1 : gh_G), gh_run (body st) g = some (.inl (.inr b), g1) → o = (.inl b, g1) → P st g)
    (hx : ∀ (st : S) (g : gh_G) (b : gh_X) (g1 : gh_G), gh_run (body st) g = some (.inr b, g1) → o = (.inr b, g1) → P st g) :
    ∀ (st : S) (g : gh_G), gh_run (gh_it body st) g = some o → P st g := by
  intro st g h
  obtain ⟨n, hn⟩ := gh_itf_inv (show gh_itf body st g = some o from h)
  clear h
  induction n generalizing st g with
  | zero => cases hn
  | succ n ih =>
    have hn0 := hn
    unfold gh_itn at hn
    split at hn
    · cases hn
    · rename_i st1 g1 e
      exact hin st st1 g g1 e (gh_itn_le n st1 g1 o.1 o.2 hn) (ih st1 g1 hn)
    · rename_i b g1 e
      cases hn
      exact hout st g b g1 e rfl
    · rename_i b g1 e
      cases hn
      exact hx st g b g1 e rfl
