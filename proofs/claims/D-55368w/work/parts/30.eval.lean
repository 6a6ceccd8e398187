/-! runs of the pure functions, forward -/
set_option maxRecDepth 100000
/-- x runs from g to an end that Q allows -/
def gq {α : Type} (x : gh_M α) (g : gh_G) (Q : (α ⊕ gh_X) → gh_G → Prop) : Prop := ∃ r g1, gh_run x g = some (r, g1) ∧ Q r g1
section
variable {α β : Type} {g g1 : gh_G} {Q : (β ⊕ gh_X) → gh_G → Prop} {kx : gh_X → gh_M β}
theorem gq_of {x : gh_M β} {r : β ⊕ gh_X} (h : gh_run x g = some (r, g1)) (hQ : Q r g1) : gq x g Q := ⟨r, g1, h, hQ⟩
theorem gq_ret {a : β} (h : Q (.inl a) g) : gq (gh_ret a) g Q := ⟨_, _, rfl, h⟩
theorem gq_thr {e : gh_X} (h : Q (.inr e) g) : gq (gh_thr e : gh_M β) g Q := ⟨_, _, rfl, h⟩
theorem gq_mono {x : gh_M β} {Q' : (β ⊕ gh_X) → gh_G → Prop} (h : gq x g Q) (hQ : ∀ r g1, gh_run x g = some (r, g1) → Q r g1 → Q' r g1) : gq x g Q' := by
  obtain ⟨r, g1, h1, h2⟩ := h
  exact ⟨r, g1, h1, hQ r g1 h1 h2⟩
theorem gq_tc {x : gh_M α} {k : α → gh_M β} (h : gq x g (fun r g1 => match r with | .inl a => gq (k a) g1 Q | .inr e => gq (kx e) g1 Q)) : gq (gh_tc x k kx) g Q := by
  obtain ⟨r, g1, h1, h2⟩ := h
  cases r with
  | inl a =>
    obtain ⟨r2, g2, h3, h4⟩ := h2
    exact ⟨r2, g2, (gh_tc_l h1).trans h3, h4⟩
  | inr e =>
    obtain ⟨r2, g2, h3, h4⟩ := h2
    exact ⟨r2, g2, (gh_tc_r h1).trans h3, h4⟩
theorem gq_l {x : gh_M α} {k : α → gh_M β} {a : α} (h : gh_run x g = some (.inl a, g1)) (kk : gq (k a) g1 Q) : gq (gh_tc x k kx) g Q := by
  obtain ⟨r2, g2, h3, h4⟩ := kk
  exact ⟨r2, g2, (gh_tc_l h).trans h3, h4⟩
theorem gq_r {x : gh_M α} {k : α → gh_M β} {e : gh_X} (h : gh_run x g = some (.inr e, g1)) (kk : gq (kx e) g1 Q) : gq (gh_tc x k kx) g Q := by
  obtain ⟨r2, g2, h3, h4⟩ := kk
  exact ⟨r2, g2, (gh_tc_r h).trans h3, h4⟩
theorem gq_get {f : gh_G → Option α} {k : α → gh_M β} {a : α} (h : f g = some a) (kk : gq (k a) g Q) : gq (gh_tc (gh_get f) k kx) g Q := gq_l (gh_get_some h) kk
theorem gq_wr {f : gh_G → Option (α × (Nat → Option gh_E) × Nat × Nat)} {k : α → gh_M β} {q : α × (Nat → Option gh_E) × Nat × Nat} (h : f g = some q) (kk : gq (k q.1) (q.2.1, g.2.1 + q.2.2.1, g.2.2.1 + q.2.2.2, g.2.2.2) Q) : gq (gh_tc (gh_wr f) k kx) g Q := gq_l (gh_wr_some h) kk
theorem gq_nn {a : Nat} {k : Nat → gh_M β} (kk : gq (k a) g Q) : gq (gh_nn (some a) k) g Q := kk
theorem gq_ok {x : gh_M β} {c : Bool} (hc : c = true) (kk : gq x g Q) : gq (gh_ok c x) g Q := by subst hc; exact kk
theorem gq_t {c : Prop} [Decidable c] {x y : gh_M β} (hc : c) (kk : gq x g Q) : gq (if c then x else y) g Q := by rw [if_pos hc]; exact kk
theorem gq_f {c : Prop} [Decidable c] {x y : gh_M β} (hc : ¬ c) (kk : gq y g Q) : gq (if c then x else y) g Q := by rw [if_neg hc]; exact kk
theorem gq_if {c : Prop} [Decidable c] {x y : gh_M β} (kt : c → gq x g Q) (kf : ¬ c → gq y g Q) : gq (if c then x else y) g Q := by
  by_cases hc : c
  · exact gq_t hc (kt hc)
  · exact gq_f hc (kf hc)
theorem gq_rd {f : gh_G → Option α} {k : α → gh_M β} {a : α} (h : f g = some a) (kk : gq (k a) g Q) : gq (gh_tc (gh_get f) k kx) g Q := gq_get h kk
theorem gq_geti {a ci k : Nat} {fs : List Value} {x : Int32} {kt : Int32 → gh_M β} (h : g.1 a = some (.inr (ci, fs))) (hk : fs[k]? = some (.int x)) (kk : gq (kt x) g Q) : gq (gh_tc (gh_geti a ci k) kt kx) g Q :=
  gq_get (f := fun g => (gh_obr g a ci).bind fun fs => gh_vI fs[k]?) (by show (gh_obr g a ci).bind _ = _; rw [gh_obr_of (Or.inl h)]; show gh_vI fs[k]? = _; rw [hk]; rfl) kk
theorem gq_getiC {a ci k : Nat} {fs : List Value} {x : Int32} {kt : Int32 → gh_M β} (h : g.1 a = some (.inr (ci + 100, fs))) (hk : fs[k]? = some (.int x)) (kk : gq (kt x) g Q) : gq (gh_tc (gh_geti a ci k) kt kx) g Q :=
  gq_get (f := fun g => (gh_obr g a ci).bind fun fs => gh_vI fs[k]?) (by show (gh_obr g a ci).bind _ = _; rw [gh_obr_of (Or.inr h)]; show gh_vI fs[k]? = _; rw [hk]; rfl) kk
theorem gq_getr {a ci k : Nat} {fs : List Value} {x : Option Nat} {kt : Option Nat → gh_M β} (h : g.1 a = some (.inr (ci, fs))) (hk : fs[k]? = some (va_rf x)) (kk : gq (kt x) g Q) : gq (gh_tc (gh_getr a ci k) kt kx) g Q :=
  gq_get (f := fun g => (gh_obr g a ci).bind fun fs => gh_vR fs[k]?) (by show (gh_obr g a ci).bind _ = _; rw [gh_obr_of (Or.inl h)]; show gh_vR fs[k]? = _; rw [hk]; exact gh_vR_of x) kk
theorem gq_getrC {a ci k : Nat} {fs : List Value} {x : Option Nat} {kt : Option Nat → gh_M β} (h : g.1 a = some (.inr (ci + 100, fs))) (hk : fs[k]? = some (va_rf x)) (kk : gq (kt x) g Q) : gq (gh_tc (gh_getr a ci k) kt kx) g Q :=
  gq_get (f := fun g => (gh_obr g a ci).bind fun fs => gh_vR fs[k]?) (by show (gh_obr g a ci).bind _ = _; rw [gh_obr_of (Or.inr h)]; show gh_vR fs[k]? = _; rw [hk]; exact gh_vR_of x) kk
theorem gq_is {a ci : Nat} {fs : List Value} {kt : Unit → gh_M β} (h : g.1 a = some (.inr (ci, fs))) (kk : gq (kt ()) g Q) : gq (gh_tc (gh_is a ci) kt kx) g Q :=
  gq_get (f := fun g => (gh_obr g a ci).map fun _ => ()) (by show (gh_obr g a ci).map _ = _; rw [gh_obr_of (Or.inl h)]; rfl) kk
theorem gq_isC {a ci : Nat} {fs : List Value} {kt : Unit → gh_M β} (h : g.1 a = some (.inr (ci + 100, fs))) (kk : gq (kt ()) g Q) : gq (gh_tc (gh_is a ci) kt kx) g Q :=
  gq_get (f := fun g => (gh_obr g a ci).map fun _ => ()) (by show (gh_obr g a ci).map _ = _; rw [gh_obr_of (Or.inr h)]; rfl) kk
theorem gq_cls {a ci : Nat} {fs : List Value} {kt : Nat → gh_M β} (h : g.1 a = some (.inr (ci, fs))) (hc : ci < 100) (kk : gq (kt ci) g Q) : gq (gh_tc (gh_cls a) kt kx) g Q :=
  gq_get (f := fun g => match g.1 a with
  | some (.inr (c, _)) => some (if 100 ≤ c then c - 100 else c)
  | _ => none) (by show (match g.1 a with
  | some (.inr (c, _)) => some (if 100 ≤ c then c - 100 else c)
  | _ => none) = _; rw [h]; show some (if 100 ≤ ci then ci - 100 else ci) = _; rw [if_neg (Nat.not_le.mpr hc)]) kk
theorem gq_clsC {a ci : Nat} {fs : List Value} {kt : Nat → gh_M β} (h : g.1 a = some (.inr (ci + 100, fs))) (kk : gq (kt ci) g Q) : gq (gh_tc (gh_cls a) kt kx) g Q :=
  gq_get (f := fun g => match g.1 a with
  | some (.inr (c, _)) => some (if 100 ≤ c then c - 100 else c)
  | _ => none) (by show (match g.1 a with
  | some (.inr (c, _)) => some (if 100 ≤ c then c - 100 else c)
  | _ => none) = _; rw [h]; show some (if 100 ≤ ci + 100 then ci + 100 - 100 else ci + 100) = _; rw [if_pos (Nat.le_add_left _ _), Nat.add_sub_cancel]) kk
theorem gq_putv {a ci k : Nat} {ty : FieldType} {v : Value} {fs : List Value} {kt : Unit → gh_M β} (hlo : gh_lo g ≤ a) (hn : narrow ty v = v) (hf : fits ty v = true) (h : g.1 a = some (.inr (ci, fs))) (hk : k < fs.length) (kk : gq (kt ()) (gh_set g.1 a (.inr (ci, fs.set k v)), g.2) Q) : gq (gh_tc (gh_putv a ci k ty v) kt kx) g Q := by
  refine gq_wr (q := ((), gh_set g.1 a (.inr (ci, fs.set k v)), 0, 0)) ?_ kk
  show (if gh_lo g ≤ a ∧ narrow ty v = v ∧ fits ty v = true then _ else none) = _
  rw [if_pos ⟨hlo, hn, hf⟩, gh_ob_of h]
  show (if k < fs.length then _ else none) = _
  rw [if_pos hk]
theorem gq_new {ci n : Nat} {fs : List Value} {kt : Nat → gh_M β} (kk : gq (kt g.2.1) (gh_set g.1 g.2.1 (.inr (ci, fs)), g.2.1 + 1, g.2.2.1 + n, g.2.2.2) Q) : gq (gh_tc (gh_new ci n fs) kt kx) g Q :=
  gq_wr (q := (g.2.1, gh_set g.1 g.2.1 (.inr (ci, fs)), 1, n)) rfl kk
theorem gq_alen {a c : Nat} {x : vp_A} {kt : Int32 → gh_M β} (h : g.1 a = some (.inl (c, x))) (hc : c < 6 ∨ 10 ≤ c ∧ c < 30) (kk : gq (kt (Int32.ofNat x.1)) g Q) : gq (gh_tc (gh_alen a) kt kx) g Q :=
  gq_get (f := fun g => match g.1 a with
  | some (.inl (c, n, _)) => if c < 6 ∨ 10 ≤ c ∧ c < 30 then some (Int32.ofNat n) else none
  | _ => none) (by show (match g.1 a with
  | some (.inl (c, n, _)) => if c < 6 ∨ 10 ≤ c ∧ c < 30 then some (Int32.ofNat n) else none
  | _ => none) = _; rw [h]; obtain ⟨n, z⟩ := x; show (if c < 6 ∨ 10 ≤ c ∧ c < 30 then some (Int32.ofNat n) else none) = _; rw [if_pos hc]) kk
/-- the index i is the number j < n -/
def gq_ix (i : Int32) (j n : Nat) : Prop := i.toNatClampNeg = j ∧ ¬ i < 0 ∧ j < n
theorem gq_ix_no {i : Int32} {j n : Nat} (h : gq_ix i j n) : ¬ (i < 0 ∨ n ≤ i.toNatClampNeg) := by
  rintro (h1 | h1)
  · exact h.2.1 h1
  · rw [h.1] at h1; exact absurd h.2.2 (Nat.not_lt.mpr h1)
theorem gq_iald {k a c n j : Nat} {f : Nat → Int32} {i : Int32} {kt : Int32 → gh_M β} (hc : gh_kin c k = true) (h : g.1 a = some (.inl (c, n, .inl f))) (hi : gq_ix i j n) (kk : gq (kt (f j)) g Q) : gq (gh_tc (gh_iald k a i) kt kx) g Q :=
  gq_get (f := fun g => (gh_air g a k).bind fun x => if i < 0 ∨ x.1 ≤ i.toNatClampNeg then none else some (x.2 i.toNatClampNeg)) (by show (gh_air g a k).bind _ = _; rw [gh_air_of hc h]; show (if i < 0 ∨ n ≤ i.toNatClampNeg then none else some (f i.toNatClampNeg)) = _; rw [if_neg (gq_ix_no hi), hi.1]) kk
theorem gq_lald {a n j : Nat} {f : Nat → Int64} {i : Int32} {kt : Int64 → gh_M β} (h : g.1 a = some (.inl (1, n, .inr (.inl f)))) (hi : gq_ix i j n) (kk : gq (kt (f j)) g Q) : gq (gh_tc (gh_lald a i) kt kx) g Q :=
  gq_get (f := fun g => (gh_al g a 1).bind fun x => if i < 0 ∨ x.1 ≤ i.toNatClampNeg then none else some (x.2 i.toNatClampNeg)) (by show (gh_al g a 1).bind _ = _; rw [gh_al_of h]; show (if i < 0 ∨ n ≤ i.toNatClampNeg then none else some (f i.toNatClampNeg)) = _; rw [if_neg (gq_ix_no hi), hi.1]) kk
theorem gq_dald {a n j : Nat} {f : Nat → UInt64} {i : Int32} {kt : UInt64 → gh_M β} (h : g.1 a = some (.inl (2, n, .inr (.inr (.inr (.inl f)))))) (hi : gq_ix i j n) (kk : gq (kt (f j)) g Q) : gq (gh_tc (gh_dald a i) kt kx) g Q :=
  gq_get (f := fun g => (gh_ad g a 2).bind fun x => if i < 0 ∨ x.1 ≤ i.toNatClampNeg then none else some (x.2 i.toNatClampNeg)) (by show (gh_ad g a 2).bind _ = _; rw [gh_ad_of h]; show (if i < 0 ∨ n ≤ i.toNatClampNeg then none else some (f i.toNatClampNeg)) = _; rw [if_neg (gq_ix_no hi), hi.1]) kk
theorem gq_aald {a n j : Nat} {f : Nat → Option Nat} {i : Int32} {kt : Option Nat → gh_M β} (h : g.1 a = some (.inl (5, n, .inr (.inr (.inr (.inr f)))))) (hi : gq_ix i j n) (kk : gq (kt (f j)) g Q) : gq (gh_tc (gh_aald a i) kt kx) g Q :=
  gq_get (f := fun g => (gh_aq g a 5).bind fun x => if i < 0 ∨ x.1 ≤ i.toNatClampNeg then none else some (x.2 i.toNatClampNeg)) (by show (gh_aq g a 5).bind _ = _; rw [gh_aq_of h]; show (if i < 0 ∨ n ≤ i.toNatClampNeg then none else some (f i.toNatClampNeg)) = _; rw [if_neg (gq_ix_no hi), hi.1]) kk
theorem gq_iast {k a n j : Nat} {f : Nat → Int32} {i x : Int32} {kt : Unit → gh_M β} (hlo : gh_lo g ≤ a) (h : g.1 a = some (.inl (k, n, .inl f))) (hi : gq_ix i j n) (kk : gq (kt ()) (gh_set g.1 a (.inl (k, n, .inl (upd f j (gh_nar k x)))), g.2) Q) : gq (gh_tc (gh_iast k a i x) kt kx) g Q := by
  refine gq_wr (q := ((), gh_set g.1 a (.inl (k, n, .inl (upd f j (gh_nar k x)))), 0, 0)) ?_ kk
  show (if gh_lo g ≤ a then _ else none) = _
  rw [if_pos hlo, gh_ai_of h]
  show (if i < 0 ∨ n ≤ i.toNatClampNeg then none else _) = _
  rw [if_neg (gq_ix_no hi), hi.1]
theorem gq_last {a n j : Nat} {f : Nat → Int64} {i : Int32} {x : Int64} {kt : Unit → gh_M β} (hlo : gh_lo g ≤ a) (h : g.1 a = some (.inl (1, n, .inr (.inl f)))) (hi : gq_ix i j n) (kk : gq (kt ()) (gh_set g.1 a (.inl (1, n, .inr (.inl (vp_updL f j x)))), g.2) Q) : gq (gh_tc (gh_last a i x) kt kx) g Q := by
  refine gq_wr (q := ((), gh_set g.1 a (.inl (1, n, .inr (.inl (vp_updL f j x)))), 0, 0)) ?_ kk
  show (if gh_lo g ≤ a then _ else none) = _
  rw [if_pos hlo, gh_al_of h]
  show (if i < 0 ∨ n ≤ i.toNatClampNeg then none else _) = _
  rw [if_neg (gq_ix_no hi), hi.1]
theorem gq_dast {a n j : Nat} {f : Nat → UInt64} {i : Int32} {x : UInt64} {kt : Unit → gh_M β} (hlo : gh_lo g ≤ a) (h : g.1 a = some (.inl (2, n, .inr (.inr (.inr (.inl f)))))) (hi : gq_ix i j n) (kk : gq (kt ()) (gh_set g.1 a (.inl (2, n, .inr (.inr (.inr (.inl (vf_upd f j x)))))), g.2) Q) : gq (gh_tc (gh_dast a i x) kt kx) g Q := by
  refine gq_wr (q := ((), gh_set g.1 a (.inl (2, n, .inr (.inr (.inr (.inl (vf_upd f j x)))))), 0, 0)) ?_ kk
  show (if gh_lo g ≤ a then _ else none) = _
  rw [if_pos hlo, gh_ad_of h]
  show (if i < 0 ∨ n ≤ i.toNatClampNeg then none else _) = _
  rw [if_neg (gq_ix_no hi), hi.1]
theorem gq_aast {a n j : Nat} {f : Nat → Option Nat} {i : Int32} {x : Option Nat} {kt : Unit → gh_M β} (hlo : gh_lo g ≤ a) (hx : gh_okr g x = true) (h : g.1 a = some (.inl (5, n, .inr (.inr (.inr (.inr f)))))) (hi : gq_ix i j n) (kk : gq (kt ()) (gh_set g.1 a (.inl (5, n, .inr (.inr (.inr (.inr (va_up f j x)))))), g.2) Q) : gq (gh_tc (gh_aast a i x) kt kx) g Q := by
  refine gq_wr (q := ((), gh_set g.1 a (.inl (5, n, .inr (.inr (.inr (.inr (va_up f j x)))))), 0, 0)) ?_ kk
  show (if gh_lo g ≤ a ∧ gh_okr g x = true then _ else none) = _
  rw [if_pos ⟨hlo, hx⟩, gh_aq_of h]
  show (if i < 0 ∨ n ≤ i.toNatClampNeg then none else _) = _
  rw [if_neg (gq_ix_no hi), hi.1]
theorem gq_newa {k N : Nat} {n : Int32} {kt : Nat → gh_M β} (h0 : ¬ n < 0) (hN : n.toNatClampNeg = N) (hw : N * gh_wid k ≤ 536870912) (kk : gq (kt g.2.1) (gh_set g.1 g.2.1 (.inl (k, gh_blk k N)), g.2.1 + 1, g.2.2.1 + N, g.2.2.2) Q) : gq (gh_tc (gh_newa k n) kt kx) g Q := by
  refine gq_wr (q := (g.2.1, gh_set g.1 g.2.1 (.inl (k, gh_blk k N)), 1, N)) ?_ kk
  show (gh_nlen (gh_wid k) n).map _ = _
  unfold gh_nlen
  rw [hN, if_neg (fun h => h.elim h0 fun h => absurd h (Nat.not_lt.mpr hw))]
  rfl
theorem gq_cst {k : Nat} {x : Option Nat} {kt : Option Nat → gh_M β} (h : gh_co g k = va_rf x) (kk : gq (kt x) g Q) : gq (gh_tc (gh_cst k) kt kx) g Q :=
  gq_get (f := fun g => gh_vR (some (gh_co g k))) (by show gh_vR (some (gh_co g k)) = _; rw [h]; exact gh_vR_of x) kk
theorem gq_cpyi {k a b c n0 n1 i0 i1 m : Nat} {f0 f1 : Nat → Int32} {sp dp n : Int32} {kt : Unit → gh_M β} (hlo : gh_lo g ≤ b) (hab : a ≠ b) (hc : gh_kin c k = true) (ha : g.1 a = some (.inl (c, n0, .inl f0))) (hb : g.1 b = some (.inl (k, n1, .inl f1))) (h1 : sp.toNatClampNeg = i0 ∧ ¬ sp < 0) (h2 : dp.toNatClampNeg = i1 ∧ ¬ dp < 0) (h3 : n.toNatClampNeg = m ∧ ¬ n < 0) (l0 : i0 + m ≤ n0) (l1 : i1 + m ≤ n1) (hf : ∀ j, j < m → fits (gh_tyk k) (.int (f0 (i0 + j))) = true) (kk : gq (kt ()) (gh_set g.1 b (.inl (k, n1, .inl (va_cpy f0 f1 i0 i1 m))), g.2) Q) : gq (gh_tc (gh_cpyi k a sp b dp n) kt kx) g Q := by
  refine gq_wr (q := ((), gh_set g.1 b (.inl (k, n1, .inl (va_cpy f0 f1 i0 i1 m))), 0, 0)) ?_ kk
  show (if gh_lo g ≤ b ∧ a ≠ b ∧ ¬ sp < 0 ∧ ¬ dp < 0 ∧ ¬ n < 0 then _ else none) = _
  rw [if_pos ⟨hlo, hab, h1.2, h2.2, h3.2⟩, gh_air_of hc ha]
  show (gh_ai g b k).bind _ = _
  rw [gh_ai_of hb]
  show (if _ then _ else none) = _
  rw [h1.1, h2.1, h3.1]
  exact if_pos ⟨l0, l1, List.all_eq_true.mpr fun j hj => hf j (List.mem_range.mp hj)⟩
theorem gq_cpyq {a b n0 n1 i0 i1 m : Nat} {f0 f1 : Nat → Option Nat} {sp dp n : Int32} {kt : Unit → gh_M β} (hlo : gh_lo g ≤ b) (hab : a ≠ b) (ha : g.1 a = some (.inl (5, n0, .inr (.inr (.inr (.inr f0)))))) (hb : g.1 b = some (.inl (5, n1, .inr (.inr (.inr (.inr f1)))))) (h1 : sp.toNatClampNeg = i0 ∧ ¬ sp < 0) (h2 : dp.toNatClampNeg = i1 ∧ ¬ dp < 0) (h3 : n.toNatClampNeg = m ∧ ¬ n < 0) (l0 : i0 + m ≤ n0) (l1 : i1 + m ≤ n1) (hf : ∀ j, j < n0 → gh_okr g (f0 j) = true) (kk : gq (kt ()) (gh_set g.1 b (.inl (5, n1, .inr (.inr (.inr (.inr (va_cpy f0 f1 i0 i1 m)))))), g.2) Q) : gq (gh_tc (gh_cpyq a sp b dp n) kt kx) g Q := by
  refine gq_wr (q := ((), gh_set g.1 b (.inl (5, n1, .inr (.inr (.inr (.inr (va_cpy f0 f1 i0 i1 m)))))), 0, 0)) ?_ kk
  show (if gh_lo g ≤ b ∧ a ≠ b ∧ ¬ sp < 0 ∧ ¬ dp < 0 ∧ ¬ n < 0 then _ else none) = _
  rw [if_pos ⟨hlo, hab, h1.2, h2.2, h3.2⟩, gh_aq_of ha]
  show (gh_aq g b 5).bind _ = _
  rw [gh_aq_of hb]
  show (if _ then _ else none) = _
  rw [h1.1, h2.1, h3.1]
  exact if_pos ⟨l0, l1, List.all_eq_true.mpr fun j hj => hf j (List.mem_range.mp hj)⟩
theorem gq_tro {ci : Nat} (h : Q (.inr (ci, g.2.1)) (g.1, g.2.1 + 1, g.2.2.1 + 6, g.2.2.2)) : gq (gh_tro ci : gh_M β) g Q := ⟨_, _, rfl, h⟩
theorem gq_up {S : Type} {x : gh_M β} {Q : ((S ⊕ β) ⊕ gh_X) → gh_G → Prop} (h : gq x g (fun r g1 => match r with | .inl b => Q (.inl (.inr b)) g1 | .inr e => Q (.inr e) g1)) : gq (gh_up (S := S) x) g Q := by
  obtain ⟨r, g1, h1, h2⟩ := h
  cases r with
  | inl b => exact ⟨_, _, gh_up_l h1, h2⟩
  | inr e => exact ⟨_, _, gh_up_r h1, h2⟩
/-- what a loop's body owes: once more with a smaller number, or the end -/
abbrev gq_po {S β : Type} (I : Nat → S → gh_G → Prop) (n : Nat) (Q : (β ⊕ gh_X) → gh_G → Prop) : ((S ⊕ β) ⊕ gh_X) → gh_G → Prop := fun r g1 => match r with
  | .inl (.inl st1) => ∃ m, m < n ∧ I m st1 g1
  | .inl (.inr b) => Q (.inl b) g1
  | .inr e => Q (.inr e) g1
/-- a loop, by an invariant with a number that falls -/
theorem gq_it {S : Type} {body : S → gh_M (S ⊕ β)} (I : Nat → S → gh_G → Prop) (step : ∀ (n : Nat) (st : S) (g : gh_G), I n st g → gq (body st) g (gq_po I n Q)) : ∀ (n : Nat) (st : S) (g : gh_G), I n st g → gq (gh_it body st) g Q := by
  intro n
  induction n using Nat.strongRecOn with
  | _ n ih =>
    intro st g hI
    obtain ⟨r, g1, h1, h2⟩ := step n st g hI
    match r, h1, h2 with
    | .inl (.inl st1), h1, h2 =>
      obtain ⟨m, hm, h3⟩ := h2
      obtain ⟨r2, g2, h4, h5⟩ := ih m hm st1 g1 h3
      exact ⟨r2, g2, (gh_it_in h1).trans h4, h5⟩
    | .inl (.inr b), h1, h2 => exact ⟨_, _, gh_it_out h1, h2⟩
    | .inr e, h1, h2 => exact ⟨_, _, gh_it_x h1, h2⟩
end
/-! small numbers -/
theorem gq_ofNat {j n : Nat} (hj : j < n) (hn : n ≤ 2147483648) : gq_ix (Int32.ofNat j) j n := by
  have h : j < 2 ^ 31 := by omega
  refine ⟨Int32.toNatClampNeg_ofNat_of_lt h, ?_, hj⟩
  rw [Int32.lt_iff_toInt_lt, Int32.toInt_ofNat_of_lt h]
  have : (0 : Int32).toInt = 0 := by decide
  omega
/-- nothing that was there has changed; so many cells and slots more at the most -/
def gq_ext (g g1 : gh_G) (c s : Nat) : Prop := (∀ a, a < g.2.1 → g1.1 a = g.1 a) ∧ g.2.1 ≤ g1.2.1 ∧ g1.2.1 ≤ g.2.1 + c ∧ g.2.2.1 ≤ g1.2.2.1 ∧ g1.2.2.1 ≤ g.2.2.1 + s ∧ g1.2.2.2 = g.2.2.2
theorem gq_ext.rf {g : gh_G} : gq_ext g g 0 0 := ⟨fun _ _ => rfl, Nat.le_refl _, Nat.le_refl _, Nat.le_refl _, Nat.le_refl _, rfl⟩
theorem gq_ext.tr {a b c : gh_G} {i j k l : Nat} (h : gq_ext a b i j) (h2 : gq_ext b c k l) : gq_ext a c (i + k) (j + l) := by
  obtain ⟨x1, x2, x3, x4, x5, x6⟩ := h
  obtain ⟨y1, y2, y3, y4, y5, y6⟩ := h2
  exact ⟨fun q hq => (y1 q (by omega)).trans (x1 q hq), by omega, by omega, by omega, by omega, y6.trans x6⟩
theorem gq_ext.up {a b : gh_G} {i j k l : Nat} (h : gq_ext a b i j) (hi : i ≤ k) (hj : j ≤ l) : gq_ext a b k l := by
  obtain ⟨x1, x2, x3, x4, x5, x6⟩ := h
  exact ⟨x1, x2, by omega, x4, by omega, x6⟩
theorem gq_ext.lo {a b : gh_G} {i j : Nat} (h : gq_ext a b i j) : gh_lo b = gh_lo a := by unfold gh_lo; rw [h.2.2.2.2.2]
theorem gq_ext.co {a b : gh_G} {i j : Nat} (h : gq_ext a b i j) : gh_co b = gh_co a := by unfold gh_co; rw [h.2.2.2.2.2]
theorem gh_set_set {m : Nat → Option gh_E} {a : Nat} {e e' : gh_E} : gh_set (gh_set m a e) a e' = gh_set m a e' := by
  funext q
  unfold gh_set
  by_cases h : q = a
  · rw [if_pos h, if_pos h]
  · rw [if_neg h, if_neg h, if_neg h]
theorem gq_eq {β : Type} {x : gh_M β} {g g1 : gh_G} {r : β ⊕ gh_X} (h : gq x g (fun r1 g2 => r1 = r ∧ g2 = g1)) : gh_run x g = some (r, g1) := by
  obtain ⟨r1, g2, h1, rfl, rfl⟩ := h
  exact h1
theorem gq_ofNat_lt {i n : Nat} (hi : i < 2147483648) (hn : n < 2147483648) : (Int32.ofNat i < Int32.ofNat n) ↔ i < n := by
  rw [Int32.lt_iff_toInt_lt, Int32.toInt_ofNat_of_lt (by omega), Int32.toInt_ofNat_of_lt (by omega)]
  omega
theorem gq_ofNat_eq {i n : Nat} (hi : i < 2147483648) (hn : n < 2147483648) : (Int32.ofNat i = Int32.ofNat n) ↔ i = n := by
  constructor
  · intro h
    have h1 := congrArg Int32.toInt h
    rw [Int32.toInt_ofNat_of_lt (by omega), Int32.toInt_ofNat_of_lt (by omega)] at h1
    omega
  · intro h; rw [h]
theorem gq_ofNat_succ (i : Nat) : Int32.ofNat i + 1 = Int32.ofNat (i + 1) := by
  rw [Int32.ofNat_add]
  rfl
