/-! loops over a list by its iterator, once for all -/
set_option maxRecDepth 100000
noncomputable def gq_lb {S β : Type} (it : Nat) (exit : S → gh_M β) (rest : S → Option Nat → gh_M (S ⊕ β)) (st : S) : gh_M (S ⊕ β) :=
  gh_nn (some it) fun a1 =>
  gh_bd (gh_is a1 15) fun _ =>
  gh_bd (f_J8_hasNext a1) fun v2 =>
  if v2 = 0 then
  (gh_up (exit st))
  else
  (gh_bd (gh_is a1 15) fun _ =>
  gh_bd (f_J8_next a1) fun v3 =>
  rest st v3)
/-- what the rest of a loop's body owes behind the element i -/
abbrev gq_pf {S β : Type} (J : Nat → S → gh_G → Prop) (i : Nat) (Q : (β ⊕ gh_X) → gh_G → Prop) : ((S ⊕ β) ⊕ gh_X) → gh_G → Prop := fun r g1 => match r with
  | .inl (.inl st1) => J (i + 1) st1 g1
  | .inl (.inr b) => Q (.inl b) g1
  | .inr e => Q (.inr e) g1
section
variable {S β : Type} {Q : (β ⊕ gh_X) → gh_G → Prop} {l arr n it : Nat} {F : Nat → Nat}
theorem gq_fold {exit : S → gh_M β} {rest : S → Option Nat → gh_M (S ⊕ β)} (J : Nat → S → gh_G → Prop)
    (hJ : ∀ i st g, J i st g → gq_Ls g l arr n F ∧ gq_It g it l arr n i)
    (hrest : ∀ i st g, i < n → J i st g → ∀ g2, gq_It g2 it l arr n (i + 1) → (∀ a, a ≠ it → g2.1 a = g.1 a) → g2.2 = g.2 → gq (rest st (some (F i))) g2 (gq_pf J i Q))
    (hexit : ∀ st g, J n st g → gq (exit st) g Q) {i : Nat} {st : S} {g : gh_G} (h : J i st g) : gq (gh_it (gq_lb it exit rest) st) g Q := by
  refine gq_it (I := fun k st g => ∃ i, i + k = n ∧ J i st g) (fun k st g hI => ?_) (n - i) st g ⟨i, ?_, h⟩
  · obtain ⟨i, hik, hj⟩ := hI
    obtain ⟨hL, hit⟩ := hJ i st g hj
    obtain ⟨fs0, hfs0⟩ := hit.is
    unfold gq_lb
    refine gq_nn ?_
    refine gq_is hfs0 ?_
    refine gq_l (gq_it_has hL hit) ?_
    by_cases hin : i = n
    · rw [if_pos hin]
      subst hin
      refine gq_t rfl ?_
      refine gq_up ?_
      refine gq_mono (hexit st g hj) fun r g1 _ hq => ?_
      cases r with
      | inl b => exact hq
      | inr e => exact hq
    · rw [if_neg hin]
      refine gq_f (by decide) ?_
      refine gq_is hfs0 ?_
      obtain ⟨g2, r2, i2, e2, s2⟩ := gq_it_next hL hit (by omega)
      refine gq_l r2 ?_
      refine gq_mono (hrest i st g (by omega) hj g2 i2 e2 s2) fun r g1 _ hq => ?_
      match r, hq with
      | .inl (.inl st1), hq => exact ⟨k - 1, by omega, i + 1, by omega, hq⟩
      | .inl (.inr b), hq => exact hq
      | .inr e, hq => exact hq
  · have := (hJ i st g h).2.2.2.2.1
    omega
end
/-! count -/
def gq_cnt (v : Nat → Int32) (w : Int32) : Nat → Int32
  | 0 => 0
  | n + 1 => gq_cnt v w n + (if v (14 + 7 * n) = w then 1 else 0)
/-- the heap g' is g with an iterator at the new cell -/
def gq_wi (g g' : gh_G) : Prop := (∀ a, a < g.2.1 → g'.1 a = g.1 a) ∧ g'.2 = (g.2.1 + 1, g.2.2.1 + 4, g.2.2.2)
theorem gq_wi.ext {g g' : gh_G} (h : gq_wi g g') : gq_ext g g' 1 4 := by
  obtain ⟨he, hs⟩ := h
  exact ⟨he, by rw [hs]; exact Nat.le_succ _, by rw [hs]; exact Nat.le_refl _, by rw [hs]; exact Nat.le_add_right _ _, by rw [hs]; exact Nat.le_refl _, by rw [hs]⟩
theorem gq_wi.next {g g' g2 : gh_G} (h : gq_wi g g') (e2 : ∀ a, a ≠ g.2.1 → g2.1 a = g'.1 a) (s2 : g2.2 = g'.2) : gq_wi g g2 := ⟨fun a ha => (e2 a (Nat.ne_of_lt ha)).trans (h.1 a ha), s2.trans h.2⟩
theorem gq_count {g : gh_G} {z : Nat → Prop} {N : gq_N} {A : Nat → Nat} {v : Nat → Int32} {w : Int32} (h : gq_W g z N A v) (hlo : gh_lo g ≤ g.2.1) : ∃ g1, gh_run (f_X2_count (A 0) w) g = some (.inl (gq_cnt v w N.1), g1) ∧ gq_ext g g1 1 4 := by
  have key : gq (f_X2_count (A 0) w) g (fun r g1 => r = .inl (gq_cnt v w N.1) ∧ gq_ext g g1 1 4) := by
    unfold f_X2_count
    obtain ⟨md, hlist⟩ := h.2.2.1.1
    refine gq_getr (x := some (A 2)) h.2.1.1 rfl ?_
    refine gq_nn ?_
    refine gq_is hlist ?_
    obtain ⟨g1, r1, i1, e1, s1⟩ := gq_it0 hlo h.2.2.1
    refine gq_l r1 ?_
    refine gq_fold (l := A 2) (arr := A 5) (n := N.1) (it := g.2.1) (F := fun i => A (10 + i)) (exit := fun st : Int32 => gh_ret st) (J := fun i st g' => st = gq_cnt v w i ∧ gq_wi g g' ∧ gq_It g' g.2.1 (A 2) (A 5) N.1 i) (fun i st g' hj => ⟨(h.ext hj.2.1.ext).2.2.1, hj.2.2⟩) (fun i st g' hi hj g2 i2 e2 s2 => ?_) (fun st g' hj => gq_ret ⟨by rw [hj.1], hj.2.1.ext⟩) (i := 0) (st := 0) (g := g1) ⟨rfl, ⟨e1, s1⟩, i1⟩
    have hw2 := hj.2.1.next e2 s2
    have hb : g2.1 (A (10 + i)) = some (.inr (5, gq_Bl v i)) := (h.ext hw2.ext).2.1.2.2.1 i hi
    refine gq_nn ?_
    refine gq_is hb ?_
    refine gq_geti (x := v (14 + 7 * i)) hb rfl ?_
    refine gq_if (fun hc => ?_) (fun hc => ?_)
    · refine gq_ret ⟨?_, hw2, i2⟩
      rw [hj.1]
      show _ = gq_cnt v w i + (if v (14 + 7 * i) = w then 1 else 0)
      rw [if_pos hc]
    · refine gq_ret ⟨?_, hw2, i2⟩
      rw [hj.1]
      show _ = gq_cnt v w i + (if v (14 + 7 * i) = w then 1 else 0)
      rw [if_neg hc]
  obtain ⟨r, g1, h1, rfl, h2⟩ := key
  exact ⟨g1, h1, h2⟩
