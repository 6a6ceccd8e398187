/-! blocks and ropes: what they answer -/
set_option maxRecDepth 100000
section
variable {g : gh_G} {v : Nat → Int32} {a i : Nat}
theorem gq_times {c : Int32} (h : g.1 a = some (.inr (5, gq_Bl v i))) : gh_run (f_X6_times a c) g = some (.inl (if v (11 + 7 * i) = 0 then 2 * c else c), g) := by
  refine gq_eq ?_
  unfold f_X6_times
  refine gq_geti (x := v (11 + 7 * i)) h rfl ?_
  refine gq_if (fun hc => ?_) (fun hc => ?_)
  · rw [if_pos hc]
    exact gq_ret ⟨rfl, rfl⟩
  · rw [if_neg hc]
    exact gq_ret ⟨rfl, rfl⟩
theorem gq_isTooMuch {d : Int32} : gh_run (f_X11_isTooMuch d) g = some (.inl (if d < 10 then 0 else 1), g) := by
  refine gq_eq ?_
  unfold f_X11_isTooMuch
  refine gq_if (fun hc => ?_) (fun hc => ?_)
  · rw [if_pos hc]
    exact gq_ok (by decide) (gq_ret ⟨rfl, rfl⟩)
  · rw [if_neg hc]
    exact gq_ok (by decide) (gq_ret ⟨rfl, rfl⟩)
theorem gq_rz {b : Int32} (hb : b = 0 ∨ b = 1) : gh_run (gh_rz .boolean b) g = some (.inl b, g) := by
  rcases hb with rfl | rfl <;> exact gq_eq (gq_ok (by decide) (gq_ret ⟨rfl, rfl⟩))
theorem gq_01 {c : Prop} [Decidable c] : (if c then (0 : Int32) else 1) = 0 ∨ (if c then (0 : Int32) else 1) = 1 := by
  by_cases h : c
  · exact Or.inl (if_pos h)
  · exact Or.inr (if_neg h)
theorem gq_isLoose (h : g.1 a = some (.inr (5, gq_Bl v i))) : gh_run (f_X11_isLoose a) g = some (.inl (if v (13 + 7 * i) < 10 then 0 else 1), g) := by
  refine gq_eq ?_
  unfold f_X11_isLoose
  refine gq_is h ?_
  refine gq_tc ?_
  unfold f_X6_damage
  refine gq_geti (x := v (13 + 7 * i)) h rfl ?_
  refine gq_ret ?_
  refine gq_l gq_isTooMuch ?_
  exact gq_of (gq_rz gq_01) ⟨rfl, rfl⟩
theorem gq_wouldBe {m : Int32} (h : g.1 a = some (.inr (5, gq_Bl v i))) : gh_run (f_X11_wouldBeLoose a m) g = some (.inl (if v (13 + 7 * i) + m < 10 then 0 else 1), g) := by
  refine gq_eq ?_
  unfold f_X11_wouldBeLoose
  refine gq_is h ?_
  refine gq_tc ?_
  unfold f_X6_damage
  refine gq_geti (x := v (13 + 7 * i)) h rfl ?_
  refine gq_ret ?_
  refine gq_l gq_isTooMuch ?_
  exact gq_of (gq_rz gq_01) ⟨rfl, rfl⟩
/-- what a rope holds -/
def gq_st (v : Nat → Int32) (r : Nat) : Int32 := (if v (125 + 4 * r) = 0 then v (122 + 4 * r) else 0) - v (123 + 4 * r)
def gq_hd (v : Nat → Int32) (r : Nat) : Int32 := if 0 < gq_st v r then gq_st v r else 0
theorem gq_holds (h : g.1 a = some (.inr (6, gq_Ro v i))) : gh_run (f_X10_holds a) g = some (.inl (gq_hd v i), g) := by
  refine gq_eq ?_
  unfold f_X10_holds
  refine gq_is h ?_
  refine gq_l (a := if v (125 + 4 * i) = 0 then v (122 + 4 * i) else 0) (g1 := g) ?_ ?_
  · refine gq_eq ?_
    unfold f_X7_strength
    refine gq_geti (x := v (125 + 4 * i)) h rfl ?_
    refine gq_if (fun hc => ?_) (fun hc => ?_)
    · rw [if_pos hc]
      refine gq_geti (x := v (122 + 4 * i)) h rfl ?_
      exact gq_ret ⟨rfl, rfl⟩
    · rw [if_neg hc]
      exact gq_ret ⟨rfl, rfl⟩
  refine gq_is h ?_
  refine gq_tc ?_
  unfold f_X7_wear
  refine gq_geti (x := v (123 + 4 * i)) h rfl ?_
  refine gq_ret ?_
  refine gq_tc ?_
  unfold f_X10_atLeastNothing
  refine gq_tc ?_
  unfold f_J16_max
  refine gq_if (fun hc => ?_) (fun hc => ?_)
  · refine gq_ret ?_
    refine gq_ret ?_
    refine gq_ret ⟨?_, rfl⟩
    exact congrArg Sum.inl (if_pos (show 0 < gq_st v i from hc)).symm
  · refine gq_ret ?_
    refine gq_ret ?_
    refine gq_ret ⟨?_, rfl⟩
    exact congrArg Sum.inl (if_neg (show ¬ 0 < gq_st v i from hc)).symm
theorem gq_isTorn (h : g.1 a = some (.inr (6, gq_Ro v i))) : gh_run (f_X10_isTorn a) g = some (.inl (if 1 ≤ gq_hd v i then 0 else 1), g) := by
  refine gq_eq ?_
  unfold f_X10_isTorn
  refine gq_is h ?_
  refine gq_l (gq_holds h) ?_
  refine gq_if (fun hc => ?_) (fun hc => ?_)
  · rw [if_pos hc]
    exact gq_ok (by decide) (gq_ret ⟨rfl, rfl⟩)
  · rw [if_neg hc]
    exact gq_ok (by decide) (gq_ret ⟨rfl, rfl⟩)
theorem gq_canHold {w : Int32} (h : g.1 a = some (.inr (6, gq_Ro v i))) : gh_run (f_X10_canHold a w) g = some (.inl (if 1 ≤ gq_hd v i ∧ w ≤ gq_hd v i then 1 else 0), g) := by
  refine gq_eq ?_
  unfold f_X10_canHold
  refine gq_is h ?_
  refine gq_l (gq_isTorn h) ?_
  by_cases h1 : 1 ≤ gq_hd v i
  · rw [if_pos h1]
    refine gq_t rfl ?_
    refine gq_is h ?_
    refine gq_l (gq_holds h) ?_
    refine gq_if (fun hc => ?_) (fun hc => ?_)
    · rw [if_neg (fun q => Int32.not_le.mpr hc q.2)]
      exact gq_ok (by decide) (gq_ret ⟨rfl, rfl⟩)
    · rw [if_pos ⟨h1, Int32.not_lt.mp hc⟩]
      exact gq_ok (by decide) (gq_ret ⟨rfl, rfl⟩)
  · have e2 : (if 1 ≤ gq_hd v i ∧ w ≤ gq_hd v i then (1 : Int32) else 0) = 0 := if_neg fun q => h1 q.1
    rw [if_neg h1, e2]
    refine gq_f (c := (1 : Int32) = 0) (by decide) ?_
    exact gq_ok (by decide) (gq_ret ⟨rfl, rfl⟩)
end
