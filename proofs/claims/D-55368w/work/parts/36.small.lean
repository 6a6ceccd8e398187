/-! small methods -/
set_option maxRecDepth 100000
section
variable {g : gh_G}
theorem gq_inRange {p lo hi : Int32} : gh_run (f_X1_inRange p lo hi) g = some (.inl (if lo ≤ p ∧ p ≤ hi then 1 else 0), g) := by
  refine gq_eq ?_
  unfold f_X1_inRange
  refine gq_if (fun hc => ?_) (fun hc => gq_if (fun hd => ?_) (fun hd => ?_))
  · rw [if_neg (fun h => Int32.not_le.mpr hc h.1)]
    exact gq_ok (by decide) (gq_ret ⟨rfl, rfl⟩)
  · rw [if_neg (fun h => Int32.not_le.mpr hd h.2)]
    exact gq_ok (by decide) (gq_ret ⟨rfl, rfl⟩)
  · rw [if_pos ⟨Int32.not_lt.mp hc, Int32.not_lt.mp hd⟩]
    exact gq_ok (by decide) (gq_ret ⟨rfl, rfl⟩)
/-- the state after 'throw new E()' -/
def gq_th (g : gh_G) : gh_G := (g.1, g.2.1 + 1, g.2.2.1 + 6, g.2.2.2)
theorem gq_ckArg1 : gh_run (f_X1_checkArgument 1) g = some (.inl (), g) := by
  refine gq_eq ?_
  unfold f_X1_checkArgument
  exact gq_f (by decide) (gq_ret ⟨rfl, rfl⟩)
theorem gq_ckArg0 : gh_run (f_X1_checkArgument 0) g = some (.inr (17, g.2.1), gq_th g) := by
  refine gq_eq ?_
  unfold f_X1_checkArgument
  exact gq_t rfl (gq_tro ⟨rfl, rfl⟩)
theorem gq_ckFound1 : gh_run (f_X1_checkFound 1) g = some (.inl (), g) := by
  refine gq_eq ?_
  unfold f_X1_checkFound
  exact gq_f (by decide) (gq_ret ⟨rfl, rfl⟩)
theorem gq_ckFound0 : gh_run (f_X1_checkFound 0) g = some (.inr (18, g.2.1), gq_th g) := by
  refine gq_eq ?_
  unfold f_X1_checkFound
  exact gq_t rfl (gq_tro ⟨rfl, rfl⟩)
theorem gq_ckState1 : gh_run (f_X1_checkState 1) g = some (.inl (), g) := by
  refine gq_eq ?_
  unfold f_X1_checkState
  exact gq_f (by decide) (gq_ret ⟨rfl, rfl⟩)
theorem gq_ckState0 : gh_run (f_X1_checkState 0) g = some (.inr (19, g.2.1), gq_th g) := by
  refine gq_eq ?_
  unfold f_X1_checkState
  exact gq_t rfl (gq_tro ⟨rfl, rfl⟩)
theorem gq_ckIdx1 {p n : Int32} (h : 0 ≤ p ∧ p ≤ n - 1) : gh_run (f_X1_checkIndex p n) g = some (.inl (), g) := by
  refine gq_eq ?_
  unfold f_X1_checkIndex
  refine gq_l gq_inRange ?_
  rw [if_pos h]
  exact gq_f (by decide) (gq_ret ⟨rfl, rfl⟩)
theorem gq_ckIdx0 {p n : Int32} (h : ¬ (0 ≤ p ∧ p ≤ n - 1)) : gh_run (f_X1_checkIndex p n) g = some (.inr (16, g.2.1), gq_th g) := by
  refine gq_eq ?_
  unfold f_X1_checkIndex
  refine gq_l gq_inRange ?_
  rw [if_neg h]
  exact gq_t rfl (gq_tro ⟨rfl, rfl⟩)
/-- a refusal: its cause, reason, detail -/
def gq_Rf (c : Option Nat) (r d : Int32) : List Value := [va_rf c, .null, .null, .null, .null, .int 0, .int r, .int d]
def gq_rfd (g : gh_G) (c : Option Nat) (r d : Int32) : gh_G := (gh_set g.1 g.2.1 (.inr (8, gq_Rf c r d)), g.2.1 + 1, g.2.2.1 + 8, g.2.2.2)
theorem gq_X9init2 {a : Nat} {c : Option Nat} {r d : Int32} {fs : List Value} (hlo : gh_lo g ≤ a) (h : g.1 a = some (.inr (8, fs))) (hf : fs = gh_nX9) (h16 : ∃ x, gh_co g 16 = va_rf x) (h17 : ∃ x, gh_co g 17 = va_rf x) : gh_run (f_X9_init_2 a r d c) g = some (.inl (), (gh_set g.1 a (.inr (8, gq_Rf c r d)), g.2)) := by
  obtain ⟨x16, e16⟩ := h16
  obtain ⟨x17, e17⟩ := h17
  subst hf
  refine gq_eq ?_
  unfold f_X9_init_2
  refine gq_tc ?_
  unfold f_J12_init_4_X9
  refine gq_tc ?_
  unfold f_J11_init_4_X9
  refine gq_putv hlo rfl (by rfl) h (show 0 < 8 by decide) ?_
  refine gq_cst e16 ?_
  refine gq_putv hlo (by cases x16 <;> rfl) (by cases x16 <;> rfl) gh_set_s (show 1 < 8 by decide) ?_
  refine gq_cst e17 ?_
  refine gq_putv hlo (by cases x17 <;> rfl) (by cases x17 <;> rfl) gh_set_s (show 2 < 8 by decide) ?_
  refine gq_t rfl ?_
  refine gq_putv hlo rfl rfl gh_set_s (show 1 < 8 by decide) ?_
  refine gq_putv hlo rfl rfl gh_set_s (show 3 < 8 by decide) ?_
  refine gq_putv hlo (by cases c <;> rfl) (by cases c <;> rfl) gh_set_s (show 0 < 8 by decide) ?_
  refine gq_t rfl ?_
  refine gq_putv hlo rfl rfl gh_set_s (show 2 < 8 by decide) ?_
  refine gq_ret ?_
  refine gq_ret ?_
  refine gq_putv hlo rfl rfl gh_set_s (show 6 < 8 by decide) ?_
  refine gq_putv hlo rfl rfl gh_set_s (show 7 < 8 by decide) ?_
  refine gq_ret ⟨rfl, ?_⟩
  simp only [gh_set_set]
  rfl
end
