/-! block, rope, commission by their numbers -/
set_option maxRecDepth 100000
section
variable {g : gh_G}
theorem gq_pred (m : Nat) : Int32.ofNat (m + 1) - 1 = Int32.ofNat m := by
  rw [Int32.ofNat_add]
  exact Int32.add_sub_cancel _ _
theorem gq_range {p : Int32} {n : Nat} (hn : n ≤ 1000) (h : 0 ≤ p ∧ p ≤ Int32.ofNat n - 1) : ∃ i, i < n ∧ p = Int32.ofNat i := by
  cases n with
  | zero =>
    exfalso
    have h1 := Int32.le_iff_toInt_le.mp h.1
    have h2 := Int32.le_iff_toInt_le.mp h.2
    have e1 : (0 : Int32).toInt = 0 := by decide
    have e2 : (Int32.ofNat 0 - 1).toInt = -1 := by decide
    omega
  | succ m =>
    rw [gq_pred] at h
    have h1 := Int32.le_iff_toInt_le.mp h.1
    have h2 := Int32.le_iff_toInt_le.mp h.2
    have e1 : (0 : Int32).toInt = 0 := by decide
    rw [Int32.toInt_ofNat_of_lt (by omega)] at h2
    refine ⟨p.toInt.toNat, by omega, Int32.toInt_inj.mp ?_⟩
    rw [Int32.toInt_ofNat_of_lt (by omega)]
    omega
theorem gq_range' {i n : Nat} (hn : n ≤ 1000) (hi : i < n) : 0 ≤ Int32.ofNat i ∧ Int32.ofNat i ≤ Int32.ofNat n - 1 := by
  cases n with
  | zero => omega
  | succ m =>
    rw [gq_pred]
    exact ⟨(gq_le_ofNat (i := 0) (by omega) (by omega)).mpr (Nat.zero_le _), (gq_le_ofNat (by omega) (by omega)).mpr (by omega)⟩
variable {z : Nat → Prop} {N : gq_N} {A : Nat → Nat} {v : Nat → Int32}
theorem gq_block1 {i : Nat} (h : gq_W g z N A v) (hi : i < N.1) : gh_run (f_X2_block (A 0) (Int32.ofNat i)) g = some (.inl (some (A (10 + i))), g) := by
  have hs := h.1.1
  obtain ⟨md, hlist⟩ := h.2.2.1.1
  refine gq_eq ?_
  unfold f_X2_block
  refine gq_getr (x := some (A 2)) h.2.1.1 rfl ?_
  refine gq_nn ?_
  refine gq_is hlist ?_
  refine gq_l (gq_size h.2.2.1) ?_
  refine gq_l (gq_ckIdx1 (gq_range' (by omega) hi)) ?_
  refine gq_getr (x := some (A 2)) h.2.1.1 rfl ?_
  refine gq_nn ?_
  refine gq_is hlist ?_
  refine gq_l (gq_lget h.2.2.1 hi) ?_
  refine gq_nn ?_
  refine gq_is (h.2.1.2.2.1 i hi) ?_
  exact gq_ret ⟨rfl, rfl⟩
theorem gq_block0 {p : Int32} (h : gq_W g z N A v) (hp : ¬ (0 ≤ p ∧ p ≤ Int32.ofNat N.1 - 1)) : gh_run (f_X2_block (A 0) p) g = some (.inr (16, g.2.1), gq_th g) := by
  obtain ⟨md, hlist⟩ := h.2.2.1.1
  refine gq_eq ?_
  unfold f_X2_block
  refine gq_getr (x := some (A 2)) h.2.1.1 rfl ?_
  refine gq_nn ?_
  refine gq_is hlist ?_
  refine gq_l (gq_size h.2.2.1) ?_
  refine gq_r (gq_ckIdx0 hp) ?_
  exact gq_thr ⟨rfl, rfl⟩
theorem gq_rope1 {i : Nat} (h : gq_W g z N A v) (hi : i < N.2.1) : gh_run (f_X2_rope (A 0) (Int32.ofNat i)) g = some (.inl (some (A (30 + i))), g) := by
  have hs := h.1.2.1
  obtain ⟨md, hlist⟩ := h.2.2.2.1.1
  refine gq_eq ?_
  unfold f_X2_rope
  refine gq_getr (x := some (A 3)) h.2.1.1 rfl ?_
  refine gq_nn ?_
  refine gq_is hlist ?_
  refine gq_l (gq_size h.2.2.2.1) ?_
  refine gq_l (gq_ckIdx1 (gq_range' (by omega) hi)) ?_
  refine gq_getr (x := some (A 3)) h.2.1.1 rfl ?_
  refine gq_nn ?_
  refine gq_is hlist ?_
  refine gq_l (gq_lget h.2.2.2.1 hi) ?_
  refine gq_nn ?_
  refine gq_is (h.2.1.2.2.2.1 i hi) ?_
  exact gq_ret ⟨rfl, rfl⟩
theorem gq_rope0 {p : Int32} (h : gq_W g z N A v) (hp : ¬ (0 ≤ p ∧ p ≤ Int32.ofNat N.2.1 - 1)) : gh_run (f_X2_rope (A 0) p) g = some (.inr (16, g.2.1), gq_th g) := by
  obtain ⟨md, hlist⟩ := h.2.2.2.1.1
  refine gq_eq ?_
  unfold f_X2_rope
  refine gq_getr (x := some (A 3)) h.2.1.1 rfl ?_
  refine gq_nn ?_
  refine gq_is hlist ?_
  refine gq_l (gq_size h.2.2.2.1) ?_
  refine gq_r (gq_ckIdx0 hp) ?_
  exact gq_thr ⟨rfl, rfl⟩
theorem gq_com1 {i : Nat} (h : gq_W g z N A v) (hi : i < N.2.2) : gh_run (f_X2_commission (A 0) (Int32.ofNat i)) g = some (.inl (some (A (40 + i))), g) := by
  have hs := h.1.2.2.1
  obtain ⟨md, hlist⟩ := h.2.2.2.2.1.1
  refine gq_eq ?_
  unfold f_X2_commission
  refine gq_getr (x := some (A 4)) h.2.1.1 rfl ?_
  refine gq_nn ?_
  refine gq_is hlist ?_
  refine gq_l (gq_size h.2.2.2.2.1) ?_
  refine gq_l (gq_ckIdx1 (gq_range' (by omega) hi)) ?_
  refine gq_getr (x := some (A 4)) h.2.1.1 rfl ?_
  refine gq_nn ?_
  refine gq_is hlist ?_
  refine gq_l (gq_lget h.2.2.2.2.1 hi) ?_
  refine gq_nn ?_
  refine gq_is (h.2.1.2.2.2.2 i hi) ?_
  exact gq_ret ⟨rfl, rfl⟩
theorem gq_com0 {p : Int32} (h : gq_W g z N A v) (hp : ¬ (0 ≤ p ∧ p ≤ Int32.ofNat N.2.2 - 1)) : gh_run (f_X2_commission (A 0) p) g = some (.inr (16, g.2.1), gq_th g) := by
  obtain ⟨md, hlist⟩ := h.2.2.2.2.1.1
  refine gq_eq ?_
  unfold f_X2_commission
  refine gq_getr (x := some (A 4)) h.2.1.1 rfl ?_
  refine gq_nn ?_
  refine gq_is hlist ?_
  refine gq_l (gq_size h.2.2.2.2.1) ?_
  refine gq_r (gq_ckIdx0 hp) ?_
  exact gq_thr ⟨rfl, rfl⟩
end
