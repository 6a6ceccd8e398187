/-! the next block below a niche -/
set_option maxRecDepth 100000
/-- searched from the niche k - 1 downwards, on the face of the niche u -/
def gq_bl (v : Nat → Int32) (n u : Nat) : Nat → Option Nat
  | 0 => none
  | q + 1 => if q / 5 = u / 5 then (match gq_find v n (Int32.ofNat q) with
    | some i => some i
    | none => gq_bl v n u q) else none
theorem gq_div5 : ∀ q, q < 20 → Int32.ofNat q / 5 = Int32.ofNat (q / 5) := by decide +kernel
section
variable {g : gh_G} {z : Nat → Prop} {N : gq_N} {A : Nat → Nat} {v : Nat → Int32}
theorem gq_below4 {u : Nat} (hu : u < 20) : ∀ (k : Nat) (g : gh_G), k ≤ 20 → gq_W g z N A v → gh_lo g ≤ g.2.1 → ∃ g1, gh_run (f_X2_blockBelow_4 (A 0) (Int32.ofNat u) (Int32.ofNat k - 1)) g = some (.inl ((gq_bl v N.1 u k).map fun i => A (10 + i)), g1) ∧ gq_ext g g1 (k - 5 * (u / 5)) (4 * (k - 5 * (u / 5))) := by
  intro k
  induction k with
  | zero =>
    intro g hk h hlo
    refine ⟨g, ?_, gq_ext.rf.up (Nat.zero_le _) (Nat.zero_le _)⟩
    have hb : gh_run (f_X2_blockBelow_4_l (A 0) (Int32.ofNat u) (Int32.ofNat 0 - 1)) g = some (.inl (.inr none), g) := by
      refine gq_eq ?_
      unfold f_X2_blockBelow_4_l
      refine gq_if (fun hc => ?_) (fun hc => ?_)
      · refine gq_t (by decide) ?_
        exact gq_up (gq_ret ⟨rfl, rfl⟩)
      · exact gq_up (gq_ret ⟨rfl, rfl⟩)
    exact gh_it_out (body := fun st : Int32 => f_X2_blockBelow_4_l (A 0) (Int32.ofNat u) st) hb
  | succ q ih =>
    intro g hk h hlo
    rw [gq_pred]
    have hq : q < 20 := by omega
    by_cases hf : q / 5 = u / 5
    · obtain ⟨g1, r1, x1⟩ := gq_blockIn (p := Int32.ofNat q) h hlo
      cases hfind : gq_find v N.1 (Int32.ofNat q) with
      | some i =>
        rw [hfind] at r1
        refine ⟨g1, ?_, x1.up (by omega) (by omega)⟩
        have hbl : gq_bl v N.1 u (q + 1) = some i := by
          show (if q / 5 = u / 5 then _ else _) = _
          rw [if_pos hf, hfind]
        rw [hbl]
        refine gh_it_out (body := fun st : Int32 => f_X2_blockBelow_4_l (A 0) (Int32.ofNat u) st) (gq_eq ?_)
        show gq (f_X2_blockBelow_4_l (A 0) (Int32.ofNat u) (Int32.ofNat q)) g _
        unfold f_X2_blockBelow_4_l
        refine gq_t (by rw [gq_div5 q hq, gq_div5 u hu, hf]) ?_
        refine gq_f (gq_ofNat (n := 20) hq (by omega)).2.1 ?_
        refine gq_is h.2.1.1 ?_
        refine gq_l r1 ?_
        exact gq_up (gq_ret ⟨rfl, rfl⟩)
      | none =>
        rw [hfind] at r1
        obtain ⟨g2, r2, x2⟩ := ih g1 (by omega) (h.ext x1) (by rw [x1.lo]; have := x1.2.1; omega)
        refine ⟨g2, ?_, (x1.tr x2).up (by omega) (by omega)⟩
        have hbl : gq_bl v N.1 u (q + 1) = gq_bl v N.1 u q := by
          show (if q / 5 = u / 5 then _ else _) = _
          rw [if_pos hf, hfind]
        rw [hbl, ← r2]
        refine gh_it_in (body := fun st : Int32 => f_X2_blockBelow_4_l (A 0) (Int32.ofNat u) st) (gq_eq ?_)
        show gq (f_X2_blockBelow_4_l (A 0) (Int32.ofNat u) (Int32.ofNat q)) g _
        unfold f_X2_blockBelow_4_l
        refine gq_t (by rw [gq_div5 q hq, gq_div5 u hu, hf]) ?_
        refine gq_f (gq_ofNat (n := 20) hq (by omega)).2.1 ?_
        refine gq_is h.2.1.1 ?_
        refine gq_l r1 ?_
        refine gq_ret ⟨?_, rfl⟩
        rw [Int32.sub_eq_add_neg]
    · refine ⟨g, ?_, gq_ext.rf.up (Nat.zero_le _) (Nat.zero_le _)⟩
      have hbl : gq_bl v N.1 u (q + 1) = none := by
        show (if q / 5 = u / 5 then _ else _) = _
        rw [if_neg hf]
      rw [hbl]
      refine gh_it_out (body := fun st : Int32 => f_X2_blockBelow_4_l (A 0) (Int32.ofNat u) st) (gq_eq ?_)
      show gq (f_X2_blockBelow_4_l (A 0) (Int32.ofNat u) (Int32.ofNat q)) g _
      unfold f_X2_blockBelow_4_l
      refine gq_f (fun e => hf ?_) ?_
      · rw [gq_div5 q hq, gq_div5 u hu] at e
        exact (gq_ofNat_eq (by omega) (by omega)).mp e
      · exact gq_up (gq_ret ⟨rfl, rfl⟩)
theorem gq_below {u : Nat} (hu : u < 20) (h : gq_W g z N A v) (hlo : gh_lo g ≤ g.2.1) : ∃ g1, gh_run (f_X2_blockBelow (A 0) (Int32.ofNat u)) g = some (.inl ((gq_bl v N.1 u u).map fun i => A (10 + i)), g1) ∧ gq_ext g g1 4 16 := by
  obtain ⟨g1, r1, x1⟩ := gq_below4 hu u g (by omega) h hlo
  exact ⟨g1, r1, x1.up (by omega) (by omega)⟩
end
