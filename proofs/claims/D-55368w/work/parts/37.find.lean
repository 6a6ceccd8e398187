/-! refusals; lists walked by iterators; blockIn -/
set_option maxRecDepth 100000
section
variable {g : gh_G}
theorem gq_ath {β : Type} {Q : (β ⊕ gh_X) → gh_G → Prop} {a c : Nat} {fs : List Value} {k : gh_X → gh_M β} (h : g.1 a = some (.inr (c, fs))) (hc : c < 100) (kk : gq (k (c, a)) g Q) : gq (gh_ath a k) g Q := by
  unfold gh_ath
  refine gq_get (a := c) (f := fun g => match g.1 a with
  | some (.inr (c, _)) => if c < 100 then some c else none
  | _ => none) ?_ kk
  show (match g.1 a with
  | some (.inr (c, _)) => if c < 100 then some c else none
  | _ => none) = _
  rw [h]
  exact if_pos hc
theorem gq_refuse0 {r d : Int32} : gh_run (f_X1_refuse 0 r d) g = some (.inl (), g) := by
  refine gq_eq ?_
  unfold f_X1_refuse
  exact gq_t rfl (gq_ret ⟨rfl, rfl⟩)
theorem gq_refuse1 {r d : Int32} (hlo : gh_lo g ≤ g.2.1) (h16 : ∃ x, gh_co g 16 = va_rf x) (h17 : ∃ x, gh_co g 17 = va_rf x) : gh_run (f_X1_refuse 1 r d) g = some (.inr (8, g.2.1), gq_rfd g none r d) := by
  refine gq_eq ?_
  unfold f_X1_refuse
  refine gq_f (by decide) ?_
  refine gq_new ?_
  refine gq_tc ?_
  unfold f_X9_init
  refine gq_l (gq_X9init2 hlo gh_set_s rfl h16 h17) ?_
  refine gq_ret ?_
  refine gq_ath gh_set_s (by decide) ?_
  refine gq_thr ⟨rfl, ?_⟩
  simp only [gh_set_set]
  rfl
/-- an iterator at it, of the list at l, before the element i -/
def gq_It (g : gh_G) (it l arr n i : Nat) : Prop := gh_lo g ≤ it ∧ it ≠ l ∧ it ≠ arr ∧ i ≤ n ∧ ∃ lr md : Int32, g.1 it = some (.inr (15, [.int (Int32.ofNat i), .int lr, .int md, .ref l])) ∧ g.1 l = some (.inr (11, [.int md, .ref arr, .int (Int32.ofNat n)]))
theorem gq_it0 {l arr n : Nat} {F : Nat → Nat} (hlo : gh_lo g ≤ g.2.1) (h : gq_Ls g l arr n F) : ∃ g1, gh_run (f_J2_iterator l) g = some (.inl (some g.2.1), g1) ∧ gq_It g1 g.2.1 l arr n 0 ∧ (∀ a, a < g.2.1 → g1.1 a = g.1 a) ∧ g1.2 = (g.2.1 + 1, g.2.2.1 + 4, g.2.2.2) := by
  obtain ⟨⟨md, h1⟩, h2, h3, h4, h5, h6, h7⟩ := h
  refine ⟨_, gq_iterator hlo h3 h1, ⟨hlo, by omega, by omega, Nat.zero_le _, -1, md, gh_set_s, (gh_set_n (by omega)).trans h1⟩, fun a ha => gh_set_n (by omega), rfl⟩
theorem gq_it_has {it l arr n i : Nat} {F : Nat → Nat} (h : gq_Ls g l arr n F) (hi : gq_It g it l arr n i) : gh_run (f_J8_hasNext it) g = some (.inl (if i = n then 0 else 1), g) := by
  have hs := h.2.2.2.2.2.2.small
  obtain ⟨k1, k2, k3, k4, lr, md, k5, k6⟩ := hi
  exact gq_hasNext (by omega) (by omega) k5 k6
theorem gq_it_next {it l arr n i : Nat} {F : Nat → Nat} (h : gq_Ls g l arr n F) (hi : gq_It g it l arr n i) (hin : i < n) : ∃ g1, gh_run (f_J8_next it) g = some (.inl (some (F i)), g1) ∧ gq_It g1 it l arr n (i + 1) ∧ (∀ a, a ≠ it → g1.1 a = g.1 a) ∧ g1.2 = g.2 := by
  obtain ⟨-, -, -, -, -, -, h7⟩ := h
  obtain ⟨k1, k2, k3, k4, lr, md, k5, k6⟩ := hi
  rcases h7 with h7 | ⟨cap, f, a1, a2, a3, a4, a5, a6, a7⟩
  · omega
  have hr := gq_next (lr := lr) k1 hin a3 (by omega) k3 k5 k6 a5
  rw [(a6 i hin).1] at hr
  exact ⟨_, hr, ⟨k1, k2, k3, hin, _, md, gh_set_s, (gh_set_n k2.symm).trans k6⟩, fun a ha => gh_set_n ha, rfl⟩
theorem gq_It.is {it l arr n i : Nat} (hi : gq_It g it l arr n i) : ∃ fs, g.1 it = some (.inr (15, fs)) := by
  obtain ⟨k1, k2, k3, k4, lr, md, k5, k6⟩ := hi
  exact ⟨_, k5⟩
/-- the block that stands in a niche -/
def gq_find (v : Nat → Int32) (n : Nat) (p : Int32) : Option Nat := (List.range n).find? fun i => decide (v (14 + 7 * i) = 2 ∧ v (15 + 7 * i) = p)
theorem gq_find_some {v : Nat → Int32} {n i : Nat} {p : Int32} (hi : i < n) (h : v (14 + 7 * i) = 2 ∧ v (15 + 7 * i) = p) (hb : ∀ j, j < i → ¬ (v (14 + 7 * j) = 2 ∧ v (15 + 7 * j) = p)) : gq_find v n p = some i := by
  unfold gq_find
  rw [List.find?_range_eq_some]
  exact ⟨decide_eq_true h, List.mem_range.mpr hi, fun j hj => by rw [decide_eq_false (hb j hj)]; rfl⟩
theorem gq_find_none {v : Nat → Int32} {n : Nat} {p : Int32} (hb : ∀ j, j < n → ¬ (v (14 + 7 * j) = 2 ∧ v (15 + 7 * j) = p)) : gq_find v n p = none := by
  unfold gq_find
  rw [List.find?_eq_none]
  intro j hj
  simpa using hb j (List.mem_range.mp hj)
def gq_Ibi (g : gh_G) (N : gq_N) (A : Nat → Nat) (v : Nat → Int32) (p : Int32) (k : Nat) (_ : Unit) (g' : gh_G) : Prop := ∃ i, i + k = N.1 ∧ gq_It g' g.2.1 (A 2) (A 5) N.1 i ∧ (∀ j, j < i → ¬ (v (14 + 7 * j) = 2 ∧ v (15 + 7 * j) = p)) ∧ (∀ a, a < g.2.1 → g'.1 a = g.1 a) ∧ g'.2 = (g.2.1 + 1, g.2.2.1 + 4, g.2.2.2)
theorem gq_blockIn {z : Nat → Prop} {N : gq_N} {A : Nat → Nat} {v : Nat → Int32} {p : Int32} (h : gq_W g z N A v) (hlo : gh_lo g ≤ g.2.1) : ∃ g1, gh_run (f_X2_blockIn (A 0) p) g = some (.inl ((gq_find v N.1 p).map fun i => A (10 + i)), g1) ∧ gq_ext g g1 1 4 := by
  have key : gq (f_X2_blockIn (A 0) p) g (fun r g1 => r = .inl ((gq_find v N.1 p).map fun i => A (10 + i)) ∧ gq_ext g g1 1 4) := by
    unfold f_X2_blockIn
    obtain ⟨md, hlist⟩ := h.2.2.1.1
    refine gq_getr (x := some (A 2)) h.2.1.1 rfl ?_
    refine gq_nn ?_
    refine gq_is hlist ?_
    obtain ⟨g1, r1, i1, e1, s1⟩ := gq_it0 hlo h.2.2.1
    refine gq_l r1 ?_
    unfold f_X2_blockIn_8
    refine gq_it (I := gq_Ibi g N A v p) (fun k st g' hI => ?_) N.1 () g1 ⟨0, by omega, i1, fun j hj => absurd hj (Nat.not_lt_zero j), e1, s1⟩
    obtain ⟨i, hik, hit, hno, he, hs⟩ := hI
    have hext : gq_ext g g' 1 4 := ⟨he, by rw [hs]; exact Nat.le_succ _, by rw [hs]; exact Nat.le_refl _, by rw [hs]; exact Nat.le_add_right _ _, by rw [hs]; exact Nat.le_refl _, by rw [hs]⟩
    have hW := h.ext hext
    obtain ⟨fs0, hfs0⟩ := hit.is
    unfold f_X2_blockIn_8_l
    refine gq_nn ?_
    refine gq_is hfs0 ?_
    refine gq_l (gq_it_has hW.2.2.1 hit) ?_
    by_cases hin : i = N.1
    · rw [if_pos hin]
      refine gq_t rfl ?_
      refine gq_up (gq_ret ⟨?_, hext⟩)
      rw [gq_find_none (fun j hj => hno j (by omega))]
      rfl
    · rw [if_neg hin]
      refine gq_f (by decide) ?_
      refine gq_is hfs0 ?_
      have hlt : i < N.1 := by omega
      obtain ⟨g2, r2, i2, e2, s2⟩ := gq_it_next hW.2.2.1 hit hlt
      refine gq_l r2 ?_
      refine gq_nn ?_
      have hbn : A (10 + i) ≠ g.2.1 := Nat.ne_of_lt (h.2.2.2.2.2.2 _ (gq_rlB hlt)).1
      have hb : g2.1 (A (10 + i)) = some (.inr (5, gq_Bl v i)) := (e2 _ hbn).trans (hW.2.1.2.2.1 i hlt)
      have he2 : ∀ a, a < g.2.1 → g2.1 a = g.1 a := fun a ha => (e2 a (Nat.ne_of_lt ha)).trans (he a ha)
      have hs2 : g2.2 = (g.2.1 + 1, g.2.2.1 + 4, g.2.2.2) := s2.trans hs
      refine gq_is hb ?_
      refine gq_geti (x := v (14 + 7 * i)) hb rfl ?_
      have hmore : ¬ (v (14 + 7 * i) = 2 ∧ v (15 + 7 * i) = p) → gq (f_X2_blockIn_45 p (some g.2.1)) g2 (gq_po (gq_Ibi g N A v p) k (fun r g1 => r = .inl ((gq_find v N.1 p).map fun i => A (10 + i)) ∧ gq_ext g g1 1 4)) := by
        intro hn
        unfold f_X2_blockIn_45
        refine gq_ret ⟨k - 1, by omega, i + 1, by omega, i2, fun j hj => ?_, he2, hs2⟩
        by_cases e : j = i
        · rw [e]; exact hn
        · exact hno j (by omega)
      refine gq_if (fun hc => ?_) (fun hc => hmore fun q => hc q.1)
      refine gq_geti (x := v (15 + 7 * i)) hb rfl ?_
      refine gq_if (fun hd => ?_) (fun hd => hmore fun q => hd q.2)
      refine gq_up (gq_ret ⟨?_, he2, by rw [hs2]; exact Nat.le_succ _, by rw [hs2]; exact Nat.le_refl _, by rw [hs2]; exact Nat.le_add_right _ _, by rw [hs2]; exact Nat.le_refl _, by rw [hs2]⟩)
      rw [gq_find_some hlt ⟨hc, hd⟩ hno]
      rfl
  obtain ⟨r, g1, h1, rfl, h2⟩ := key
  exact ⟨g1, h1, h2⟩
end
