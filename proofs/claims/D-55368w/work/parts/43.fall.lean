/-! falling -/
set_option maxRecDepth 100000
/-- cells below z are as they were; so many cells and slots more at the most -/
def gq_mu (g g1 : gh_G) (z : Nat → Prop) (c s : Nat) : Prop := (∀ a, z a → g1.1 a = g.1 a) ∧ g.2.1 ≤ g1.2.1 ∧ g1.2.1 ≤ g.2.1 + c ∧ g.2.2.1 ≤ g1.2.2.1 ∧ g1.2.2.1 ≤ g.2.2.1 + s ∧ g1.2.2.2 = g.2.2.2
theorem gq_mu.rf {g : gh_G} {z : Nat → Prop} : gq_mu g g z 0 0 := ⟨fun _ _ => rfl, Nat.le_refl _, Nat.le_refl _, Nat.le_refl _, Nat.le_refl _, rfl⟩
theorem gq_mu.tr {a b c : gh_G} {z : Nat → Prop} {i j k l : Nat} (h : gq_mu a b z i j) (h2 : gq_mu b c z k l) : gq_mu a c z (i + k) (j + l) := by
  obtain ⟨x1, x2, x3, x4, x5, x6⟩ := h
  obtain ⟨y1, y2, y3, y4, y5, y6⟩ := h2
  exact ⟨fun q hq => (y1 q hq).trans (x1 q hq), by omega, by omega, by omega, by omega, y6.trans x6⟩
theorem gq_mu.up {a b : gh_G} {z : Nat → Prop} {i j k l : Nat} (h : gq_mu a b z i j) (hi : i ≤ k) (hj : j ≤ l) : gq_mu a b z k l := by
  obtain ⟨x1, x2, x3, x4, x5, x6⟩ := h
  exact ⟨x1, x2, by omega, x4, by omega, x6⟩
theorem gq_mu.lo {a b : gh_G} {z : Nat → Prop} {i j : Nat} (h : gq_mu a b z i j) : gh_lo b = gh_lo a := by unfold gh_lo; rw [h.2.2.2.2.2]
theorem gq_ext.mu {a b : gh_G} {z : Nat → Prop} {i j : Nat} (h : gq_ext a b i j) (hz : ∀ q, z q → q < a.2.1) : gq_mu a b z i j := ⟨fun q hq => h.1 q (hz q hq), h.2⟩
theorem gq_at1.mu {g g1 : gh_G} {a : Nat} {z : Nat → Prop} (h : gq_at1 g g1 a) (hz : ¬ z a) : gq_mu g g1 z 0 0 := ⟨fun q hq => h.1 q (fun e => hz (e ▸ hq)), by rw [h.2]; exact Nat.le_refl _, by rw [h.2]; exact Nat.le_refl _, by rw [h.2]; exact Nat.le_refl _, by rw [h.2]; exact Nat.le_refl _, by rw [h.2]⟩
/-- the block i falls: how many fall, and the row after it -/
def gq_fl (n : Nat) : Nat → (Nat → Int32) → Nat → Int32 × (Nat → Int32)
  | 0, v, _ => (0, v)
  | f + 1, v, i => match gq_bl (upd (upd v (14 + 7 * i) 3) (15 + 7 * i) (-1)) n (v (15 + 7 * i)).toNatClampNeg (v (15 + 7 * i)).toNatClampNeg with
    | none => (1, upd (upd v (14 + 7 * i) 3) (15 + 7 * i) (-1))
    | some j => if upd (upd v (14 + 7 * i) 3) (15 + 7 * i) (-1) (13 + 7 * j) + v (10 + 7 * i) < 10 then (1, upd (upd (upd v (14 + 7 * i) 3) (15 + 7 * i) (-1)) (13 + 7 * j) (upd (upd v (14 + 7 * i) 3) (15 + 7 * i) (-1) (13 + 7 * j) + v (10 + 7 * i)))
      else (1 + (gq_fl n f (upd (upd (upd v (14 + 7 * i) 3) (15 + 7 * i) (-1)) (13 + 7 * j) (upd (upd v (14 + 7 * i) 3) (15 + 7 * i) (-1) (13 + 7 * j) + v (10 + 7 * i))) j).1, (gq_fl n f (upd (upd (upd v (14 + 7 * i) 3) (15 + 7 * i) (-1)) (13 + 7 * j) (upd (upd v (14 + 7 * i) 3) (15 + 7 * i) (-1) (13 + 7 * j) + v (10 + 7 * i))) j).2)
theorem gq_find_spec {v : Nat → Int32} {n j : Nat} {p : Int32} (h : gq_find v n p = some j) : j < n ∧ v (14 + 7 * j) = 2 ∧ v (15 + 7 * j) = p := by
  unfold gq_find at h
  have h1 := List.find?_some h
  exact ⟨List.mem_range.mp (List.mem_of_find?_eq_some h), (of_decide_eq_true h1).1, (of_decide_eq_true h1).2⟩
theorem gq_bl_spec {v : Nat → Int32} {n u j : Nat} : ∀ {k : Nat}, gq_bl v n u k = some j → j < n ∧ ∃ q, q < k ∧ q / 5 = u / 5 ∧ v (14 + 7 * j) = 2 ∧ v (15 + 7 * j) = Int32.ofNat q := by
  intro k
  induction k with
  | zero => intro h; cases h
  | succ q ih =>
    intro h
    unfold gq_bl at h
    split at h
    · rename_i hf
      split at h
      · rename_i i hi
        cases h
        obtain ⟨a1, a2, a3⟩ := gq_find_spec hi
        exact ⟨a1, q, by omega, hf, a2, a3⟩
      · obtain ⟨a1, q', a2, a3⟩ := ih h
        exact ⟨a1, q', by omega, a3⟩
    · cases h
section
variable {z : Nat → Prop} {N : gq_N} {A : Nat → Nat}
theorem gq_cn {u : Nat} (hu : u < 20) : (Int32.ofNat u).toNatClampNeg = u := Int32.toNatClampNeg_ofNat_of_lt (by omega)
theorem gq_fall : ∀ (f : Nat) (g : gh_G) (v : Nat → Int32) (i u : Nat), gq_W g z N A v → gh_lo g ≤ g.2.1 → (∀ a, z a → a < g.2.1) → i < N.1 → v (15 + 7 * i) = Int32.ofNat u → u < 20 → u % 5 < f → ∃ g1, gh_run (f_X2_fall f (A 0) (some (A (10 + i)))) g = some (.inl (gq_fl N.1 f v i).1, g1) ∧ gq_W g1 z N A (gq_fl N.1 f v i).2 ∧ gq_mu g g1 z (4 * f) (16 * f) := by
  intro f
  induction f with
  | zero => intro g v i u _ _ _ _ _ _ h; omega
  | succ f ih =>
    intro g v i u h hlo hz hi hp hu hf
    have key : gq (f_X2_fall (f + 1) (A 0) (some (A (10 + i)))) g (fun r g1 => r = .inl (gq_fl N.1 (f + 1) v i).1 ∧ gq_W g1 z N A (gq_fl N.1 (f + 1) v i).2 ∧ gq_mu g g1 z (4 * (f + 1)) (16 * (f + 1))) := by
      show gq (f_X2_fall_s (f_X2_fall f) (A 0) (some (A (10 + i)))) g _
      unfold f_X2_fall_s
      refine gq_nn ?_
      refine gq_geti (x := v (15 + 7 * i)) (h.2.1.2.2.1 i hi) rfl ?_
      refine gq_is (h.2.1.2.2.1 i hi) ?_
      obtain ⟨g1, r1, w1, t1⟩ := gq_go (w := 3) (p := -1) h hi
      refine gq_l r1 ?_
      refine gq_is w1.2.1.1 ?_
      have m1 := t1.mu (h.loB hi).2.1
      have hlo1 : gh_lo g1 ≤ g1.2.1 := by rw [m1.lo]; have := m1.2.1; omega
      obtain ⟨g2, r2, x2⟩ := gq_below hu w1 hlo1
      rw [← hp] at r2
      refine gq_l r2 ?_
      have m2 := m1.tr (x2.mu (z := z) (fun a ha => Nat.lt_of_lt_of_le (hz a ha) m1.2.1))
      have w2 := w1.ext x2
      have hz2 : ∀ a, z a → a < g2.2.1 := fun a ha => Nat.lt_of_lt_of_le (hz a ha) m2.2.1
      have hlo2 : gh_lo g2 ≤ g2.2.1 := by rw [m2.lo]; have := m2.2.1; omega
      unfold gq_fl
      rw [show (v (15 + 7 * i)).toNatClampNeg = u by rw [hp]; exact gq_cn hu]
      cases hbl : gq_bl (upd (upd v (14 + 7 * i) 3) (15 + 7 * i) (-1)) N.1 u u with
      | none => exact gq_ret ⟨rfl, w2, m2.up (by omega) (by omega)⟩
      | some j =>
        obtain ⟨hj, q, hq, hq5, -, hqp⟩ := gq_bl_spec hbl
        show gq (gh_bd (gh_geti (A (10 + j)) 5 4) _) g2 _
        have hij : j ≠ i := by
          rintro rfl
          have e9 : upd (upd v (14 + 7 * j) 3) (15 + 7 * j) (-1) (14 + 7 * j) = 3 := by rw [gq_u (by omega), gq_us]
          have e8 := (gq_bl_spec hbl).2.choose_spec.2.2.1
          rw [e9] at e8
          exact absurd e8 (by decide)
        refine gq_geti (x := upd (upd v (14 + 7 * i) 3) (15 + 7 * i) (-1) (13 + 7 * j)) (w2.2.1.2.2.1 j hj) rfl ?_
        refine gq_geti (x := v (10 + 7 * i)) (w2.2.1.2.2.1 i hi) (by show some (Value.int (upd (upd v (14 + 7 * i) 3) (15 + 7 * i) (-1) (10 + 7 * i))) = _; rw [gq_u (by omega), gq_u (by omega)]) ?_
        refine gq_putB w2 hj (by decide) (by decide) fun g3 w3 t3 => ?_
        rw [show 9 + 7 * j + 4 = 13 + 7 * j by omega] at w3
        refine gq_is (w3.2.1.2.2.1 j hj) ?_
        refine gq_l (gq_isLoose (w3.2.1.2.2.1 j hj)) ?_
        rw [gq_us]
        have m3 := m2.tr (t3.mu (w2.loB hj).2.1)
        by_cases hd : upd (upd v (14 + 7 * i) 3) (15 + 7 * i) (-1) (13 + 7 * j) + v (10 + 7 * i) < 10
        · rw [if_pos hd]
          dsimp only
          rw [if_pos hd]
          refine gq_t (c := (0 : Int32) = 0) rfl ?_
          exact gq_ret ⟨rfl, w3, m3.up (by omega) (by omega)⟩
        · rw [if_neg hd]
          dsimp only
          rw [if_neg hd]
          refine gq_f (c := (1 : Int32) = 0) (by decide) ?_
          refine gq_is w3.2.1.1 ?_
          have hz3 : ∀ a, z a → a < g3.2.1 := fun a ha => Nat.lt_of_lt_of_le (hz a ha) m3.2.1
          have hlo3 : gh_lo g3 ≤ g3.2.1 := by rw [m3.lo]; have := m3.2.1; omega
          obtain ⟨g4, r4, w4, m4⟩ := ih g3 _ j q w3 hlo3 hz3 hj (by rw [gq_u (by omega)]; exact hqp) (by omega) (by omega)
          refine gq_l r4 ?_
          exact gq_ret ⟨rfl, w4, (m3.tr m4).up (by omega) (by omega)⟩
    obtain ⟨r, g1, h1, rfl, h2⟩ := key
    exact ⟨g1, h1, h2⟩
end
