/-! a World of the component over the model's row v: the addresses by role: 0 the World, 1 its Weather, 2 3 4 the lists, 5 6 7 their arrays, 10 + i blocks, 30 + i ropes, 40 + i commissions -/
set_option maxRecDepth 100000
def gq_Bl (v : Nat → Int32) (i : Nat) : List Value := [.int (Int32.ofNat i), .int (v (10 + 7 * i)), .int (v (11 + 7 * i)), .int (v (12 + 7 * i)), .int (v (13 + 7 * i)), .int (v (14 + 7 * i)), .int (v (15 + 7 * i)), .int (v (16 + 7 * i))]
def gq_Ro (v : Nat → Int32) (i : Nat) : List Value := [.int (v (122 + 4 * i)), .int (v (123 + 4 * i)), .int (v (125 + 4 * i)), .int (v (124 + 4 * i))]
def gq_Co (v : Nat → Int32) (i : Nat) : List Value := [.int (v (158 + 4 * i)), .int (v (159 + 4 * i)), .int (v (160 + 4 * i)), .int (v (161 + 4 * i))]
def gq_We (v : Nat → Int32) (A : Nat → Nat) : List Value := [.int (v 3), .int (v 0), .int (v 1), .int (v 7), .int (v 8), .ref (A 1), .ref (A 2), .ref (A 3), .ref (A 4)]
/-- how many blocks, ropes, commissions -/
abbrev gq_N : Type := Nat × Nat × Nat
def gq_rl (N : gq_N) (r : Nat) : Prop := r < 8 ∨ (10 ≤ r ∧ r < 10 + N.1) ∨ (30 ≤ r ∧ r < 30 + N.2.1) ∨ (40 ≤ r ∧ r < 40 + N.2.2)
def gq_Wf (g : gh_G) (N : gq_N) (A : Nat → Nat) (v : Nat → Int32) : Prop :=
  g.1 (A 0) = some (.inr (1, gq_We v A)) ∧ g.1 (A 1) = some (.inr (2, [.int (v 2)])) ∧
  (∀ i, i < N.1 → g.1 (A (10 + i)) = some (.inr (5, gq_Bl v i))) ∧ (∀ i, i < N.2.1 → g.1 (A (30 + i)) = some (.inr (6, gq_Ro v i))) ∧ (∀ i, i < N.2.2 → g.1 (A (40 + i)) = some (.inr (7, gq_Co v i)))
def gq_Wn (N : gq_N) (v : Nat → Int32) : Prop := N.1 ≤ 16 ∧ N.2.1 ≤ 4 ∧ N.2.2 ≤ 8 ∧ v 4 = Int32.ofNat N.1 ∧ v 5 = Int32.ofNat N.2.1 ∧ v 6 = Int32.ofNat N.2.2
/-- the World at A 0 holds what v says; all its cells lie at z or above, apart -/
def gq_W (g : gh_G) (z : Nat → Prop) (N : gq_N) (A : Nat → Nat) (v : Nat → Int32) : Prop :=
  gq_Wn N v ∧ gq_Wf g N A v ∧ gq_Ls g (A 2) (A 5) N.1 (fun i => A (10 + i)) ∧ gq_Ls g (A 3) (A 6) N.2.1 (fun i => A (30 + i)) ∧ gq_Ls g (A 4) (A 7) N.2.2 (fun i => A (40 + i)) ∧
  (∀ r s, gq_rl N r → gq_rl N s → gh_lo g ≤ A r → A r = A s → r = s) ∧ (∀ r, gq_rl N r → A r < g.2.1 ∧ (¬ z (A r) ∧ gh_lo g ≤ A r ∨ (5 ≤ r ∧ r < 8 ∧ A r < gh_lo g)))
section
variable {g : gh_G}
theorem gq_okr_at {g g1 : gh_G} {b : Nat} (h : gh_okr g (some b) = true) (hb : g1.1 b = g.1 b) : gh_okr g1 (some b) = true := by
  obtain ⟨c, fs, h1, h2⟩ := gh_okr_inv h
  exact gh_okr_of (hb.trans h1) h2
theorem gq_Ls.kept {g1 : gh_G} {l arr n : Nat} {F : Nat → Nat} (h : gq_Ls g l arr n F) (hk : ∀ a, a < g.2.1 → (a = l ∨ a = arr ∨ ∃ i, i < n ∧ a = F i) → g1.1 a = g.1 a) (hs : g.2.1 ≤ g1.2.1) (hc : g1.2.2.2 = g.2.2.2) : gq_Ls g1 l arr n F := by
  obtain ⟨⟨md, h1⟩, h2, h3, h4, h5, h6, h7⟩ := h
  have hlo : gh_lo g1 = gh_lo g := by unfold gh_lo; rw [hc]
  have hco : gh_co g1 = gh_co g := by unfold gh_co; rw [hc]
  refine ⟨⟨md, (hk l h3 (Or.inl rfl)).trans h1⟩, by rw [hlo]; exact h2, by omega, by omega, h5, fun i hi => by have := h6 i hi; omega, ?_⟩
  have ha := hk arr h4 (Or.inr (Or.inl rfl))
  rcases h7 with ⟨a1, a2, a3, a4⟩ | ⟨cap, f, a1, a2, a3, a4, a5, a6, a7⟩
  · exact Or.inl ⟨a1, by rw [hlo]; exact a2, by rw [hco]; exact a3, ha.trans a4⟩
  · exact Or.inr ⟨cap, f, by rw [hlo]; exact a1, a2, a3, a4, ha.trans a5, fun i hi => ⟨(a6 i hi).1, gq_okr_at (a6 i hi).2 (hk _ (h6 i hi) (Or.inr (Or.inr ⟨i, hi, rfl⟩)))⟩, a7⟩
theorem gq_rlB {N : gq_N} {i : Nat} (h : i < N.1) : gq_rl N (10 + i) := Or.inr (Or.inl ⟨by omega, by omega⟩)
theorem gq_rlR {N : gq_N} {i : Nat} (h : i < N.2.1) : gq_rl N (30 + i) := Or.inr (Or.inr (Or.inl ⟨by omega, by omega⟩))
theorem gq_rlC {N : gq_N} {i : Nat} (h : i < N.2.2) : gq_rl N (40 + i) := Or.inr (Or.inr (Or.inr ⟨by omega, by omega⟩))
theorem gq_W.kept {g1 : gh_G} {z : Nat → Prop} {N : gq_N} {A : Nat → Nat} {v : Nat → Int32} (h : gq_W g z N A v) (hk : ∀ r, gq_rl N r → g1.1 (A r) = g.1 (A r)) (hs : g.2.1 ≤ g1.2.1) (hc : g1.2.2.2 = g.2.2.2) : gq_W g1 z N A v := by
  obtain ⟨h1, ⟨f0, f1, f2, f3, f4⟩, l1, l2, l3, h3, h4⟩ := h
  have hlo : gh_lo g1 = gh_lo g := by unfold gh_lo; rw [hc]
  refine ⟨h1, ⟨(hk 0 (Or.inl (by decide))).trans f0, (hk 1 (Or.inl (by decide))).trans f1, fun i hi => (hk _ (gq_rlB hi)).trans (f2 i hi), fun i hi => (hk _ (gq_rlR hi)).trans (f3 i hi), fun i hi => (hk _ (gq_rlC hi)).trans (f4 i hi)⟩, l1.kept (fun a ha hx => ?_) hs hc, l2.kept (fun a ha hx => ?_) hs hc, l3.kept (fun a ha hx => ?_) hs hc, by rw [hlo]; exact h3, fun r hr => ?_⟩
  · rcases hx with rfl | rfl | ⟨i, hi, rfl⟩
    · exact hk 2 (Or.inl (by decide))
    · exact hk 5 (Or.inl (by decide))
    · exact hk _ (gq_rlB hi)
  · rcases hx with rfl | rfl | ⟨i, hi, rfl⟩
    · exact hk 3 (Or.inl (by decide))
    · exact hk 6 (Or.inl (by decide))
    · exact hk _ (gq_rlR hi)
  · rcases hx with rfl | rfl | ⟨i, hi, rfl⟩
    · exact hk 4 (Or.inl (by decide))
    · exact hk 7 (Or.inl (by decide))
    · exact hk _ (gq_rlC hi)
  · obtain ⟨k1, k2⟩ := h4 r hr
    rw [hlo]
    exact ⟨by omega, k2⟩
theorem gq_W.ext {g1 : gh_G} {z : Nat → Prop} {c s : Nat} {N : gq_N} {A : Nat → Nat} {v : Nat → Int32} (h : gq_W g z N A v) (hx : gq_ext g g1 c s) : gq_W g1 z N A v := h.kept (fun r hr => hx.1 _ ((h.2.2.2.2.2.2 r hr).1)) hx.2.1 hx.2.2.2.2.2
/-- an object of the World is written anew (the same class, another row) -/
theorem gq_W.put {z : Nat → Prop} {N : gq_N} {A : Nat → Nat} {v v' : Nat → Int32} {r0 c : Nat} {fs fs' : List Value} (h : gq_W g z N A v) (hr : gq_rl N r0) (h0 : r0 < 2 ∨ 10 ≤ r0) (hc : c < 25) (hfs : g.1 (A r0) = some (.inr (c, fs)))
    (hN : gq_Wn N v') (hF : gq_Wf (gh_set g.1 (A r0) (.inr (c, fs')), g.2) N A v') : gq_W (gh_set g.1 (A r0) (.inr (c, fs')), g.2) z N A v' := by
  obtain ⟨h1, hf, l1, l2, l3, h3, h4⟩ := h
  have hb : ¬ z (A r0) ∧ gh_lo g ≤ A r0 := by
    rcases (h4 r0 hr).2 with k | k
    · exact k
    · omega
  have hne : ∀ r, gq_rl N r → r ≠ r0 → gh_set g.1 (A r0) (.inr (c, fs')) (A r) = g.1 (A r) := fun r hr' hn => gh_set_n fun e => hn (h3 r0 r hr hr' hb.2 e.symm).symm
  have hokr : ∀ b, gh_okr g (some b) = true → gh_okr (gh_set g.1 (A r0) (.inr (c, fs')), g.2) (some b) = true := by
    intro b hb9
    by_cases e : b = A r0
    · subst e
      exact gh_okr_of (g := (gh_set g.1 (A r0) (.inr (c, fs')), g.2)) gh_set_s hc
    · rw [gq_okr_n (z' := g.2) e]
      exact hb9
  have hL : ∀ {l arr n : Nat} {F : Nat → Nat}, gq_Ls g l arr n F → gh_set g.1 (A r0) (.inr (c, fs')) l = g.1 l → gh_set g.1 (A r0) (.inr (c, fs')) arr = g.1 arr → gq_Ls (gh_set g.1 (A r0) (.inr (c, fs')), g.2) l arr n F := by
    intro l arr n F hl e1 e2
    obtain ⟨⟨md, k1⟩, k2, k3, k4, k5, k6, k7⟩ := hl
    refine ⟨⟨md, e1.trans k1⟩, k2, k3, k4, k5, k6, ?_⟩
    rcases k7 with ⟨a1, a2, a3, a4⟩ | ⟨cap, f, a1, a2, a3, a4, a5, a6, a7⟩
    · exact Or.inl ⟨a1, a2, a3, e2.trans a4⟩
    · exact Or.inr ⟨cap, f, a1, a2, a3, a4, e2.trans a5, fun i hi => ⟨(a6 i hi).1, hokr _ (a6 i hi).2⟩, a7⟩
  exact ⟨hN, hF, hL l1 (hne 2 (Or.inl (by decide)) (by omega)) (hne 5 (Or.inl (by decide)) (by omega)), hL l2 (hne 3 (Or.inl (by decide)) (by omega)) (hne 6 (Or.inl (by decide)) (by omega)), hL l3 (hne 4 (Or.inl (by decide)) (by omega)) (hne 7 (Or.inl (by decide)) (by omega)), h3, h4⟩
end
