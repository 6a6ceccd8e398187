/-! blocks go, ropes wear -/
set_option maxRecDepth 100000
section
variable {g : gh_G} {z : Nat → Prop} {N : gq_N} {A : Nat → Nat} {v : Nat → Int32}
theorem gq_W.loR {r : Nat} (h : gq_W g z N A v) (hr : gq_rl N r) (h0 : r < 5 ∨ 8 ≤ r) : gh_lo g ≤ A r ∧ ¬ z (A r) ∧ A r < g.2.1 := by
  obtain ⟨k1, k2⟩ := h.2.2.2.2.2.2 r hr
  rcases k2 with k | k
  · exact ⟨k.2, k.1, k1⟩
  · omega
theorem gq_W.loB {i : Nat} (h : gq_W g z N A v) (hi : i < N.1) : gh_lo g ≤ A (10 + i) ∧ ¬ z (A (10 + i)) ∧ A (10 + i) < g.2.1 := h.loR (gq_rlB hi) (Or.inr (by omega))
theorem gq_W.loRo {i : Nat} (h : gq_W g z N A v) (hi : i < N.2.1) : gh_lo g ≤ A (30 + i) ∧ ¬ z (A (30 + i)) ∧ A (30 + i) < g.2.1 := h.loR (gq_rlR hi) (Or.inr (by omega))
theorem gq_W.loC {i : Nat} (h : gq_W g z N A v) (hi : i < N.2.2) : gh_lo g ≤ A (40 + i) ∧ ¬ z (A (40 + i)) ∧ A (40 + i) < g.2.1 := h.loR (gq_rlC hi) (Or.inr (by omega))
/-- only the cell at a has changed -/
def gq_at1 (g g1 : gh_G) (a : Nat) : Prop := (∀ q, q ≠ a → g1.1 q = g.1 q) ∧ g1.2 = g.2
theorem gq_at1.tr {g g1 g2 : gh_G} {a : Nat} (h : gq_at1 g g1 a) (k : gq_at1 g1 g2 a) : gq_at1 g g2 a := ⟨fun q hq => (k.1 q hq).trans (h.1 q hq), k.2.trans h.2⟩
theorem gq_putB {β : Type} {Q : (β ⊕ gh_X) → gh_G → Prop} {kt : Unit → gh_M β} {kx : gh_X → gh_M β} {i k : Nat} {x : Int32} (h : gq_W g z N A v) (hi : i < N.1) (h1 : 1 ≤ k) (h2 : k < 8)
    (kk : ∀ g1, gq_W g1 z N A (upd v (9 + 7 * i + k) x) → gq_at1 g g1 (A (10 + i)) → gq (kt ()) g1 Q) : gq (gh_tc (gh_putv (A (10 + i)) 5 k .int (.int x)) kt kx) g Q :=
  gq_putv (h.loB hi).1 rfl rfl (h.2.1.2.2.1 i hi) (show k < 8 from h2) (kk _ (h.setB hi h1 h2) ⟨fun q hq => gh_set_n hq, rfl⟩)
theorem gq_go {i : Nat} {w p : Int32} (h : gq_W g z N A v) (hi : i < N.1) : ∃ g1, gh_run (f_X6_go (A (10 + i)) w p) g = some (.inl (), g1) ∧ gq_W g1 z N A (upd (upd v (14 + 7 * i) w) (15 + 7 * i) p) ∧ gq_at1 g g1 (A (10 + i)) := by
  have key : gq (f_X6_go (A (10 + i)) w p) g (fun r g1 => r = .inl () ∧ gq_W g1 z N A (upd (upd v (14 + 7 * i) w) (15 + 7 * i) p) ∧ gq_at1 g g1 (A (10 + i))) := by
    unfold f_X6_go
    refine gq_putB h hi (by decide) (by decide) fun g1 w1 t1 => ?_
    refine gq_putB w1 hi (by decide) (by decide) fun g2 w2 t2 => ?_
    refine gq_ret ⟨rfl, ?_, t1.tr t2⟩
    rw [show 9 + 7 * i + 5 = 14 + 7 * i by omega, show 9 + 7 * i + 6 = 15 + 7 * i by omega] at w2
    exact w2
  obtain ⟨r, g1, h1, rfl, h2⟩ := key
  exact ⟨g1, h1, h2⟩
/-- a rope wears: the row after it, and whether it is torn -/
def gq_wv (v : Nat → Int32) (r : Nat) (m : Int32) : Nat → Int32 := upd v (123 + 4 * r) (v (123 + 4 * r) + m)
def gq_tn (v : Nat → Int32) (r : Nat) (m w : Int32) : Int32 := if v (125 + 4 * r) = 0 ∧ 1 ≤ gq_hd (gq_wv v r m) r ∧ w ≤ gq_hd (gq_wv v r m) r then 0 else 1
theorem gq_putR {β : Type} {Q : (β ⊕ gh_X) → gh_G → Prop} {kt : Unit → gh_M β} {kx : gh_X → gh_M β} {i k d : Nat} {ty : FieldType} {x : Int32} (h : gq_W g z N A v) (hi : i < N.2.1) (hk : k = 1 ∧ d = 1 ∨ k = 2 ∧ d = 3 ∨ k = 3 ∧ d = 2) (hn : narrow ty (.int x) = .int x) (hf : fits ty (.int x) = true)
    (kk : ∀ g1, gq_W g1 z N A (upd v (122 + 4 * i + d) x) → gq_at1 g g1 (A (30 + i)) → gq (kt ()) g1 Q) : gq (gh_tc (gh_putv (A (30 + i)) 6 k ty (.int x)) kt kx) g Q :=
  gq_putv (h.loRo hi).1 hn hf (h.2.1.2.2.2.1 i hi) (show k < 4 by omega) (kk _ (h.setR hi hk) ⟨fun q hq => gh_set_n hq, rfl⟩)
theorem gq_wearBy {i : Nat} {m w : Int32} (h : gq_W g z N A v) (hi : i < N.2.1) : ∃ g1, gh_run (f_X7_wearBy (A (30 + i)) m w) g = some (.inl (gq_tn v i m w), g1) ∧ gq_W g1 z N A (upd (gq_wv v i m) (125 + 4 * i) (gq_tn v i m w)) ∧ gq_at1 g g1 (A (30 + i)) := by
  have h31 : ∀ {g1 : gh_G} {b : Int32}, gq_W g1 z N A (gq_wv v i m) → gq_at1 g g1 (A (30 + i)) → (b = 0 ∨ b = 1) → gq (f_X7_wearBy_31 (A (30 + i)) (some (A (30 + i))) b) g1 (fun r g2 => r = .inl b ∧ gq_W g2 z N A (upd (gq_wv v i m) (125 + 4 * i) b) ∧ gq_at1 g g2 (A (30 + i))) := by
    intro g1 b w1 t1 hb
    unfold f_X7_wearBy_31
    refine gq_nn ?_
    refine gq_putR w1 hi (Or.inr (Or.inl ⟨rfl, rfl⟩)) (by rcases hb with rfl | rfl <;> rfl) (by rcases hb with rfl | rfl <;> rfl) fun g2 w2 t2 => ?_
    rw [show 122 + 4 * i + 3 = 125 + 4 * i by omega] at w2
    refine gq_geti (x := b) (w2.2.1.2.2.2.1 i hi) (by show some (Value.int (upd _ (125 + 4 * i) b (125 + 4 * i))) = _; rw [gq_us]) ?_
    exact gq_of (gq_rz hb) ⟨rfl, w2, t1.tr t2⟩
  have key : gq (f_X7_wearBy (A (30 + i)) m w) g (fun r g1 => r = .inl (gq_tn v i m w) ∧ gq_W g1 z N A (upd (gq_wv v i m) (125 + 4 * i) (gq_tn v i m w)) ∧ gq_at1 g g1 (A (30 + i))) := by
    unfold f_X7_wearBy
    refine gq_geti (x := v (123 + 4 * i)) (h.2.1.2.2.2.1 i hi) rfl ?_
    refine gq_putR h hi (Or.inl ⟨rfl, rfl⟩) rfl rfl fun g1 w1 t1 => ?_
    rw [show 122 + 4 * i + 1 = 123 + 4 * i by omega] at w1
    have w1' : gq_W g1 z N A (gq_wv v i m) := w1
    have e5 : gq_wv v i m (125 + 4 * i) = v (125 + 4 * i) := gq_u (by omega)
    refine gq_geti (x := v (125 + 4 * i)) (w1'.2.1.2.2.2.1 i hi) (by show some (Value.int (gq_wv v i m (125 + 4 * i))) = _; rw [e5]) ?_
    refine gq_if (fun hc => ?_) (fun hc => ?_)
    · refine gq_is (w1'.2.1.2.2.2.1 i hi) ?_
      refine gq_l (gq_canHold (w1'.2.1.2.2.2.1 i hi)) ?_
      by_cases hh : 1 ≤ gq_hd (gq_wv v i m) i ∧ w ≤ gq_hd (gq_wv v i m) i
      · rw [if_pos hh]
        refine gq_f (c := (1 : Int32) = 0) (by decide) ?_
        have e : gq_tn v i m w = 0 := if_pos ⟨hc, hh⟩
        rw [e]
        exact h31 w1' t1 (Or.inl rfl)
      · rw [if_neg hh]
        refine gq_t (c := (0 : Int32) = 0) rfl ?_
        have e : gq_tn v i m w = 1 := if_neg fun q => hh q.2
        rw [e]
        exact h31 w1' t1 (Or.inr rfl)
    · have e : gq_tn v i m w = 1 := if_neg fun q => hc q.1
      rw [e]
      exact h31 w1' t1 (Or.inr rfl)
  obtain ⟨r, g1, h1, rfl, h2⟩ := key
  exact ⟨g1, h1, h2⟩
end
