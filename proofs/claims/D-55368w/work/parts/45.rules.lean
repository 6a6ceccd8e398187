/-! the state of a walk over a world: gq_P, and its rules (printed by gen/rules.py) -/
set_option maxRecDepth 100000
def gq_K0 (g : gh_G) : Prop := gh_lo g ≤ g.2.1 ∧ (∃ x, gh_co g 16 = va_rf x) ∧ (∃ x, gh_co g 17 = va_rf x) ∧ ∃ m, gh_co g 30 = .ref m
/-- since g0: a world of the row v; the cells of z are as they were; c cells and s slots more at most -/
def gq_P (g0 g : gh_G) (z : Nat → Prop) (N : gq_N) (A : Nat → Nat) (v : Nat → Int32) (c s : Nat) : Prop := gq_W g z N A v ∧ gq_mu g0 g z c s ∧ gq_K0 g0 ∧ ∀ a, z a → a < g0.2.1
theorem gq_mu.co {a b : gh_G} {z : Nat → Prop} {i j : Nat} (h : gq_mu a b z i j) : gh_co b = gh_co a := by unfold gh_co; rw [h.2.2.2.2.2]
theorem gq_K0.mu {a b : gh_G} {z : Nat → Prop} {i j : Nat} (h : gq_K0 a) (m : gq_mu a b z i j) : gq_K0 b := by
  have h1 := h.1
  have h2 := m.2.1
  exact ⟨by rw [m.lo]; omega, by rw [m.co]; exact h.2.1, by rw [m.co]; exact h.2.2.1, by rw [m.co]; exact h.2.2.2⟩
section
variable {g0 g : gh_G} {z : Nat → Prop} {N : gq_N} {A : Nat → Nat} {v : Nat → Int32} {c s : Nat}
theorem gq_P.k (w : gq_P g0 g z N A v c s) : gq_K0 g := w.2.2.1.mu w.2.1
theorem gq_P.lo (w : gq_P g0 g z N A v c s) : gh_lo g ≤ g.2.1 := w.k.1
theorem gq_P.hz (w : gq_P g0 g z N A v c s) : ∀ a, z a → a < g.2.1 := fun a ha => Nat.lt_of_lt_of_le (w.2.2.2 a ha) w.2.1.2.1
theorem gq_P.mu {g1 : gh_G} {N' : gq_N} {A' : Nat → Nat} {v' : Nat → Int32} {c' s' : Nat} (w : gq_P g0 g z N A v c s) (w' : gq_W g1 z N' A' v') (m : gq_mu g g1 z c' s') : gq_P g0 g1 z N' A' v' (c + c') (s + s') := ⟨w', w.2.1.tr m, w.2.2.1, w.2.2.2⟩
theorem gq_P.ext {g1 : gh_G} {c' s' : Nat} (w : gq_P g0 g z N A v c s) (x : gq_ext g g1 c' s') : gq_P g0 g1 z N A v (c + c') (s + s') := w.mu (w.1.ext x) (x.mu w.hz)
theorem gq_P.at1 {g1 : gh_G} {v' : Nat → Int32} {a : Nat} (w : gq_P g0 g z N A v c s) (w' : gq_W g1 z N A v') (t : gq_at1 g g1 a) (ha : ¬ z a) : gq_P g0 g1 z N A v' c s := w.mu (c' := 0) (s' := 0) w' (t.mu ha)
theorem gq_P.up {c' s' : Nat} (w : gq_P g0 g z N A v c s) (h1 : c ≤ c') (h2 : s ≤ s') : gq_P g0 g z N A v c' s' := ⟨w.1, w.2.1.up h1 h2, w.2.2⟩
theorem gq_P.base (w : gq_P g0 g z N A v c s) : gq_P g g z N A v 0 0 := ⟨w.1, gq_mu.rf, w.k, w.hz⟩
theorem gq_P.tr {g1 : gh_G} {N' : gq_N} {A' : Nat → Nat} {v' : Nat → Int32} {c' s' : Nat} (w : gq_P g0 g z N A v c s) (w' : gq_P g g1 z N' A' v' c' s') : gq_P g0 g1 z N' A' v' (c + c') (s + s') := w.mu w'.1 w'.2.1
variable {β : Type} {Q : (β ⊕ gh_X) → gh_G → Prop} {kx : gh_X → gh_M β} {i k : Nat}
theorem gq_P.isW {kt : Unit → gh_M β} (w : gq_P g0 g z N A v c s) (kk : gq (kt ()) g Q) : gq (gh_tc (gh_is (A 0) 1) kt kx) g Q := gq_is w.1.2.1.1 kk
theorem gq_P.geW {kt : Int32 → gh_M β} {x : Int32} (w : gq_P g0 g z N A v c s) (hk : (gq_We v A)[k]? = some (.int x)) (kk : gq (kt x) g Q) : gq (gh_tc (gh_geti (A 0) 1 k) kt kx) g Q := gq_geti w.1.2.1.1 hk kk
theorem gq_P.isT {kt : Unit → gh_M β} (w : gq_P g0 g z N A v c s) (kk : gq (kt ()) g Q) : gq (gh_tc (gh_is (A 1) 2) kt kx) g Q := gq_is w.1.2.1.2.1 kk
theorem gq_P.geT {kt : Int32 → gh_M β} {x : Int32} (w : gq_P g0 g z N A v c s) (hk : (([.int (v 2)] : List Value))[k]? = some (.int x)) (kk : gq (kt x) g Q) : gq (gh_tc (gh_geti (A 1) 2 k) kt kx) g Q := gq_geti w.1.2.1.2.1 hk kk
theorem gq_P.isB {kt : Unit → gh_M β} (w : gq_P g0 g z N A v c s) (hi : i < N.1) (kk : gq (kt ()) g Q) : gq (gh_tc (gh_is (A (10 + i)) 5) kt kx) g Q := gq_is (w.1.2.1.2.2.1 i hi) kk
theorem gq_P.geB {kt : Int32 → gh_M β} {x : Int32} (w : gq_P g0 g z N A v c s) (hi : i < N.1) (hk : (gq_Bl v i)[k]? = some (.int x)) (kk : gq (kt x) g Q) : gq (gh_tc (gh_geti (A (10 + i)) 5 k) kt kx) g Q := gq_geti (w.1.2.1.2.2.1 i hi) hk kk
theorem gq_P.isR {kt : Unit → gh_M β} (w : gq_P g0 g z N A v c s) (hi : i < N.2.1) (kk : gq (kt ()) g Q) : gq (gh_tc (gh_is (A (30 + i)) 6) kt kx) g Q := gq_is (w.1.2.1.2.2.2.1 i hi) kk
theorem gq_P.geR {kt : Int32 → gh_M β} {x : Int32} (w : gq_P g0 g z N A v c s) (hi : i < N.2.1) (hk : (gq_Ro v i)[k]? = some (.int x)) (kk : gq (kt x) g Q) : gq (gh_tc (gh_geti (A (30 + i)) 6 k) kt kx) g Q := gq_geti (w.1.2.1.2.2.2.1 i hi) hk kk
theorem gq_P.isC {kt : Unit → gh_M β} (w : gq_P g0 g z N A v c s) (hi : i < N.2.2) (kk : gq (kt ()) g Q) : gq (gh_tc (gh_is (A (40 + i)) 7) kt kx) g Q := gq_is (w.1.2.1.2.2.2.2 i hi) kk
theorem gq_P.geC {kt : Int32 → gh_M β} {x : Int32} (w : gq_P g0 g z N A v c s) (hi : i < N.2.2) (hk : (gq_Co v i)[k]? = some (.int x)) (kk : gq (kt x) g Q) : gq (gh_tc (gh_geti (A (40 + i)) 7 k) kt kx) g Q := gq_geti (w.1.2.1.2.2.2.2 i hi) hk kk
theorem gq_P.isL2 {kt : Unit → gh_M β} (w : gq_P g0 g z N A v c s) (kk : gq (kt ()) g Q) : gq (gh_tc (gh_is (A 2) 11) kt kx) g Q := by
  obtain ⟨md, hl⟩ := w.1.2.2.1.1
  exact gq_is hl kk
theorem gq_P.isL3 {kt : Unit → gh_M β} (w : gq_P g0 g z N A v c s) (kk : gq (kt ()) g Q) : gq (gh_tc (gh_is (A 3) 11) kt kx) g Q := by
  obtain ⟨md, hl⟩ := w.1.2.2.2.1.1
  exact gq_is hl kk
theorem gq_P.isL4 {kt : Unit → gh_M β} (w : gq_P g0 g z N A v c s) (kk : gq (kt ()) g Q) : gq (gh_tc (gh_is (A 4) 11) kt kx) g Q := by
  obtain ⟨md, hl⟩ := w.1.2.2.2.2.1.1
  exact gq_is hl kk
theorem gq_P.grW {kt : Option Nat → gh_M β} {x : Option Nat} (w : gq_P g0 g z N A v c s) (hk : (gq_We v A)[k]? = some (va_rf x)) (kk : gq (kt x) g Q) : gq (gh_tc (gh_getr (A 0) 1 k) kt kx) g Q := gq_getr w.1.2.1.1 hk kk
theorem gq_P.gr1 {kt : Option Nat → gh_M β} (w : gq_P g0 g z N A v c s) (kk : gq (kt (some (A 1))) g Q) : gq (gh_tc (gh_getr (A 0) 1 5) kt kx) g Q := gq_getr (x := some (A 1)) w.1.2.1.1 rfl kk
theorem gq_P.gr2 {kt : Option Nat → gh_M β} (w : gq_P g0 g z N A v c s) (kk : gq (kt (some (A 2))) g Q) : gq (gh_tc (gh_getr (A 0) 1 6) kt kx) g Q := gq_getr (x := some (A 2)) w.1.2.1.1 rfl kk
theorem gq_P.gr3 {kt : Option Nat → gh_M β} (w : gq_P g0 g z N A v c s) (kk : gq (kt (some (A 3))) g Q) : gq (gh_tc (gh_getr (A 0) 1 7) kt kx) g Q := gq_getr (x := some (A 3)) w.1.2.1.1 rfl kk
theorem gq_P.gr4 {kt : Option Nat → gh_M β} (w : gq_P g0 g z N A v c s) (kk : gq (kt (some (A 4))) g Q) : gq (gh_tc (gh_getr (A 0) 1 8) kt kx) g Q := gq_getr (x := some (A 4)) w.1.2.1.1 rfl kk
variable {kt : Unit → gh_M β} {x : Int32}
theorem gq_P.puB1 (w : gq_P g0 g z N A v c s) (hi : i < N.1) (kk : ∀ g1, gq_P g0 g1 z N A (upd v (10 + 7 * i) x) c s → gq (kt ()) g1 Q) : gq (gh_tc (gh_putv (A (10 + i)) 5 1 .int (.int x)) kt kx) g Q := gq_putB w.1 hi (by decide) (by decide) fun g1 w1 t1 => kk g1 (w.at1 (by rw [show 9 + 7 * i + 1 = 10 + 7 * i by omega] at w1; exact w1) t1 (w.1.loB hi).2.1)
theorem gq_P.puB2 (w : gq_P g0 g z N A v c s) (hi : i < N.1) (kk : ∀ g1, gq_P g0 g1 z N A (upd v (11 + 7 * i) x) c s → gq (kt ()) g1 Q) : gq (gh_tc (gh_putv (A (10 + i)) 5 2 .int (.int x)) kt kx) g Q := gq_putB w.1 hi (by decide) (by decide) fun g1 w1 t1 => kk g1 (w.at1 (by rw [show 9 + 7 * i + 2 = 11 + 7 * i by omega] at w1; exact w1) t1 (w.1.loB hi).2.1)
theorem gq_P.puB3 (w : gq_P g0 g z N A v c s) (hi : i < N.1) (kk : ∀ g1, gq_P g0 g1 z N A (upd v (12 + 7 * i) x) c s → gq (kt ()) g1 Q) : gq (gh_tc (gh_putv (A (10 + i)) 5 3 .int (.int x)) kt kx) g Q := gq_putB w.1 hi (by decide) (by decide) fun g1 w1 t1 => kk g1 (w.at1 (by rw [show 9 + 7 * i + 3 = 12 + 7 * i by omega] at w1; exact w1) t1 (w.1.loB hi).2.1)
theorem gq_P.puB4 (w : gq_P g0 g z N A v c s) (hi : i < N.1) (kk : ∀ g1, gq_P g0 g1 z N A (upd v (13 + 7 * i) x) c s → gq (kt ()) g1 Q) : gq (gh_tc (gh_putv (A (10 + i)) 5 4 .int (.int x)) kt kx) g Q := gq_putB w.1 hi (by decide) (by decide) fun g1 w1 t1 => kk g1 (w.at1 (by rw [show 9 + 7 * i + 4 = 13 + 7 * i by omega] at w1; exact w1) t1 (w.1.loB hi).2.1)
theorem gq_P.puB5 (w : gq_P g0 g z N A v c s) (hi : i < N.1) (kk : ∀ g1, gq_P g0 g1 z N A (upd v (14 + 7 * i) x) c s → gq (kt ()) g1 Q) : gq (gh_tc (gh_putv (A (10 + i)) 5 5 .int (.int x)) kt kx) g Q := gq_putB w.1 hi (by decide) (by decide) fun g1 w1 t1 => kk g1 (w.at1 (by rw [show 9 + 7 * i + 5 = 14 + 7 * i by omega] at w1; exact w1) t1 (w.1.loB hi).2.1)
theorem gq_P.puB6 (w : gq_P g0 g z N A v c s) (hi : i < N.1) (kk : ∀ g1, gq_P g0 g1 z N A (upd v (15 + 7 * i) x) c s → gq (kt ()) g1 Q) : gq (gh_tc (gh_putv (A (10 + i)) 5 6 .int (.int x)) kt kx) g Q := gq_putB w.1 hi (by decide) (by decide) fun g1 w1 t1 => kk g1 (w.at1 (by rw [show 9 + 7 * i + 6 = 15 + 7 * i by omega] at w1; exact w1) t1 (w.1.loB hi).2.1)
theorem gq_P.puB7 (w : gq_P g0 g z N A v c s) (hi : i < N.1) (kk : ∀ g1, gq_P g0 g1 z N A (upd v (16 + 7 * i) x) c s → gq (kt ()) g1 Q) : gq (gh_tc (gh_putv (A (10 + i)) 5 7 .int (.int x)) kt kx) g Q := gq_putB w.1 hi (by decide) (by decide) fun g1 w1 t1 => kk g1 (w.at1 (by rw [show 9 + 7 * i + 7 = 16 + 7 * i by omega] at w1; exact w1) t1 (w.1.loB hi).2.1)
theorem gq_P.puR1 (w : gq_P g0 g z N A v c s) (hi : i < N.2.1) (kk : ∀ g1, gq_P g0 g1 z N A (upd v (123 + 4 * i) x) c s → gq (kt ()) g1 Q) : gq (gh_tc (gh_putv (A (30 + i)) 6 1 .int (.int x)) kt kx) g Q := gq_putR w.1 hi (Or.inl ⟨rfl, rfl⟩) rfl rfl fun g1 w1 t1 => kk g1 (w.at1 (by rw [show 122 + 4 * i + 1 = 123 + 4 * i by omega] at w1; exact w1) t1 (w.1.loRo hi).2.1)
theorem gq_P.puR3 (w : gq_P g0 g z N A v c s) (hi : i < N.2.1) (kk : ∀ g1, gq_P g0 g1 z N A (upd v (124 + 4 * i) x) c s → gq (kt ()) g1 Q) : gq (gh_tc (gh_putv (A (30 + i)) 6 3 .int (.int x)) kt kx) g Q := gq_putR w.1 hi (Or.inr (Or.inr ⟨rfl, rfl⟩)) rfl rfl fun g1 w1 t1 => kk g1 (w.at1 (by rw [show 122 + 4 * i + 2 = 124 + 4 * i by omega] at w1; exact w1) t1 (w.1.loRo hi).2.1)
theorem gq_P.puC3 (w : gq_P g0 g z N A v c s) (hi : i < N.2.2) (kk : ∀ g1, gq_P g0 g1 z N A (upd v (161 + 4 * i) x) c s → gq (kt ()) g1 Q) : gq (gh_tc (gh_putv (A (40 + i)) 7 3 .int (.int x)) kt kx) g Q := gq_putv (w.1.loC hi).1 rfl rfl (w.1.2.1.2.2.2.2 i hi) (show 3 < 4 by decide) (kk _ (w.at1 (w.1.setC hi) ⟨fun q hq => gh_set_n hq, rfl⟩ (w.1.loC hi).2.1))
theorem gq_P.puW0 (w : gq_P g0 g z N A v c s) (kk : ∀ g1, gq_P g0 g1 z N A (upd v 3 x) c s → gq (kt ()) g1 Q) : gq (gh_tc (gh_putv (A 0) 1 0 .int (.int x)) kt kx) g Q := gq_putv (w.1.loR (Or.inl (by decide)) (Or.inl (by decide))).1 rfl rfl w.1.2.1.1 (show 0 < 9 by decide) (kk _ (w.at1 (w.1.setW (by decide)) ⟨fun q hq => gh_set_n hq, rfl⟩ (w.1.loR (Or.inl (by decide)) (Or.inl (by decide))).2.1))
theorem gq_P.puW1 (w : gq_P g0 g z N A v c s) (kk : ∀ g1, gq_P g0 g1 z N A (upd v 0 x) c s → gq (kt ()) g1 Q) : gq (gh_tc (gh_putv (A 0) 1 1 .int (.int x)) kt kx) g Q := gq_putv (w.1.loR (Or.inl (by decide)) (Or.inl (by decide))).1 rfl rfl w.1.2.1.1 (show 1 < 9 by decide) (kk _ (w.at1 (w.1.setW (by decide)) ⟨fun q hq => gh_set_n hq, rfl⟩ (w.1.loR (Or.inl (by decide)) (Or.inl (by decide))).2.1))
theorem gq_P.puW2 (w : gq_P g0 g z N A v c s) (kk : ∀ g1, gq_P g0 g1 z N A (upd v 1 x) c s → gq (kt ()) g1 Q) : gq (gh_tc (gh_putv (A 0) 1 2 .int (.int x)) kt kx) g Q := gq_putv (w.1.loR (Or.inl (by decide)) (Or.inl (by decide))).1 rfl rfl w.1.2.1.1 (show 2 < 9 by decide) (kk _ (w.at1 (w.1.setW (by decide)) ⟨fun q hq => gh_set_n hq, rfl⟩ (w.1.loR (Or.inl (by decide)) (Or.inl (by decide))).2.1))
theorem gq_P.puW3 (w : gq_P g0 g z N A v c s) (kk : ∀ g1, gq_P g0 g1 z N A (upd v 7 x) c s → gq (kt ()) g1 Q) : gq (gh_tc (gh_putv (A 0) 1 3 .int (.int x)) kt kx) g Q := gq_putv (w.1.loR (Or.inl (by decide)) (Or.inl (by decide))).1 rfl rfl w.1.2.1.1 (show 3 < 9 by decide) (kk _ (w.at1 (w.1.setW (by decide)) ⟨fun q hq => gh_set_n hq, rfl⟩ (w.1.loR (Or.inl (by decide)) (Or.inl (by decide))).2.1))
theorem gq_P.puW4 (w : gq_P g0 g z N A v c s) (kk : ∀ g1, gq_P g0 g1 z N A (upd v 8 x) c s → gq (kt ()) g1 Q) : gq (gh_tc (gh_putv (A 0) 1 4 .int (.int x)) kt kx) g Q := gq_putv (w.1.loR (Or.inl (by decide)) (Or.inl (by decide))).1 rfl rfl w.1.2.1.1 (show 4 < 9 by decide) (kk _ (w.at1 (w.1.setW (by decide)) ⟨fun q hq => gh_set_n hq, rfl⟩ (w.1.loR (Or.inl (by decide)) (Or.inl (by decide))).2.1))
theorem gq_P.puT0 (w : gq_P g0 g z N A v c s) (kk : ∀ g1, gq_P g0 g1 z N A (upd v 2 x) c s → gq (kt ()) g1 Q) : gq (gh_tc (gh_putv (A 1) 2 0 .int (.int x)) kt kx) g Q := gq_putv (w.1.loR (Or.inl (by decide)) (Or.inl (by decide))).1 rfl rfl w.1.2.1.2.1 (show 0 < 1 by decide) (kk _ (w.at1 w.1.setS ⟨fun q hq => gh_set_n hq, rfl⟩ (w.1.loR (Or.inl (by decide)) (Or.inl (by decide))).2.1))
variable {kf : Int32 → gh_M β} {ko : Option Nat → gh_M β} {p q d : Int32}
theorem gq_P.size2 (w : gq_P g0 g z N A v c s) (kk : gq (kf (Int32.ofNat N.1)) g Q) : gq (gh_tc (f_J2_size (A 2)) kf kx) g Q := gq_l (gq_size w.1.2.2.1) kk
theorem gq_P.get2 (w : gq_P g0 g z N A v c s) (hi : i < N.1) (kk : gq (ko (some (A (10 + i)))) g Q) : gq (gh_tc (f_J2_get (A 2) (Int32.ofNat i)) ko kx) g Q := gq_l (gq_lget w.1.2.2.1 hi) kk
theorem gq_P.iter2 (w : gq_P g0 g z N A v c s) (kk : ∀ g1, gq_P g0 g1 z N A v (c + 1) (s + 4) → gq_It g1 g.2.1 (A 2) (A 5) N.1 0 → (∀ r, gq_rl N r → A r ≠ g.2.1) → g.2.1 < g1.2.1 → ¬ z g.2.1 → gq (ko (some g.2.1)) g1 Q) : gq (gh_tc (f_J2_iterator (A 2)) ko kx) g Q := by
  obtain ⟨g1, r1, i1, e1, s1⟩ := gq_it0 w.lo w.1.2.2.1
  refine gq_l r1 (kk g1 (w.ext (gq_wi.ext ⟨e1, s1⟩)) i1 (fun r hr => Nat.ne_of_lt (w.1.2.2.2.2.2.2 r hr).1) (by rw [s1]; exact Nat.lt_succ_self _) (fun hz => Nat.lt_irrefl _ (w.hz _ hz)))
theorem gq_P.size3 (w : gq_P g0 g z N A v c s) (kk : gq (kf (Int32.ofNat N.2.1)) g Q) : gq (gh_tc (f_J2_size (A 3)) kf kx) g Q := gq_l (gq_size w.1.2.2.2.1) kk
theorem gq_P.get3 (w : gq_P g0 g z N A v c s) (hi : i < N.2.1) (kk : gq (ko (some (A (30 + i)))) g Q) : gq (gh_tc (f_J2_get (A 3) (Int32.ofNat i)) ko kx) g Q := gq_l (gq_lget w.1.2.2.2.1 hi) kk
theorem gq_P.iter3 (w : gq_P g0 g z N A v c s) (kk : ∀ g1, gq_P g0 g1 z N A v (c + 1) (s + 4) → gq_It g1 g.2.1 (A 3) (A 6) N.2.1 0 → (∀ r, gq_rl N r → A r ≠ g.2.1) → g.2.1 < g1.2.1 → ¬ z g.2.1 → gq (ko (some g.2.1)) g1 Q) : gq (gh_tc (f_J2_iterator (A 3)) ko kx) g Q := by
  obtain ⟨g1, r1, i1, e1, s1⟩ := gq_it0 w.lo w.1.2.2.2.1
  refine gq_l r1 (kk g1 (w.ext (gq_wi.ext ⟨e1, s1⟩)) i1 (fun r hr => Nat.ne_of_lt (w.1.2.2.2.2.2.2 r hr).1) (by rw [s1]; exact Nat.lt_succ_self _) (fun hz => Nat.lt_irrefl _ (w.hz _ hz)))
theorem gq_P.size4 (w : gq_P g0 g z N A v c s) (kk : gq (kf (Int32.ofNat N.2.2)) g Q) : gq (gh_tc (f_J2_size (A 4)) kf kx) g Q := gq_l (gq_size w.1.2.2.2.2.1) kk
theorem gq_P.get4 (w : gq_P g0 g z N A v c s) (hi : i < N.2.2) (kk : gq (ko (some (A (40 + i)))) g Q) : gq (gh_tc (f_J2_get (A 4) (Int32.ofNat i)) ko kx) g Q := gq_l (gq_lget w.1.2.2.2.2.1 hi) kk
theorem gq_P.iter4 (w : gq_P g0 g z N A v c s) (kk : ∀ g1, gq_P g0 g1 z N A v (c + 1) (s + 4) → gq_It g1 g.2.1 (A 4) (A 7) N.2.2 0 → (∀ r, gq_rl N r → A r ≠ g.2.1) → g.2.1 < g1.2.1 → ¬ z g.2.1 → gq (ko (some g.2.1)) g1 Q) : gq (gh_tc (f_J2_iterator (A 4)) ko kx) g Q := by
  obtain ⟨g1, r1, i1, e1, s1⟩ := gq_it0 w.lo w.1.2.2.2.2.1
  refine gq_l r1 (kk g1 (w.ext (gq_wi.ext ⟨e1, s1⟩)) i1 (fun r hr => Nat.ne_of_lt (w.1.2.2.2.2.2.2 r hr).1) (by rw [s1]; exact Nat.lt_succ_self _) (fun hz => Nat.lt_irrefl _ (w.hz _ hz)))
theorem gq_P.blockIn (w : gq_P g0 g z N A v c s) (kn : gq_find v N.1 p = none → ∀ g1, gq_P g0 g1 z N A v (c + 1) (s + 4) → gq (ko none) g1 Q) (ks : ∀ i, gq_find v N.1 p = some i → i < N.1 → ∀ g1, gq_P g0 g1 z N A v (c + 1) (s + 4) → gq (ko (some (A (10 + i)))) g1 Q) : gq (gh_tc (f_X2_blockIn (A 0) p) ko kx) g Q := by
  obtain ⟨g1, r1, x1⟩ := gq_blockIn (p := p) w.1 w.lo
  refine gq_l r1 ?_
  cases hf : gq_find v N.1 p with
  | none => exact kn hf g1 (w.ext x1)
  | some i => exact ks i hf (gq_find_spec hf).1 g1 (w.ext x1)
theorem gq_thx {g : gh_G} : gq_ext g (gq_th g) 1 6 := ⟨fun a ha => rfl, Nat.le_succ _, Nat.le_refl _, Nat.le_add_right _ _, Nat.le_refl _, rfl⟩
theorem gq_P.block (w : gq_P g0 g z N A v c s) (k0 : ¬ (0 ≤ p ∧ p ≤ Int32.ofNat N.1 - 1) → ∀ g1 a, gq_P g0 g1 z N A v (c + 1) (s + 6) → g0.2.1 ≤ a → gq (kx (16, a)) g1 Q) (k1 : ∀ i, i < N.1 → p = Int32.ofNat i → gq (ko (some (A (10 + i)))) g Q) : gq (gh_tc (f_X2_block (A 0) p) ko kx) g Q := by
  have hn : N.1 ≤ 1000 := by have := w.1.1; unfold gq_Wn at this; omega
  by_cases h : 0 ≤ p ∧ p ≤ Int32.ofNat N.1 - 1
  · obtain ⟨i, hi, rfl⟩ := gq_range hn h
    exact gq_l (gq_block1 w.1 hi) (k1 i hi rfl)
  · exact gq_r (gq_block0 w.1 h) (k0 h _ _ (w.ext gq_thx) w.2.1.2.1)
theorem gq_P.rope (w : gq_P g0 g z N A v c s) (k0 : ¬ (0 ≤ p ∧ p ≤ Int32.ofNat N.2.1 - 1) → ∀ g1 a, gq_P g0 g1 z N A v (c + 1) (s + 6) → g0.2.1 ≤ a → gq (kx (16, a)) g1 Q) (k1 : ∀ i, i < N.2.1 → p = Int32.ofNat i → gq (ko (some (A (30 + i)))) g Q) : gq (gh_tc (f_X2_rope (A 0) p) ko kx) g Q := by
  have hn : N.2.1 ≤ 1000 := by have := w.1.1; unfold gq_Wn at this; omega
  by_cases h : 0 ≤ p ∧ p ≤ Int32.ofNat N.2.1 - 1
  · obtain ⟨i, hi, rfl⟩ := gq_range hn h
    exact gq_l (gq_rope1 w.1 hi) (k1 i hi rfl)
  · exact gq_r (gq_rope0 w.1 h) (k0 h _ _ (w.ext gq_thx) w.2.1.2.1)
theorem gq_P.commission (w : gq_P g0 g z N A v c s) (k0 : ¬ (0 ≤ p ∧ p ≤ Int32.ofNat N.2.2 - 1) → ∀ g1 a, gq_P g0 g1 z N A v (c + 1) (s + 6) → g0.2.1 ≤ a → gq (kx (16, a)) g1 Q) (k1 : ∀ i, i < N.2.2 → p = Int32.ofNat i → gq (ko (some (A (40 + i)))) g Q) : gq (gh_tc (f_X2_commission (A 0) p) ko kx) g Q := by
  have hn : N.2.2 ≤ 1000 := by have := w.1.1; unfold gq_Wn at this; omega
  by_cases h : 0 ≤ p ∧ p ≤ Int32.ofNat N.2.2 - 1
  · obtain ⟨i, hi, rfl⟩ := gq_range hn h
    exact gq_l (gq_com1 w.1 hi) (k1 i hi rfl)
  · exact gq_r (gq_com0 w.1 h) (k0 h _ _ (w.ext gq_thx) w.2.1.2.1)
theorem gq_P.ckI {n : Int32} (w : gq_P g0 g z N A v c s) (k0 : ¬ (0 ≤ p ∧ p ≤ n - 1) → ∀ g1 a, gq_P g0 g1 z N A v (c + 1) (s + 6) → g0.2.1 ≤ a → gq (kx (16, a)) g1 Q) (k1 : 0 ≤ p ∧ p ≤ n - 1 → gq (kt ()) g Q) : gq (gh_tc (f_X1_checkIndex p n) kt kx) g Q := by
  by_cases h : 0 ≤ p ∧ p ≤ n - 1
  · exact gq_l (gq_ckIdx1 h) (k1 h)
  · exact gq_r (gq_ckIdx0 h) (k0 h _ _ (w.ext gq_thx) w.2.1.2.1)
theorem gq_inR {lo hi : Int32} (kk : gq (kf (if lo ≤ p ∧ p ≤ hi then 1 else 0)) g Q) : gq (gh_tc (f_X1_inRange p lo hi) kf kx) g Q := gq_l gq_inRange kk
theorem gq_P.ckA {C : Prop} [Decidable C] (w : gq_P g0 g z N A v c s) (k0 : ¬ C → ∀ g1 a, gq_P g0 g1 z N A v (c + 1) (s + 6) → g0.2.1 ≤ a → gq (kx (17, a)) g1 Q) (k1 : C → gq (kt ()) g Q) : gq (gh_tc (f_X1_checkArgument (if C then 1 else 0)) kt kx) g Q := by
  by_cases h : C
  · rw [if_pos h]
    exact gq_l gq_ckArg1 (k1 h)
  · rw [if_neg h]
    exact gq_r gq_ckArg0 (k0 h _ _ (w.ext gq_thx) w.2.1.2.1)
theorem gq_ref0 (kk : gq (kt ()) g Q) : gq (gh_tc (f_X1_refuse 0 p q) kt kx) g Q := gq_l gq_refuse0 kk
theorem gq_rfdx {cc : Option Nat} {r d : Int32} : gq_ext g (gq_rfd g cc r d) 1 8 := ⟨fun a ha => gh_set_n (Nat.ne_of_lt ha), Nat.le_succ _, Nat.le_refl _, Nat.le_add_right _ _, Nat.le_refl _, rfl⟩
theorem gq_P.ref1 (w : gq_P g0 g z N A v c s) (kk : ∀ g1 a, gq_P g0 g1 z N A v (c + 1) (s + 8) → g0.2.1 ≤ a → a < g1.2.1 → g1.1 a = some (.inr (8, gq_Rf none p q)) → gq (kx (8, a)) g1 Q) : gq (gh_tc (f_X1_refuse 1 p q) kt kx) g Q := gq_r (gq_refuse1 w.lo w.k.2.1 w.k.2.2.1) (kk _ _ (w.ext gq_rfdx) w.2.1.2.1 (Nat.lt_succ_self _) gh_set_s)
theorem gq_P.times (w : gq_P g0 g z N A v c s) (hi : i < N.1) (kk : gq (kf (if v (11 + 7 * i) = 0 then 2 * p else p)) g Q) : gq (gh_tc (f_X6_times (A (10 + i)) p) kf kx) g Q := gq_l (gq_times (w.1.2.1.2.2.1 i hi)) kk
theorem gq_P.isLoose (w : gq_P g0 g z N A v c s) (hi : i < N.1) (k0 : v (13 + 7 * i) < 10 → gq (kf 0) g Q) (k1 : ¬ v (13 + 7 * i) < 10 → gq (kf 1) g Q) : gq (gh_tc (f_X11_isLoose (A (10 + i))) kf kx) g Q := by
  refine gq_l (gq_isLoose (w.1.2.1.2.2.1 i hi)) ?_
  by_cases h : v (13 + 7 * i) < 10
  · rw [if_pos h]; exact k0 h
  · rw [if_neg h]; exact k1 h
theorem gq_P.wouldBe (w : gq_P g0 g z N A v c s) (hi : i < N.1) (k0 : v (13 + 7 * i) + p < 10 → gq (kf 0) g Q) (k1 : ¬ v (13 + 7 * i) + p < 10 → gq (kf 1) g Q) : gq (gh_tc (f_X11_wouldBeLoose (A (10 + i)) p) kf kx) g Q := by
  refine gq_l (gq_wouldBe (w.1.2.1.2.2.1 i hi)) ?_
  by_cases h : v (13 + 7 * i) + p < 10
  · rw [if_pos h]; exact k0 h
  · rw [if_neg h]; exact k1 h
theorem gq_P.holds (w : gq_P g0 g z N A v c s) (hi : i < N.2.1) (kk : gq (kf (gq_hd v i)) g Q) : gq (gh_tc (f_X10_holds (A (30 + i))) kf kx) g Q := gq_l (gq_holds (w.1.2.1.2.2.2.1 i hi)) kk
theorem gq_P.isTorn (w : gq_P g0 g z N A v c s) (hi : i < N.2.1) (k0 : 1 ≤ gq_hd v i → gq (kf 0) g Q) (k1 : ¬ 1 ≤ gq_hd v i → gq (kf 1) g Q) : gq (gh_tc (f_X10_isTorn (A (30 + i))) kf kx) g Q := by
  refine gq_l (gq_isTorn (w.1.2.1.2.2.2.1 i hi)) ?_
  by_cases h : 1 ≤ gq_hd v i
  · rw [if_pos h]; exact k0 h
  · rw [if_neg h]; exact k1 h
theorem gq_P.canHold (w : gq_P g0 g z N A v c s) (hi : i < N.2.1) (k0 : ¬ (1 ≤ gq_hd v i ∧ p ≤ gq_hd v i) → gq (kf 0) g Q) (k1 : 1 ≤ gq_hd v i ∧ p ≤ gq_hd v i → gq (kf 1) g Q) : gq (gh_tc (f_X10_canHold (A (30 + i)) p) kf kx) g Q := by
  refine gq_l (gq_canHold (w.1.2.1.2.2.2.1 i hi)) ?_
  by_cases h : 1 ≤ gq_hd v i ∧ p ≤ gq_hd v i
  · rw [if_pos h]; exact k1 h
  · rw [if_neg h]; exact k0 h
theorem gq_P.go (w : gq_P g0 g z N A v c s) (hi : i < N.1) (kk : ∀ g1, gq_P g0 g1 z N A (upd (upd v (14 + 7 * i) p) (15 + 7 * i) q) c s → gq (kt ()) g1 Q) : gq (gh_tc (f_X6_go (A (10 + i)) p q) kt kx) g Q := by
  obtain ⟨g1, r1, w1, t1⟩ := gq_go (w := p) (p := q) w.1 hi
  exact gq_l r1 (kk g1 (w.at1 w1 t1 (w.1.loB hi).2.1))
theorem gq_P.wearBy (w : gq_P g0 g z N A v c s) (hi : i < N.2.1) (kk : ∀ g1, gq_P g0 g1 z N A (upd (gq_wv v i p) (125 + 4 * i) (gq_tn v i p q)) c s → gq (kf (gq_tn v i p q)) g1 Q) : gq (gh_tc (f_X7_wearBy (A (30 + i)) p q) kf kx) g Q := by
  obtain ⟨g1, r1, w1, t1⟩ := gq_wearBy (m := p) (w := q) w.1 hi
  exact gq_l r1 (kk g1 (w.at1 w1 t1 (w.1.loRo hi).2.1))
theorem gq_P.fall {u : Nat} (w : gq_P g0 g z N A v c s) (hi : i < N.1) (hp : v (15 + 7 * i) = Int32.ofNat u) (hu : u < 20) (kk : ∀ g1, gq_P g0 g1 z N A (gq_fl N.1 8 v i).2 (c + 32) (s + 128) → gq (kf (gq_fl N.1 8 v i).1) g1 Q) : gq (gh_tc (f_X2_fall 8 (A 0) (some (A (10 + i)))) kf kx) g Q := by
  obtain ⟨g1, r1, w1, m1⟩ := gq_fall 8 g v i u w.1 w.lo w.hz hi hp hu (by omega)
  exact gq_l r1 (kk g1 (w.mu w1 m1))
theorem gq_on0 {x : gh_M β} {f : Nat → gh_M β} (kk : gq x g Q) : gq (gh_on none x f) g Q := kk
theorem gq_on1 {x : gh_M β} {f : Nat → gh_M β} {b : Nat} (kk : gq (f b) g Q) : gq (gh_on (some b) x f) g Q := kk
theorem gq_t0 {x y : gh_M β} (kk : gq x g Q) : gq (if (0 : Int32) = 0 then x else y) g Q := gq_t rfl kk
theorem gq_f1 {x y : gh_M β} (kk : gq y g Q) : gq (if (1 : Int32) = 0 then x else y) g Q := gq_f (by decide) kk
end
