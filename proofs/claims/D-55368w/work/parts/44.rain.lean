/-! rain -/
set_option maxRecDepth 100000
theorem gq_It.kept {g g1 : gh_G} {it l arr n i : Nat} (h : gq_It g it l arr n i) (h1 : g1.1 it = g.1 it) (h2 : g1.1 l = g.1 l) (h3 : g1.2.2.2 = g.2.2.2) : gq_It g1 it l arr n i := by
  obtain ⟨k1, k2, k3, k4, lr, md, k5, k6⟩ := h
  exact ⟨by unfold gh_lo at *; rw [h3]; exact k1, k2, k3, k4, lr, md, h1.trans k5, h2.trans k6⟩
/-- the blocks of a face are hit by rain -/
def gq_r1 (v : Nat → Int32) (face t : Int32) : Nat → Nat → Int32
  | 0 => v
  | i + 1 => if gq_r1 v face t i (14 + 7 * i) = 2 ∧ gq_r1 v face t i (15 + 7 * i) / 5 = face then upd (gq_r1 v face t i) (13 + 7 * i) (gq_r1 v face t i (13 + 7 * i) + (if gq_r1 v face t i (11 + 7 * i) = 0 then 2 * t else t)) else gq_r1 v face t i
/-- .. and those that are loose fall, from the highest bed -/
def gq_r2 (n : Nat) (face : Int32) : Nat → Int32 → (Nat → Int32) → Int32 × (Nat → Int32)
  | 0, s, v => (s, v)
  | k + 1, s, v => match gq_find v n (5 * face + Int32.ofNat k) with
    | none => gq_r2 n face k (s + 0) v
    | some j => if v (13 + 7 * j) < 10 then gq_r2 n face k (s + 0) v else gq_r2 n face k (s + (gq_fl n 8 v j).1) (gq_fl n 8 v j).2
section
variable {z : Nat → Prop} {N : gq_N} {A : Nat → Nat}
theorem gq_face : ∀ f, f < 4 → ∀ k, k < 5 → 5 * Int32.ofNat f + Int32.ofNat k = Int32.ofNat (5 * f + k) := by decide +kernel
theorem gq_rain2 {f : Nat} (hf : f < 4) : ∀ (k : Nat) (s : Int32) (g : gh_G) (v : Nat → Int32), k ≤ 5 → gq_W g z N A v → gh_lo g ≤ g.2.1 → (∀ a, z a → a < g.2.1) → ∃ g1, gh_run (f_X2_rain_96 (A 0) (Int32.ofNat f) s (Int32.ofNat k - 1)) g = some (.inl (gq_r2 N.1 (Int32.ofNat f) k s v).1, g1) ∧ gq_W g1 z N A (gq_r2 N.1 (Int32.ofNat f) k s v).2 ∧ gq_mu g g1 z (33 * k) (132 * k) := by
  intro k
  induction k with
  | zero =>
    intro s g v hk h hlo hz
    refine ⟨g, ?_, h, gq_mu.rf⟩
    refine gh_it_out (body := fun st : Int32 × Int32 => f_X2_rain_96_l (A 0) (Int32.ofNat f) st.1 st.2) (gq_eq ?_)
    show gq (f_X2_rain_96_l (A 0) (Int32.ofNat f) s (Int32.ofNat 0 - 1)) g _
    unfold f_X2_rain_96_l
    refine gq_t (by decide) ?_
    exact gq_up (gq_ret ⟨rfl, rfl⟩)
  | succ k ih =>
    intro s g v hk h hlo hz
    rw [gq_pred]
    have hdec : Int32.ofNat k + -1 = Int32.ofNat k - 1 := (Int32.sub_eq_add_neg _ _).symm
    obtain ⟨g1, r1, x1⟩ := gq_blockIn (p := 5 * Int32.ofNat f + Int32.ofNat k) h hlo
    have w1 := h.ext x1
    have m1 := x1.mu hz
    have hz1 : ∀ a, z a → a < g1.2.1 := fun a ha => Nat.lt_of_lt_of_le (hz a ha) m1.2.1
    have hlo1 : gh_lo g1 ≤ g1.2.1 := by rw [m1.lo]; have := m1.2.1; omega
    -- the body, to the next bed
    have hbody : ∀ {g2 : gh_G} {s2 : Int32}, gh_run (f_X2_rain_96_l (A 0) (Int32.ofNat f) s (Int32.ofNat k)) g = some (.inl (.inl (s2, Int32.ofNat k - 1)), g2) → gh_run (f_X2_rain_96 (A 0) (Int32.ofNat f) s (Int32.ofNat k)) g = gh_run (f_X2_rain_96 (A 0) (Int32.ofNat f) s2 (Int32.ofNat k - 1)) g2 := by
      intro g2 s2 hb
      exact gh_it_in (body := fun st : Int32 × Int32 => f_X2_rain_96_l (A 0) (Int32.ofNat f) st.1 st.2) (st := (s, Int32.ofNat k)) hb
    have hstart : ∀ {Q : (((Int32 × Int32) ⊕ Int32) ⊕ gh_X) → gh_G → Prop}, gq (gh_on ((gq_find v N.1 (5 * Int32.ofNat f + Int32.ofNat k)).map fun i => A (10 + i)) (f_X2_rain_136 (A 0) (Int32.ofNat f) (Int32.ofNat k) s) (fun b2 => gh_bd (gh_is b2 5) fun _ => gh_bd (f_X11_isLoose b2) fun v3 => if v3 = 0 then (f_X2_rain_136 (A 0) (Int32.ofNat f) (Int32.ofNat k) s) else (gh_bd (gh_is (A 0) 1) fun _ => gh_bd (f_X2_fall 8 (A 0) (some b2)) fun v4 => f_X2_rain_137 (A 0) (Int32.ofNat f) (Int32.ofNat k) s v4))) g1 Q → gq (f_X2_rain_96_l (A 0) (Int32.ofNat f) s (Int32.ofNat k)) g Q := by
      intro Q kk
      unfold f_X2_rain_96_l
      refine gq_f (gq_ofNat (n := 5) (j := k) (by omega) (by omega)).2.1 ?_
      refine gq_is h.2.1.1 ?_
      exact gq_l r1 kk
    unfold gq_r2
    cases hfind : gq_find v N.1 (5 * Int32.ofNat f + Int32.ofNat k) with
    | none =>
      rw [hfind] at hstart
      obtain ⟨g2, r2, w2, m2⟩ := ih (s + 0) g1 v (by omega) w1 hlo1 hz1
      refine ⟨g2, ?_, w2, (m1.tr m2).up (by omega) (by omega)⟩
      rw [← r2]
      refine hbody (gq_eq (hstart ?_))
      show gq (f_X2_rain_136 (A 0) (Int32.ofNat f) (Int32.ofNat k) s) g1 _
      unfold f_X2_rain_136 f_X2_rain_137
      rw [hdec]
      exact gq_ret ⟨rfl, rfl⟩
    | some j =>
      rw [hfind] at hstart
      obtain ⟨hj, hj2, hjp⟩ := gq_find_spec hfind
      by_cases hd : v (13 + 7 * j) < 10
      · dsimp only
        rw [if_pos hd]
        obtain ⟨g2, r2, w2, m2⟩ := ih (s + 0) g1 v (by omega) w1 hlo1 hz1
        refine ⟨g2, ?_, w2, (m1.tr m2).up (by omega) (by omega)⟩
        rw [← r2]
        refine hbody (gq_eq (hstart ?_))
        show gq (gh_bd (gh_is (A (10 + j)) 5) _) g1 _
        refine gq_is (w1.2.1.2.2.1 j hj) ?_
        refine gq_l (gq_isLoose (w1.2.1.2.2.1 j hj)) ?_
        rw [if_pos hd]
        refine gq_t (c := (0 : Int32) = 0) rfl ?_
        unfold f_X2_rain_136 f_X2_rain_137
        rw [hdec]
        exact gq_ret ⟨rfl, rfl⟩
      · dsimp only
        rw [if_neg hd]
        rw [gq_face f hf k (by omega)] at hjp
        obtain ⟨g2, r2, w2, m2⟩ := gq_fall 8 g1 v j (5 * f + k) w1 hlo1 hz1 hj hjp (by omega) (by omega)
        have m12 := m1.tr m2
        obtain ⟨g3, r3, w3, m3⟩ := ih (s + (gq_fl N.1 8 v j).1) g2 _ (by omega) w2 (by rw [m12.lo]; have := m12.2.1; omega) (fun a ha => Nat.lt_of_lt_of_le (hz a ha) m12.2.1)
        refine ⟨g3, ?_, w3, (m12.tr m3).up (by omega) (by omega)⟩
        rw [← r3]
        refine hbody (gq_eq (hstart ?_))
        show gq (gh_bd (gh_is (A (10 + j)) 5) _) g1 _
        refine gq_is (w1.2.1.2.2.1 j hj) ?_
        refine gq_l (gq_isLoose (w1.2.1.2.2.1 j hj)) ?_
        rw [if_neg hd]
        refine gq_f (c := (1 : Int32) = 0) (by decide) ?_
        refine gq_is w1.2.1.1 ?_
        refine gq_l r2 ?_
        unfold f_X2_rain_137
        rw [hdec]
        exact gq_ret ⟨rfl, rfl⟩
end
