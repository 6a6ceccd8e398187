/-! one field of a World's object is written -/
set_option maxRecDepth 100000
section
variable {g : gh_G}
theorem gq_u {f : Nat → Int32} {k j : Nat} {x : Int32} (h : j ≠ k) : upd f k x j = f j := by unfold upd; rw [if_neg h]
theorem gq_us {f : Nat → Int32} {k : Nat} {x : Int32} : upd f k x k = x := by unfold upd; rw [if_pos rfl]
theorem gq_Wn.u {N : gq_N} {v : Nat → Int32} {k : Nat} {x : Int32} (h : gq_Wn N v) (hk : k < 4 ∨ 7 ≤ k) : gq_Wn N (upd v k x) := by
  obtain ⟨h1, h2, h3, h4, h5, h6⟩ := h
  exact ⟨h1, h2, h3, by rw [gq_u (by omega)]; exact h4, by rw [gq_u (by omega)]; exact h5, by rw [gq_u (by omega)]; exact h6⟩
theorem gq_BlN {v v' : Nat → Int32} {i : Nat} (h : ∀ k, k < 7 → v' (10 + 7 * i + k) = v (10 + 7 * i + k)) : gq_Bl v' i = gq_Bl v i := by
  unfold gq_Bl
  have e0 := h 0 (by decide)
  have e1 := h 1 (by decide)
  have e2 := h 2 (by decide)
  have e3 := h 3 (by decide)
  have e4 := h 4 (by decide)
  have e5 := h 5 (by decide)
  have e6 := h 6 (by decide)
  rw [show 10 + 7 * i + 0 = 10 + 7 * i by omega] at e0
  rw [show 10 + 7 * i + 1 = 11 + 7 * i by omega] at e1
  rw [show 10 + 7 * i + 2 = 12 + 7 * i by omega] at e2
  rw [show 10 + 7 * i + 3 = 13 + 7 * i by omega] at e3
  rw [show 10 + 7 * i + 4 = 14 + 7 * i by omega] at e4
  rw [show 10 + 7 * i + 5 = 15 + 7 * i by omega] at e5
  rw [show 10 + 7 * i + 6 = 16 + 7 * i by omega] at e6
  rw [e0, e1, e2, e3, e4, e5, e6]
theorem gq_RoN {v v' : Nat → Int32} {i : Nat} (h : ∀ k, k < 4 → v' (122 + 4 * i + k) = v (122 + 4 * i + k)) : gq_Ro v' i = gq_Ro v i := by
  unfold gq_Ro
  have e0 := h 0 (by decide)
  have e1 := h 1 (by decide)
  have e2 := h 2 (by decide)
  have e3 := h 3 (by decide)
  rw [show 122 + 4 * i + 0 = 122 + 4 * i by omega] at e0
  rw [show 122 + 4 * i + 1 = 123 + 4 * i by omega] at e1
  rw [show 122 + 4 * i + 2 = 124 + 4 * i by omega] at e2
  rw [show 122 + 4 * i + 3 = 125 + 4 * i by omega] at e3
  rw [e0, e1, e2, e3]
theorem gq_CoN {v v' : Nat → Int32} {i : Nat} (h : ∀ k, k < 4 → v' (158 + 4 * i + k) = v (158 + 4 * i + k)) : gq_Co v' i = gq_Co v i := by
  unfold gq_Co
  have e0 := h 0 (by decide)
  have e1 := h 1 (by decide)
  have e2 := h 2 (by decide)
  have e3 := h 3 (by decide)
  rw [show 158 + 4 * i + 0 = 158 + 4 * i by omega] at e0
  rw [show 158 + 4 * i + 1 = 159 + 4 * i by omega] at e1
  rw [show 158 + 4 * i + 2 = 160 + 4 * i by omega] at e2
  rw [show 158 + 4 * i + 3 = 161 + 4 * i by omega] at e3
  rw [e0, e1, e2, e3]
theorem gq_WeN {v v' : Nat → Int32} {A : Nat → Nat} (h0 : v' 0 = v 0) (h1 : v' 1 = v 1) (h3 : v' 3 = v 3) (h7 : v' 7 = v 7) (h8 : v' 8 = v 8) : gq_We v' A = gq_We v A := by
  unfold gq_We
  rw [h0, h1, h3, h7, h8]
/-- the cells of a World after one of them (at A r0) is written -/
theorem gq_Wf.put {N : gq_N} {A : Nat → Nat} {v v' : Nat → Int32} {z : Nat → Prop} {r0 : Nat} {e : gh_E} (h : gq_W g z N A v) (hr : gq_rl N r0) (h0 : r0 < 2 ∨ 10 ≤ r0)
    (p0 : if r0 = 0 then e = .inr (1, gq_We v' A) else gq_We v' A = gq_We v A) (p1 : if r0 = 1 then e = .inr (2, [.int (v' 2)]) else v' 2 = v 2)
    (p2 : ∀ i, i < N.1 → if r0 = 10 + i then e = .inr (5, gq_Bl v' i) else gq_Bl v' i = gq_Bl v i) (p3 : ∀ i, i < N.2.1 → if r0 = 30 + i then e = .inr (6, gq_Ro v' i) else gq_Ro v' i = gq_Ro v i) (p4 : ∀ i, i < N.2.2 → if r0 = 40 + i then e = .inr (7, gq_Co v' i) else gq_Co v' i = gq_Co v i) : gq_Wf (gh_set g.1 (A r0) e, g.2) N A v' := by
  obtain ⟨h1, ⟨f0, f1, f2, f3, f4⟩, l1, l2, l3, h3, h4⟩ := h
  have hb : gh_lo g ≤ A r0 := by
    rcases (h4 r0 hr).2 with k | k
    · exact k.2
    · omega
  have hne : ∀ r, gq_rl N r → ¬ r0 = r → gh_set g.1 (A r0) e (A r) = g.1 (A r) := fun r hr' hn => gh_set_n fun q => hn (h3 r0 r hr hr' hb q.symm)
  refine ⟨?_, ?_, fun i hi => ?_, fun i hi => ?_, fun i hi => ?_⟩
  · by_cases hx : r0 = 0
    · rw [if_pos hx] at p0
      subst hx
      rw [p0]
      exact gh_set_s
    · rw [if_neg hx] at p0
      rw [p0]
      exact (hne 0 (Or.inl (by decide)) hx).trans f0
  · by_cases hx : r0 = 1
    · rw [if_pos hx] at p1
      subst hx
      rw [p1]
      exact gh_set_s
    · rw [if_neg hx] at p1
      rw [p1]
      exact (hne 1 (Or.inl (by decide)) hx).trans f1
  · have p := p2 i hi
    by_cases hx : r0 = 10 + i
    · rw [if_pos hx] at p
      subst hx
      rw [p]
      exact gh_set_s
    · rw [if_neg hx] at p
      rw [p]
      exact (hne _ (gq_rlB hi) hx).trans (f2 i hi)
  · have p := p3 i hi
    by_cases hx : r0 = 30 + i
    · rw [if_pos hx] at p
      subst hx
      rw [p]
      exact gh_set_s
    · rw [if_neg hx] at p
      rw [p]
      exact (hne _ (gq_rlR hi) hx).trans (f3 i hi)
  · have p := p4 i hi
    by_cases hx : r0 = 40 + i
    · rw [if_pos hx] at p
      subst hx
      rw [p]
      exact gh_set_s
    · rw [if_neg hx] at p
      rw [p]
      exact (hne _ (gq_rlC hi) hx).trans (f4 i hi)
theorem gq_BlS {v : Nat → Int32} {i k : Nat} {x : Int32} (h1 : 1 ≤ k) (h2 : k < 8) : (gq_Bl v i).set k (.int x) = gq_Bl (upd v (9 + 7 * i + k) x) i := by
  unfold gq_Bl
  have hk : k = 1 ∨ k = 2 ∨ k = 3 ∨ k = 4 ∨ k = 5 ∨ k = 6 ∨ k = 7 := by omega
  have key : ∀ j, j < 7 → upd v (9 + 7 * i + k) x (10 + j + 7 * i) = if j + 1 = k then x else v (10 + j + 7 * i) := by
    intro j hj
    unfold upd
    by_cases e : j + 1 = k
    · rw [if_pos (by omega), if_pos e]
    · rw [if_neg (by omega), if_neg e]
  have k0 := key 0 (by decide)
  have k1 := key 1 (by decide)
  have k2 := key 2 (by decide)
  have k3 := key 3 (by decide)
  have k4 := key 4 (by decide)
  have k5 := key 5 (by decide)
  have k6 := key 6 (by decide)
  rw [k0, k1, k2, k3, k4, k5, k6]
  rcases hk with rfl | rfl | rfl | rfl | rfl | rfl | rfl <;> rfl
theorem gq_W.setB {z : Nat → Prop} {N : gq_N} {A : Nat → Nat} {v : Nat → Int32} {i k : Nat} {x : Int32} (h : gq_W g z N A v) (hi : i < N.1) (h1 : 1 ≤ k) (h2 : k < 8) : gq_W (gh_set g.1 (A (10 + i)) (.inr (5, (gq_Bl v i).set k (.int x))), g.2) z N A (upd v (9 + 7 * i + k) x) := by
  have hN := h.1
  have hn := hN.1
  refine h.put (gq_rlB hi) (Or.inr (by omega)) (by decide) (h.2.1.2.2.1 i hi) (hN.u (by omega)) (gq_Wf.put h (gq_rlB hi) (Or.inr (by omega)) ?_ ?_ (fun j hj => ?_) (fun j hj => ?_) (fun j hj => ?_))
  · rw [if_neg (by omega)]
    exact gq_WeN (gq_u (by omega)) (gq_u (by omega)) (gq_u (by omega)) (gq_u (by omega)) (gq_u (by omega))
  · rw [if_neg (by omega)]
    exact gq_u (by omega)
  · by_cases e : i = j
    · subst e
      rw [if_pos rfl, gq_BlS h1 h2]
    · rw [if_neg (by omega)]
      exact gq_BlN fun q hq => gq_u (by omega)
  · rw [if_neg (by omega)]
    exact gq_RoN fun q hq => gq_u (by omega)
  · rw [if_neg (by omega)]
    exact gq_CoN fun q hq => gq_u (by omega)
theorem gq_RoS {v : Nat → Int32} {i k d : Nat} {x : Int32} (h : k = 1 ∧ d = 1 ∨ k = 2 ∧ d = 3 ∨ k = 3 ∧ d = 2) : (gq_Ro v i).set k (.int x) = gq_Ro (upd v (122 + 4 * i + d) x) i := by
  unfold gq_Ro
  have key : ∀ j, j < 4 → upd v (122 + 4 * i + d) x (122 + j + 4 * i) = if j = d then x else v (122 + j + 4 * i) := by
    intro j hj
    unfold upd
    by_cases e : j = d
    · rw [if_pos (by omega), if_pos e]
    · rw [if_neg (by omega), if_neg e]
  have k0 := key 0 (by decide)
  have k1 := key 1 (by decide)
  have k2 := key 2 (by decide)
  have k3 := key 3 (by decide)
  rw [k0, k1, k2, k3]
  rcases h with ⟨rfl, rfl⟩ | ⟨rfl, rfl⟩ | ⟨rfl, rfl⟩ <;> rfl
theorem gq_W.setR {z : Nat → Prop} {N : gq_N} {A : Nat → Nat} {v : Nat → Int32} {i k d : Nat} {x : Int32} (h : gq_W g z N A v) (hi : i < N.2.1) (hk : k = 1 ∧ d = 1 ∨ k = 2 ∧ d = 3 ∨ k = 3 ∧ d = 2) : gq_W (gh_set g.1 (A (30 + i)) (.inr (6, (gq_Ro v i).set k (.int x))), g.2) z N A (upd v (122 + 4 * i + d) x) := by
  have hN := h.1
  have hn := hN.1
  have hn2 := hN.2.1
  refine h.put (gq_rlR hi) (Or.inr (by omega)) (by decide) (h.2.1.2.2.2.1 i hi) (hN.u (by omega)) (gq_Wf.put h (gq_rlR hi) (Or.inr (by omega)) ?_ ?_ (fun j hj => ?_) (fun j hj => ?_) (fun j hj => ?_))
  · rw [if_neg (by omega)]
    exact gq_WeN (gq_u (by omega)) (gq_u (by omega)) (gq_u (by omega)) (gq_u (by omega)) (gq_u (by omega))
  · rw [if_neg (by omega)]
    exact gq_u (by omega)
  · rw [if_neg (by omega)]
    exact gq_BlN fun q hq => gq_u (by omega)
  · by_cases e : i = j
    · subst e
      rw [if_pos rfl, gq_RoS hk]
    · rw [if_neg (by omega)]
      exact gq_RoN fun q hq => gq_u (by omega)
  · rw [if_neg (by omega)]
    exact gq_CoN fun q hq => gq_u (by omega)
theorem gq_W.setC {z : Nat → Prop} {N : gq_N} {A : Nat → Nat} {v : Nat → Int32} {i : Nat} {x : Int32} (h : gq_W g z N A v) (hi : i < N.2.2) : gq_W (gh_set g.1 (A (40 + i)) (.inr (7, (gq_Co v i).set 3 (.int x))), g.2) z N A (upd v (161 + 4 * i) x) := by
  have hN := h.1
  have hn := hN.1
  have hn2 := hN.2.1
  have hn3 := hN.2.2.1
  refine h.put (gq_rlC hi) (Or.inr (by omega)) (by decide) (h.2.1.2.2.2.2 i hi) (hN.u (by omega)) (gq_Wf.put h (gq_rlC hi) (Or.inr (by omega)) ?_ ?_ (fun j hj => ?_) (fun j hj => ?_) (fun j hj => ?_))
  · rw [if_neg (by omega)]
    exact gq_WeN (gq_u (by omega)) (gq_u (by omega)) (gq_u (by omega)) (gq_u (by omega)) (gq_u (by omega))
  · rw [if_neg (by omega)]
    exact gq_u (by omega)
  · rw [if_neg (by omega)]
    exact gq_BlN fun q hq => gq_u (by omega)
  · rw [if_neg (by omega)]
    exact gq_RoN fun q hq => gq_u (by omega)
  · by_cases e : i = j
    · subst e
      rw [if_pos rfl]
      unfold gq_Co
      rw [gq_us, gq_u (by omega), gq_u (by omega), gq_u (by omega)]
      rfl
    · rw [if_neg (by omega)]
      exact gq_CoN fun q hq => gq_u (by omega)
/-- the World's own numbers: coins, day, edge, whets, storms -/
theorem gq_W.setW {z : Nat → Prop} {N : gq_N} {A : Nat → Nat} {v : Nat → Int32} {k d : Nat} {x : Int32} (h : gq_W g z N A v) (hk : k = 0 ∧ d = 3 ∨ k = 1 ∧ d = 0 ∨ k = 2 ∧ d = 1 ∨ k = 3 ∧ d = 7 ∨ k = 4 ∧ d = 8) : gq_W (gh_set g.1 (A 0) (.inr (1, (gq_We v A).set k (.int x))), g.2) z N A (upd v d x) := by
  have hN := h.1
  refine h.put (Or.inl (by decide)) (Or.inl (by decide)) (by decide) h.2.1.1 (hN.u (by omega)) (gq_Wf.put h (Or.inl (by decide)) (Or.inl (by decide)) ?_ ?_ (fun j hj => ?_) (fun j hj => ?_) (fun j hj => ?_))
  · rw [if_pos rfl]
    unfold gq_We
    rcases hk with ⟨rfl, rfl⟩ | ⟨rfl, rfl⟩ | ⟨rfl, rfl⟩ | ⟨rfl, rfl⟩ | ⟨rfl, rfl⟩ <;> rfl
  · rw [if_neg (by decide)]
    exact gq_u (by omega)
  · rw [if_neg (by omega)]
    exact gq_BlN fun q hq => gq_u (by omega)
  · rw [if_neg (by omega)]
    exact gq_RoN fun q hq => gq_u (by omega)
  · rw [if_neg (by omega)]
    exact gq_CoN fun q hq => gq_u (by omega)
theorem gq_W.setS {z : Nat → Prop} {N : gq_N} {A : Nat → Nat} {v : Nat → Int32} {x : Int32} (h : gq_W g z N A v) : gq_W (gh_set g.1 (A 1) (.inr (2, [.int x])), g.2) z N A (upd v 2 x) := by
  have hN := h.1
  refine h.put (Or.inl (by decide)) (Or.inl (by decide)) (by decide) h.2.1.2.1 (hN.u (by omega)) (gq_Wf.put h (Or.inl (by decide)) (Or.inl (by decide)) ?_ ?_ (fun j hj => ?_) (fun j hj => ?_) (fun j hj => ?_))
  · rw [if_neg (by decide)]
    exact gq_WeN (gq_u (by omega)) (gq_u (by omega)) (gq_u (by omega)) (gq_u (by omega)) (gq_u (by omega))
  · rw [if_pos rfl, gq_us]
  · rw [if_neg (by omega)]
    exact gq_BlN fun q hq => gq_u (by omega)
  · rw [if_neg (by omega)]
    exact gq_RoN fun q hq => gq_u (by omega)
  · rw [if_neg (by omega)]
    exact gq_CoN fun q hq => gq_u (by omega)
end
