/-! ArrayList.add -/
set_option maxRecDepth 100000
section
variable {g : gh_G}
/-- the element is laid, the array has room -/
theorem gq_add11 {l arr n cap b : Nat} {md : Int32} {f : Nat → Option Nat} (hl : gh_lo g ≤ l) (ha : gh_lo g ≤ arr) (hne : l ≠ arr) (h1 : g.1 l = some (.inr (11, [.int md, .ref arr, .int (Int32.ofNat n)]))) (h2 : g.1 arr = some (.inl (5, cap, .inr (.inr (.inr (.inr f)))))) (hn : n < cap) (hcap : cap ≤ 10000) (hb : gh_okr g (some b) = true) :
    gh_run (f_J2_add_2_11 l (some b) (some arr) (Int32.ofNat n)) g = some (.inl (), (gh_set (gh_set g.1 arr (.inl (5, cap, .inr (.inr (.inr (.inr (va_up f n (some b)))))))) l (.inr (11, [.int md, .ref arr, .int (Int32.ofNat (n + 1))])), g.2)) := by
  refine gq_eq ?_
  unfold f_J2_add_2_11
  refine gq_nn ?_
  refine gq_aast ha hb h2 (gq_ofNat hn (by omega)) ?_
  refine gq_putv hl rfl rfl ((gh_set_n hne).trans h1) (show 2 < 3 by decide) ?_
  refine gq_ret ⟨rfl, ?_⟩
  rw [gq_ofNat_succ]
  rfl
/-- what may have changed by an addition to a list -/
def gq_Ad (g g1 : gh_G) (l arr n : Nat) : Prop := (∀ a, a < g.2.1 → a ≠ l → (a ≠ arr ∨ a < gh_lo g) → g1.1 a = g.1 a) ∧ g.2.1 ≤ g1.2.1 ∧ g1.2.1 ≤ g.2.1 + 1 ∧ g.2.2.1 ≤ g1.2.2.1 ∧ g1.2.2.1 ≤ g.2.2.1 + (2 * n + 10) ∧ g1.2.2.2 = g.2.2.2
theorem gq_okr_n {m : Nat → Option gh_E} {a b : Nat} {e : gh_E} {z z' : Nat × Nat × Nat × (Nat → Value)} (h : b ≠ a) : gh_okr (gh_set m a e, z) (some b) = gh_okr (m, z') (some b) := by
  unfold gh_okr
  show (match gh_set m a e b with
    | some (.inr o) => decide (o.1 < gh_cl.length)
    | _ => false) = _
  rw [gh_set_n h]
  rfl
theorem gq_okr_arr {b k : Nat} {x : vp_A} (h : gh_okr g (some b) = true) {arr : Nat} (ha : g.1 arr = some (.inl (k, x))) : b ≠ arr := by
  rintro rfl
  obtain ⟨c, fs, h1, -⟩ := gh_okr_inv h
  cases ha.symm.trans h1
theorem gq_okr_l {m : Nat → Option gh_E} {l b : Nat} {fs : List Value} {z z' : Nat × Nat × Nat × (Nat → Value)} (h : gh_okr (m, z') (some b) = true) : gh_okr (gh_set m l (.inr (11, fs)), z) (some b) = true := by
  by_cases hb : b = l
  · subst hb
    exact gh_okr_of (g := (gh_set m b (.inr (11, fs)), z)) gh_set_s (by decide)
  · rw [gq_okr_n (z' := z') hb]
    exact h
theorem gq_ladd {l arr n b mi : Nat} {F : Nat → Nat} (hlo : gh_lo g ≤ g.2.1) (hm : gh_co g 30 = .ref mi) (h : gq_Ls g l arr n F) (hb : gh_okr g (some b) = true) (hb2 : b < g.2.1) (hn : n ≤ 600) :
    ∃ (g1 : gh_G) (arr1 : Nat), gh_run (f_J2_add l (some b)) g = some (.inl 1, g1) ∧ gq_Ls g1 l arr1 (n + 1) (fun i => if i = n then b else F i) ∧ (arr1 = arr ∧ gh_lo g ≤ arr ∨ arr1 = g.2.1) ∧ gq_Ad g g1 l arr n := by
  obtain ⟨⟨md, h1⟩, h2, h3, h4, h5, h6, h7⟩ := h
  have hln : l ≠ g.2.1 := by omega
  have hbn : b ≠ g.2.1 := by omega
  have han : arr ≠ g.2.1 := by omega
  have hstart : ∀ {Q : (Int32 ⊕ gh_X) → gh_G → Prop}, gq (gh_tc (f_J2_add_2 l (some b) (some arr) (Int32.ofNat n)) (fun _ => gh_rz .boolean (1 : Int32)) gh_thr) (gh_set g.1 l (.inr (11, [.int (md + 1), .ref arr, .int (Int32.ofNat n)])), g.2) Q → gq (f_J2_add l (some b)) g Q := by
    intro Q k
    unfold f_J2_add
    refine gq_geti (x := md) h1 rfl ?_
    refine gq_putv h2 rfl rfl h1 (show 0 < 3 by decide) ?_
    refine gq_getr (x := some arr) gh_set_s rfl ?_
    refine gq_geti (x := Int32.ofNat n) gh_set_s rfl ?_
    refine gq_is gh_set_s ?_
    exact k
  rcases h7 with ⟨rfl, a1, a2, a3⟩ | ⟨cap, f, a1, a2, a3, a4, a5, a6, a7⟩
  · -- the first element
    refine ⟨(gh_set (gh_set (gh_set (gh_set (gh_set g.1 l (.inr (11, [.int (md + 1), .ref arr, .int 0]))) g.2.1 (.inl (5, 10, .inr (.inr (.inr (.inr fun _ => none)))))) l (.inr (11, [.int (md + 1), .ref g.2.1, .int 0]))) g.2.1 (.inl (5, 10, .inr (.inr (.inr (.inr (va_up (fun _ => none) 0 (some b)))))))) l (.inr (11, [.int (md + 1), .ref g.2.1, .int (Int32.ofNat 1)])), g.2.1 + 1, g.2.2.1 + 10, g.2.2.2), g.2.1, ?_, ⟨⟨md + 1, gh_set_s⟩, h2, Nat.lt_succ_of_lt h3, Nat.lt_succ_self _, hln, fun i hi => ?_, Or.inr ⟨10, va_up (fun _ => none) 0 (some b), hlo, by decide, by decide, by decide, (gh_set_n hln.symm).trans gh_set_s, fun i hi => ?_, fun i hi => ?_⟩⟩, Or.inr rfl, fun q q1 q2 q3 => ?_, Nat.le_succ _, Nat.le_refl _, Nat.le_add_right _ _, Nat.le_refl _, rfl⟩
    · refine gq_eq (hstart ?_)
      refine gq_tc ?_
      unfold f_J2_add_2
      refine gq_nn ?_
      refine gq_alen ((gh_set_n h5.symm).trans a3) (Or.inr (by decide)) ?_
      refine gq_t rfl ?_
      refine gq_is gh_set_s ?_
      refine gq_l (gq_grow0 h2 h3 a2 gh_set_s ((gh_set_n h5.symm).trans a3)) ?_
      refine gq_of (gq_add11 (n := 0) h2 hlo hln gh_set_s ((gh_set_n hln.symm).trans gh_set_s) (by decide) (by decide) ?_) ?_
      · refine gq_okr_l (z' := g.2) ?_
        rw [gq_okr_n (z' := g.2) hbn]
        exact gq_okr_l (z' := g.2) hb
      · refine gq_ok (by decide) ?_
        exact gq_ret ⟨rfl, rfl⟩
    · have hi0 : i = 0 := by omega
      subst hi0
      exact Nat.lt_succ_of_lt hb2
    · have hi0 : i = 0 := by omega
      subst hi0
      refine ⟨rfl, gq_okr_l (z' := g.2) ?_⟩
      show gh_okr _ (some b) = true
      rw [gq_okr_n (z' := g.2) hbn]
      refine gq_okr_l (z' := g.2) ?_
      rw [gq_okr_n (z' := g.2) hbn]
      exact gq_okr_l (z' := g.2) hb
    · exact va_up_ne _ _ (by omega)
    · have qn : q ≠ g.2.1 := by omega
      exact (gh_set_n q2).trans ((gh_set_n qn).trans ((gh_set_n q2).trans ((gh_set_n qn).trans (gh_set_n q2))))
  · by_cases hfull : n = cap
    · subst hfull
      have hmx : n + max 1 (n / 2) ≤ 2 * n + 10 := by omega
      refine ⟨(gh_set (gh_set (gh_set (gh_set (gh_set g.1 l (.inr (11, [.int (md + 1), .ref arr, .int (Int32.ofNat n)]))) g.2.1 (.inl (5, n + max 1 (n / 2), .inr (.inr (.inr (.inr (va_cpy f (fun _ => none) 0 0 n))))))) l (.inr (11, [.int (md + 1), .ref g.2.1, .int (Int32.ofNat n)]))) g.2.1 (.inl (5, n + max 1 (n / 2), .inr (.inr (.inr (.inr (va_up (va_cpy f (fun _ => none) 0 0 n) n (some b)))))))) l (.inr (11, [.int (md + 1), .ref g.2.1, .int (Int32.ofNat (n + 1))])), g.2.1 + 1, g.2.2.1 + (n + max 1 (n / 2)), g.2.2.2), g.2.1, ?_, ⟨⟨md + 1, gh_set_s⟩, h2, Nat.lt_succ_of_lt h3, Nat.lt_succ_self _, hln, fun i hi => ?_, Or.inr ⟨n + max 1 (n / 2), va_up (va_cpy f (fun _ => none) 0 0 n) n (some b), hlo, by omega, by omega, by omega, (gh_set_n hln.symm).trans gh_set_s, fun i hi => ?_, fun i hi => ?_⟩⟩, Or.inr rfl, fun q q1 q2 q3 => ?_, Nat.le_succ _, Nat.le_refl _, Nat.le_add_right _ _, Nat.add_le_add_left hmx _, rfl⟩
      · refine gq_eq (hstart ?_)
        refine gq_tc ?_
        unfold f_J2_add_2
        refine gq_nn ?_
        refine gq_alen ((gh_set_n h5.symm).trans a5) (Or.inl (by decide)) ?_
        refine gq_t rfl ?_
        refine gq_is gh_set_s ?_
        refine gq_l (gq_grow hlo hm h2 h3 h4 gh_set_s a2 (by omega) ((gh_set_n h5.symm).trans a5) (fun j hj => ?_) (fun j c hj hc => ?_)) ?_
        · rw [(a6 j hj).1]
          exact gq_okr_l (z' := g.2) (a6 j hj).2
        · rw [(a6 j hj).1] at hc
          cases hc
          exact h6 j hj
        refine gq_of (gq_add11 h2 hlo hln gh_set_s ((gh_set_n hln.symm).trans gh_set_s) (by omega) (by omega) ?_) ?_
        · refine gq_okr_l (z' := g.2) ?_
          rw [gq_okr_n (z' := g.2) hbn]
          exact gq_okr_l (z' := g.2) hb
        · refine gq_ok (by decide) ?_
          exact gq_ret ⟨rfl, rfl⟩
      · show (if i = n then b else F i) < g.2.1 + 1
        by_cases hi9 : i = n
        · rw [if_pos hi9]; omega
        · rw [if_neg hi9]; have := h6 i (by omega); omega
      · refine ⟨?_, gq_okr_l (z' := g.2) ?_⟩
        · show va_up _ n (some b) i = some (if i = n then b else F i)
          by_cases hi9 : i = n
          · rw [if_pos hi9, hi9, va_up_self]
          · rw [if_neg hi9, va_up_ne _ _ hi9]
            have hc9 : va_cpy f (fun _ => none) 0 0 n i = f i := by
              unfold va_cpy
              rw [if_pos ⟨Nat.zero_le _, by omega⟩]
              rw [Nat.sub_zero, Nat.zero_add]
            rw [hc9]
            exact (a6 i (by omega)).1
        · have hx : gh_okr g (some (if i = n then b else F i)) = true ∧ (if i = n then b else F i) < g.2.1 := by
            by_cases hi9 : i = n
            · rw [if_pos hi9]; exact ⟨hb, hb2⟩
            · rw [if_neg hi9]; exact ⟨(a6 i (by omega)).2, h6 i (by omega)⟩
          show gh_okr _ (some (if i = n then b else F i)) = true
          have hxn : (if i = n then b else F i) ≠ g.2.1 := Nat.ne_of_lt hx.2
          rw [gq_okr_n (z' := g.2) hxn]
          refine gq_okr_l (z' := g.2) ?_
          rw [gq_okr_n (z' := g.2) hxn]
          exact gq_okr_l (z' := g.2) hx.1
      · rw [va_up_ne _ _ (by omega)]
        unfold va_cpy
        rw [if_neg (by omega)]
      · have qn : q ≠ g.2.1 := by omega
        exact (gh_set_n q2).trans ((gh_set_n qn).trans ((gh_set_n q2).trans ((gh_set_n qn).trans (gh_set_n q2))))
    · have hnc : n < cap := by omega
      refine ⟨(gh_set (gh_set (gh_set g.1 l (.inr (11, [.int (md + 1), .ref arr, .int (Int32.ofNat n)]))) arr (.inl (5, cap, .inr (.inr (.inr (.inr (va_up f n (some b)))))))) l (.inr (11, [.int (md + 1), .ref arr, .int (Int32.ofNat (n + 1))])), g.2), arr, ?_, ⟨⟨md + 1, gh_set_s⟩, h2, h3, h4, h5, fun i hi => ?_, Or.inr ⟨cap, va_up f n (some b), a1, a2, hnc, a4, (gh_set_n h5.symm).trans gh_set_s, fun i hi => ?_, fun i hi => ?_⟩⟩, Or.inl ⟨rfl, a1⟩, fun q q1 q2 q3 => ?_, Nat.le_refl _, Nat.le_succ _, Nat.le_refl _, Nat.le_add_right _ _, rfl⟩
      · refine gq_eq (hstart ?_)
        refine gq_tc ?_
        unfold f_J2_add_2
        refine gq_nn ?_
        refine gq_alen ((gh_set_n h5.symm).trans a5) (Or.inl (by decide)) ?_
        refine gq_f (fun e => hfull ((gq_ofNat_eq (by omega) (by omega)).mp e)) ?_
        refine gq_of (gq_add11 h2 a1 h5 gh_set_s ((gh_set_n h5.symm).trans a5) hnc (by omega) (gq_okr_l (z' := g.2) hb)) ?_
        refine gq_ok (by decide) ?_
        exact gq_ret ⟨rfl, rfl⟩
      · show (if i = n then b else F i) < g.2.1
        by_cases hi9 : i = n
        · rw [if_pos hi9]; exact hb2
        · rw [if_neg hi9]; exact h6 i (by omega)
      · refine ⟨?_, gq_okr_l (z' := g.2) ?_⟩
        · show va_up f n (some b) i = some (if i = n then b else F i)
          by_cases hi9 : i = n
          · rw [if_pos hi9, hi9, va_up_self]
          · rw [if_neg hi9, va_up_ne _ _ hi9]
            exact (a6 i (by omega)).1
        · have hx : gh_okr g (some (if i = n then b else F i)) = true := by
            by_cases hi9 : i = n
            · rw [if_pos hi9]; exact hb
            · rw [if_neg hi9]; exact (a6 i (by omega)).2
          rw [gq_okr_n (z' := g.2) (gq_okr_arr hx a5)]
          exact gq_okr_l (z' := g.2) hx
      · rw [va_up_ne _ _ (by omega)]
        exact a7 i (by omega)
      · exact (gh_set_n q2).trans ((gh_set_n (q3.elim id fun h => by omega)).trans (gh_set_n q2))
end
