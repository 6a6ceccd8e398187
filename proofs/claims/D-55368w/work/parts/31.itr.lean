/-! ArrayList and its iterator -/
set_option maxRecDepth 100000
section
variable {g : gh_G}
/-- an iterator that is made -/
theorem gq_iterator {l : Nat} {md : Int32} {fs : List Value} (hlo : gh_lo g ≤ g.2.1) (hl : l < g.2.1) (h : g.1 l = some (.inr (11, .int md :: fs))) : gh_run (f_J2_iterator l) g = some (.inl (some g.2.1), (gh_set g.1 g.2.1 (.inr (15, [.int 0, .int (-1), .int md, .ref l])), g.2.1 + 1, g.2.2.1 + 4, g.2.2.2)) := by
  refine gq_eq ?_
  unfold f_J2_iterator
  refine gq_new ?_
  refine gq_tc ?_
  unfold f_J8_init
  refine gq_putv hlo rfl rfl gh_set_s (show 3 < 4 by decide) ?_
  refine gq_putv hlo rfl rfl gh_set_s (show 1 < 4 by decide) ?_
  refine gq_getr (x := some l) gh_set_s rfl ?_
  refine gq_nn ?_
  refine gq_geti (x := md) ((gh_set_n (by omega)).trans ((gh_set_n (by omega)).trans ((gh_set_n (by omega)).trans h))) rfl ?_
  refine gq_putv hlo rfl rfl gh_set_s (show 2 < 4 by decide) ?_
  refine gq_ret ?_
  refine gq_ret ⟨rfl, ?_⟩
  simp only [gh_set_set]
  rfl
theorem gq_hasNext {it l i n : Nat} {lr md : Int32} {arr : Value} (hi : i < 2147483648) (hn : n < 2147483648) (h : g.1 it = some (.inr (15, [.int (Int32.ofNat i), .int lr, .int md, .ref l]))) (hl : g.1 l = some (.inr (11, [.int md, arr, .int (Int32.ofNat n)]))) : gh_run (f_J8_hasNext it) g = some (.inl (if i = n then 0 else 1), g) := by
  refine gq_eq ?_
  unfold f_J8_hasNext
  refine gq_geti (x := Int32.ofNat i) h rfl ?_
  refine gq_getr (x := some l) h rfl ?_
  refine gq_nn ?_
  refine gq_geti (x := Int32.ofNat n) hl rfl ?_
  refine gq_if (fun hc => ?_) (fun hc => ?_)
  · rw [if_pos ((gq_ofNat_eq hi hn).mp hc)]
    exact gq_ret ⟨rfl, rfl⟩
  · rw [if_neg (fun e => hc ((gq_ofNat_eq hi hn).mpr e))]
    exact gq_ret ⟨rfl, rfl⟩
theorem gq_next {it l arr i n cap : Nat} {lr md : Int32} {f : Nat → Option Nat} (hlo : gh_lo g ≤ it) (hin : i < n) (hnc : n ≤ cap) (hcap : cap < 2147483648) (hne : it ≠ arr) (h : g.1 it = some (.inr (15, [.int (Int32.ofNat i), .int lr, .int md, .ref l]))) (hl : g.1 l = some (.inr (11, [.int md, .ref arr, .int (Int32.ofNat n)]))) (ha : g.1 arr = some (.inl (5, cap, .inr (.inr (.inr (.inr f)))))) : gh_run (f_J8_next it) g = some (.inl (f i), (gh_set g.1 it (.inr (15, [.int (Int32.ofNat (i + 1)), .int (Int32.ofNat i), .int md, .ref l])), g.2)) := by
  refine gq_eq ?_
  unfold f_J8_next
  refine gq_is h ?_
  refine gq_tc ?_
  unfold f_J8_checkForComodification
  refine gq_getr (x := some l) h rfl ?_
  refine gq_nn ?_
  refine gq_geti (x := md) hl rfl ?_
  refine gq_geti (x := md) h rfl ?_
  refine gq_t rfl ?_
  refine gq_ret ?_
  refine gq_geti (x := Int32.ofNat i) h rfl ?_
  refine gq_getr (x := some l) h rfl ?_
  refine gq_nn ?_
  refine gq_geti (x := Int32.ofNat n) hl rfl ?_
  refine gq_t ((gq_ofNat_lt (by omega) (by omega)).mpr hin) ?_
  refine gq_getr (x := some l) h rfl ?_
  refine gq_nn ?_
  refine gq_getr (x := some arr) hl rfl ?_
  refine gq_nn ?_
  refine gq_alen ha (Or.inl (by decide)) ?_
  refine gq_t ((gq_ofNat_lt (by omega) (by omega)).mpr (Nat.lt_of_lt_of_le hin hnc)) ?_
  refine gq_putv hlo rfl rfl h (show 0 < 4 by decide) ?_
  refine gq_putv hlo rfl rfl gh_set_s (show 1 < 4 by decide) ?_
  refine gq_aald ((gh_set_n hne.symm).trans ((gh_set_n hne.symm).trans ha)) (gq_ofNat (Nat.lt_of_lt_of_le hin hnc) (by omega)) ?_
  refine gq_ret ⟨rfl, ?_⟩
  simp only [gh_set_set, gq_ofNat_succ]
  rfl
end
