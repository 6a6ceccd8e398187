/-! calls, and the ends of methods -/
def gh_Inv (x : gh_C) (H : Heap) (y : MethodName) (len : Nat) (As : List Value) (fr : JFrame) (rest : List Value) : Prop :=
  ∀ (T : State) (locs : List Loc) (cells slots : Nat), T.heap = H → gh_St x T locs cells slots → ∀ (W9 : Nat) (Pre : Pt → Array Value → Prop) (Post : Pt → Array Value → Option Value → Pt → Prop) (PostX : Pt → Array Value → Addr → Pt → Prop),
  vx_Back (gh_cL x) (gh_cR x) (gh_cp x) (gh_ce x) (gh_cb x) (gh_cs x) (gh_ca x) y len W9 Pre Post PostX → 2 * fr.monitorRoom + (rest.map fun v => v.category).sum ≤ W9 → (∀ vm₁, (gh_cs x).WarmedH vm₁ → Pre ⟨T.setVm vm₁, locs, cells, slots⟩ As.toArray) →
  (∃ (v : Option Value) (vm₁ : Vm) (B : Pt), (gh_cs x).WarmedH vm₁ ∧ gh_St x B.U B.locs B.cells B.slots ∧ Post ⟨T.setVm vm₁, locs, cells, slots⟩ As.toArray v B ∧
      ∀ target, Steps (gh_cp x).tables (gh_ce x) (gh_cb x) (B.U.setTop { fr with pc := fr.pc + len, stack := v.toList ++ rest }) target → Steps (gh_cp x).tables (gh_ce x) (gh_cb x) (T.setTop fr) target) ∨
  (∃ (q : Addr) (vm₁ : Vm) (B : Pt), (gh_cs x).WarmedH vm₁ ∧ gh_St x B.U B.locs B.cells B.slots ∧ PostX ⟨T.setVm vm₁, locs, cells, slots⟩ As.toArray q B ∧
      Steps (gh_cp x).tables (gh_ce x) (gh_cb x) (T.setTop fr) ((B.U.setTop { fr with stack := rest }).pushFrame (.throwing q)))
/-- how many parameters a descriptor has -/
def gh_np (d : String) (n : Nat) : Prop := (parseMethodDescriptor d).map (fun s => s.parameters.length) = some n
theorem gh_np.le {d : String} {n : Nat} (h : gh_np d n) {As : List Value} (ha : As.length = n) : ∀ sig, parseMethodDescriptor d = some sig → As.length = sig.parameters.length := by
  intro sig hs
  unfold gh_np at h
  rw [hs] at h
  rw [ha]
  exact (Option.some.inj h).symm
def gh_mh (c : String) : Prop := c ≠ "java/lang/invoke/MethodHandle" ∧ c ≠ "java/lang/invoke/VarHandle"
theorem gh_catle (v : Value) : v.category ≤ 2 := by cases v <;> exact Nat.le_of_ble_eq_true rfl
theorem gh_sumle : ∀ {l : List Value} {n : Nat}, l.length ≤ n → (l.map fun v => v.category).sum ≤ 2 * n
  | [], n, _ => Nat.zero_le _
  | v :: l, n, h => by
    have h1 := gh_catle v
    have h0 : l.length + 1 ≤ n := h
    have h2 := gh_sumle (l := l) (n := n - 1) (by omega)
    show v.category + (l.map fun v => v.category).sum ≤ 2 * n
    omega
def gh_rs (l : List Value) : Prop := (l.map fun v => v.category).sum ≤ 8
theorem gh_r4 {l : List Value} (h : l.length ≤ 4) : gh_rs l := gh_sumle h
theorem gh_r8 {l : List Value} (ha : gh_al1 l) (h : l.length ≤ 8) : gh_rs l := by
  unfold gh_rs
  rw [gh_al1_sum ha]
  exact h
section
variable {x : gh_C} {cc : ByteArray} {own : String} {nL : Nat} {ret : Option FieldType} {nm : String} {F L : Nat} {hh : List ExceptionTableEntry} {pc : Nat} {ls : Array Slot} {rest : List Value} {g : gh_G}
theorem gh_recK (C : gh_K x cc own nL ret nm F L hh) {H : Heap} {locs : List Loc} (hp : gh_hp x g H locs) {a ci : Nat} {fs : List Value} (hg : gh_oc g a ci fs) {Cn : String} {T : u_T} {N : Nat} (hc : gh_cl[ci]? = some (Cn, T, N)) : ∃ (cell : Cell) (kC : Class), H[a]? = some cell ∧ cell.vm.isStatics = false ∧ (gh_cs x).vm.findClass Cn = some cell.cls ∧ (gh_cs x).vm.classes[cell.cls]? = some kC := by
  obtain ⟨cell, h1, h2, h3⟩ := gh_recv C hp hg hc
  obtain ⟨k, hk, -⟩ := Vm.findClass_spec h3
  exact ⟨cell, k, h1, h2, h3, hk⟩
/-- after a call -/
theorem gh_call (C : gh_K x cc own nL ret nm F L hh) {α β : Type} {y : MethodName} {len F1 L1 : Nat} {f : gh_M α} {rv : α → Option Value} {As : List Value} (hct : gh_Ct (gh_cL x) y F1 L1 f rv As) (hF : F1 + 1 ≤ F) (hL : 8 + L1 ≤ L) (hrest : gh_rs rest) {stk : List Value}
    (hinv : ∀ (H : Heap) (locs : List Loc), gh_hp x g H locs → gh_Inv x H y len As (F0 (gh_cm x) pc ls stk) rest)
    {kt : α → gh_M β} {kx : gh_X → gh_M β} {o : (β ⊕ gh_X) × gh_G} (h : gh_run (gh_tc f kt kx) g = some o) (ho : gh_le o.2 (gh_cf x))
    (k1 : ∀ (v : α) (g1 : gh_G), gh_run (kt v) g1 = some o → gh_Wd x g1 (F0 (gh_cm x) (pc + len) ls ((rv v).toList ++ rest)))
    (k2 : ∀ (v : gh_X) (g1 : gh_G), gh_run (kx v) g1 = some o → gh_Wx x g1 (F0 (gh_cm x) pc ls rest) v) : gh_Wd x g (F0 (gh_cm x) pc ls stk) := by
  intro H locs hp T hT X
  obtain ⟨r, g1, hrun, hg1, hk⟩ : ∃ (r : α ⊕ gh_X) (g1 : gh_G), gh_run f g = some (r, g1) ∧ gh_le g1 o.2 ∧ (match r with | .inl v => gh_run (kt v) g1 = some o | .inr e => gh_run (kx e) g1 = some o) := by
    rcases gh_tc_cases h with ⟨a, g1, e1, e2⟩ | ⟨a, g1, e1, e2⟩
    · exact ⟨.inl a, g1, e1, gh_run_le' e2, e2⟩
    · exact ⟨.inr a, g1, e1, gh_run_le' e2, e2⟩
  have hgg := gh_run_le hrun
  have hfin := hg1.tr ho
  have hc0 := hp.1
  have hlo : gh_lo g = gh_lo (gh_c0 x) := gh_lo_eq hc0
  have hco : gh_co g = gh_co (gh_c0 x) := gh_co_eq hc0
  have hB := hct (gh_cd x) g g1 r hrun (gh_cR x) (gh_cp x) (gh_ce x) (gh_cb x) (gh_cs x) (gh_ca x) len C.ts (by rw [C.room]; exact hF) (by rw [C.room]; exact hL)
  have hroom := gh_room1 C hp (n := g1.2.1 - g.2.1) (m := g1.2.2.1 - g.2.2.1) (by have := hfin.1; have := hgg.1; omega) (by have := hfin.2.1; have := hgg.2.1; omega)
  have en : ∀ vm₁, (gh_cs x).WarmedH vm₁ → gh_en (gh_cd x) (gh_lo g) (gh_co g) (T.setVm vm₁) := by
    intro vm₁ hW
    rw [hlo, hco]
    exact C.en.moved (U := T.setVm vm₁) hW (fun a ha hna => by show T.heap[a]? = _; rw [hT]; exact hp.2.2.2.1 a ha hna)
  have a1 := hc0.1
  have a2 := hc0.2.1
  have a3 := hgg.1
  have a4 := hgg.2.1
  have goOn : ∀ {H1 : Heap} {L1 : List Loc} {st t : State}, st.heap = H → H1 = t.heap → gh_Po (gh_cd x) g1 st t → (∀ q ∈ L1, gh_A (gh_lo g) q.base) → gh_hp x g1 H1 (locs ++ L1) := by
    intro H1 L1 st t e1 e2 e3 e4
    subst e2
    refine ⟨hc0.tr hgg, e3.1, ?_, ?_, ?_⟩
    · refine Nat.le_trans hp.2.2.1 ?_
      rw [← e1]
      exact e3.2.1
    · intro q hq hnq
      have h1 := hp.2.2.2.1 q hq hnq
      rw [← h1, ← e1]
      refine e3.2.2 q (by rw [e1]; exact Nat.lt_of_lt_of_le hq hp.2.2.1) ?_
      rw [show gh_lo g1 = gh_lo (gh_c0 x) from gh_lo_eq (hc0.tr hgg)]
      exact hnq
    · intro q hq
      rcases List.mem_append.mp hq with hq | hq
      · exact hp.2.2.2.2 q hq
      · have := e4 q hq
        rw [hlo] at this
        exact this
  rcases hinv H locs hp T locs _ _ hT X 8 _ _ _ hB (by have h9 : (rest.map fun v => v.category).sum ≤ 8 := hrest; show 2 * 0 + _ ≤ 8; omega) (fun vm₁ hW => ⟨hroom.1, hroom.2, rfl, en vm₁ hW, by show gh_w _ T.heap g; rw [hT]; exact hp.2.1⟩) with ⟨v, vm₁, ⟨U', l2, c2, s2⟩, hW₁, X', ⟨g', mk, t, L2, e1, e2, hq, h1, hL2, h2, h3⟩, st⟩ | ⟨q, vm₁, ⟨U', l2, c2, s2⟩, hW₁, X', ⟨g', mk, t, L2, E, ce, e1, e2, hq, hce, hcv, hcl, h1, hL2, h2, h3⟩, st⟩
  · dsimp only [Pt.U, Pt.locs, Pt.cells, Pt.slots] at X' e1 e2 h1 h2 h3 st
    subst h1; subst h2; subst h3
    obtain ⟨⟨w, hr, hv⟩, hpo⟩ := hq
    subst hr
    have hv2 : v = rv w := Outcome.returned.inj hv
    subst hv2
    have hp1 := goOn (st := (T.setVm vm₁).calling g' mk As.toArray) (t := t) hT e1 hpo hL2
    have X2 : gh_St x U' (locs ++ L2) (g1.2.1 - (gh_c0 x).2.1) (g1.2.2.1 - (gh_c0 x).2.2.1) := by
      rw [show g1.2.1 - (gh_c0 x).2.1 = g.2.1 - (gh_c0 x).2.1 + (g1.2.1 - g.2.1) by omega, show g1.2.2.1 - (gh_c0 x).2.2.1 = g.2.2.1 - (gh_c0 x).2.2.1 + (g1.2.2.1 - g.2.2.1) by omega]
      exact X'
    obtain ⟨t9, b1, b2⟩ := k1 w g1 hk U'.heap _ hp1 U' rfl X2
    exact ⟨t9, st _ b1, b2⟩
  · dsimp only [Pt.U, Pt.locs, Pt.cells, Pt.slots] at X' e1 e2 h1 h2 h3 st hcl
    subst h1; subst h2; subst h3
    obtain ⟨⟨ci, c, hr, hc, hcE⟩, hpo⟩ := hq
    subst hr
    subst hcE
    have hp1 := goOn (st := (T.setVm vm₁).calling g' mk As.toArray) (t := t) hT e1 hpo hL2
    have X2 : gh_St x U' (locs ++ L2) (g1.2.1 - (gh_c0 x).2.1) (g1.2.2.1 - (gh_c0 x).2.2.1) := by
      rw [show g1.2.1 - (gh_c0 x).2.1 = g.2.1 - (gh_c0 x).2.1 + (g1.2.1 - g.2.1) by omega, show g1.2.2.1 - (gh_c0 x).2.2.1 = g.2.2.1 - (gh_c0 x).2.2.1 + (g1.2.2.1 - g.2.2.1) by omega]
      exact X'
    obtain ⟨t9, b1, b2⟩ := k2 (ci, q) g1 hk U'.heap _ ce c hp1 (by rw [e1]; exact hce) hcv hc (vx_cls hW₁ hcl) U' rfl X2
    exact ⟨t9, st.trans b1, b2⟩
/-! the kinds of calls -/
theorem gi_V (C : gh_K x cc own nL ret nm F L hh) {H : Heap} {locs : List Loc} (hp : gh_hp x g H locs) {b ci index n : Nat} {fs : List Value} (hg : gh_oc g b ci fs) {Cn : String} {Tt : u_T} {N : Nat} (hc : gh_cl[ci]? = some (Cn, Tt, N)) {y : MethodName} {bytes : ByteArray} {maxL : Nat} {rt : Option FieldType}
    (hlink : Cond.methodLink own index y ∈ lw_all) (hinst : Cond.instanceMethod y ∈ lw_all) (hsel : Cond.selects Cn y y ∈ lw_all) (hcode : Cond.code y bytes maxL rt ∈ lw_all) (hy : gh_mh y.cls) (hn : gh_np y.desc n) {As : List Value} (hAs : As.length = n) (hz : ls.size = nL)
    (hd : decode cc pc = .ok (.invokevirtual index, 3)) {stk : List Value} (hstk : stk = As.reverse ++ va_rf (some b) :: rest) : gh_Inv x H y 3 (va_rf (some b) :: As) (F0 (gh_cm x) pc ls stk) rest := by
  intro T locs' cells slots hT X W9 Pre Post PostX hK hW hpre
  obtain ⟨cell, kC, h1, h2, h3, -⟩ := gh_recK C hp hg hc
  exact vx_callV X C.1 C.ow (C.ts _ hlink) (C.ts _ hinst) (C.ts _ hsel) (C.ts _ hcode) hy hK (by rw [hT]; exact h1) h2 h3 rfl (hz.trans C.ml.symm) (hn.le hAs) hstk hW (by rw [C.2.1]; exact hd) hpre
theorem gi_VX (C : gh_K x cc own nL ret nm F L hh) {H : Heap} {locs : List Loc} (hp : gh_hp x g H locs) {b ci index n : Nat} {fs : List Value} (hg : gh_oc g b ci fs) {Cn : String} {Tt : u_T} {N : Nat} (hc : gh_cl[ci]? = some (Cn, Tt, N)) {y : MethodName} {bytes : ByteArray} {maxL : Nat} {rt : Option FieldType} {h4 : List (Nat × Nat × Nat × Nat)}
    (hlink : Cond.methodLink own index y ∈ lw_all) (hinst : Cond.instanceMethod y ∈ lw_all) (hsel : Cond.selects Cn y y ∈ lw_all) (hcode : Cond.codeWith y bytes maxL rt h4 ∈ lw_all) (hy : gh_mh y.cls) (hn : gh_np y.desc n) {As : List Value} (hAs : As.length = n) (hz : ls.size = nL)
    (hd : decode cc pc = .ok (.invokevirtual index, 3)) {stk : List Value} (hstk : stk = As.reverse ++ va_rf (some b) :: rest) : gh_Inv x H y 3 (va_rf (some b) :: As) (F0 (gh_cm x) pc ls stk) rest := by
  intro T locs' cells slots hT X W9 Pre Post PostX hK hW hpre
  obtain ⟨cell, kC, h1, h2, h3, -⟩ := gh_recK C hp hg hc
  exact vx_callVX X C.1 C.ow (C.ts _ hlink) (C.ts _ hinst) (C.ts _ hsel) (C.ts _ hcode) hy hK (by rw [hT]; exact h1) h2 h3 rfl (hz.trans C.ml.symm) (hn.le hAs) hstk hW (by rw [C.2.1]; exact hd) hpre
theorem gi_U (C : gh_K x cc own nL ret nm F L hh) {H : Heap} {locs : List Loc} (hp : gh_hp x g H locs) {b ci index n : Nat} {fs : List Value} (hg : gh_oc g b ci fs) {Cn : String} {Tt : u_T} {N : Nat} (hc : gh_cl[ci]? = some (Cn, Tt, N)) {m1 y : MethodName} {owner : String} {bytes : ByteArray} {maxL : Nat} {rt : Option FieldType}
    (hlink : Cond.methodLink own index m1 ∈ lw_all) (hsame : Cond.sameMethod m1.cls owner m1.name m1.desc ∈ lw_all) (hdecl : va_Decl (gh_cs x) ⟨owner, m1.name, m1.desc⟩) (howner : gh_mh owner) (hinst : Cond.instanceMethod y ∈ lw_all) (hsel : Cond.selects Cn m1 y ∈ lw_all) (hcode : Cond.code y bytes maxL rt ∈ lw_all) (hn : gh_np m1.desc n) {As : List Value} (hAs : As.length = n) (hz : ls.size = nL)
    (hd : decode cc pc = .ok (.invokevirtual index, 3)) {stk : List Value} (hstk : stk = As.reverse ++ va_rf (some b) :: rest) : gh_Inv x H y 3 (va_rf (some b) :: As) (F0 (gh_cm x) pc ls stk) rest := by
  intro T locs' cells slots hT X W9 Pre Post PostX hK hW hpre
  obtain ⟨cell, kC, h1, h2, h3, -⟩ := gh_recK C hp hg hc
  exact vx_callVU X C.1 C.ow (C.ts _ hlink) (C.ts _ hsame) hdecl howner (C.ts _ hsel) (C.ts _ hinst) (C.ts _ hcode) hK (by rw [hT]; exact h1) h2 h3 rfl (hz.trans C.ml.symm) (hn.le hAs) hstk hW (by rw [C.2.1]; exact hd) hpre
theorem gi_S (C : gh_K x cc own nL ret nm F L hh) {H : Heap} {index n : Nat} {y : MethodName} {bytes : ByteArray} {maxL : Nat} {rt : Option FieldType}
    (hlink : Cond.methodLink own index y ∈ lw_all) (hstat : Cond.static y ∈ lw_all) (hini : Cond.initialized y.cls ∈ lw_all) (hcode : Cond.code y bytes maxL rt ∈ lw_all) (hy : gh_mh y.cls) (hn : gh_np y.desc n) {As : List Value} (hAs : As.length = n) (hz : ls.size = nL)
    (hd : decode cc pc = .ok (.invokestatic index, 3)) {stk : List Value} (hstk : stk = As.reverse ++ rest) : gh_Inv x H y 3 As (F0 (gh_cm x) pc ls stk) rest := by
  intro T locs' cells slots hT X W9 Pre Post PostX hK hW hpre
  exact vx_callS X C.1 C.ow (C.ts _ hlink) (C.ts _ hstat) (C.ts _ hini) (C.ts _ hcode) hy hK rfl (hz.trans C.ml.symm) (hn.le hAs) hstk hW (by rw [C.2.1]; exact hd) hpre
theorem gi_SX (C : gh_K x cc own nL ret nm F L hh) {H : Heap} {index n : Nat} {y : MethodName} {bytes : ByteArray} {maxL : Nat} {rt : Option FieldType} {h4 : List (Nat × Nat × Nat × Nat)}
    (hlink : Cond.methodLink own index y ∈ lw_all) (hstat : Cond.static y ∈ lw_all) (hini : Cond.initialized y.cls ∈ lw_all) (hcode : Cond.codeWith y bytes maxL rt h4 ∈ lw_all) (hy : gh_mh y.cls) (hn : gh_np y.desc n) {As : List Value} (hAs : As.length = n) (hz : ls.size = nL)
    (hd : decode cc pc = .ok (.invokestatic index, 3)) {stk : List Value} (hstk : stk = As.reverse ++ rest) : gh_Inv x H y 3 As (F0 (gh_cm x) pc ls stk) rest := by
  intro T locs' cells slots hT X W9 Pre Post PostX hK hW hpre
  exact vx_callSX X C.1 C.ow (C.ts _ hlink) (C.ts _ hstat) (C.ts _ hini) (C.ts _ hcode) hy hK rfl (hz.trans C.ml.symm) (hn.le hAs) hstk hW (by rw [C.2.1]; exact hd) hpre
theorem gi_SN (C : gh_K x cc own nL ret nm F L hh) {H : Heap} {index n : Nat} {y : MethodName} {host : String} {bytes : ByteArray} {maxL : Nat} {rt : Option FieldType}
    (hlink : Cond.methodLinkNest own index y host ∈ lw_tbl) (hstat : Cond.static y ∈ lw_all) (hini : Cond.initialized y.cls ∈ lw_all) (hcode : Cond.code y bytes maxL rt ∈ lw_all) (hy : gh_mh y.cls) (hn : gh_np y.desc n) {As : List Value} (hAs : As.length = n) (hz : ls.size = nL)
    (hd : decode cc pc = .ok (.invokestatic index, 3)) {stk : List Value} (hstk : stk = As.reverse ++ rest) : gh_Inv x H y 3 As (F0 (gh_cm x) pc ls stk) rest := by
  intro T locs' cells slots hT X W9 Pre Post PostX hK hW hpre
  exact vx_callSN X C.1 C.ow (C.tw hlink rfl) (C.ts _ hstat) (C.ts _ hini) (C.ts _ hcode) hy hK rfl (hz.trans C.ml.symm) (hn.le hAs) hstk hW (by rw [C.2.1]; exact hd) hpre
theorem gi_I (C : gh_K x cc own nL ret nm F L hh) {H : Heap} {b index n : Nat} {y : MethodName} {bytes : ByteArray} {maxL : Nat}
    (hlink : Cond.methodLink own index y ∈ lw_all) (hy1 : y.name = "<init>") (hinst : Cond.instanceMethod y ∈ lw_all) (hcode : Cond.code y bytes maxL none ∈ lw_all) (hy : gh_mh y.cls) (hn : gh_np y.desc n) {As : List Value} (hAs : As.length = n) (hz : ls.size = nL)
    (hd : decode cc pc = .ok (.invokespecial index, 3)) {stk : List Value} (hstk : stk = As.reverse ++ va_rf (some b) :: rest) : gh_Inv x H y 3 (va_rf (some b) :: As) (F0 (gh_cm x) pc ls stk) rest := by
  intro T locs' cells slots hT X W9 Pre Post PostX hK hW hpre
  exact vx_callI X C.1 C.ow hy1 (C.ts _ hlink) (C.ts _ hinst) (C.ts _ hcode) hy hK rfl (hz.trans C.ml.symm) (hn.le hAs) hstk hW (by rw [C.2.1]; exact hd) hpre
theorem gi_IN (C : gh_K x cc own nL ret nm F L hh) {H : Heap} {b index n : Nat} {y : MethodName} {host : String} {bytes : ByteArray} {maxL : Nat}
    (hlink : Cond.methodLinkNest own index y host ∈ lw_tbl) (hy1 : y.name = "<init>") (hinst : Cond.instanceMethod y ∈ lw_all) (hcode : Cond.code y bytes maxL none ∈ lw_all) (hy : gh_mh y.cls) (hn : gh_np y.desc n) {As : List Value} (hAs : As.length = n) (hz : ls.size = nL)
    (hd : decode cc pc = .ok (.invokespecial index, 3)) {stk : List Value} (hstk : stk = As.reverse ++ va_rf (some b) :: rest) : gh_Inv x H y 3 (va_rf (some b) :: As) (F0 (gh_cm x) pc ls stk) rest := by
  intro T locs' cells slots hT X W9 Pre Post PostX hK hW hpre
  exact vx_callIN X C.1 C.ow hy1 (C.tw hlink rfl) (C.ts _ hinst) (C.ts _ hcode) hy hK rfl (hz.trans C.ml.symm) (hn.le hAs) hstk hW (by rw [C.2.1]; exact hd) hpre
theorem gi_SU (C : gh_K x cc own nL ret nm F L hh) {H : Heap} {locs : List Loc} (hp : gh_hp x g H locs) {b ci index n : Nat} {fs : List Value} (hg : gh_oc g b ci fs) {Cn : String} {Tt : u_T} {N : Nat} (hc : gh_cl[ci]? = some (Cn, Tt, N)) {y : MethodName} {bytes : ByteArray} {maxL : Nat} {rt : Option FieldType}
    (hlink : Cond.methodLink own index y ∈ lw_all) (hsame : Cond.sameMethod y.cls y.cls y.name y.desc ∈ lw_all) (hsup : Cond.superclass own y.cls ∈ lw_all) (hinst : Cond.instanceMethod y ∈ lw_all) (hcode : Cond.code y bytes maxL rt ∈ lw_all) (hno : y.name ≠ "<init>") (hn : gh_np y.desc n) {As : List Value} (hAs : As.length = n) (hz : ls.size = nL)
    (hd : decode cc pc = .ok (.invokespecial index, 3)) {stk : List Value} (hstk : stk = As.reverse ++ va_rf (some b) :: rest) : gh_Inv x H y 3 (va_rf (some b) :: As) (F0 (gh_cm x) pc ls stk) rest := by
  intro T locs' cells slots hT X W9 Pre Post PostX hK hW hpre
  obtain ⟨cell, kC, h1, h2, h3, h4⟩ := gh_recK C hp hg hc
  exact vx_callSU X C.1 C.ow (C.ts _ hlink) (C.ts _ hsame) (C.ts _ hsup) (C.ts _ hinst) (C.ts _ hcode) hno hK (by rw [hT]; exact h1) h2 h4 rfl (hz.trans C.ml.symm) (hn.le hAs) hstk hW (by rw [C.2.1]; exact hd) hpre
theorem gh_K.fa (C : gh_K x cc own nL ret nm F L hh) {q : MethodName} (h : q ∈ gh_ifs) : (Cond.interfaceMethod q.cls q.cls q.name q.desc).before (gh_ca x) (gh_cs x) = true := va_any rfl (C.en.2.2.2.2.2.2.2.2.2.2.1 q h)
theorem gi_F (C : gh_K x cc own nL ret nm F L hh) {H : Heap} {locs : List Loc} (hp : gh_hp x g H locs) {b ci index count n : Nat} {fs : List Value} (hg : gh_oc g b ci fs) {Cn : String} {Tt : u_T} {N : Nat} (hc : gh_cl[ci]? = some (Cn, Tt, N)) {m1 y : MethodName} {bytes : ByteArray} {maxL : Nat} {rt : Option FieldType}
    (hlink : Cond.methodLink own index m1 ∈ lw_all) (hdecl : Cond.declares m1 ∈ lw_tbl) (hface : m1 ∈ gh_ifs) (hsel : Cond.selects Cn m1 y ∈ lw_all) (hinst : Cond.instanceMethod y ∈ lw_all) (hpub : Cond.publicMethod y ∈ lw_tbl) (hunh : Cond.unhidden Cn m1.name m1.desc ∈ lw_tbl) (hcast : Cond.castable Cn m1.cls ∈ lw_tbl) (hcode : Cond.code y bytes maxL rt ∈ lw_all) (hx : gh_mh m1.cls) (hn : gh_np m1.desc n) {As : List Value} (hAs : As.length = n) (hz : ls.size = nL)
    (hd : decode cc pc = .ok (.invokeinterface index count, 5)) {stk : List Value} (hstk : stk = As.reverse ++ va_rf (some b) :: rest) : gh_Inv x H y 5 (va_rf (some b) :: As) (F0 (gh_cm x) pc ls stk) rest := by
  intro T locs' cells slots hT X W9 Pre Post PostX hK hW hpre
  obtain ⟨cell, kC, h1, h2, h3, h4⟩ := gh_recK C hp hg hc
  exact vx_callIF X C.1 C.ow (C.ts _ hlink) (C.tw hdecl rfl) (C.fa hface) (C.ts _ hsel) (C.ts _ hinst) (C.tw hpub rfl) (C.tw hunh rfl) (C.tw hcast rfl) (C.ts _ hcode) hx hK (by rw [hT]; exact h1) h2 h3 h4 rfl (hz.trans C.ml.symm) (hn.le hAs) hstk hW (by rw [C.2.1]; exact hd) hpre
/-- a word of the extra list of default methods -/
theorem gh_K.dw (C : gh_K x cc own nL ret nm F L hh) {w : Cond} (h : w ∈ defaultWords_1) (ht : w.onTables = true) : w.before (gh_ca x) (gh_cs x) = true := va_any ht (C.en.2.2.2.2.2.2.2.2.1 w h)
theorem gh_K.la (C : gh_K x cc own nL ret nm F L hh) {q : String × MethodName × MethodName} (h : q ∈ gh_lands) : (Cond.landsInDefault q.1 q.2.1 q.2.2).before (gh_ca x) (gh_cs x) = true := by
  have e := (Cond.landsInDefault_setVm (args := #[]) (args' := gh_ca x) (s := gh_cs x) (vm' := (gh_cs x).vm) (x := q.2.1) (y := q.2.2) (cls := q.1) (Vm.Alike.refl _) rfl).trans (C.en.2.2.2.2.2.2.2.2.2.1 q h)
  exact e
/-- a default method, by a virtual call -/
theorem gi_VD (C : gh_K x cc own nL ret nm F L hh) {H : Heap} {locs : List Loc} (hp : gh_hp x g H locs) {b ci index n : Nat} {fs : List Value} (hg : gh_oc g b ci fs) {Cn : String} {Tt : u_T} {N : Nat} (hc : gh_cl[ci]? = some (Cn, Tt, N)) {m1 y : MethodName} {owner : String}
    (hlink : Cond.methodLink own index m1 ∈ defaultWords_1) (hsame : Cond.sameMethod m1.cls owner m1.name m1.desc ∈ defaultWords_1) (hdecl : Cond.declares ⟨owner, m1.name, m1.desc⟩ ∈ lw_tbl) (howner : gh_mh owner) (hsel : (Cn, m1, y) ∈ gh_lands) (hinst : Cond.instanceMethod y ∈ lw_all) (hn : gh_np m1.desc n) {As : List Value} (hAs : As.length = n) (hz : ls.size = nL)
    (hd : decode cc pc = .ok (.invokevirtual index, 3)) {stk : List Value} (hstk : stk = As.reverse ++ va_rf (some b) :: rest) : gh_Inv x H y 3 (va_rf (some b) :: As) (F0 (gh_cm x) pc ls stk) rest := by
  intro T locs' cells slots hT X W9 Pre Post PostX hK hW hpre
  obtain ⟨cell, kC, w1, w2, w3, -⟩ := gh_recK C hp hg hc
  obtain ⟨r0, r, hn0, hrm, hstR, hsigR⟩ := Cond.declares_spec (C.tw hdecl rfl)
  have hsame' := C.dw hsame rfl
  obtain ⟨cn, ck, r1, hcn, hck, hni, hf, hn1⟩ := Cond.sameMethod_found hsame'
  cases hn0.symm.trans hn1
  obtain ⟨mk, methM, hnamed, hmethM, -, habM⟩ := Cond.instanceMethod_spec (C.ts _ hinst)
  obtain ⟨c2, r2, m2, rm, q1, q2, q3, q5, q4, ⟨kP, hkP, hkPi⟩, -, q7⟩ := Cond.landsInDefault_spec (C.la hsel)
  cases w3.symm.trans q1
  cases hf.symm.trans q2
  cases hnamed.symm.trans q3
  cases hrm.symm.trans q5
  have hselP : selectMethod (gh_ce x).platform (gh_cs x).vm cell.cls r0 = .method mk := by rw [Launch.admits_selectMethod X.admits]; exact q4
  obtain ⟨vm₁, X₁, hstep₁⟩ := X.invokevirtualUpD C.1 C.ow (C.dw hlink rfl) hsame' howner hn0 hrm hstR (a := b) (cell := cell) (by rw [hT]; exact w1)
    (fun z h => by rw [h] at w2; cases w2) hselP hmethM habM hkP hkPi q7 (g := F0 (gh_cm x) pc ls stk) rfl (argsL := As) (rest := rest) (hn.le hAs _ hsigR) hstk (by rw [C.2.1]; exact hd)
  rcases hK (gh_cm x) (gh_ct x) (gh_cc x) ⟨T.setVm vm₁, locs', cells, slots⟩ (F0 (gh_cm x) pc ls rest) (.invokevirtual index) mk (va_rf (some b) :: As).toArray X₁ rfl (hz.trans C.ml.symm) (by rw [C.2.1]; exact hd) hW (X₁.named hnamed) (hpre vm₁ X₁.warmed) with ⟨v, B, X', hpost, hsteps⟩ | ⟨q, B, X', hpost, hsteps⟩
  · exact Or.inl ⟨v, vm₁, B, X₁.warmed, X', hpost, fun target h => hstep₁ _ fun acts => by rw [doInvoke_state]; exact hsteps.trans h⟩
  · exact Or.inr ⟨q, vm₁, B, X₁.warmed, X', hpost, hstep₁ _ fun acts => by rw [doInvoke_state]; exact hsteps⟩
/-- .. by a call of the interface's -/
theorem gi_FD (C : gh_K x cc own nL ret nm F L hh) {H : Heap} {locs : List Loc} (hp : gh_hp x g H locs) {b ci index count n : Nat} {fs : List Value} (hg : gh_oc g b ci fs) {Cn : String} {Tt : u_T} {N : Nat} (hc : gh_cl[ci]? = some (Cn, Tt, N)) {m1 y : MethodName}
    (hlink : Cond.methodLink own index m1 ∈ lw_all) (hdecl : Cond.declares m1 ∈ lw_tbl) (hface : m1 ∈ gh_ifs) (hsel : (Cn, m1, y) ∈ gh_lands) (hinst : Cond.instanceMethod y ∈ lw_all) (hpub : Cond.publicMethod y ∈ lw_tbl) (hcast : Cond.castable Cn m1.cls ∈ lw_tbl) (hx : gh_mh m1.cls) (hn : gh_np m1.desc n) {As : List Value} (hAs : As.length = n) (hz : ls.size = nL)
    (hd : decode cc pc = .ok (.invokeinterface index count, 5)) {stk : List Value} (hstk : stk = As.reverse ++ va_rf (some b) :: rest) : gh_Inv x H y 5 (va_rf (some b) :: As) (F0 (gh_cm x) pc ls stk) rest := by
  intro T locs' cells slots hT X W9 Pre Post PostX hK hW hpre
  obtain ⟨cell, kC, w1, w2, w3, w4⟩ := gh_recK C hp hg hc
  obtain ⟨r0, r, hn0, hrm, hstR, hsigR⟩ := Cond.declares_spec (C.tw hdecl rfl)
  obtain ⟨cL, kL, r1, hcL, hkL, hiL, hfoundL, hn1⟩ := Cond.interfaceMethod_spec (C.fa hface)
  cases hn0.symm.trans hn1
  have hr0cls : r0.cls = cL := Option.some.inj ((findClass_of_methodNamed hn0).symm.trans hcL)
  obtain ⟨hnameR, hdescR⟩ := name_of_methodNamed hn0 hrm
  obtain ⟨mk, methM, hnamed, hmethM, -, habM⟩ := Cond.instanceMethod_spec (C.ts _ hinst)
  obtain ⟨c2, r2, m2, rm, q1, q2, q3, q5, q4, -, q6, -⟩ := Cond.landsInDefault_spec (C.la hsel)
  cases w3.symm.trans q1
  cases hfoundL.symm.trans q2
  cases hnamed.symm.trans q3
  cases hrm.symm.trans q5
  have hselP : selectMethod (gh_ce x).platform (gh_cs x).vm cell.cls r0 = .method mk := by rw [Launch.admits_selectMethod X.admits]; exact q4
  have hpubM : hasFlag methM.accessFlags Acc.public_ = true := Cond.publicMethod_spec hnamed hmethM (C.tw hpub rfl)
  obtain ⟨c3, t3, w5, w6, w7⟩ := Cond.castable_spec (C.tw hcast rfl)
  cases w3.symm.trans w5
  cases hcL.symm.trans w6
  obtain ⟨vm₁, X₁, hstep₁⟩ := X.invokeinterface C.1 C.ow (C.ts _ hlink) hn0 hrm hstR (by rw [hr0cls]; exact hkL) hiL hx (a := b) (cell := cell) (kcell := kC) (by rw [hT]; exact w1)
    (fun z h => by rw [h] at w2; cases w2) w4 (by rw [hr0cls]; exact w7) hselP hmethM q6 hpubM habM (g := F0 (gh_cm x) pc ls stk) rfl (argsL := As) (rest := rest) (hn.le hAs _ hsigR) hstk (by rw [C.2.1]; exact hd)
  rcases hK (gh_cm x) (gh_ct x) (gh_cc x) ⟨T.setVm vm₁, locs', cells, slots⟩ (F0 (gh_cm x) pc ls rest) (.invokeinterface index count) mk (va_rf (some b) :: As).toArray X₁ rfl (hz.trans C.ml.symm) (by rw [C.2.1]; exact hd) hW (X₁.named hnamed) (hpre vm₁ X₁.warmed) with ⟨v, B, X', hpost, hsteps⟩ | ⟨q, B, X', hpost, hsteps⟩
  · exact Or.inl ⟨v, vm₁, B, X₁.warmed, X', hpost, fun target h => hstep₁ _ fun acts => by rw [doInvoke_state]; exact hsteps.trans h⟩
  · exact Or.inr ⟨q, vm₁, B, X₁.warmed, X', hpost, hstep₁ _ fun acts => by rw [doInvoke_state]; exact hsteps⟩
/-- Object's constructor -/
theorem gr_oinit (C : gh_K x cc own nL ret nm F L hh) {a index : Nat} (hlink : Cond.methodLink own index Lib.objectInit ∈ lw_all) (hinst : Cond.instanceMethod Lib.objectInit ∈ lw_all) (hcode : Cond.code Lib.objectInit ⟨#[0xb1]⟩ 1 none ∈ lw_all) (hz : ls.size = nL) (hF : 1 ≤ F) (hL : 20 ≤ L) (hrest : rest.length ≤ 4) (hd : decode cc pc = .ok (.invokespecial index, 3))
    (k : gh_Wd x g (F0 (gh_cm x) (pc + 3) ls rest)) : gh_Wd x g (F0 (gh_cm x) pc ls (va_rf (some a) :: rest)) := fun H locs h =>
  W.objInit C.1 C.2.1 C.ow (C.ts _ hlink) (C.ts _ hinst) (C.ts _ hcode) rfl (hz.trans C.ml.symm) rfl hd (by rw [C.room]; exact hF) (by rw [C.room]; have h9 := gh_sumle hrest; show 2 * 0 + _ + 12 ≤ L; omega) (k H locs h)
/-! ends -/
theorem gh_end {α : Type} {rv : α → Option Value} {v : α} {fr : JFrame} {o : (α ⊕ gh_X) × gh_G} (ho : o = (.inl v, g)) (hk : gh_K0 x rv o)
    (kk : ∀ (H : Heap) (locs : List Loc), gh_hp x g H locs → (∀ t : State, t.heap = H → (gh_cs x).WarmedH t.vm → gh_Qc (gh_cd x) rv (.inl v) g (gh_ca x) (gh_cs x) (.returned (rv v)) t) → (∀ q ∈ locs, gh_A (gh_lo (gh_c0 x)) q.base) →
      W (gh_cp x) (gh_cL x) (gh_ce x) (gh_cR x) (gh_cs x) (gh_cm x) (gh_ca x) (gh_cb x) (gh_ct x) (gh_cc x) H locs (g.2.1 - (gh_c0 x).2.1) (g.2.2.1 - (gh_c0 x).2.2.1) (MQ (gh_cb x) (gh_Qc (gh_cd x) rv (.inl v) g) (gh_ca x) (gh_cs x) (g.2.1 - (gh_c0 x).2.1) (g.2.2.1 - (gh_c0 x).2.2.1) (gh_A (gh_lo (gh_c0 x)))) fr) : gh_Wd x g fr := by
  intro H locs hp
  subst ho
  obtain ⟨h1, h2⟩ := hk
  have h2' : g = gh_cf x := h2
  unfold gh_WW
  rw [h1]
  unfold gh_Qm
  rw [← h2']
  refine vx_ret (kk H locs hp (fun t ht hW => ⟨⟨v, rfl, rfl⟩, by rw [ht]; exact hp.2.1, ?_⟩) hp.2.2.2.2)
  rw [gh_lo_eq hp.1]
  exact hp.2.2.F ht
theorem gr_zret {ty : FieldType} (C : gh_K x cc own nL (some ty) nm F L hh) {v : Int32} {o : (Int32 ⊕ gh_X) × gh_G} (hn : narrow ty (.int v) = .int v) (hd : decode cc pc = .ok (.ireturn, 1)) (h : gh_run (gh_ret v) g = some o) (hk : gh_K0 x gh_rI o) : gh_Wd x g (F0 (gh_cm x) pc ls [.int v]) :=
  gh_end (gh_ret_inv h) hk fun _ _ _ h1 h2 => W.zret C.1 C.2.1 C.re hn h1 h2 hd C.locks
def gh_rz (ty : FieldType) (v : Int32) : gh_M Int32 := gh_ok (decide (narrow ty (.int v) = .int v)) (gh_ret v)
theorem gr_iret (C : gh_K x cc own nL (some .int) nm F L hh) {v : Int32} {o : (Int32 ⊕ gh_X) × gh_G} (hd : decode cc pc = .ok (.ireturn, 1)) (h : gh_run (gh_ret v) g = some o) (hk : gh_K0 x gh_rI o) : gh_Wd x g (F0 (gh_cm x) pc ls [.int v]) := gr_zret C rfl hd h hk
theorem gr_bret {ty : FieldType} (C : gh_K x cc own nL (some ty) nm F L hh) {v : Int32} {o : (Int32 ⊕ gh_X) × gh_G} (hd : decode cc pc = .ok (.ireturn, 1)) (h : gh_run (gh_rz ty v) g = some o) (hk : gh_K0 x gh_rI o) : gh_Wd x g (F0 (gh_cm x) pc ls [.int v]) :=
  gr_zret C (of_decide_eq_true (gh_ok_inv h).1) hd (gh_ok_inv h).2 hk
theorem gr_vret (C : gh_K x cc own nL none nm F L hh) {o : (Unit ⊕ gh_X) × gh_G} (hd : decode cc pc = .ok (.return_, 1)) (h : gh_run (gh_ret ()) g = some o) (hk : gh_K0 x gh_rV o) : gh_Wd x g (F0 (gh_cm x) pc ls []) :=
  gh_end (gh_ret_inv h) hk fun _ _ _ h1 h2 => W.vret C.1 C.2.1 C.re h1 h2 hd C.locks
theorem gr_aret {rt : FieldType} (C : gh_K x cc own nL (some rt) nm F L hh) (hrt : (∃ n, rt = .object n) ∨ ∃ t, rt = .array t) {v : Option Nat} {o : (Option Nat ⊕ gh_X) × gh_G} (hd : decode cc pc = .ok (.areturn, 1)) (h : gh_run (gh_ret v) g = some o) (hk : gh_K0 x gh_rQ o) : gh_Wd x g (F0 (gh_cm x) pc ls [va_rf v]) :=
  gh_end (gh_ret_inv h) hk fun _ _ _ h1 h2 => W.aret C.1 C.2.1 C.re hrt (by cases v; exact Or.inl rfl; exact Or.inr ⟨_, rfl⟩) h1 h2 hd C.locks
theorem gr_dret (C : gh_K x cc own nL (some .double) nm F L hh) {v : UInt64} {o : (UInt64 ⊕ gh_X) × gh_G} (hd : decode cc pc = .ok (.dreturn, 1)) (h : gh_run (gh_ret v) g = some o) (hk : gh_K0 x gh_rD o) : gh_Wd x g (F0 (gh_cm x) pc ls [.double v]) :=
  gh_end (gh_ret_inv h) hk fun _ _ _ h1 h2 => W.dret C.1 C.2.1 C.re h1 h2 hd C.locks
theorem gr_fret (C : gh_K x cc own nL (some .float) nm F L hh) {v : UInt32} {o : (UInt32 ⊕ gh_X) × gh_G} (hd : decode cc pc = .ok (.freturn, 1)) (h : gh_run (gh_ret v) g = some o) (hk : gh_K0 x gh_rF o) : gh_Wd x g (F0 (gh_cm x) pc ls [.float v]) :=
  gh_end (gh_ret_inv h) hk fun _ _ _ h1 h2 => W.fret C.1 C.2.1 C.re h1 h2 hd C.locks
/-- what is thrown leaves the method -/
theorem gh_out (C : gh_K x cc own nL ret nm F L hh) {α : Type} {rv : α → Option Value} {e : gh_X} {o : (α ⊕ gh_X) × gh_G} (hcov : ∀ z ∈ hh, covers z pc = false) (h : gh_run (gh_thr e : gh_M α) g = some o) (hk : gh_K0 x rv o) : gh_Wx x g (F0 (gh_cm x) pc ls rest) e := by
  intro H locs ce c hp hce hcv hc hcl
  have ho := gh_thr_inv h
  subst ho
  obtain ⟨h1, h2⟩ := hk
  have h2' : g = gh_cf x := h2
  rw [h1]
  unfold gh_Qm
  rw [← h2']
  refine vx_out (by rw [C.tab]; exact hcov) C.locks hce hcv hcl (fun t ht hA => ⟨⟨e.1, c, rfl, hc, rfl⟩, by rw [ht]; exact hp.2.1, ?_⟩) hp.2.2.2.2 (Nat.le_refl _) (Nat.le_refl _)
  rw [gh_lo_eq hp.1]
  exact hp.2.2.F ht
end
