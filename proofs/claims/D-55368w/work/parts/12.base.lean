/-! what the printed walks use -/
theorem gh_ift {α : Type} {c : Prop} [Decidable c] {A B : gh_M α} {g : gh_G} {o : (α ⊕ gh_X) × gh_G} (h : gh_run (if c then A else B) g = some o) (hc : c) : gh_run A g = some o := by rwa [if_pos hc] at h
theorem gh_iff {α : Type} {c : Prop} [Decidable c] {A B : gh_M α} {g : gh_G} {o : (α ⊕ gh_X) × gh_G} (h : gh_run (if c then A else B) g = some o) (hc : ¬ c) : gh_run B g = some o := by rwa [if_neg hc] at h
def gh_on {α : Type} (x : Option Nat) (A : gh_M α) (B : Nat → gh_M α) : gh_M α := match x with
  | none => A
  | some b => B b
theorem gh_on_n {α : Type} {A : gh_M α} {B : Nat → gh_M α} {g : gh_G} {o : (α ⊕ gh_X) × gh_G} (h : gh_run (gh_on none A B) g = some o) : gh_run A g = some o := h
theorem gh_on_s {α : Type} {A : gh_M α} {B : Nat → gh_M α} {b : Nat} {g : gh_G} {o : (α ⊕ gh_X) × gh_G} (h : gh_run (gh_on (some b) A B) g = some o) : gh_run (B b) g = some o := h
theorem gh_nn_ss {α : Type} {a : Nat} {k : Nat → gh_M α} {g : gh_G} {o : (α ⊕ gh_X) × gh_G} (h : gh_run (gh_nn (some a) k) g = some o) : gh_run (k a) g = some o := h
theorem gh_K1_in {S β : Type} {x : gh_C} {kd : (β ⊕ gh_X) × gh_G → Prop} {P : S → gh_G → Prop} {st : S} {g : gh_G} {o : ((S ⊕ β) ⊕ gh_X) × gh_G} (h : gh_run (gh_ret (.inl st) : gh_M (S ⊕ β)) g = some o) (hk : gh_K1 x kd P o) : P st g := by
  have e := gh_ret_inv h
  subst e
  exact hk.1
theorem gh_K1_thr {S β : Type} {x : gh_C} {kd : (β ⊕ gh_X) × gh_G → Prop} {P : S → gh_G → Prop} {e : gh_X} {g : gh_G} {o : ((S ⊕ β) ⊕ gh_X) × gh_G} (h : gh_run (gh_thr e : gh_M (S ⊕ β)) g = some o) (hk : gh_K1 x kd P o) : ∃ o1 : (β ⊕ gh_X) × gh_G, gh_run (gh_thr e : gh_M β) g = some o1 ∧ kd o1 := by
  have e1 := gh_thr_inv h
  subst e1
  exact ⟨_, rfl, hk⟩
/-- the arguments' places: all of category 1 -/
def gh_enum : Nat → List Value → List (Nat × Value)
  | _, [] => []
  | n, v :: l => (n, v) :: gh_enum (n + 1) l
theorem gh_enum_eq : ∀ {l : List Value} {n : Nat}, gh_al1 l → lv_args n l = gh_enum n l
  | [], _, _ => rfl
  | v :: l, n, h => by
    show (n, v) :: lv_args (if v.category = 2 then n + 2 else n + 1) l = (n, v) :: gh_enum (n + 1) l
    rw [h.1, if_neg (by decide), gh_enum_eq h.2]
theorem gh_enum_al : ∀ {l : List Value} {n : Nat}, gh_al1 l → ∀ q ∈ gh_enum n l, q.2.category = 1
  | [], _, _, q, hq => nomatch hq
  | v :: l, n, h, q, hq => by
    rcases List.mem_cons.mp hq with rfl | hq
    · exact h.1
    · exact gh_enum_al h.2 q hq
theorem gh_sl_len : ∀ {l : List Value}, gh_al1 l → (lg_sl l).length = l.length
  | [], _ => rfl
  | v :: l, h => by
    have h1 := gh_sl_len h.2
    have h2 := h.1
    have e : lg_sl (v :: l) = Slot.val v :: lg_sl l := by
      cases v <;> first | rfl | (exfalso; have h3 : (2 : Nat) = 1 := h2; omega)
    rw [e, List.length_cons, h1, List.length_cons]
theorem gh_intro2 {l : Launch} (hst : l.stackTraces = false) {α : Type} {y : MethodName} {cc : ByteArray} {maxL : Nat} {ret : Option FieldType} {F L L1 : Nat} {f : gh_M α} {rv : α → Option Value} {As : List Value}
    (hy : plainFor y = true) (hcode : Cond.code y cc maxL ret ∈ lw_all) (hini : Cond.initialized y.cls ∈ lw_all) (hL : maxL + 11 + L1 = L) (hal : gh_al1 As) (hlen : As.length ≤ maxL)
    (body : ∀ (x : gh_C) (o : (α ⊕ gh_X) × gh_G) (ls : Array Slot), gh_lv ls maxL (gh_enum 0 As) → gh_K x cc y.cls maxL ret y.name F L1 [] → gh_run f (gh_c0 x) = some o → gh_K0 x rv o → gh_Wd x (gh_c0 x) (F0 (gh_cm x) 0 ls [])) : gh_Ct l y F L f rv As :=
  gh_intro hst hy hcode hini hL (fun x o ls _ C h hk hl => body x o ls ⟨by rw [← gh_enum_eq hal]; exact hl, gh_enum_al hal⟩ C h hk) (by rw [gh_sl_len hal]; exact hlen)
theorem gh_introW2 {l : Launch} (hst : l.stackTraces = false) {α : Type} {y : MethodName} {cc : ByteArray} {maxL : Nat} {ret : Option FieldType} {F L L1 : Nat} {h4 : List (Nat × Nat × Nat × Nat)} {f : gh_M α} {rv : α → Option Value} {As : List Value}
    (hy : plainFor y = true) (hcode : Cond.codeWith y cc maxL ret h4 ∈ lw_all) (hini : Cond.initialized y.cls ∈ lw_all) (hL : maxL + 11 + L1 = L) (hal : gh_al1 As) (hlen : As.length ≤ maxL)
    (body : ∀ (x : gh_C) (o : (α ⊕ gh_X) × gh_G) (ls : Array Slot), gh_lv ls maxL (gh_enum 0 As) → gh_K x cc y.cls maxL ret y.name F L1 (tableOf h4) → gh_run f (gh_c0 x) = some o → gh_K0 x rv o → gh_Wd x (gh_c0 x) (F0 (gh_cm x) 0 ls [])) : gh_Ct l y F L f rv As :=
  gh_introW hst hy hcode hini hL (fun x o ls _ C h hk hl => body x o ls ⟨by rw [← gh_enum_eq hal]; exact hl, gh_enum_al hal⟩ C h hk) (by rw [gh_sl_len hal]; exact hlen)
def gh_n64 (r : UInt64) : Bool := decide (r &&& 0x7fffffffffffffff ≤ 0x7ff0000000000000)
def gh_n32 (r : UInt32) : Bool := decide (r &&& 0x7fffffff ≤ 0x7f800000)
theorem gh_n64_of {r : UInt64} (h : gh_n64 r = true) : vf_n64 r := by unfold gh_n64 at h; unfold vf_n64; exact of_decide_eq_true h
theorem gh_n32_of {r : UInt32} (h : gh_n32 r = true) : vf_n32 r := by unfold gh_n32 at h; unfold vf_n32; exact of_decide_eq_true h
def gh_lc (a b : Int64) : Int32 := lg_cmp a b
section
variable {x : gh_C} {cc : ByteArray} {own : String} {nL : Nat} {ret : Option FieldType} {nm : String} {F L : Nat} {hh : List ExceptionTableEntry} {pc : Nat} {ls : Array Slot} {rest : List Value} {g : gh_G} {β : Type} {kx : gh_X → gh_M β} {o : (β ⊕ gh_X) × gh_G}
theorem gr_lcmp (C : gh_K x cc own nL ret nm F L hh) {a b : Int64} (hd : decode cc pc = .ok (.lcmp, 1)) (k : gh_Wd x g (F0 (gh_cm x) (pc + 1) ls (.int (gh_lc a b) :: rest))) : gh_Wd x g (F0 (gh_cm x) pc ls (.long b :: .long a :: rest)) := fun H locs h => W.lcmp C.1 C.2.1 hd (k H locs h)
theorem gh_callI (C : gh_K x cc own nL ret nm F L hh) {y : MethodName} {len F1 L1 : Nat} {f : gh_M Int32} {As : List Value} (hct : gh_Ct (gh_cL x) y F1 L1 f gh_rI As) (hF : F1 + 1 ≤ F) (hL : 8 + L1 ≤ L) (hrest : gh_rs rest) {stk : List Value}
    (hinv : ∀ (H : Heap) (locs : List Loc), gh_hp x g H locs → gh_Inv x H y len As (F0 (gh_cm x) pc ls stk) rest) {kt : Int32 → gh_M β} (h : gh_run (gh_tc f kt kx) g = some o) (ho : gh_le o.2 (gh_cf x))
    (k1 : ∀ (v : Int32) (g1 : gh_G), gh_run (kt v) g1 = some o → gh_Wd x g1 (F0 (gh_cm x) (pc + len) ls (.int v :: rest))) (k2 : ∀ (v : gh_X) (g1 : gh_G), gh_run (kx v) g1 = some o → gh_Wx x g1 (F0 (gh_cm x) pc ls rest) v) : gh_Wd x g (F0 (gh_cm x) pc ls stk) := gh_call C hct hF hL hrest hinv h ho k1 k2
theorem gh_callQ (C : gh_K x cc own nL ret nm F L hh) {y : MethodName} {len F1 L1 : Nat} {f : gh_M (Option Nat)} {As : List Value} (hct : gh_Ct (gh_cL x) y F1 L1 f gh_rQ As) (hF : F1 + 1 ≤ F) (hL : 8 + L1 ≤ L) (hrest : gh_rs rest) {stk : List Value}
    (hinv : ∀ (H : Heap) (locs : List Loc), gh_hp x g H locs → gh_Inv x H y len As (F0 (gh_cm x) pc ls stk) rest) {kt : Option Nat → gh_M β} (h : gh_run (gh_tc f kt kx) g = some o) (ho : gh_le o.2 (gh_cf x))
    (k1 : ∀ (v : Option Nat) (g1 : gh_G), gh_run (kt v) g1 = some o → gh_Wd x g1 (F0 (gh_cm x) (pc + len) ls (va_rf v :: rest))) (k2 : ∀ (v : gh_X) (g1 : gh_G), gh_run (kx v) g1 = some o → gh_Wx x g1 (F0 (gh_cm x) pc ls rest) v) : gh_Wd x g (F0 (gh_cm x) pc ls stk) := gh_call C hct hF hL hrest hinv h ho k1 k2
theorem gh_callD (C : gh_K x cc own nL ret nm F L hh) {y : MethodName} {len F1 L1 : Nat} {f : gh_M UInt64} {As : List Value} (hct : gh_Ct (gh_cL x) y F1 L1 f gh_rD As) (hF : F1 + 1 ≤ F) (hL : 8 + L1 ≤ L) (hrest : gh_rs rest) {stk : List Value}
    (hinv : ∀ (H : Heap) (locs : List Loc), gh_hp x g H locs → gh_Inv x H y len As (F0 (gh_cm x) pc ls stk) rest) {kt : UInt64 → gh_M β} (h : gh_run (gh_tc f kt kx) g = some o) (ho : gh_le o.2 (gh_cf x))
    (k1 : ∀ (v : UInt64) (g1 : gh_G), gh_run (kt v) g1 = some o → gh_Wd x g1 (F0 (gh_cm x) (pc + len) ls (.double v :: rest))) (k2 : ∀ (v : gh_X) (g1 : gh_G), gh_run (kx v) g1 = some o → gh_Wx x g1 (F0 (gh_cm x) pc ls rest) v) : gh_Wd x g (F0 (gh_cm x) pc ls stk) := gh_call C hct hF hL hrest hinv h ho k1 k2
theorem gh_callF (C : gh_K x cc own nL ret nm F L hh) {y : MethodName} {len F1 L1 : Nat} {f : gh_M UInt32} {As : List Value} (hct : gh_Ct (gh_cL x) y F1 L1 f gh_rF As) (hF : F1 + 1 ≤ F) (hL : 8 + L1 ≤ L) (hrest : gh_rs rest) {stk : List Value}
    (hinv : ∀ (H : Heap) (locs : List Loc), gh_hp x g H locs → gh_Inv x H y len As (F0 (gh_cm x) pc ls stk) rest) {kt : UInt32 → gh_M β} (h : gh_run (gh_tc f kt kx) g = some o) (ho : gh_le o.2 (gh_cf x))
    (k1 : ∀ (v : UInt32) (g1 : gh_G), gh_run (kt v) g1 = some o → gh_Wd x g1 (F0 (gh_cm x) (pc + len) ls (.float v :: rest))) (k2 : ∀ (v : gh_X) (g1 : gh_G), gh_run (kx v) g1 = some o → gh_Wx x g1 (F0 (gh_cm x) pc ls rest) v) : gh_Wd x g (F0 (gh_cm x) pc ls stk) := gh_call C hct hF hL hrest hinv h ho k1 k2
theorem gh_callV (C : gh_K x cc own nL ret nm F L hh) {y : MethodName} {len F1 L1 : Nat} {f : gh_M Unit} {As : List Value} (hct : gh_Ct (gh_cL x) y F1 L1 f gh_rV As) (hF : F1 + 1 ≤ F) (hL : 8 + L1 ≤ L) (hrest : gh_rs rest) {stk : List Value}
    (hinv : ∀ (H : Heap) (locs : List Loc), gh_hp x g H locs → gh_Inv x H y len As (F0 (gh_cm x) pc ls stk) rest) {kt : Unit → gh_M β} (h : gh_run (gh_tc f kt kx) g = some o) (ho : gh_le o.2 (gh_cf x))
    (k1 : ∀ (g1 : gh_G), gh_run (kt ()) g1 = some o → gh_Wd x g1 (F0 (gh_cm x) (pc + len) ls rest)) (k2 : ∀ (v : gh_X) (g1 : gh_G), gh_run (kx v) g1 = some o → gh_Wx x g1 (F0 (gh_cm x) pc ls rest) v) : gh_Wd x g (F0 (gh_cm x) pc ls stk) := gh_call C hct hF hL hrest hinv h ho (fun _ => k1) k2
/-- what is thrown passes all the method's handlers -/
theorem gh_outP (C : gh_K x cc own nL ret nm F L hh) {α : Type} {rv : α → Option Value} {e : gh_X} {o : (α ⊕ gh_X) × gh_G} {q : vw_C} (hc : gh_cl[e.1]? = some q) (hpass : ∀ y ∈ hh, covers y pc = false ∨ (y.catchType ≠ 0 ∧ ∃ n9 : String, Cond.classLink own y.catchType n9 ∈ lw_all ∧ (q.1, n9) ∈ gh_ncs)) (h : gh_run (gh_thr e : gh_M α) g = some o) (hk : gh_K0 x rv o) : gh_Wx x g (F0 (gh_cm x) pc ls rest) e := by
  intro H locs ce c hp hce hcv hc' hcl
  cases hc.symm.trans hc'
  have ho := gh_thr_inv h
  subst ho
  obtain ⟨h1, h2⟩ := hk
  have h2' : g = gh_cf x := h2
  rw [h1]
  unfold gh_Qm
  rw [← h2']
  refine vx_outP C.ow C.locks (fun y hy => (hpass y (by rw [C.tab] at hy; exact hy)).imp id fun ⟨h1, n9, h2, h3⟩ => ⟨h1, n9, C.ts _ h2, C.en.2.2.2.2.2.2.1 _ h3⟩) hce hcv hcl (fun t ht hA => ⟨⟨e.1, q, rfl, hc, rfl⟩, by rw [ht]; exact hp.2.1, ?_⟩) hp.2.2.2.2 (Nat.le_refl _) (Nat.le_refl _)
  rw [gh_lo_eq hp.1]
  exact hp.2.2.F ht
theorem gh_decl {s : State} {A : Array Value} {q : MethodName} (h : (Cond.declares q).before A s = true) : va_Decl s q := by
  obtain ⟨r0, r, h1, h2, h3, h4⟩ := Cond.declares_spec h
  exact ⟨r0, r, h1, h2, h3, h4⟩
/-- a cast that lets null pass -/
def gh_isn {α : Type} (v : Option Nat) (ci : Nat) (k : gh_M α) : gh_M α := match v with
  | none => k
  | some a => gh_bd (gh_is a ci) fun _ => k
theorem gh_isn_inv {v : Option Nat} {ci : Nat} {k : gh_M β} (h : gh_run (gh_isn v ci k) g = some o) : (∀ a, v = some a → ∃ fs : List Value, gh_oc g a ci fs) ∧ gh_run k g = some o := by
  cases v with
  | none => exact ⟨(fun a h9 => nomatch h9), h⟩
  | some a =>
    obtain ⟨h1, h2⟩ := gh_is_inv h
    exact ⟨fun b hb => by cases hb; exact h1, h2⟩
theorem gr_castNY (C : gh_K x cc own nL ret nm F L hh) {index ci : Nat} {name : String} {v : Option Nat} {q : vw_C} (hc : gh_cl[ci]? = some q) (hlink : Cond.classLink own index name ∈ lw_all) (hcs : q.1 = name ∨ Cond.castable q.1 name ∈ lw_tbl) (hd : decode cc pc = .ok (.checkcast index, 3)) (hg : ∀ a, v = some a → ∃ fs : List Value, gh_oc g a ci fs) (k : gh_Wd x g (F0 (gh_cm x) (pc + 3) ls (va_rf v :: rest))) : gh_Wd x g (F0 (gh_cm x) pc ls (va_rf v :: rest)) := by
  cases v with
  | none => exact gr_castN C hd k
  | some a =>
    obtain ⟨fs, h1⟩ := hg a rfl
    exact gr_castY C hc hlink hcs hd h1 k
theorem gr_getC (C : gh_K x cc own nL ret nm F L hh) {a index : Nat} (hlink : Cond.methodLink own index ⟨"java/lang/Object", "getClass", "()Ljava/lang/Class;"⟩ ∈ lw_all) (hdecl : Cond.declares ⟨"java/lang/Object", "getClass", "()Ljava/lang/Class;"⟩ ∈ lw_tbl) (hsel : Cond.selects "[Ljava/lang/Object;" ⟨"java/lang/Object", "getClass", "()Ljava/lang/Class;"⟩ ⟨"java/lang/Object", "getClass", "()Ljava/lang/Class;"⟩ ∈ lw_all) (hinst : Cond.instanceMethod ⟨"java/lang/Object", "getClass", "()Ljava/lang/Class;"⟩ ∈ lw_all) (hnat : Cond.native ⟨"java/lang/Object", "getClass", "()Ljava/lang/Class;"⟩ ∈ lw_all)
    (hz : ls.size = nL) (hF : 1 ≤ F) (hL : 40 ≤ L) (hrest : rest.length ≤ 4) (hd : decode cc pc = .ok (.invokevirtual index, 3)) {kt : Unit → gh_M β} {kt2 : Option Nat → gh_M β} {kx2 : gh_X → gh_M β} (h : gh_run (gh_tc (gh_aka 5 a) kt kx) g = some o) (hkt : kt () = gh_tc (gh_cst 30) kt2 kx2) (kk : ∀ v, gh_run (kt2 v) g = some o → gh_Wd x g (F0 (gh_cm x) (pc + 3) ls (va_rf v :: rest))) : gh_Wd x g (F0 (gh_cm x) pc ls (va_rf (some a) :: rest)) := fun H locs hp => by
  obtain ⟨⟨y, hy⟩, h1⟩ := gh_aka_inv h
  rw [hkt] at h1
  obtain ⟨v, hv, h2⟩ := gh_cst_inv h1
  obtain ⟨-, mi, h6a, h6b⟩ := C.en.2.2.2.2.2.1
  have hco : gh_co g = gh_co (gh_c0 x) := gh_co_eq hp.1
  rw [hco, h6a] at hv
  have hv2 : v = some mi := by
    cases v with
    | none => cases hv
    | some b => cases hv; rfl
  subst hv2
  have hnm : (gh_cs x).vm.findClass "[Ljava/lang/Object;" = some ((gh_cd x).2.2 5) := by
    obtain ⟨_, _, _, _, _, h9⟩ := (C.en.2.1 5 _ rfl).2
    exact h9
  have hce := gh_hpa hp hy (by decide)
  have hsum := gh_sumle hrest
  exact va_getC (mi := mi) C.1 C.2.1 (C.ml.trans hz.symm) C.ow (C.ts _ hlink) (C.tw hdecl rfl) (C.ts _ hsel) (C.ts _ hinst) (C.ts _ hnat) h6b ⟨_, hce, by obtain ⟨n, f | f | f | f | f⟩ := y <;> rfl, by obtain ⟨n, f | f | f | f | f⟩ := y <;> exact hnm⟩ (by rw [C.room]; exact hF) (by rw [C.room]; show _ + 14 ≤ L; omega) hd (kk _ h2 H locs hp)
theorem gh_smf (C : gh_K x cc own nL ret nm F L hh) {ref owner n d : String} (h : Cond.sameField ref owner n d ∈ lw_all) : ∀ y, (gh_cs x).fieldFound? owner n d = some y → (gh_cs x).fieldFound? ref n d = some y := fun y hy => u_same (C.ts _ h) y hy
/-- a private method, called on an object of a class below -/
theorem gh_selp {y : MethodName} {s : State} {args : Array Value} {C : String} {c : ClassId} (hy : gh_mh y.cls) (hsame : (Cond.sameMethod y.cls y.cls y.name y.desc).before args s = true) (hpriv : (Cond.privateMethod y).before args s = true) (hinst : (Cond.instanceMethod y).before args s = true) (hc : s.vm.findClass C = some c) :
    (Cond.selects C y y).before args s = true := by
  obtain ⟨cn, ck, r1, hcn, hck, hni, hf, hn1⟩ := Cond.sameMethod_found hsame
  obtain ⟨mk, methM, hnamed, hmethM, -, -⟩ := Cond.instanceMethod_spec hinst
  have hfound : s.methodFound? y.cls y.name y.desc = some mk := State.methodFound?_of_named hnamed hy
  have hcls : mk.cls = cn := Option.some.inj ((findClass_of_methodNamed hnamed).symm.trans hcn)
  have hsel : selectMethod {} s.vm c mk = .method mk := selectMethod_private hmethM (Cond.privateMethod_at hpriv mk methM hnamed hmethM)
  simp only [Cond.before, Cond.holds, Cond.value, hc, hfound, hnamed, hsel, hcls, hck]
  simp; exact hni
theorem gi_P (C : gh_K x cc own nL ret nm F L hh) {H : Heap} {locs : List Loc} (hp : gh_hp x g H locs) {b ci index n : Nat} {fs : List Value} (hg : gh_oc g b ci fs) {Cn : String} {Tt : u_T} {N : Nat} (hc : gh_cl[ci]? = some (Cn, Tt, N)) {y : MethodName} {bytes : ByteArray} {maxL : Nat} {rt : Option FieldType}
    (hlink : Cond.methodLink own index y ∈ lw_all) (hinst : Cond.instanceMethod y ∈ lw_all) (hsame : Cond.sameMethod y.cls y.cls y.name y.desc ∈ lw_all) (hpriv : Cond.privateMethod y ∈ lw_tbl) (hcode : Cond.code y bytes maxL rt ∈ lw_all) (hy : gh_mh y.cls) (hn : gh_np y.desc n) {As : List Value} (hAs : As.length = n) (hz : ls.size = nL)
    (hd : decode cc pc = .ok (.invokevirtual index, 3)) {stk : List Value} (hstk : stk = As.reverse ++ va_rf (some b) :: rest) : gh_Inv x H y 3 (va_rf (some b) :: As) (F0 (gh_cm x) pc ls stk) rest := by
  intro T locs' cells slots hT X W9 Pre Post PostX hK hW hpre
  obtain ⟨cell, kC, h1, h2, h3, -⟩ := gh_recK C hp hg hc
  exact vx_callV X C.1 C.ow (C.ts _ hlink) (C.ts _ hinst) (gh_selp hy (C.ts _ hsame) (C.tw hpriv rfl) (C.ts _ hinst) h3) (C.ts _ hcode) hy hK (by rw [hT]; exact h1) h2 h3 rfl (hz.trans C.ml.symm) (hn.le hAs) hstk hW (by rw [C.2.1]; exact hd) hpre
/-- a double in a local, told aside -/
theorem gr_dstore (C : gh_K x cc own nL ret nm F L hh) {i : Nat} {v : UInt64} {l l' : List (Nat × Value)} (h : gh_lv ls nL l) (hn : i + 1 < nL) (hl : l.filter (fun q => !(q.1 == i) && (!(q.1 == i + 1) && !(q.1 + 1 == i && q.2.category == 2))) = l') (hd : decode cc pc = .ok (.dstore i, 2)) (k : ∀ ls' : Array Slot, gh_lv ls' nL l' → ls'[i]? = some (.val (.double v)) → gh_Wd x g (F0 (gh_cm x) (pc + 2) ls' rest)) : gh_Wd x g (F0 (gh_cm x) pc ls (.double v :: rest)) := fun H locs hp =>
  lv_dstore C.1 C.2.1 hd h.1 hn rfl fun ls' h' => k ls' ⟨⟨h'.1, h'.2.1, fun q hq => h'.2.2 q (List.mem_cons_of_mem _ (by rw [hl]; exact hq))⟩, fun q hq => h.2 q (by rw [← hl] at hq; exact (List.mem_filter.mp hq).1)⟩ (h'.2.2 (i, .double v) List.mem_cons_self) H locs hp
end
