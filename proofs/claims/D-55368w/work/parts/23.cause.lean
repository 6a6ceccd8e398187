/-! Throwable.getCause, a synchronized method -/
set_option maxRecDepth 100000
def yJ11_getCause : MethodName := ⟨"java/lang/Throwable", "getCause", "()Ljava/lang/Throwable;"⟩
noncomputable def f_J11_getCause (t0 : Nat) : gh_M (Option Nat) :=
  gh_bd (gh_clx t0) fun _ =>
  gh_bd (gh_getr t0 8 0) fun v1 =>
  if v1 = some t0 then gh_ret none else gh_ret v1
abbrev gs_F (a : Addr) (m : MethodId) (pc : Nat) (ls : Array Slot) (st : List Value) : JFrame := { method := m, pc := pc, locals := ls, stack := st, locked := some a, monitorRoom := 1 }
section
variable {p : Program} {l : Launch} {e : Env} {R : Room} {s : State} {m : MethodId} {args : Array Value} {below : List Frame} {meth : Method} {c : Code} {H : Heap} {locs : List Loc} {cells slots : Nat} {Q : State → Prop} {a : Addr} {pc : Nat} {ls : Array Slot} {rest : List Value}
theorem gs_aload (hexec : p.tables.exec = Jvm.exec) (hdg : decode c.code pc = .ok (.aload_n 0, 1)) {x : Nat} (hl : ls[0]? = some (.val (.ref x))) (k : W p l e R s m args below meth c H locs cells slots Q (gs_F a m (pc + 1) ls (.ref x :: rest))) : W p l e R s m args below meth c H locs cells slots Q (gs_F a m pc ls rest) := by
  intro T hT X
  obtain ⟨t, b1, b2⟩ := k T hT X
  refine ⟨t, ?_, b2⟩
  jvm_step X.here [X.here.top, hexec, hdg, hl, Value.isRef]
  exact b1
theorem gs_null (hexec : p.tables.exec = Jvm.exec) (hdg : decode c.code pc = .ok (.aconst_null, 1)) (k : W p l e R s m args below meth c H locs cells slots Q (gs_F a m (pc + 1) ls (.null :: rest))) : W p l e R s m args below meth c H locs cells slots Q (gs_F a m pc ls rest) := by
  intro T hT X
  obtain ⟨t, b1, b2⟩ := k T hT X
  refine ⟨t, ?_, b2⟩
  jvm_step X.here [X.here.top, hexec, hdg, Op.aconst_null.sem]
  exact b1
theorem gs_goto (hexec : p.tables.exec = Jvm.exec) {off : Int} {tgt : Nat} (hdg : decode c.code pc = .ok (.goto off, 3)) (ht : (pc : Int) + off = (tgt : Int)) (k : W p l e R s m args below meth c H locs cells slots Q (gs_F a m tgt ls rest)) : W p l e R s m args below meth c H locs cells slots Q (gs_F a m pc ls rest) := by
  intro T hT X
  obtain ⟨t, b1, b2⟩ := k T hT X
  refine ⟨t, ?_, b2⟩
  jvm_step X.here [X.here.top, hexec, hdg, ht]
  exact b1
theorem gs_acmp (hexec : p.tables.exec = Jvm.exec) {rx : Option Nat} {y : Nat} {off : Int} {tgt : Nat} (hdg : decode c.code pc = .ok (.if_acmp .ne off, 3)) (ht : (pc : Int) + off = (tgt : Int))
    (kt : ¬ rx = some y → W p l e R s m args below meth c H locs cells slots Q (gs_F a m tgt ls rest)) (kf : rx = some y → W p l e R s m args below meth c H locs cells slots Q (gs_F a m (pc + 3) ls rest)) : W p l e R s m args below meth c H locs cells slots Q (gs_F a m pc ls (va_rf (some y) :: va_rf rx :: rest)) := by
  intro T hT X
  by_cases hP : rx = some y
  · obtain ⟨t, b1, b2⟩ := kf hP T hT X
    refine ⟨t, ?_, b2⟩
    subst hP
    jvm_step X.here [X.here.top, hexec, hdg, va_rf, Value.asRef?, Op.if_acmp.holds, ht]
    exact b1
  · obtain ⟨t, b1, b2⟩ := kt hP T hT X
    refine ⟨t, ?_, b2⟩
    cases rx with
    | none => jvm_step X.here [X.here.top, hexec, hdg, va_rf, Value.asRef?, Op.if_acmp.holds, ht]; exact b1
    | some z =>
      have hz : ¬ z = y := fun e9 => hP (by rw [e9])
      jvm_step X.here [X.here.top, hexec, hdg, va_rf, Value.asRef?, Op.if_acmp.holds, ht, hz]
      exact b1
theorem gs_aret {T : State} {cell : Cell} (X : Stand p l e R (s.setCell a (cell.withEntry s.cur)) m args below meth c T locs cells slots) (hexec : p.tables.exec = Jvm.exec) {w : Option Nat} {C : String} (hret : meth.sig.returnType = some (.object C)) (hdg : decode c.code pc = .ok (.areturn, 1)) {Z : State}
    (hleave : ∀ (f : JFrame) (acts : List Action), f.method = m → f.locked = some a → f.entered = [] → (doReturn e (T.setTop f) acts (some (va_rf w))).1 = Z) : Steps p.tables e below (T.setTop (gs_F a m pc ls [va_rf w])) Z := by
  have hm' : T.vm.method? m = some meth := X.method'
  cases w with
  | none =>
    jvm_step X.here [X.here.top, hexec, hdg, hm', hret]
    (try refine ⟨rfl, ?_⟩); (try refine ⟨rfl, ?_⟩)
    first | (intro acts; rw [hleave _ acts rfl rfl rfl]) | rw [hleave _ _ rfl rfl rfl]
    exact Steps.refl _
  | some b =>
    jvm_step X.here [X.here.top, hexec, hdg, hm', hret]
    (try refine ⟨rfl, ?_⟩); (try refine ⟨rfl, ?_⟩)
    first | (intro acts; rw [hleave _ acts rfl rfl rfl]) | rw [hleave _ _ rfl rfl rfl]
    exact Steps.refl _
end
theorem gs_d0 : decode prog_39_method_8_code 0 = .ok (.aload_n 0, 1) := by decide +kernel
theorem gs_d1 : decode prog_39_method_8_code 1 = .ok (.getfield 7, 3) := by decide +kernel
theorem gs_d4 : decode prog_39_method_8_code 4 = .ok (.aload_n 0, 1) := by decide +kernel
theorem gs_d5 : decode prog_39_method_8_code 5 = .ok (.if_acmp .ne 7, 3) := by decide +kernel
theorem gs_d8 : decode prog_39_method_8_code 8 = .ok (.aconst_null, 1) := by decide +kernel
theorem gs_d9 : decode prog_39_method_8_code 9 = .ok (.goto 7, 3) := by decide +kernel
theorem gs_d12 : decode prog_39_method_8_code 12 = .ok (.aload_n 0, 1) := by decide +kernel
theorem gs_d13 : decode prog_39_method_8_code 13 = .ok (.getfield 7, 3) := by decide +kernel
theorem gs_d16 : decode prog_39_method_8_code 16 = .ok (.areturn, 1) := by decide +kernel
theorem gs_qcode : (Jvm.Cond.codeSync ({ cls := "java/lang/Throwable", name := "getCause", desc := "()Ljava/lang/Throwable;" } : Jvm.MethodName) prog_39_method_8_code (1 : Nat) (Option.some (Jvm.ClassFile.FieldType.object "java/lang/Throwable"))) ∈ lw_all := lw_g (lw_at lw_m9 32 rfl) rfl
theorem gs_qinst : (Jvm.Cond.instanceMethod ({ cls := "java/lang/Throwable", name := "getCause", desc := "()Ljava/lang/Throwable;" } : Jvm.MethodName)) ∈ lw_all := lw_g (lw_at lw_m9 20 rfl) rfl
theorem gs_qlink : (Jvm.Cond.fieldLink "java/lang/Throwable" (7 : Nat) "java/lang/Throwable" "cause" "Ljava/lang/Throwable;") ∈ lw_all := lw_g (lw_at lw_m3 121 rfl) rfl
theorem gs_qini : (Jvm.Cond.initialized "java/lang/Throwable") ∈ lw_all := lw_g (lw_at lw_m1 17 rfl) rfl

theorem gs_met {l : Launch} (t0 : Nat) {D : gh_D} {g g1 : gh_G} {r : Option Nat ⊕ gh_X} (hrun : gh_run (f_J11_getCause t0) g = some (r, g1)) :
    vx_Met l yJ11_getCause (Cond.codeSync yJ11_getCause prog_39_method_8_code 1 (some (.object "java/lang/Throwable")) :: lw_all) ({ frames := 2, cells := g1.2.1 - g.2.1, slots := g1.2.2.1 - g.2.2.1, locals := 28 } : Room) (gh_Pc D g [va_rf (some t0)]) (gh_Qc D gh_rQ r g1) (gh_XC D r g1) (g1.2.1 - g.2.1) (g1.2.2.1 - g.2.2.1) (gh_A (gh_lo g)) := by
  obtain ⟨c0, fs0, hg0, hc0, h0⟩ := gh_clx_inv hrun
  obtain ⟨v, fs, hgo, hfs, h3⟩ := gh_getr_inv h0
  have hg : g.1 t0 = some (.inr (8, fs)) := by
    rcases hgo with hgo | hgo
    · exact hgo
    · rw [hg0] at hgo
      have e9 := congrArg (fun z : Option gh_E => match z with | some (.inr q) => q.1 | _ => 0) hgo
      have e8 : c0 = 8 + 100 := e9
      omega
  obtain ⟨w, hw1, hw2⟩ : ∃ w, w = (if v = some t0 then none else v) ∧ (r, g1) = ((.inl w, g) : (Option Nat ⊕ gh_X) × gh_G) := by
    by_cases hc : v = some t0
    · exact ⟨none, by rw [if_pos hc], gh_ret_inv (gh_ift h3 hc)⟩
    · exact ⟨v, by rw [if_neg hc], gh_ret_inv (gh_iff h3 hc)⟩
  obtain ⟨rfl, rfl⟩ := Prod.mk.inj hw2
  intro p e ha hc hk s m args below hf happ hP _
  obtain ⟨hrn, hable, halone, hname, hhears, hinit, hroom, hpre⟩ := (Spec.appliesLoose_iff hf).mp happ
  obtain ⟨rfl, hen, hw⟩ := hP
  have hts := atoms_spec (ws := Cond.codeSync yJ11_getCause prog_39_method_8_code 1 (some (.object "java/lang/Throwable")) :: lw_all) hpre
  have hall : ∀ w ∈ lw_all, w.before #[va_rf (some t0)] s = true := fun w h => hts w (List.mem_cons_of_mem _ h)
  obtain ⟨meth, c, hmeth, hcode, hbytes, hlocals, hret, hlocks, -, -⟩ := Cond.codeSync_spec hname (hts _ List.mem_cons_self)
  obtain ⟨mk, methM, hnamed, hmethM, hst, -⟩ := Cond.instanceMethod_spec (hall _ gs_qinst)
  cases hnamed.symm.trans hname
  cases hmethM.symm.trans hmeth
  have h9 := hw.2 t0 _ hg
  rw [gh_at_o (by decide)] at h9
  obtain ⟨rr, hcl, ⟨cell, q1, q2, q3, q4⟩, hum⟩ := h9
  cases gh_cX9.symm.trans hcl
  have hmon := hum rfl cell q1
  have hfree : cell.monitor.owner = none := by rw [hmon]
  have hcount : cell.monitor.count = 0 := by rw [hmon]
  have hent : cell.enterable s.cur := Or.inl ⟨hfree, hcount⟩
  have hlt : t0 < s.heap.size := (Array.getElem?_eq_some_iff.mp q1).1
  have hcur := State.cur_lt_of_frames hf
  have hcur' : (s.setCell t0 (cell.withEntry s.cur)).cur < (s.setCell t0 (cell.withEntry s.cur)).threads.size := hcur
  have hf1 : ((s.setCell t0 (cell.withEntry s.cur)).setFrames (.java (entryFrameSync m #[va_rf (some t0)] 1 t0) :: below)).frames = .java (entryFrameSync m #[va_rf (some t0)] 1 t0) :: below :=
    State.frames_setFrames _ hcur'
  have ht1 := State.topJava?_of_frames hf1
  have hplain : ((s.setCell t0 (cell.withEntry s.cur)).setFrames (.java (entryFrameSync m #[va_rf (some t0)] 1 t0) :: below)).plainMethod m := State.plainMethod.of_named (s := s) (x := yJ11_getCause) (by decide +kernel) hname hmeth
  have hAt : At ((s.setCell t0 (cell.withEntry s.cur)).setFrames (.java (entryFrameSync m #[va_rf (some t0)] 1 t0) :: below)) m c below :=
    ⟨by rw [ht1]; rfl, ⟨[], by rw [hf1]; rfl⟩, hrn, by simpa using hable, by simpa using halone, by rw [State.code?_eq]; simp [State.setFrames, State.setCell, hmeth, hcode], hplain⟩
  obtain ⟨tail, ht9, -⟩ := State.frames_cons hf
  have hsame0 := (State.sameButNew.refl (s.setCell t0 (cell.withEntry s.cur)) (x := tail) ht9).setFrames (.java (entryFrameSync m #[va_rf (some t0)] 1 t0) :: below) hcur
  have X : Stand p l e ({ frames := 2, cells := g1.2.1 - g1.2.1, slots := g1.2.2.1 - g1.2.2.1, locals := 28 } : Room) (s.setCell t0 (cell.withEntry s.cur)) m #[va_rf (some t0)] below meth c ((s.setCell t0 (cell.withEntry s.cur)).setFrames (.java (entryFrameSync m #[va_rf (some t0)] 1 t0) :: below)) [] 0 0 :=
    ⟨ha, hc, hk, hf, by rw [State.hasRoom_setCell (x := cell.withEntry s.cur) q1 rfl]; exact hroom, hhears, hmeth, hcode, hAt, by rw [hf1]; rfl, State.WarmedH.refl (s.setCell t0 (cell.withEntry s.cur)), by rw [State.stackLimits_setFrames], by rw [State.stackBytes_setFrames], hsame0⟩
  have hstep : (stepThread p.tables e s).1 = ((s.setCell t0 (cell.withEntry s.cur)).setFrames (.java (entryFrameSync m #[va_rf (some t0)] 1 t0) :: below)).setTop (entryFrameSync m #[va_rf (some t0)] 1 t0) := by
    have hfull : e.platform.stackFull (s.setFrames below).me (s.setFrames below).frames (c.maxLocals + 2) = false := by
      obtain ⟨-, h1, -, h2⟩ := State.hasRoom_stack hroom
      rw [hf, List.length_cons] at h1
      rw [State.localsInUse_invoking hf hmeth hcode] at h2
      have hw := stackUse_le_stackWeight below
      rw [State.frames_setFrames _ hcur]
      simp only [vmFrameWords] at h2
      exact Platform.stackFull_eq_false (by rw [State.stackLimits_setFrames]; omega) (by rw [State.stackLimits_setFrames]; omega)
    rw [stepThread_invoking hf, (doInvoke_java_sync (s := s.setFrames below) (e := e) (meth := meth) (code := c) (a := t0) (cell := cell) hmeth hcode hlocks hst rfl q1 hent.either hfull).1, State.setTop_self ht1, hlocals]
    show (((s.setFrames below).setCell t0 (cell.withEntry s.cur)).setFrames (.java (entryFrameSync m #[va_rf (some t0)] 1 t0) :: ((s.setFrames below).setCell t0 (cell.withEntry s.cur)).frames)) = _
    rw [show ((s.setFrames below).setCell t0 (cell.withEntry s.cur)).frames = below from State.frames_setFrames _ hcur, State.setCell_setFrames, State.setFrames_setFrames]
  -- the walk
  have hexec : p.tables.exec = Jvm.exec := by cases p <;> rfl
  have hown : (s.setCell t0 (cell.withEntry s.cur)).vm.findClass "java/lang/Throwable" = some m.cls := findClass_of_methodNamed hname
  have hlink : (Cond.fieldLink "java/lang/Throwable" 7 "java/lang/Throwable" "cause" "Ljava/lang/Throwable;").before #[va_rf (some t0)] (s.setCell t0 (cell.withEntry s.cur)) = true := word_at (U := s.setCell t0 (cell.withEntry s.cur)) (State.WarmedH.refl s) (lw_self _ gs_qlink).2 (hall _ gs_qlink)
  obtain ⟨hS, hfc, kC, hkC, hkind⟩ := hen.1 8 _ gh_cX9
  obtain ⟨cf, kf, fi, f, hi, hsl⟩ := hS 0 (by decide)
  have hstf := (u_facts hfc hkC (u_lays hall in_X9 (show 0 < 8 by decide)) hi).1
  have hslot : (cell.withEntry s.cur).slots[f.slot]? = some (va_rf v) := by
    show cell.slots[f.slot]? = _
    rw [hsl, q4 0 (by decide)]
    simp [vp_V, hfs]
  have hcell0 : (s.setCell t0 (cell.withEntry s.cur)).heap[t0]? = some (cell.withEntry s.cur) := by
    show (s.heap.setIfInBounds t0 (cell.withEntry s.cur))[t0]? = _
    simp [hlt]
  have hb := hbytes
  have hfin : W p l e ({ frames := 2, cells := g1.2.1 - g1.2.1, slots := g1.2.2.1 - g1.2.2.1, locals := 28 } : Room) (s.setCell t0 (cell.withEntry s.cur)) m #[va_rf (some t0)] below meth c (s.setCell t0 (cell.withEntry s.cur)).heap [] 0 0 (fun t => ∃ o, t.status = .running ∧ Ended t below o ∧ vx_Q (gh_Qc D gh_rQ (.inl w) g1) (gh_XC D (.inl w : Option Nat ⊕ gh_X) g1) (g1.2.1 - g1.2.1) (g1.2.2.1 - g1.2.2.1) (gh_A (gh_lo g1)) #[va_rf (some t0)] s o t) (gs_F t0 m 16 #[.val (.ref t0)] [va_rf w]) := by
    intro T hT Y
    obtain ⟨fs9, cellT, r1, r2, r3, r4, r5, r6⟩ := Y.leaveSync q1 hent hlocks (v := some (va_rf w)) (fun h => by rw [hret] at h; cases h)
    have hcT : cellT = cell.withEntry s.cur := by
      rw [hT, hcell0] at r1
      exact (Option.some.inj r1).symm
    subst hcT
    have hheap : ((T.setCell t0 (cell.withEntry s.cur).left).setFrames fs9).heap = s.heap := by
      show T.heap.setIfInBounds t0 (cell.withEntry s.cur).left = s.heap
      rw [hT, Cell.left_withEntry s.cur hfree hcount]
      show (s.heap.setIfInBounds t0 (cell.withEntry s.cur)).setIfInBounds t0 cell = s.heap
      rw [Array.setIfInBounds_setIfInBounds]
      exact Array.ext_getElem? fun i => by
        rw [Array.getElem?_setIfInBounds]
        split
        · rename_i hi9
          subst hi9
          first | exact q1.symm | (rw [if_pos hlt]; exact q1.symm) | (simp [q1, hlt])
        · rfl
    refine ⟨_, gs_aret Y hexec hret (by rw [hb]; exact gs_d16) r2, .returned (some (va_rf w)), r3, r4, Or.inl ⟨⟨⟨w, rfl, rfl⟩, ?_, ?_⟩, [], ⟨⟨_, rfl⟩, r5, r6.mono (Nat.zero_le _) (Nat.zero_le _)⟩, fun q hq => nomatch hq⟩⟩
    · rw [hheap]; exact hw
    · exact ⟨by rw [hheap]; exact Nat.le_refl _, fun q _ _ => by rw [hheap]⟩
  have walk : W p l e ({ frames := 2, cells := g1.2.1 - g1.2.1, slots := g1.2.2.1 - g1.2.2.1, locals := 28 } : Room) (s.setCell t0 (cell.withEntry s.cur)) m #[va_rf (some t0)] below meth c (s.setCell t0 (cell.withEntry s.cur)).heap [] 0 0 (fun t => ∃ o, t.status = .running ∧ Ended t below o ∧ vx_Q (gh_Qc D gh_rQ (.inl w) g1) (gh_XC D (.inl w : Option Nat ⊕ gh_X) g1) (g1.2.1 - g1.2.1) (g1.2.2.1 - g1.2.2.1) (gh_A (gh_lo g1)) #[va_rf (some t0)] s o t) (gs_F t0 m 0 #[.val (.ref t0)] []) := by
    refine gs_aload hexec (by rw [hb]; exact gs_d0) (x := t0) rfl ?_
    refine W.getf hexec hb hown hlink (s := s.setCell t0 (cell.withEntry s.cur)) (f := f) hi hstf hcell0 (by rw [show (cell.withEntry s.cur).vm = cell.vm from rfl, q3]; exact fun h => by cases h) hslot rfl rfl gs_d1 ?_
    refine gs_aload (pc := 4) (rest := [va_rf v]) hexec (by rw [hb]; exact gs_d4) (x := t0) rfl ?_
    refine gs_acmp (pc := 5) (tgt := 12) (rx := v) (y := t0) (rest := []) hexec (by rw [hb]; exact gs_d5) rfl (fun hne => ?_) (fun heq => ?_)
    · have hwv : w = v := hw1.trans (if_neg hne)
      refine gs_aload (pc := 12) hexec (by rw [hb]; exact gs_d12) (x := t0) rfl ?_
      refine W.getf hexec hb hown hlink (s := s.setCell t0 (cell.withEntry s.cur)) (f := f) hi hstf hcell0 (by rw [show (cell.withEntry s.cur).vm = cell.vm from rfl, q3]; exact fun h => by cases h) hslot rfl rfl gs_d13 ?_
      have hvv : va_rf v = va_rf w := by rw [hwv]
      rw [hvv]
      exact hfin
    · have hwn : w = none := hw1.trans (if_pos heq)
      refine gs_null (pc := 8) hexec (by rw [hb]; exact gs_d8) ?_
      refine gs_goto (pc := 9) (tgt := 16) hexec (by rw [hb]; exact gs_d9) rfl ?_
      have hvv : Value.null = va_rf w := by rw [hwn]; rfl
      rw [hvv]
      exact hfin
  obtain ⟨s₂, b1, o, b2, b3, b4⟩ := walk ((s.setCell t0 (cell.withEntry s.cur)).setFrames (.java (entryFrameSync m #[va_rf (some t0)] 1 t0) :: below)) rfl X
  have hs : Steps p.tables e below (((s.setCell t0 (cell.withEntry s.cur)).setFrames (.java (entryFrameSync m #[va_rf (some t0)] 1 t0) :: below)).setTop (entryFrameSync m #[va_rf (some t0)] 1 t0)) s₂ := by
    first | exact b1 | (have hq : entryFrameSync m #[va_rf (some t0)] 1 t0 = gs_F t0 m 0 #[.val (.ref t0)] [] := rfl; exact b1) | (simpa [entryFrameSync, gs_F, va_rf] using b1)
  obtain ⟨n, hn, hw9⟩ := Steps.head (tb := p.tables) (e := e) ⟨hrn, hable, halone⟩ ⟨[.invoking m #[va_rf (some t0)]], hf, by simp, by simp⟩ (hstep ▸ hs)
  exact ⟨n, o, hw9, hn ▸ b2, hn ▸ b3, hn ▸ b4⟩
theorem k_J11_getCause {l : Launch} (hst : l.stackTraces = false) (t0 : Nat) : gh_Ct l yJ11_getCause 2 40 (f_J11_getCause t0) gh_rQ [va_rf (some t0)] := by
  intro D g g1 r hrun R p e below s sargs len hws hF hL9
  exact vx_backG (maxL := 1) (gs_met t0 hrun) gh_blind rfl rfl hF (by show 8 + (1 + 11) + 28 ≤ R.locals; omega) (fun w hw a' U hW => by
    rcases List.mem_cons.mp hw with rfl | hw
    · exact word_at hW (Or.inl rfl) (hws _ gs_qcode)
    · exact word_at hW (lw_self w hw).2 (hws w hw)) (fun a' U mk hW hn => by
      obtain ⟨meth, c, h1, h2, -, h3, -⟩ := Cond.codeSync_spec hn (word_at (U := U) (a' := a') hW (Or.inl rfl) (hws _ gs_qcode))
      exact ⟨meth, c, h1, h2, h3⟩) (fun a' U hW => word_at hW (Or.inl rfl) (hws _ gs_qini))
section
variable {x : gh_C} {cc : ByteArray} {own : String} {nL : Nat} {ret : Option FieldType} {nm : String} {F L : Nat} {hh : List ExceptionTableEntry} {pc : Nat} {ls : Array Slot} {rest : List Value} {g : gh_G}
/-- a call of a synchronized method -/
theorem gi_Y (C : gh_K x cc own nL ret nm F L hh) {H : Heap} {locs : List Loc} (hp : gh_hp x g H locs) {b ci index n : Nat} {fs : List Value} (hg : gh_oc g b ci fs) {Cn : String} {Tt : u_T} {N : Nat} (hc : gh_cl[ci]? = some (Cn, Tt, N)) {y : MethodName} {bytes : ByteArray} {maxL : Nat} {rt : Option FieldType}
    (hlink : Cond.methodLink own index y ∈ lw_all) (hinst : Cond.instanceMethod y ∈ lw_all) (hsel : Cond.selects Cn y y ∈ lw_all) (hcode : Cond.codeSync y bytes maxL rt ∈ lw_all) (hy : gh_mh y.cls) (hn : gh_np y.desc n) {As : List Value} (hAs : As.length = n) (hz : ls.size = nL)
    (hd : decode cc pc = .ok (.invokevirtual index, 3)) {stk : List Value} (hstk : stk = As.reverse ++ va_rf (some b) :: rest) : gh_Inv x H y 3 (va_rf (some b) :: As) (F0 (gh_cm x) pc ls stk) rest := by
  intro T locs' cells slots hT X W9 Pre Post PostX hK hW hpre
  obtain ⟨cell, kC, h1, h2, h3, -⟩ := gh_recK C hp hg hc
  obtain ⟨mk, methM, hnamed, hmethM, hstM, habM⟩ := Cond.instanceMethod_spec (C.ts _ hinst)
  obtain ⟨methM', cM, hmethM', -, -, -, -, -, -, hsigM⟩ := Cond.codeSync_spec hnamed (C.ts _ hcode)
  cases hmethM.symm.trans hmethM'
  obtain ⟨c2, r2, m2, q1, q2, q3, q4, kP, hkP, hkPi⟩ := Cond.selects_spec (C.ts _ hsel)
  cases h3.symm.trans q1
  cases (State.methodFound?_of_named hnamed hy).symm.trans q2
  cases hnamed.symm.trans q3
  have hselP : selectMethod (gh_ce x).platform (gh_cs x).vm cell.cls mk = .method mk := by rw [Launch.admits_selectMethod X.admits]; exact q4
  obtain ⟨vm₁, X₁, hstep₁⟩ := X.invokevirtual C.1 C.ow (C.ts _ hlink) hnamed hmethM hstM hkP hkPi hy (a := b) (cell := cell) (by rw [hT]; exact h1)
    (fun z h => by rw [h] at h2; cases h2) hselP hmethM habM hkP hkPi (g := F0 (gh_cm x) pc ls stk) rfl (argsL := As) (rest := rest) (hn.le hAs _ hsigM) hstk (by rw [C.2.1]; exact hd)
  rcases hK (gh_cm x) (gh_ct x) (gh_cc x) ⟨T.setVm vm₁, locs', cells, slots⟩ (F0 (gh_cm x) pc ls rest) (.invokevirtual index) mk (va_rf (some b) :: As).toArray X₁ rfl (hz.trans C.ml.symm) (by rw [C.2.1]; exact hd) hW (X₁.named hnamed) (hpre vm₁ X₁.warmed) with ⟨v, B, X', hpost, hsteps⟩ | ⟨q, B, X', hpost, hsteps⟩
  · exact Or.inl ⟨v, vm₁, B, X₁.warmed, X', hpost, fun target h => hstep₁ _ fun acts => by rw [doInvoke_state]; exact hsteps.trans h⟩
  · exact Or.inr ⟨q, vm₁, B, X₁.warmed, X', hpost, hstep₁ _ fun acts => by rw [doInvoke_state]; exact hsteps⟩
end
