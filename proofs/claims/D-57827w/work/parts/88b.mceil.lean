set_option maxRecDepth 100000
/-! Math.ceil: a row of the model stands for it, which calls StrictMath.ceil -/
def zcrow : NativeRow := (NativeRow.find? Native.java_lang_Math.nans.rows "java/lang/Math" "ceil" "(D)D").get (by decide +kernel)
theorem zcrow_is (p : Program) : NativeRow.find? p.tables.natives "java/lang/Math" "ceil" "(D)D" = some zcrow := by
  cases p <;> rfl
theorem zover {tb : Tables} {e : Env} {s : State} {f : JFrame} {k : Class} {x : Method} {row : NativeRow} (hpc : f.pc = 0) (hk : s.vm.classes[f.method.cls]? = some k) (hn : overriddenIn.contains k.name = true) (hb : k.loader = none) (hx : k.methods[f.method.idx]? = some x) (hrow : NativeRow.find? tb.natives k.name x.name x.desc = some row) : overridden tb e s f = some row := by
  unfold overridden
  simp only [hpc, hk, hn, hb, hx, hrow, Bool.true_or, Bool.not_true, Option.isSome_none, Bool.or_self, bne_self_eq_false, if_false, Bool.false_eq_true]
theorem zcrow_run (b : UInt64) (e : Env) (S : State) {cS : ClassId} {kS : Class} {i : Nat} (hf : S.vm.findClass "java/lang/StrictMath" = some cS) (hk : S.vm.classes[cS]? = some kS) (hi : kS.init = .initialized) (hm : kS.findMethod "ceil" "(D)D" = some i) :
    ∃ acts, (zcrow.sem #[.double b]).run e S = .ctl (.call ⟨cS, i⟩ #[.double b] 1 #[]) S acts := by
  have hw : wpRun (zcrow.sem #[.double b]) (fun _ _ _ => False) (fun c s₂ _ => c = .call ⟨cS, i⟩ #[.double b] 1 #[] ∧ s₂ = S) e S := by
    show wpRun (do
      let c ← classNamed "java/lang/StrictMath"
      ensureInit c
      let some i := (← theClass c).findMethod "ceil" "(D)D" | modelBug ("StrictMath lacks " ++ "ceil")
      callThen ⟨c, i⟩ #[.double b] 1 #[]) _ _ e S
    simp [jvm, wpRun, W.classNamed_ready hf, W.ensureInit_ready ⟨kS, hk, hi⟩, theClass, callThen, hk, hm]
    exact ⟨rfl, rfl, rfl, rfl⟩
  have hw' := (wpRun_iff_run _ _ _ _ _).mp hw
  cases hr : (zcrow.sem #[.double b]).run e S with
  | ok v s₂ acts₂ => rw [hr] at hw'; exact hw'.elim
  | ctl x s₂ acts₂ =>
    rw [hr] at hw'
    have h2 : x = .call ⟨cS, i⟩ #[.double b] 1 #[] ∧ s₂ = S := by cases x <;> first | exact hw' | exact hw'.elim
    exact ⟨_, by rw [h2.1, h2.2]⟩
theorem zcrow_end {r : UInt64} (hn : vf_n64 r) (e : Env) (S : State) : ∃ acts, (zcrow.resume 1 #[] (.returned (some (.double r)))).run e S = .ok (some (.double r)) S acts := by
  unfold vf_n64 at hn
  have hw : wpRun (zcrow.resume 1 #[] (.returned (some (.double r)))) (fun v s₂ _ => v = some (.double r) ∧ s₂ = S) (fun _ _ _ => False) e S := by
    show wpRun (do
      let r ← anyNaN64 r
      mark "nat.java_lang_Math.ceil"
      Pure.pure (some (Value.double r))) _ _ e S
    simp [jvm, wpRun, anyNaN64, hn]
  have hw' := (wpRun_iff_run _ _ _ _ _).mp hw
  cases hr : (zcrow.resume 1 #[] (.returned (some (.double r)))).run e S with
  | ok v s₂ acts₂ => rw [hr] at hw'; exact ⟨_, by rw [hw'.1, hw'.2]⟩
  | ctl x s₂ acts₂ => rw [hr] at hw'; cases x <;> exact hw'.elim
/-- room beneath a native's frame -/
theorem zroom {s : State} {pl : Platform} {m m' : MethodId} {a a' : Array Value} {nf : NFrame} {below : List Frame} {meth meth' : Method} {c c' : Code} {F L C Sl F' L' : Nat} (hf : s.frames = .invoking m a :: below) (hm : s.vm.method? m = some meth) (hc : meth.code = some c) (hm' : s.vm.method? m' = some meth') (hc' : meth'.code = some c') (hw : nf.words ≤ 1024) (hF : F' + 1 ≤ F) (hL : L' + 1024 + c'.maxLocals ≤ L)
    (h : s.hasRoom pl { frames := F, locals := L, cells := C, slots := Sl } = true) : (s.setFrames (.invoking m' a' :: .native nf :: below)).hasRoom pl { frames := F', locals := L', cells := C, slots := Sl } = true := by
  have hcur := State.cur_lt_of_frames hf
  have hwt : Frame.weight (.native nf) = 1024 := by show max nf.words vmFrameWords = 1024; unfold vmFrameWords; omega
  have h1 := State.localsInUse_invoking hf hm hc
  have h2 := State.localsInUse_invoking (s := s.setFrames (.invoking m' a' :: .native nf :: below)) (below := .native nf :: below) (args := a') (m := m') (State.frames_setFrames _ hcur) hm' hc'
  have h3 : stackWeight (.native nf :: below) = 1024 + stackWeight below := by simp [stackWeight, hwt]
  have h4 : (s.setFrames (.invoking m' a' :: .native nf :: below)).me.stackBytes = s.me.stackBytes := by
    unfold State.me State.setFrames
    simp only [Array.getElem?_modify]
    cases s.threads[s.cur]? <;> simp
  unfold State.hasRoom at h ⊢
  rw [h1] at h
  rw [h2, h3, h4, State.frames_setFrames _ hcur, State.stackLimits_setFrames]
  rw [hf] at h
  simp only [Bool.and_eq_true, decide_eq_true_eq, List.length_cons] at h ⊢
  obtain ⟨⟨⟨⟨a0, a1, a2, a3, a4, a5⟩, b1⟩, c1⟩, d1⟩ := h
  exact ⟨⟨⟨⟨by omega, by omega, by omega, by omega, by omega, a5⟩, b1⟩, c1⟩, d1⟩
theorem zmetC {G : ZG} {b r : UInt64} {μ ν : ZM} (hM : zmet G Y_J48_ceil [vD b] μ (.inl (some (vD r))) ν) (hr : vf_n64 r) : zmet G Y_J12_ceil [vD b] μ (.inl (some (vD r))) ν := by
  intro p e ha hca hck s m args below hf happ hP _
  obtain ⟨hrun, hable, halone, hname, hhears, hripe, hroom, hpre⟩ := (Spec.appliesLoose_iff hf).mp happ
  obtain ⟨hargs, hkk, hfit⟩ := hP
  have hargs : args = #[.double b] := hargs
  subst hargs
  have hts : ∀ w ∈ lw_all, w.before #[.double b] s = true := fun w hw => atoms_spec (ws := zws Y_J12_ceil) hpre w (List.mem_cons_of_mem _ hw)
  obtain ⟨meth, c, g1, g2, g3, g4, g5, g6, -, g8⟩ := Cond.code_spec hname (hts _ q2840)
  obtain ⟨k, hk, hkn⟩ := className_of_methodNamed hname
  obtain ⟨hmn, hmd⟩ := name_of_methodNamed hname g1
  have hx : k.methods[m.idx]? = some meth := by simpa [Vm.method?, hk] using g1
  have hboot : k.loader = none := Vm.bootOf_findClass (findClass_of_methodNamed hname) hk
  have hkn : k.name = "java/lang/Math" := hkn
  have hmn : meth.name = "ceil" := hmn
  have hmd : meth.desc = "(D)D" := hmd
  have hcS := hts _ q2843
  obtain ⟨mS, hnS⟩ := Cond.code_named hcS
  obtain ⟨methS, cSd, d1, d2, -, d4, -⟩ := Cond.code_spec hnS hcS
  obtain ⟨kS, hkS, -⟩ := className_of_methodNamed hnS
  have hfS : s.vm.findClass "java/lang/StrictMath" = some mS.cls := findClass_of_methodNamed hnS
  have hiS : kS.init = .initialized := Cond.initialized_spec hfS hkS (hts _ q224)
  have hmS : kS.findMethod "ceil" "(D)D" = some mS.idx := by
    have h := hnS
    simp only [State.methodNamed?, Option.bind_eq_bind, Option.pure_def] at h
    rw [hfS] at h
    simp only [Option.bind_some, hkS] at h
    cases hfm : kS.findMethod "ceil" "(D)D" with
    | none => rw [hfm] at h; cases h
    | some j => rw [hfm] at h; simp at h; rw [← h]
  have hcur := State.cur_lt_of_frames hf
  have hsig2 : parseMethodDescriptor "(D)D" = some { parameters := [.double], returnType := some .double } := by decide +kernel
  have hparams : meth.sig.parameters.length = 1 := by
    have g8' : parseMethodDescriptor "(D)D" = some meth.sig := g8
    rw [hsig2] at g8'
    rw [← Option.some.inj g8']
    rfl
  -- the first step
  have hstep1 : (stepThread p.tables e s).1 = s.setFrames (.java (entryFrame m #[.double b] 2) :: below) := by
    have hfull : e.platform.stackFull (s.setFrames below).me (s.setFrames below).frames c.maxLocals = false := by
      obtain ⟨-, h1, -, h2⟩ := State.hasRoom_stack hroom
      rw [hf, List.length_cons] at h1
      rw [State.localsInUse_invoking hf g1 g2] at h2
      have hw := stackUse_le_stackWeight below
      rw [State.frames_setFrames _ hcur]
      exact Platform.stackFull_eq_false (by rw [State.stackLimits_setFrames]; omega) (by rw [State.stackLimits_setFrames]; omega)
    rw [stepThread_invoking hf, (doInvoke_java (s := s.setFrames below) (e := e) (meth := meth) (code := c) g1 g2 g6 hfull).1]
    simp only [State.pushFrame, State.frames_setFrames _ hcur, State.setFrames_setFrames, g4, entryFrame]
  -- the second
  have hf1 : (s.setFrames (.java (entryFrame m #[.double b] 2) :: below)).frames = .java (entryFrame m #[.double b] 2) :: below := State.frames_setFrames _ hcur
  have hov : overridden p.tables e (s.setFrames (.java (entryFrame m #[.double b] 2) :: below)) (entryFrame m #[.double b] 2) = some zcrow :=
    zover (k := k) (x := meth) rfl hk (by rw [hkn]; decide) hboot hx (by rw [hkn, hmn, hmd]; exact zcrow_is p)
  obtain ⟨acts₂, hr2⟩ := zcrow_run b e (s.setFrames (.native { method := m, args := #[.double b] } :: below)) (cS := mS.cls) (kS := kS) (i := mS.idx) hfS hkS hiS hmS
  have hb2 : ∀ F : List Frame, ((s.setFrames F).vm.classes[m.cls]?.bind fun y => y.methods[m.idx]?) = some meth := by
    intro F
    show (s.vm.classes[m.cls]?.bind fun y => y.methods[m.idx]?) = some meth
    simp [hk, hx]
  have hb3 : (s.vm.classes[m.cls]?.bind fun x => x.methods[m.idx]?) = some meth := by simp [hk, hx]
  have htake : ∀ n : Nat, List.take (1 + n) [Value.double b] = [Value.double b] := fun n => List.take_of_length_le (Nat.le_add_right 1 n)
  have hwords : ∀ F : List Frame, (((s.setFrames F).vm.classes[m.cls]?).bind fun k => (k.methods[m.idx]?).map fun n => upcallWords k.name n.name).getD 0 = 0 := by
    intro F
    show ((s.vm.classes[m.cls]?).bind fun k => (k.methods[m.idx]?).map fun n => upcallWords k.name n.name).getD 0 = 0
    simp [hk, hx, hkn, hmn, upcallWords]
  have hw3 : ((s.vm.classes[m.cls]?).bind fun k => Option.map (fun n => upcallWords k.name n.name) k.methods[m.idx]?).getD 0 = 0 := by simp [hk, hx, hkn, hmn, upcallWords]
  have hstep2 : (stepThread p.tables e (s.setFrames (.java (entryFrame m #[.double b] 2) :: below))).1 = (doInvoke e (s.setFrames (.native { method := m, args := #[.double b], stage := 1, saved := #[], awaiting := true, answer := none, words := 0 } :: below)) acts₂ mS #[.double b]).1 := by
    unfold stepThread
    simp only [hf1, hov]
    simp [entryFrame, argsToLocals, Value.category, argCount, hb2, hb3, hparams, htake, hr2, afterNative, hwords, hw3, State.setFrames_setFrames]
  -- StrictMath.ceil
  obtain ⟨nf, hnf⟩ : ∃ nf : NFrame, nf = { method := m, args := #[.double b], stage := 1, saved := #[], awaiting := true, answer := none, words := 0 } := ⟨_, rfl⟩
  rw [← hnf] at hstep2
  have hfN : (s.setFrames (.native nf :: below)).frames = [.native nf] ++ below := State.frames_setFrames _ hcur
  have ePush : (s.setFrames (.native nf :: below)).pushFrame (.invoking mS #[.double b]) = s.setFrames (.invoking mS #[.double b] :: .native nf :: below) := by
    rw [State.pushFrame, hfN, State.setFrames_setFrames]; rfl
  have happS : (headSpec (zws Y_J48_ceil) (zrm Y_J48_ceil (zsz ν - zsz μ) (zsl ν - zsl μ))).appliesLoose (zyn Y_J48_ceil) e.platform ((s.setFrames (.native nf :: below)).pushFrame (.invoking mS #[.double b])) = true := by
    rw [ePush]
    refine (Spec.appliesLoose_iff (State.frames_setFrames _ hcur)).mpr ⟨hrun, by simpa using hable, by simpa using halone, hnS, rfl, State.classRipe_of (s := s.setFrames _) hkS hiS, ?_, ?_⟩
    · refine zroom hf g1 g2 d1 d2 (by rw [hnf]; exact Nat.zero_le _) ?_ ?_ hroom
      · show zyl Y_J48_ceil + 1 ≤ zyl Y_J12_ceil; decide
      · show zwl (zyl Y_J48_ceil) + 1024 + cSd.maxLocals ≤ zwl (zyl Y_J12_ceil)
        rw [d4]; decide
    · rw [Cond.before_setFrames]
      refine atoms_intro fun w hw => ?_
      rcases List.mem_cons.mp hw with rfl | hw
      · exact hcS
      · exact hts _ hw
  obtain ⟨oc, s₂, hsteps, hrun2, hend, hq⟩ := Steps.callFree hM p ha hca hck (acts := acts₂) hfN happS ⟨rfl, hkk, hfit⟩ trivial
  rw [hfN] at hend
  obtain ⟨hoc, hft, hW₂, L, hsm, hL⟩ := hq
  have hoc : oc = .returned (some (.double r)) := hoc
  subst hoc
  have hend : s₂.frames = .native { nf with awaiting := false, answer := some (.returned (some (.double r))) } :: below := hend
  have hW : s.WarmedH s₂.vm := by rw [ePush] at hW₂; exact hW₂
  have hal : s.vm.Alike s₂.vm := hW.alike
  obtain ⟨k', hk', ek⟩ := hal.2.2 _ _ hk
  have hboot' : k'.loader = none := by rw [ek]; exact hboot
  have hx' : k'.methods[m.idx]? = some meth := by rw [ek]; exact hx
  have hkn' : k'.name = "java/lang/Math" := by rw [ek]; exact hkn
  obtain ⟨acts₃, hr3⟩ := zcrow_end hr e s₂
  obtain ⟨fs, hfs⟩ := handOver_isSome (s := s) (some (.double r)) hhears
  have hfs2 : handOver s₂ (some (.double r)) below = some fs := by
    have h1 : handOver s₂ (some (.double r)) below = handOver (s.setVm s₂.vm) (some (.double r)) below := by
      rcases below with _ | ⟨y, r⟩
      · rfl
      · cases y <;> first | rfl | simp [handOver, State.code?_eq]
    rw [h1, handOver_setVm hal]
    exact hfs
  have hcur2 : s₂.cur < s₂.threads.size := State.cur_lt_of_frames hend
  have hstep4 : (stepThread p.tables e s₂).1 = s₂.setFrames fs := by
    have h5 : stepThread p.tables e s₂ = afterNative e { nf with awaiting := false, answer := some (.returned (some (.double r))) } below ((zcrow.resume nf.stage nf.saved (.returned (some (.double r)))).run e s₂) := by
      have hrow := zcrow_is p
      have hme : nf.method = m := by rw [hnf]
      unfold stepThread
      simp only [hend, hme, hk', hx', hkn', hmn, hmd, hrow, hboot', Option.bind_eq_bind, Option.bind_some, Option.pure_def, Option.isNone_none, if_true]
    rw [h5]
    rw [show nf.stage = 1 by rw [hnf], show nf.saved = #[] by rw [hnf], hr3]
    exact doReturn_native (f := { nf with awaiting := false, answer := some (.returned (some (.double r))) }) hend (by rw [hnf]) hfs2
  have hcs : s₂.curStatus? = some .runnable ∧ s₂.alone = true := by
    obtain ⟨e2, -⟩ := id hsm
    have h9 : s₂ = ({ (s.setFrames s₂.frames) with heap := s₂.heap, slotsUsed := s₂.slotsUsed } : State).setVm s₂.vm := by
      have h1 : s₂ = ({ s₂ with vm := ((s.setFrames (.native nf :: below)).pushFrame (.invoking mS #[.double b])).vm } : State).setVm s₂.vm := rfl
      rw [e2, ePush, State.setFrames_setFrames] at h1
      exact h1
    rw [h9]
    exact ⟨by show (s.setFrames s₂.frames).curStatus? = _; simpa using hable, by show (s.setFrames s₂.frames).alone = _; simpa using halone⟩
  have hfin : Steps p.tables e below s (s₂.setFrames fs) := by
    refine Steps.head ⟨hrun, hable, halone⟩ ⟨[.invoking m #[.double b]], hf, by simp, by simp⟩ ?_
    rw [hstep1]
    refine Steps.head ⟨hrun, by simpa using hable, by simpa using halone⟩ ⟨[.java (entryFrame m #[.double b] 2)], hf1, by simp, by simp⟩ ?_
    rw [hstep2]
    refine hsteps.trans ?_
    refine Steps.head ⟨hrun2, hcs.1, hcs.2⟩ ⟨[.native { nf with awaiting := false, answer := some (.returned (some (.double r))) }], hend, by simp, by simp⟩ ?_
    rw [hstep4]
    exact Steps.refl _
  obtain ⟨n, hn, hw⟩ := hfin
  have hended : Ended (s₂.setFrames fs) below (.returned (some (.double r))) := by
    refine ended_of_handOver hfs2 hcur2 ?_
    have hh := hhears
    have hret : meth.sig.returnType = some .double := g5
    rcases below with _ | ⟨y, r⟩
    · simp [State.hears, g1, hret] at hh
    · cases y
      case java g => exact Or.inr ⟨_, _, rfl, trivial⟩
      case native g => exact Or.inr ⟨_, _, rfl, trivial⟩
      case proc g => exact Or.inr ⟨_, _, rfl, trivial⟩
      all_goals simp [State.hears, g1, hret] at hh
  refine ⟨n, .returned (some (.double r)), hw, by rw [hn]; exact hrun2, by rw [hn]; exact hended, ?_⟩
  rw [hn]
  refine ⟨rfl, hft, hW, L, ?_, hL⟩
  rw [ePush] at hsm
  obtain ⟨e2, q2, q3, q4, q5, q6⟩ := hsm
  refine ⟨?_, q2, q3, q4, q5, q6⟩
  have e3 : s₂ = ({ (s.setFrames s₂.frames) with heap := s₂.heap, slotsUsed := s₂.slotsUsed } : State).setVm s₂.vm := by
    have h1 : s₂ = ({ s₂ with vm := (s.setFrames (.invoking mS #[.double b] :: .native nf :: below)).vm } : State).setVm s₂.vm := rfl
    rw [e2, State.setFrames_setFrames] at h1
    exact h1
  have e4 : s₂.setFrames fs = ({ (s.setFrames fs) with heap := s₂.heap, slotsUsed := s₂.slotsUsed } : State).setVm s₂.vm := by
    conv => lhs; rw [e3]
    show ({ ((s.setFrames s₂.frames).setFrames fs) with heap := s₂.heap, slotsUsed := s₂.slotsUsed } : State).setVm s₂.vm = _
    rw [State.setFrames_setFrames]
  have hfr : (s₂.setFrames fs).frames = fs := State.frames_setFrames _ hcur2
  show ({ s₂.setFrames fs with vm := s.vm } : State) = { s.setFrames (s₂.setFrames fs).frames with heap := s₂.heap, slotsUsed := s₂.slotsUsed }
  rw [hfr]
  exact congrArg (fun S : State => ({ S with vm := s.vm } : State)) e4
/-- Math.ceil -/
theorem C_mCeil {G : ZG} {μ : ZM} {Q : Option ZV → ZM → Prop} {E : ZP → ZM → Prop} {a : UInt64} (h : zclP a) (k : Q (some (vD (zceil a))) μ) : Call G Y_J12_ceil [vD a] μ Q E := by
  intro h1 h2 h3
  obtain ⟨o, ν, e1, e2, e3, e4, e5⟩ := C_smCeil (G := G) (μ := μ) (Q := fun v ν => v = some (vD (zceil a)) ∧ ν = μ) (E := fun _ _ => False) h ⟨rfl, rfl⟩ h1 h2 h3
  match o, e1 with
  | .inl v, e1 =>
    obtain ⟨rfl, rfl⟩ := e1
    refine ⟨.inl (some (vD (zceil a))), _, ?_, e2, e3, e4, zmetC e5 h.2.2.2⟩
    exact k
  | .inr q, e1 => exact e1.elim
section ZR
variable {G : ZG} {Y : ZY} {pc : Nat} {ls : List (Nat × ZV)} {st : List ZV} {μ : ZM} {Q : Option ZV → ZM → Prop} {E : ZP → ZM → Prop}
theorem Wp_ceil {own : String} {index : Nat} {a : UInt64} (ho : own = (zyn Y).cls) (hl : Cond.methodLink own index ⟨"java/lang/Math", "ceil", "(D)D"⟩ ∈ lw_all) (hd : decode (zyb Y) pc = .ok (.invokestatic index, 3)) (h0 : zclP a) (h1 : 6 ≤ zyl Y) (hst : (st.map zcat).sum ≤ 12) (k : Wp G Y (pc + 3) ls (vD (zceil a) :: st) μ Q E) : Wp G Y pc ls (vD a :: st) μ Q E :=
  Wp_stat Y_J12_ceil [vD a] K_J12_ceil KS_J12_ceil KT_J12_ceil ho hl hd h1 hst rfl (C_mCeil h0 k)
end ZR
