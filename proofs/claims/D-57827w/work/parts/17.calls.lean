/-! THE OWN LAYER, 8: calls and exceptions -/
/-- what a frame with an exception under way does -/
def zsix (G : ZG) (Y : ZY) (pc : Nat) (ls : List (Nat × ZV)) (q : ZP) (μ : ZM) (o : ZO) (ν : ZM) : Prop :=
  ∀ (p : Program) (e : Env) (R : Room) (s : State) (m : MethodId) (args : Array Value) (below : List Frame) (meth : Method) (c : Code) (H : Heap) (locs : List Loc) (cells slots : Nat) (la : Array Slot) (stk : List Value),
    zctx G Y p s m args meth c → zfit G μ H → lv_has la (zyL Y) (zlc ls) → (∀ q ∈ locs, zlo G ≤ q.base) → zyl Y ≤ R.frames → zwl (zyl Y) ≤ R.locals → cells + (zsz ν - zsz μ) ≤ R.cells → slots + (zsl ν - zsl μ) ≤ R.slots →
    vx_W p (zgl G) e R s m args below meth c H locs cells slots (fun t => ∃ oc, t.status = .running ∧ Ended t below oc ∧ zQQ G o ν (cells + (zsz ν - zsz μ)) (slots + (zsl ν - zsl μ)) args s oc t) (F0 m pc la stk) q.2.2
/-- THE JUDGEMENT of an exception under way: the method ends, so that Q or E -/
def Wx (G : ZG) (Y : ZY) (pc : Nat) (ls : List (Nat × ZV)) (q : ZP) (μ : ZM) (Q : Option ZV → ZM → Prop) (E : ZP → ZM → Prop) : Prop :=
  zgok G → zgd G μ → (∀ q ∈ ls, zvk μ q.2) → zpk μ q → q.1 ≠ 0 → ∃ (o : ZO) (ν : ZM), zend Q E o ν ∧ zext μ ν ∧ zok ν ∧ zoko ν o ∧ zsix G Y pc ls q μ o ν
/-- the number of parameters -/
def znp (d : String) : Nat := match parseMethodDescriptor d with
  | some sig => sig.parameters.length
  | none => 0
theorem znp_of {d : String} {n : Nat} (h : znp d = n) : ∀ sig, parseMethodDescriptor d = some sig → n = sig.parameters.length := by
  intro sig hs
  rw [← h]; unfold znp; rw [hs]
def zmh (C : String) : Prop := C ≠ "java/lang/invoke/MethodHandle" ∧ C ≠ "java/lang/invoke/VarHandle"
/-- what a caller wants of a method -/
def zyc (Y : ZY) (n : Nat) : Prop := zcw Y ∈ lw_all ∧ Cond.initialized (zyn Y).cls ∈ lw_all ∧ znp (zyn Y).desc = n ∧ zmh (zyn Y).cls ∧ zyL Y ≤ 200
def zdecl (x : MethodName) : Prop := Cond.declares x ∈ lw_tbl ∨ (Cond.instanceMethod x ∈ lw_all ∧ ∃ b m r, Cond.code x b m r ∈ lw_all)
/-- where a call leaves the frame -/
def ztgt (U' : State) (m : MethodId) (pc len : Nat) (la : Array Slot) (stk : List Value) (o : ZO) : State := match o with
  | .inl v => U'.setTop (F0 m (pc + len) la ((zvo v).toList ++ stk))
  | .inr q => (U'.setTop (F0 m pc la stk)).pushFrame (.throwing q.2.2)
section ZK
variable {G : ZG} {Y : ZY} {pc : Nat} {ls : List (Nat × ZV)} {st : List ZV} {μ : ZM} {Q : Option ZV → ZM → Prop} {E : ZP → ZM → Prop}
theorem Wx.mono {q : ZP} {Q' : Option ZV → ZM → Prop} {E' : ZP → ZM → Prop} (k : Wx G Y pc ls q μ Q E) (hQ : ∀ v ν, Q v ν → Q' v ν) (hE : ∀ q ν, E q ν → E' q ν) : Wx G Y pc ls q μ Q' E' := by
  intro h1 h2 h3 h4 h5
  obtain ⟨o, ν, e1, e2⟩ := k h1 h2 h3 h4 h5
  refine ⟨o, ν, ?_, e2⟩
  match o, e1 with
  | .inl v, e1 => exact hQ v ν e1
  | .inr q, e1 => exact hE q ν e1
theorem zdecl.of (hg : zgok G) {s : State} (hk : zkk G s) {args : Array Value} (hts : ∀ w ∈ lw_all, w.before args s = true) {x : MethodName} (h : zdecl x) : va_Decl s x := by
  rcases h with h | ⟨h1, b, m, r, h2⟩
  · exact va_Decl.abs (va_Nw.warmD hk.1 (va_Nw.of rfl (hg.1 _ h)))
  · exact va_Decl.of (hts _ h1) (hts _ h2)
theorem zkk.of {s U : State} (hs : zkk G s) (hW : s.WarmedH U.vm) (hF : zfit G μ U.heap) : zkk G U := ⟨State.WarmedH.trans hs.1 hW, hF.2.2.1⟩
/-- a call, whatever finds the method -/
theorem Wp.call {Y' : ZY} {vs st' : List ZV} {len np : Nat} {ig : Instr} (hY : zyc Y' np) (hlev : zyl Y' < zyl Y) (hst : (st'.map zcat).sum ≤ 12) (hd : decode (zyb Y) pc = .ok (ig, len)) (hvs : (∀ v ∈ st, zvk μ v) → (∀ v ∈ vs, zvk μ v) ∧ ∀ v ∈ st', zvk μ v)
    (hm : ∀ (p : Program) (e : Env) (R : Room) (s : State) (m : MethodId) (args : Array Value) (below : List Frame) (meth : Method) (c : Code) (T : State) (locs : List Loc) (cells slots : Nat) (la : Array Slot), zgok G → zctx G Y p s m args meth c → zfit G μ T.heap → (∀ v ∈ st, zvk μ v) → Stand p (zgl G) e R s m args below meth c T locs cells slots →
      ∃ (vm₁ : Vm) (mk : MethodId), Stand p (zgl G) e R s m args below meth c (T.setVm vm₁) locs cells slots ∧ s.methodNamed? (zyn Y') = some mk ∧ ∀ target, (∀ acts, Steps p.tables e below (doInvoke e ((T.setVm vm₁).setTop (F0 m pc la (st'.map zc))) acts mk (vs.map zc).toArray).1 target) → Steps p.tables e below (T.setTop (F0 m pc la (st.map zc))) target)
    (K : Call G Y' vs μ (fun v ν => Wp G Y (pc + len) ls (v.toList ++ st') ν Q E) (fun q ν => Wx G Y pc ls q ν Q E)) : Wp G Y pc ls st μ Q E := by
  intro h1 h2 h3 h4
  obtain ⟨hv1, hv2⟩ := hvs h4
  obtain ⟨o', ν', z1, z2, z3, z4, hM⟩ := K h1 h2 hv1
  have hgd' : zgd G ν' := ⟨z3, h2.2.ext z2⟩
  have hls' : ∀ q ∈ ls, zvk ν' q.2 := fun q hq => (h3 q hq).ext z2
  have a1 := z2.1
  have a2 := z2.2.1
  obtain ⟨y1, y2, y3, y4, y5⟩ := hY
  -- the machine's part
  have key : ∀ (p : Program) (e : Env) (R : Room) (s : State) (m : MethodId) (args : Array Value) (below : List Frame) (meth : Method) (c : Code) (T : State) (locs : List Loc) (cells slots : Nat) (la : Array Slot), zctx G Y p s m args meth c → zfit G μ T.heap → lv_has la (zyL Y) (zlc ls) → zyl Y ≤ R.frames → zwl (zyl Y) ≤ R.locals → cells + (zsz ν' - zsz μ) ≤ R.cells → slots + (zsl ν' - zsl μ) ≤ R.slots → Stand p (zgl G) e R s m args below meth c T locs cells slots →
      ∃ (U' : State) (L : List Loc), Stand p (zgl G) e R s m args below meth c U' (locs ++ L) (cells + (zsz ν' - zsz μ)) (slots + (zsl ν' - zsl μ)) ∧ (∀ z ∈ L, zlo G ≤ z.base) ∧ zfit G ν' U'.heap ∧
        Steps p.tables e below (T.setTop (F0 m pc la (st.map zc))) (ztgt U' m pc len la (st'.map zc) o') := by
    intro p e R s m args below meth c T locs cells slots la hC hF hla hf hw hc hs X
    obtain ⟨vm₁, mk, X₁, hn, hstep⟩ := hm p e R s m args below meth c T locs cells slots la h1 hC hF h4 X
    have hts := hC.2.2.2.2.2.2.2.1
    have hF₁ : zfit G μ (T.setVm vm₁).heap := hF
    obtain ⟨U', L, X', hL, hf', hsteps⟩ := zback hM X₁ (g := F0 m pc la (st'.map zc)) (ig := ig) (len := len) (mk := mk) rfl (by rw [hC.2.2.2.2.1]; exact hla.1) (by rw [hC.2.1]; exact hd)
      (by show 2 * 0 + _ ≤ _
          rw [List.map_map, show ((fun v : Value => v.category) ∘ zc) = zcat from funext zc_cat]; omega) (X₁.named hn) (by omega) (by unfold zwl at hw ⊢; omega) hc hs
      (fun w hw a' V hV => by
        have hw' : w ∈ lw_all := (List.mem_cons.mp hw).elim (fun e => by rw [e]; exact y1) id
        exact word_at hV (lw_self w hw').2 (hts w hw'))
      (fun a' V hV => word_at hV (lw_self _ y2).2 (hts _ y2)) (zkk.of hC.2.2.2.2.2.2.2.2.1 X₁.warmed hF₁) hF₁
    refine ⟨U', L, X', hL, hf', hstep _ fun acts => ?_⟩
    rw [doInvoke_state]
    cases o' with
    | inl v => exact hsteps
    | inr q => exact hsteps
  match o', z1, z4, key with
  | .inl v, z1, z4, key =>
    have hst2 : ∀ w ∈ v.toList ++ st', zvk ν' w := by
      intro w hw
      rcases List.mem_append.mp hw with hw | hw
      · match v, z4, hw with
        | some x, z4, hw => rw [List.mem_singleton.mp hw]; exact z4
      · exact (hv2 w hw).ext z2
    obtain ⟨o, ρ, e1, e2, e3, e4, hs⟩ := z1 h1 hgd' hls' hst2
    refine ⟨o, ρ, e1, z2.trans e2, e3, e4, ?_⟩
    intro p e R s m args below meth c H locs cells slots la hC hF hla hL0 hf hw hc hsl T hT X
    subst hT
    have b1 := e2.1
    have b2 := e2.2.1
    obtain ⟨U', L, X', hL, hf', hsteps⟩ := key p e R s m args below meth c T locs cells slots la hC hF hla hf hw (by omega) (by omega) X
    have K2 := hs p e R s m args below meth c U'.heap (locs ++ L) (cells + (zsz ν' - zsz μ)) (slots + (zsl ν' - zsl μ)) la hC hf' hla (fun z hz => (List.mem_append.mp hz).elim (hL0 z) (hL z)) hf hw (by omega) (by omega) U' rfl X'
    rw [show cells + (zsz ν' - zsz μ) + (zsz ρ - zsz ν') = cells + (zsz ρ - zsz μ) by omega, show slots + (zsl ν' - zsl μ) + (zsl ρ - zsl ν') = slots + (zsl ρ - zsl μ) by omega] at K2
    obtain ⟨t, w1, w2⟩ := K2
    refine ⟨t, hsteps.trans ?_, w2⟩
    have e9 : (zvo v).toList ++ st'.map zc = (v.toList ++ st').map zc := by cases v <;> rfl
    show Steps _ _ _ (U'.setTop (F0 m (pc + len) la ((zvo v).toList ++ st'.map zc))) _
    rw [e9]
    exact w1
  | .inr q, z1, z4, key =>
    obtain ⟨o, ρ, e1, e2, e3, e4, hs⟩ := z1 h1 hgd' hls' z4.1 z4.2
    refine ⟨o, ρ, e1, z2.trans e2, e3, e4, ?_⟩
    intro p e R s m args below meth c H locs cells slots la hC hF hla hL0 hf hw hc hsl T hT X
    subst hT
    have b1 := e2.1
    have b2 := e2.2.1
    obtain ⟨U', L, X', hL, hf', hsteps⟩ := key p e R s m args below meth c T locs cells slots la hC hF hla hf hw (by omega) (by omega) X
    have K2 := hs p e R s m args below meth c U'.heap (locs ++ L) (cells + (zsz ν' - zsz μ)) (slots + (zsl ν' - zsl μ)) la (st'.map zc) hC hf' hla (fun z hz => (List.mem_append.mp hz).elim (hL0 z) (hL z)) hf hw (by omega) (by omega) U' rfl X'
    rw [show cells + (zsz ν' - zsz μ) + (zsz ρ - zsz ν') = cells + (zsz ρ - zsz μ) by omega, show slots + (zsl ν' - zsl μ) + (zsl ρ - zsl ν') = slots + (zsl ρ - zsl μ) by omega] at K2
    obtain ⟨t, w1, w2⟩ := K2
    exact ⟨t, hsteps.trans w1, w2⟩
theorem zsplit {vs st' : List ZV} (h : st = vs.reverse ++ st') : (∀ v ∈ st, zvk μ v) → (∀ v ∈ vs, zvk μ v) ∧ ∀ v ∈ st', zvk μ v := by
  subst h
  exact fun k => ⟨fun v hv => k v (List.mem_append_left _ (List.mem_reverse.mpr hv)), fun v hv => k v (List.mem_append_right _ hv)⟩
theorem zmet_sig {Y' : ZY} {np : Nat} (hY : zyc Y' np) {s : State} {args : Array Value} (hts : ∀ w ∈ lw_all, w.before args s = true) : ∃ (mk : MethodId) (methY : Method), s.methodNamed? (zyn Y') = some mk ∧ s.vm.method? mk = some methY ∧ ∀ sig, parseMethodDescriptor (zyn Y').desc = some sig → methY.sig = sig := by
  obtain ⟨mk, methY, cY, h1, h2, -, -, h3⟩ := zmet_code (Y := Y') (hts _ hY.1)
  exact ⟨mk, methY, h1, h2, h3⟩
/-- a static method -/
theorem Wp_stat (Y' : ZY) (vs : List ZV) {own : String} {index : Nat} {st' : List ZV} (hY : zyc Y' vs.length) (hsig : (parseMethodDescriptor (zyn Y').desc).isSome = true) (hstat : Cond.static (zyn Y') ∈ lw_all) (ho : own = (zyn Y).cls) (hl : Cond.methodLink own index (zyn Y') ∈ lw_all) (hd : decode (zyb Y) pc = .ok (.invokestatic index, 3)) (hlev : zyl Y' < zyl Y) (hst : (st'.map zcat).sum ≤ 12) (he : st = vs.reverse ++ st')
    (K : Call G Y' vs μ (fun v ν => Wp G Y (pc + 3) ls (v.toList ++ st') ν Q E) (fun q ν => Wx G Y pc ls q ν Q E)) : Wp G Y pc ls st μ Q E := by
  refine Wp.call hY hlev hst hd (zsplit he) (fun p e R s m args below meth c T locs cells slots la h1 hC hF h4 X => ?_) K
  have hts := hC.2.2.2.2.2.2.2.1
  obtain ⟨mk, methM, hn, hmM, hsg⟩ := zmet_sig hY hts
  obtain ⟨sig, hs⟩ := Option.isSome_iff_exists.mp hsig
  obtain ⟨kP, hkP, -⟩ := className_of_methodNamed hn
  subst ho
  subst he
  obtain ⟨vm₁, X₁, hstep⟩ := X.invokestatic hC.1 hC.2.2.2.2.2.1 (hts _ hl) hn hmM (Cond.static_spec hn hmM (hts _ hstat)) hkP (Cond.initialized_spec (findClass_of_methodNamed hn) hkP (hts _ hY.2.1)) hY.2.2.2.1 (g := F0 m pc la ((vs.reverse ++ st').map zc)) rfl (argsL := vs.map zc) (rest := st'.map zc)
    (by rw [hsg sig hs, List.length_map]; exact znp_of hY.2.2.1 sig hs) (by show List.map zc _ = _; rw [List.map_append, List.map_reverse]) (by rw [hC.2.1]; exact hd)
  exact ⟨vm₁, mk, X₁, hn, hstep⟩
theorem Wp_statN (Y' : ZY) (vs : List ZV) {own host : String} {index : Nat} {st' : List ZV} (hY : zyc Y' vs.length) (hsig : (parseMethodDescriptor (zyn Y').desc).isSome = true) (hstat : Cond.static (zyn Y') ∈ lw_all) (ho : own = (zyn Y).cls) (hl : Cond.methodLinkNest own index (zyn Y') host ∈ lw_tbl) (hd : decode (zyb Y) pc = .ok (.invokestatic index, 3)) (hlev : zyl Y' < zyl Y) (hst : (st'.map zcat).sum ≤ 12) (he : st = vs.reverse ++ st')
    (K : Call G Y' vs μ (fun v ν => Wp G Y (pc + 3) ls (v.toList ++ st') ν Q E) (fun q ν => Wx G Y pc ls q ν Q E)) : Wp G Y pc ls st μ Q E := by
  refine Wp.call hY hlev hst hd (zsplit he) (fun p e R s m args below meth c T locs cells slots la h1 hC hF h4 X => ?_) K
  have hts := hC.2.2.2.2.2.2.2.1
  obtain ⟨mk, methM, hn, hmM, hsg⟩ := zmet_sig hY hts
  obtain ⟨sig, hs⟩ := Option.isSome_iff_exists.mp hsig
  obtain ⟨kP, hkP, -⟩ := className_of_methodNamed hn
  subst ho
  subst he
  obtain ⟨vm₁, X₁, hstep⟩ := X.invokestaticNest hC.1 hC.2.2.2.2.2.1 (zw_M h1 hC.2.2.2.2.2.2.2.2.1 hl) hn hmM (Cond.static_spec hn hmM (hts _ hstat)) hkP (Cond.initialized_spec (findClass_of_methodNamed hn) hkP (hts _ hY.2.1)) hY.2.2.2.1 (g := F0 m pc la ((vs.reverse ++ st').map zc)) rfl (argsL := vs.map zc) (rest := st'.map zc)
    (by rw [hsg sig hs, List.length_map]; exact znp_of hY.2.2.1 sig hs) (by show List.map zc _ = _; rw [List.map_append, List.map_reverse]) (by rw [hC.2.1]; exact hd)
  exact ⟨vm₁, mk, X₁, hn, hstep⟩
/-- a constructor -/
theorem Wp_init (Y' : ZY) (q : ZP) (vs : List ZV) {own : String} {index : Nat} {st' : List ZV} (hY : zyc Y' vs.length) (hi : (zyn Y').name = "<init>") (hh : zyh Y' = none) (hr : zyr Y' = none) (hin : Cond.instanceMethod (zyn Y') ∈ lw_all) (h0 : q.1 ≠ 0) (ho : own = (zyn Y).cls) (hl : Cond.methodLink own index (zyn Y') ∈ lw_all) (hd : decode (zyb Y) pc = .ok (.invokespecial index, 3)) (hlev : zyl Y' < zyl Y) (hst : (st'.map zcat).sum ≤ 12) (he : st = vs.reverse ++ vP q :: st')
    (K : Call G Y' (vP q :: vs) μ (fun v ν => Wp G Y (pc + 3) ls (v.toList ++ st') ν Q E) (fun q ν => Wx G Y pc ls q ν Q E)) : Wp G Y pc ls st μ Q E := by
  refine Wp.call hY hlev hst hd (zsplit (vs := vP q :: vs) (by rw [he]; simp)) (fun p e R s m args below meth c T locs cells slots la h1 hC hF h4 X => ?_) K
  have hts := hC.2.2.2.2.2.2.2.1
  subst ho
  subst he
  have hcode : Cond.code (zyn Y') (zyb Y') (zyL Y') none ∈ lw_all := by
    have := hY.1
    unfold zcw at this
    rw [hh, hr] at this
    exact this
  have hpl : e.platform.magicAccessors = ({} : Platform).magicAccessors := by rw [X.admits.platform]
  have e0 : zc (vP q) = .ref q.2.2 := zcp_ref h0
  obtain ⟨mk, methM, cM, kP, vm₁, hn, hmM, -, -, -, -, hkP, -, hW₁, hstep₁⟩ := Steps.initColdArgs (e := e) X.here hC.1 X.warmed hpl hC.2.2.2.2.2.1 hi hY.2.2.2.1 (hts _ hl) (hts _ hin) (hts _ hcode) (f := F0 m pc la ((vs.reverse ++ vP q :: st').map zc)) rfl (a := q.2.2) (argsL := vs.map zc) (rest := st'.map zc) (fun sig hs => by rw [List.length_map]; exact znp_of hY.2.2.1 sig hs) (by show List.map zc _ = _; rw [List.map_append, List.map_reverse, List.map_cons, e0]) (by rw [hC.2.1]; exact hd)
  refine ⟨vm₁, mk, X.noted hW₁, hn, fun target h => hstep₁ target ?_⟩
  rw [List.map_cons, e0] at h
  exact h
/-- an own method of the receiver's class -/
theorem Wp_vown (Y' : ZY) (q : ZP) (vs : List ZV) {own C : String} {index : Nat} {st' : List ZV} (hY : zyc Y' vs.length) (hin : Cond.instanceMethod (zyn Y') ∈ lw_all) (hsel : Cond.selects C (zyn Y') (zyn Y') ∈ lw_all) (hq : zkc q.1 = true) (hqc : zcls q.1 = C) (ho : own = (zyn Y).cls) (hl : Cond.methodLink own index (zyn Y') ∈ lw_all) (hd : decode (zyb Y) pc = .ok (.invokevirtual index, 3)) (hsig : (parseMethodDescriptor (zyn Y').desc).isSome = true) (hlev : zyl Y' < zyl Y) (hst : (st'.map zcat).sum ≤ 12) (he : st = vs.reverse ++ vP q :: st')
    (K : Call G Y' (vP q :: vs) μ (fun v ν => Wp G Y (pc + 3) ls (v.toList ++ st') ν Q E) (fun q ν => Wx G Y pc ls q ν Q E)) : Wp G Y pc ls st μ Q E := by
  refine Wp.call hY hlev hst hd (zsplit (vs := vP q :: vs) (by rw [he]; simp)) (fun p e R s m args below meth c T locs cells slots la h1 hC hF h4 X => ?_) K
  have hts := hC.2.2.2.2.2.2.2.1
  subst ho
  subst he
  obtain ⟨h0, cell, c1, c2, c3⟩ := zobj h1 hC.2.2.2.2.2.2.2.2.1 hF (show zpk μ q from h4 (vP q) (by simp)) hq
  have e0 : zc (vP q) = .ref q.2.2 := zcp_ref h0
  rw [hqc] at c3
  obtain ⟨mk, methM, hnamed, hmethM, hstM, habM⟩ := Cond.instanceMethod_spec (hts _ hin)
  obtain ⟨mk9, methM9, hn9, hm9, hsg⟩ := zmet_sig hY hts
  cases hnamed.symm.trans hn9
  cases hmethM.symm.trans hm9
  obtain ⟨sig, hs⟩ := Option.isSome_iff_exists.mp hsig
  obtain ⟨c2', r2, m2, q1, q2, q3, q4, kP, hkP, hkPi⟩ := Cond.selects_spec (hts _ hsel)
  cases c3.symm.trans q1
  cases (State.methodFound?_of_named hnamed hY.2.2.2.1).symm.trans q2
  cases hnamed.symm.trans q3
  have hselP : selectMethod e.platform s.vm cell.cls mk = .method mk := by rw [Launch.admits_selectMethod X.admits]; exact q4
  obtain ⟨vm₁, X₁, hstep₁⟩ := X.invokevirtual hC.1 hC.2.2.2.2.2.1 (hts _ hl) hnamed hmethM hstM hkP hkPi hY.2.2.2.1 (a := q.2.2) (cell := cell) c1
    (zvm_st c2) hselP hmethM habM hkP hkPi (g := F0 m pc la ((vs.reverse ++ vP q :: st').map zc)) rfl (argsL := vs.map zc) (rest := st'.map zc) (by rw [hsg sig hs, List.length_map]; exact znp_of hY.2.2.1 sig hs) (by show List.map zc _ = _; rw [List.map_append, List.map_reverse, List.map_cons, e0]) (by rw [hC.2.1]; exact hd)
  refine ⟨vm₁, mk, X₁, hnamed, fun target h => hstep₁ target ?_⟩
  rw [List.map_cons, e0] at h
  exact h
/-- a method that may be inherited or overridden -/
theorem Wp_vup (Y' : ZY) (x : MethodName) (q : ZP) (vs : List ZV) {own C owner : String} {index : Nat} {st' : List ZV} (hY : zyc Y' vs.length) (hin : Cond.instanceMethod (zyn Y') ∈ lw_all) (hsel : Cond.selects C x (zyn Y') ∈ lw_all) (hsame : Cond.sameMethod x.cls owner x.name x.desc ∈ lw_all) (hdec : zdecl ⟨owner, x.name, x.desc⟩) (howner : zmh owner) (hdd : (zyn Y').desc = x.desc) (hq : zkc q.1 = true) (hqc : zcls q.1 = C) (ho : own = (zyn Y).cls) (hl : Cond.methodLink own index x ∈ lw_all) (hd : decode (zyb Y) pc = .ok (.invokevirtual index, 3)) (hlev : zyl Y' < zyl Y) (hst : (st'.map zcat).sum ≤ 12) (he : st = vs.reverse ++ vP q :: st')
    (K : Call G Y' (vP q :: vs) μ (fun v ν => Wp G Y (pc + 3) ls (v.toList ++ st') ν Q E) (fun q ν => Wx G Y pc ls q ν Q E)) : Wp G Y pc ls st μ Q E := by
  refine Wp.call hY hlev hst hd (zsplit (vs := vP q :: vs) (by rw [he]; simp)) (fun p e R s m args below meth c T locs cells slots la h1 hC hF h4 X => ?_) K
  have hts := hC.2.2.2.2.2.2.2.1
  subst ho
  subst he
  obtain ⟨h0, cell, c1, c2, c3⟩ := zobj h1 hC.2.2.2.2.2.2.2.2.1 hF (show zpk μ q from h4 (vP q) (by simp)) hq
  have e0 : zc (vP q) = .ref q.2.2 := zcp_ref h0
  rw [hqc] at c3
  obtain ⟨r0, r, hn, hrm, hstR, hsigR⟩ := hdec.of h1 hC.2.2.2.2.2.2.2.2.1 hts
  obtain ⟨cn, ck, r1, hcn, hck, hni, hf, hn1⟩ := Cond.sameMethod_found (hts _ hsame)
  cases hn.symm.trans hn1
  obtain ⟨mk, methM, hnamed, hmethM, -, habM⟩ := Cond.instanceMethod_spec (hts _ hin)
  obtain ⟨c2', r2, m2, q1, q2, q3, q4, kP, hkP, hkPi⟩ := Cond.selects_spec (hts _ hsel)
  cases c3.symm.trans q1
  cases hf.symm.trans q2
  cases hnamed.symm.trans q3
  have hselP : selectMethod e.platform s.vm cell.cls r0 = .method mk := by rw [Launch.admits_selectMethod X.admits]; exact q4
  obtain ⟨vm₁, X₁, hstep₁⟩ := X.invokevirtualUp hC.1 hC.2.2.2.2.2.1 (hts _ hl) (hts _ hsame) howner hn hrm hstR (a := q.2.2) (cell := cell) c1
    (zvm_st c2) hselP hmethM habM hkP hkPi (g := F0 m pc la ((vs.reverse ++ vP q :: st').map zc)) rfl (argsL := vs.map zc) (rest := st'.map zc) (by rw [List.length_map]; exact znp_of hY.2.2.1 _ (by rw [hdd]; exact hsigR)) (by show List.map zc _ = _; rw [List.map_append, List.map_reverse, List.map_cons, e0]) (by rw [hC.2.1]; exact hd)
  refine ⟨vm₁, mk, X₁, hnamed, fun target h => hstep₁ target ?_⟩
  rw [List.map_cons, e0] at h
  exact h
/-- super.m(..) -/
theorem Wp_vsup (Y' : ZY) (q : ZP) (vs : List ZV) {own : String} {index : Nat} {st' : List ZV} (hY : zyc Y' vs.length) (hin : Cond.instanceMethod (zyn Y') ∈ lw_all) (hsame : Cond.sameMethod (zyn Y').cls (zyn Y').cls (zyn Y').name (zyn Y').desc ∈ lw_all) (hsup : Cond.superclass own (zyn Y').cls ∈ lw_all) (hno : (zyn Y').name ≠ "<init>") (hq : zkc q.1 = true) (ho : own = (zyn Y).cls) (hl : Cond.methodLink own index (zyn Y') ∈ lw_all) (hd : decode (zyb Y) pc = .ok (.invokespecial index, 3)) (hsig : (parseMethodDescriptor (zyn Y').desc).isSome = true) (hlev : zyl Y' < zyl Y) (hst : (st'.map zcat).sum ≤ 12) (he : st = vs.reverse ++ vP q :: st')
    (K : Call G Y' (vP q :: vs) μ (fun v ν => Wp G Y (pc + 3) ls (v.toList ++ st') ν Q E) (fun q ν => Wx G Y pc ls q ν Q E)) : Wp G Y pc ls st μ Q E := by
  refine Wp.call hY hlev hst hd (zsplit (vs := vP q :: vs) (by rw [he]; simp)) (fun p e R s m args below meth c T locs cells slots la h1 hC hF h4 X => ?_) K
  have hts := hC.2.2.2.2.2.2.2.1
  subst ho
  subst he
  obtain ⟨h0, cell, c1, c2, c3⟩ := zobj h1 hC.2.2.2.2.2.2.2.2.1 hF (show zpk μ q from h4 (vP q) (by simp)) hq
  have e0 : zc (vP q) = .ref q.2.2 := zcp_ref h0
  obtain ⟨kB, hkB, -⟩ := Vm.findClass_spec c3
  obtain ⟨mk, methM, hnamed, hmethM, hstM, habM⟩ := Cond.instanceMethod_spec (hts _ hin)
  obtain ⟨mk9, methM9, hn9, hm9, hsg⟩ := zmet_sig hY hts
  cases hnamed.symm.trans hn9
  cases hmethM.symm.trans hm9
  obtain ⟨sig, hs⟩ := Option.isSome_iff_exists.mp hsig
  obtain ⟨ps, dk, kp, hps, hdk, hkp, hsuper, -, -, hnid⟩ := Cond.superclass_spec hC.2.2.2.2.2.1 (hts _ hsup)
  have hn : s.methodNamed? ⟨(zyn Y').cls, (zyn Y').name, (zyn Y').desc⟩ = some mk := hnamed
  have hpm : ps = mk.cls := Option.some.inj (hps.symm.trans (findClass_of_methodNamed hnamed))
  have hsub : s.vm.isSubclass ps mk.cls = true := by rw [hpm]; simp [Vm.isSubclass, Vm.isSubclassAux]
  obtain ⟨vm₁, X₁, hstep₁⟩ := X.invokespecialUp hC.1 hC.2.2.2.2.2.1 (hts _ hl) (hts _ hsame) hn hmethM hstM habM hno hdk hnid hps hsuper hsub (a := q.2.2) (cell := cell) c1
    (zvm_st c2) hkB (g := F0 m pc la ((vs.reverse ++ vP q :: st').map zc)) rfl (argsL := vs.map zc) (rest := st'.map zc) (by rw [hsg sig hs, List.length_map]; exact znp_of hY.2.2.1 sig hs) (by show List.map zc _ = _; rw [List.map_append, List.map_reverse, List.map_cons, e0]) (by rw [hC.2.1]; exact hd)
  refine ⟨vm₁, mk, X₁, hnamed, fun target h => hstep₁ target ?_⟩
  rw [List.map_cons, e0] at h
  exact h []
/-- a method of an interface -/
theorem Wp_vif (Y' : ZY) (x : MethodName) (q : ZP) (vs : List ZV) {own C : String} {index count : Nat} {st' : List ZV} (hY : zyc Y' vs.length) (hin : Cond.instanceMethod (zyn Y') ∈ lw_all) (hsel : Cond.selects C x (zyn Y') ∈ lw_all) (hdecl : Cond.declares x ∈ lw_tbl) (hface : Cond.interfaceMethod x.cls x.cls x.name x.desc ∈ lw_tbl) (hpub : Cond.publicMethod (zyn Y') ∈ lw_tbl) (hunh : Cond.unhidden C x.name x.desc ∈ lw_tbl) (hcast : Cond.castable C x.cls ∈ lw_tbl) (hx : zmh x.cls) (hdd : (zyn Y').desc = x.desc) (hq : zkc q.1 = true) (hqc : zcls q.1 = C) (ho : own = (zyn Y).cls) (hl : Cond.methodLink own index x ∈ lw_all) (hd : decode (zyb Y) pc = .ok (.invokeinterface index count, 5)) (hlev : zyl Y' < zyl Y) (hst : (st'.map zcat).sum ≤ 12) (he : st = vs.reverse ++ vP q :: st')
    (K : Call G Y' (vP q :: vs) μ (fun v ν => Wp G Y (pc + 5) ls (v.toList ++ st') ν Q E) (fun q ν => Wx G Y pc ls q ν Q E)) : Wp G Y pc ls st μ Q E := by
  refine Wp.call hY hlev hst hd (zsplit (vs := vP q :: vs) (by rw [he]; simp)) (fun p e R s m args below meth c T locs cells slots la h1 hC hF h4 X => ?_) K
  have hts := hC.2.2.2.2.2.2.2.1
  subst ho
  subst he
  obtain ⟨h0, cell, c1, c2, c3⟩ := zobj h1 hC.2.2.2.2.2.2.2.2.1 hF (show zpk μ q from h4 (vP q) (by simp)) hq
  have e0 : zc (vP q) = .ref q.2.2 := zcp_ref h0
  rw [hqc] at c3
  obtain ⟨kB, hkB, -⟩ := Vm.findClass_spec c3
  obtain ⟨F1, F2, F3, F4, -⟩ := va_Fw.moved hx hC.2.2.2.2.2.2.2.2.1.1.alike (va_Fw.of (h1.1 _ hdecl) (h1.1 _ hface) (h1.1 _ hpub) (h1.1 _ hunh) (h1.1 _ hcast))
  obtain ⟨r0, r, hn, hrm, hstR, hsigR⟩ := Cond.declares_spec F1
  obtain ⟨cL, kL, r1, hcL, hkL, hiL, hfoundL, hn1⟩ := Cond.interfaceMethod_spec F2
  cases hn.symm.trans hn1
  have hr0cls : r0.cls = cL := Option.some.inj ((findClass_of_methodNamed hn).symm.trans hcL)
  obtain ⟨hnameR, hdescR⟩ := name_of_methodNamed hn hrm
  obtain ⟨mk, methM, hnamed, hmethM, -, habM⟩ := Cond.instanceMethod_spec (hts _ hin)
  obtain ⟨c2', r2, m2, q1, q2, q3, q4, -⟩ := Cond.selects_spec (hts _ hsel)
  cases c3.symm.trans q1
  cases hfoundL.symm.trans q2
  cases hnamed.symm.trans q3
  have hselP : selectMethod e.platform s.vm cell.cls r0 = .method mk := by rw [Launch.admits_selectMethod X.admits]; exact q4
  have hpubM : hasFlag methM.accessFlags Acc.public_ = true := Cond.publicMethod_spec hnamed hmethM F3
  have hway : ((cell.cls :: s.vm.superclasses cell.cls).any fun k => (declaredIn s.vm r.name r.desc k).any fun (_, z) => z.isPrivate || z.isStatic) = false := by
    rw [hnameR, hdescR]; exact Cond.unhidden_spec c3 F4
  obtain ⟨c3', t3, w1, w2, w3⟩ := Cond.castable_spec (zw_C (args := args) h1 hC.2.2.2.2.2.2.2.2.1 hcast)
  cases c3.symm.trans w1
  cases hcL.symm.trans w2
  obtain ⟨vm₁, X₁, hstep₁⟩ := X.invokeinterface hC.1 hC.2.2.2.2.2.1 (hts _ hl) hn hrm hstR (by rw [hr0cls]; exact hkL) hiL hx (a := q.2.2) (cell := cell) (kcell := kB) c1
    (zvm_st c2) hkB (by rw [hr0cls]; exact w3) hselP hmethM hway hpubM habM (g := F0 m pc la ((vs.reverse ++ vP q :: st').map zc)) rfl (argsL := vs.map zc) (rest := st'.map zc) (by rw [List.length_map]; exact znp_of hY.2.2.1 _ (by rw [hdd]; exact hsigR)) (by show List.map zc _ = _; rw [List.map_append, List.map_reverse, List.map_cons, e0]) (by rw [hC.2.1]; exact hd)
  refine ⟨vm₁, mk, X₁, hnamed, fun target h => hstep₁ target ?_⟩
  rw [List.map_cons, e0] at h
  exact h
end ZK
