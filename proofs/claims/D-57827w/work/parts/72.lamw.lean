set_option maxRecDepth 100000
/-! LAMBDAS, 6: Operation.apply, and the objects made -/
/-- the method that a made object runs: its own method 1, with the kept ints ahead of the argument -/
def CallLam (G : ZG) (q : ZP) (b : ZP) (lev : Nat) (μ : ZM) (Q : Option ZV → ZM → Prop) (E : ZP → ZM → Prop) : Prop := ∃ (k : Nat) (Y' : ZY) (n a : Nat), zlmI[k]? = some (Y', n) ∧ q = (300 + k, n, a) ∧ b.1 ≠ 0 ∧ zyl Y' + 2 ≤ lev ∧ zyL Y' ≤ 3 ∧ Call G Y' ((List.range n).map (fun j => vI (zai μ a j)) ++ [vP b]) μ Q E
section ZLW
variable {G : ZG} {Y : ZY} {pc : Nat} {ls : List (Nat × ZV)} {st : List ZV} {μ : ZM} {Q : Option ZV → ZM → Prop} {E : ZP → ZM → Prop}
/-- a call, whatever runs -/
theorem Wp.via {Y' : ZY} {vs st' : List ZV} {len : Nat} (hvs : (∀ v ∈ st, zvk μ v) → (∀ v ∈ vs, zvk μ v) ∧ ∀ v ∈ st', zvk μ v)
    (key : ∀ (o' : ZO) (ν' : ZM), zgok G → (∀ v ∈ st, zvk μ v) → zmet G Y' vs μ o' ν' → (∀ v, o' = .inl v → ∃ x, v = some (vI x)) → (∀ q, o' = .inr q → zkc q.1 = true ∧ zpk ν' q) → ∀ (p : Program) (e : Env) (R : Room) (s : State) (m : MethodId) (args : Array Value) (below : List Frame) (meth : Method) (c : Code) (T : State) (locs : List Loc) (cells slots : Nat) (la : Array Slot), zctx G Y p s m args meth c → zfit G μ T.heap → lv_has la (zyL Y) (zlc ls) → zyl Y ≤ R.frames → zwl (zyl Y) ≤ R.locals → cells + (zsz ν' - zsz μ) ≤ R.cells → slots + (zsl ν' - zsl μ) ≤ R.slots → Stand p (zgl G) e R s m args below meth c T locs cells slots →
      ∃ (U' : State) (L : List Loc), Stand p (zgl G) e R s m args below meth c U' (locs ++ L) (cells + (zsz ν' - zsz μ)) (slots + (zsl ν' - zsl μ)) ∧ (∀ z ∈ L, zlo G ≤ z.base) ∧ zfit G ν' U'.heap ∧
        Steps p.tables e below (T.setTop (F0 m pc la (st.map zc))) (ztgt U' m pc len la (st'.map zc) o'))
    (K : Call G Y' vs μ (rI fun x ν => Wp G Y (pc + len) ls (vI x :: st') ν Q E) (fun q ν => zkc q.1 = true ∧ Wx G Y pc ls q ν Q E)) : Wp G Y pc ls st μ Q E := by
  intro h1 h2 h3 h4
  obtain ⟨hv1, hv2⟩ := hvs h4
  obtain ⟨o', ν', z1, z2, z3, z4, hM⟩ := K h1 h2 hv1
  have hgd' : zgd G ν' := ⟨z3, h2.2.ext z2⟩
  have hls' : ∀ q ∈ ls, zvk ν' q.2 := fun q hq => (h3 q hq).ext z2
  have a1 := z2.1
  have a2 := z2.2.1
  have hv : ∀ v, o' = .inl v → ∃ x, v = some (vI x) := by
    rintro v rfl
    obtain ⟨x, hx, -⟩ := z1
    exact ⟨x, hx⟩
  have hq : ∀ q, o' = .inr q → zkc q.1 = true ∧ zpk ν' q := by
    rintro q rfl
    exact ⟨z1.1, z4.1⟩
  replace key := key o' ν' h1 h4 hM hv hq
  match o', z1, z4, key with
  | .inl v, z1, z4, key =>
    obtain ⟨x, rfl, z1⟩ := z1
    have hst2 : ∀ w ∈ vI x :: st', zvk ν' w := by
      intro w hw
      rcases List.mem_cons.mp hw with hw | hw
      · rw [hw]; exact True.intro
      · exact (hv2 w hw).ext z2
    obtain ⟨o, ρ, e1, e2, e3, e4, hs⟩ := z1 h1 hgd' hls' hst2
    refine ⟨o, ρ, e1, z2.trans e2, e3, e4, ?_⟩
    intro p e R s m args below meth c H locs cells slots la hC hF hla hL0 hf hw hc hsl T hT X
    subst hT
    have b1 := e2.1
    have b2 := e2.2.1
    obtain ⟨U', L, X', hL, hf', hsteps⟩ := key p e R s m args below meth c T locs cells slots la hC hF hla hf hw (by omega) (by omega) X
    have K2 := hs p e R s m args below meth c U'.heap (locs ++ L) (cells + (zsz ν' - zsz μ)) (slots + (zsl ν' - zsl μ)) la hC hf' hla (fun z hz => (List.mem_append.mp hz).elim (hL0 z) (hL z)) hf hw (by omega) (by omega) U' rfl X'
    rw [show cells + (zsz ν' - zsz μ) + (zsz ρ - zsz ν') = cells + (zsz ρ - zsz μ) by omega, show slots + (zsl ν' - zsl μ) + (zsl ρ - zsl ν') = slots + (zsl ρ - zsl μ) by omega] at K2
    obtain ⟨t, w1, w2⟩ := K2
    exact ⟨t, hsteps.trans w1, w2⟩
  | .inr q, z1, z4, key =>
    obtain ⟨o, ρ, e1, e2, e3, e4, hs⟩ := z1.2 h1 hgd' hls' z4.1 z4.2
    refine ⟨o, ρ, e1, z2.trans e2, e3, e4, ?_⟩
    intro p e R s m args below meth c H locs cells slots la hC hF hla hL0 hf hw hc hsl T hT X
    subst hT
    have b1 := e2.1
    have b2 := e2.2.1
    obtain ⟨U', L, X', hL, hf', hsteps⟩ := key p e R s m args below meth c T locs cells slots la hC hF hla hf hw (by omega) (by omega) X
    have K2 := hs p e R s m args below meth c U'.heap (locs ++ L) (cells + (zsz ν' - zsz μ)) (slots + (zsl ν' - zsl μ)) la (st'.map zc) hC hf' hla (fun z hz => (List.mem_append.mp hz).elim (hL0 z) (hL z)) hf hw (by omega) (by omega) U' rfl X'
    rw [show cells + (zsz ν' - zsz μ) + (zsz ρ - zsz ν') = cells + (zsz ρ - zsz μ) by omega, show slots + (zsl ν' - zsl μ) + (zsl ρ - zsl ν') = slots + (zsl ρ - zsl μ) by omega] at K2
    obtain ⟨t, w1, w2⟩ := K2
    exact ⟨t, hsteps.trans w1, w2⟩
/-- op.apply(state) -/
theorem Wp_apply {q b : ZP} {own : String} {index count : Nat} {st' : List ZV} (ho : own = (zyn Y).cls) (hl : Cond.methodLink own index lmX ∈ lw_all) (hd : decode (zyb Y) pc = .ok (.invokeinterface index count, 5)) (hst : (st'.map zcat).sum ≤ 12)
    (K : CallLam G q b (zyl Y) μ (rI fun x ν => Wp G Y (pc + 5) ls (vI x :: st') ν Q E) (fun q ν => zkc q.1 = true ∧ Wx G Y pc ls q ν Q E)) : Wp G Y pc ls (vP b :: vP q :: st') μ Q E := by
  obtain ⟨k, Y', n, a, hk, rfl, hb0, hlev, hzyL, K⟩ := K
  obtain ⟨hk14, hn3, x, hx, hchk, hzyn, hzyc, hstat, hsig, hif, hnm, hsam⟩ := lmG_at hk
  refine Wp.via (Y' := Y') (vs := (List.range n).map (fun j => vI (zai μ a j)) ++ [vP b]) (st' := st') (len := 5) (fun h => ⟨fun v hv => ?_, fun v hv => zv_tail (zv_tail h) v hv⟩) (fun o' ν' h1 h4 hM hv hq p e R s m args below meth c T locs cells slots la hC hF hla hf hw hc hs X => ?_) K
  · rcases List.mem_append.mp hv with hv | hv
    · obtain ⟨j, -, rfl⟩ := List.mem_map.mp hv
      exact True.intro
    · rw [List.mem_singleton.mp hv]; exact zv_head h
  subst ho
  have hts := hC.2.2.2.2.2.2.2.1
  have hkk := hC.2.2.2.2.2.2.2.2.1
  have hexec := hC.1
  have hq0 : zpk μ (300 + k, n, a) := zv_head (zv_tail h4)
  obtain ⟨cell, c1, c2, c3, c4⟩ := lam_cell hk14 hF hq0
  obtain ⟨r0, r, cL, kL, i1, i2, i3, i4, i5, i6, i7, i8, i9, i10, i11⟩ := lam_iface h1 hkk
  -- the site, at s
  obtain ⟨one, hat, -⟩ := h1.2.2.2.2.2.2.2.2.1 k x hx
  obtain ⟨mD, kD, cfD, i0, p0, lk, hmD, hkD, -, -, -, -, hmade, hcan, -⟩ := State.lambdaAt?_spec hat
  obtain ⟨-, -, -, -, -, -, -, iface', -, -, -, -, found, -, -, -, -, -, hi', -, -, -, -, -, -, hfound', -, -, -, -, -, -, -, -, -, -, hsel⟩ := Lambda.isMade_spec (Lambda.isMade_warmer hkk.1 hmade)
  have hcan' : s.lambdaCallable x.2.2.2 (zgL G (300 + k)) = true := by
    have hA := hkk.1.alike
    simp only [State.lambdaCallable, hA.findClass, hA.assignable, hA.superclasses, hA.declaredIn] at hcan ⊢
    exact hcan
  rw [hif] at hi'
  cases i5.symm.trans hi'
  have hfr : found = r0 := by
    have h9 := i8
    simp only [State.methodFound?, show s.vm.findClass lmX.cls = some cL from i5, i6, i7, Option.bind_eq_bind, Option.bind_some] at h9
    rw [hnm, hsam] at hfound'
    have h2 : ((methodIn cL lmX.name lmX.desc true none).ask { classPath := fun _ => none } s.vm).1 = .ok found := hfound'
    rw [h2] at h9
    exact Option.some.inj h9
  subst hfr
  obtain ⟨i2', hi2, hasg, hway⟩ := State.lambdaCallable_spec hcan'
  rw [hif] at hi2
  cases i5.symm.trans hi2
  rw [hnm, hsam] at hway
  have allw : ∀ {V : State}, s.WarmedH V.vm → ∀ (a : Array Value) (w), w ∈ lw_all → w.before a V = true := fun hV a' w hw' => word_at hV (lw_self w hw').2 (hts w hw')
  obtain ⟨kk0, -, methk0, -, -, -, s1, -, s3, -, -, -, -, -, s9, -⟩ := lam_at h1 hkk.1 (fun a' w hw' => allw (State.WarmedH.refl s) a' w hw') hk e
  have eb : zc (vP b) = .ref b.2.2 := zcp_ref hb0
  have e0 : zc (vP (300 + k, n, a)) = .ref a := zcp_ref (p := (300 + k, n, a)) (by show 300 + k ≠ 0; omega)
  obtain ⟨vm₁, X₁, hstep₁⟩ := X.invokeinterface hexec hC.2.2.2.2.2.1 (hts _ hl) i1 i2 i3 (by rw [i4]; exact i6) i7 (by decide) (a := a) (cell := cell) (kcell := kk0) c1 (fun z h => by rw [c3] at h; cases h) (by rw [c2]; exact s1) (by rw [i4, c2]; exact hasg)
    (m' := ⟨zgL G (300 + k), 1⟩) (meth' := methk0) (by rw [Launch.admits_selectMethod X.admits, c2]; exact hsel) s3 (by rw [i9, i10, c2]; exact hway) (by rw [s9]; decide) (by simp [Method.isAbstract, s9, hasFlag, Acc.abstract])
    (g := F0 m pc la ((vP b :: vP (300 + k, n, a) :: st').map zc)) rfl (argsL := [zc (vP b)]) (rest := st'.map zc) (by
      have : r.sig = ⟨[.object "EchoFair$State"], some .int⟩ := (Option.some.inj ((by decide +kernel : parseMethodDescriptor lmX.desc = some ⟨[.object "EchoFair$State"], some .int⟩).symm.trans i11)).symm
      rw [this]; rfl) (by show List.map zc _ = _; rw [List.map_cons, List.map_cons, e0]; rfl) (by rw [hC.2.1]; exact hd)
  have hW₁ : s.WarmedH vm₁ := X₁.warmed
  have hF₁ : zfit G μ (T.setVm vm₁).heap := hF
  have hk1 : zkk G (T.setVm vm₁) := zkk.of hkk X₁.warmed hF₁
  have hWT : s.WarmedH (T.setVm vm₁).vm := hW₁
  obtain ⟨kk, tk, methk, ck, t, metht, g1, g2, g3, g4, g5, g6, g7, g8, g9, g10, g11, g12, g13, g14, g15, g16, g17, g18, g19, g20, g21⟩ := lam_at h1 hk1.1 (allw hWT) hk e
  have hsz : (F0 m pc la (st'.map zc)).locals.size = c.maxLocals := by rw [hC.2.2.2.2.1]; exact hla.1
  have hdg : decode c.code (F0 m pc la (st'.map zc)).pc = .ok (.invokeinterface index count, 5) := by rw [hC.2.1]; exact hd
  have hstw : ((st'.map zc).map fun v => v.category).sum ≤ 12 := by
    rw [List.map_map, show ((fun v : Value => v.category) ∘ zc) = zcat from funext zc_cat]; exact hst
  have hdec : ∃ ipc, decode ck.code ipc = .ok (.invokestatic (lmIx n), 3) ∧ decode ck.code (ipc + 3) = .ok (.ireturn, 1) ∧ ∀ U : State, Stand p (zgl G) e (lmR Y' (zsz ν' - zsz μ) (zsl ν' - zsl μ)) ((T.setVm vm₁).calling (F0 m pc la (st'.map zc)) ⟨zgL G (300 + k), 1⟩ #[.ref a, .ref b.2.2]) ⟨zgL G (300 + k), 1⟩ #[.ref a, .ref b.2.2] (.java (F0 m pc la (st'.map zc)) :: below) methk ck U [] 0 0 → U.vm = (T.setVm vm₁).vm → U.heap = (T.setVm vm₁).heap → ∀ target,
      (∀ acts, Steps p.tables e (.java (F0 m pc la (st'.map zc)) :: below) (doInvoke e (U.setTop { method := ⟨zgL G (300 + k), 1⟩, pc := ipc, locals := #[.val (.ref a), .val (.ref b.2.2)], stack := [], locked := none }) acts t (((List.range n).map (fun j => vI (zai μ a j)) ++ [vP b]).map zc).toArray).1 target) →
      Steps p.tables e (.java (F0 m pc la (st'.map zc)) :: below) (U.setTop (entryFrame ⟨zgL G (300 + k), 1⟩ #[.ref a, .ref b.2.2] ck.maxLocals)) target := by
    match n, hn3, hk, g2, g5, g18, g19, g20, g21, c4 with
    | 0, _, _, _, g5, g18, g19, g20, _, _ =>
      refine ⟨1, by rw [g5]; exact dlm0_1, by rw [g5]; exact dlm0_4, fun U Y₀ hvm hheap target hrest => ?_⟩
      refine lam_pre0 Y₀ hexec g5 g6 (t := t) (kt := tk) (metht := metht) ?_ (by rw [hvm]; exact g20) (by rw [hvm]; exact g13) (by rw [hvm]; exact g14) g15 g16 g17 (by rw [g18]) (fun acts => ?_)
      · unfold plainRef at g19 ⊢
        rw [hvm]; exact g19
      · have h9 := hrest acts
        rw [List.range_zero, List.map_nil, List.nil_append, List.map_cons, eb] at h9
        exact h9
    | 1, _, _, _, g5, g18, g19, g20, g21, c4 =>
      obtain ⟨f1, f2, f3, f4⟩ := g21 0 (by omega)
      refine ⟨5, by rw [g5]; exact dlm1_5, by rw [g5]; exact dlm1_8, fun U Y₀ hvm hheap target hrest => ?_⟩
      refine lam_pre1 Y₀ hexec g5 g6 (t := t) (kt := tk) (metht := metht) (cell := cell) (f1 := f1) (x1 := zai μ a 0) (by rw [hheap]; exact c1) (by rw [c3]; intro h; cases h) (by rw [hvm]; exact f2) f3 (by rw [f4]; exact c4 0 (by omega)) ?_ (by rw [hvm]; exact g20) (by rw [hvm]; exact g13) (by rw [hvm]; exact g14) g15 g16 g17 (by rw [g18]) (fun acts => ?_)
      · unfold plainRef at g19 ⊢
        rw [hvm]; exact g19
      · have h9 := hrest acts
        rw [show List.range 1 = [0] from rfl, List.map_cons, List.map_nil, List.cons_append, List.nil_append, List.map_cons, List.map_cons, eb] at h9
        exact h9
    | 2, _, _, _, g5, g18, g19, g20, g21, c4 =>
      obtain ⟨f1, f2, f3, f4⟩ := g21 0 (by omega)
      obtain ⟨f5, f6, f7, f8⟩ := g21 1 (by omega)
      refine ⟨9, by rw [g5]; exact dlm2_9, by rw [g5]; exact dlm2_12, fun U Y₀ hvm hheap target hrest => ?_⟩
      refine lam_pre2 Y₀ hexec g5 g6 (t := t) (kt := tk) (metht := metht) (cell := cell) (f1 := f1) (f2 := f5) (x1 := zai μ a 0) (x2 := zai μ a 1) (by rw [hheap]; exact c1) (by rw [c3]; intro h; cases h) (by rw [hvm]; exact f2) f3 (by rw [f4]; exact c4 0 (by omega)) (by rw [hvm]; exact f6) f7 (by rw [f8]; exact c4 1 (by omega)) ?_ (by rw [hvm]; exact g20) (by rw [hvm]; exact g13) (by rw [hvm]; exact g14) g15 g16 g17 (by rw [g18]) (fun acts => ?_)
      · unfold plainRef at g19 ⊢
        rw [hvm]; exact g19
      · have h9 := hrest acts
        rw [show List.range 2 = [0, 1] from rfl, List.map_cons, List.map_cons, List.map_nil, List.cons_append, List.cons_append, List.nil_append, List.map_cons, List.map_cons, List.map_cons, eb] at h9
        exact h9
    | n + 3, h, _, _, _, _, _, _, _, _ => omega
  obtain ⟨ipc, hd1, hd2, hpre⟩ := hdec
  obtain ⟨U', L, X', hL, hf', hsteps⟩ := lam_run hM h1 X₁ hexec (g := F0 m pc la (st'.map zc)) rfl hsz hdg (mk := ⟨zgL G (300 + k), 1⟩) (methk := methk) (ck := ck) #[.ref a, .ref b.2.2] g3 g4 g6 g8 g11 g10 g7 hd1 hd2 (la := #[.val (.ref a), .val (.ref b.2.2)]) rfl (t := t) g12 hpre hv hq (by omega) (by
      unfold zwl at hw ⊢
      show 2 * 0 + _ + 13 + (12 + (zyL Y' + 11) + _) ≤ R.locals
      have h8 : (List.map (fun v : Value => v.category) (F0 m pc la (st'.map zc)).stack).sum ≤ 12 := hstw
      omega) hc hs
    (fun w hw' a' V hV => by
      have hw2 : w ∈ lw_all := (List.mem_cons.mp hw').elim (fun e => by rw [e]; exact hzyc.1) id
      exact word_at hV (lw_self w hw2).2 (hts w hw2))
    (fun a' V hV => word_at hV (lw_self _ hzyc.2.1).2 (hts _ hzyc.2.1)) hk1 hF₁
  refine ⟨U', L, X', hL, hf', ?_⟩
  refine hstep₁ _ fun acts => ?_
  have ea : (#[.ref a, .ref b.2.2] : Array Value) = (Value.ref a :: [zc (vP b)]).toArray := by rw [eb]
  have h9 := hsteps acts
  rw [ea] at h9
  cases o' with
  | inl v => exact h9
  | inr q => exact h9
end ZLW
