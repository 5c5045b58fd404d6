/-! LAMBDAS, 1: a made object's method runs -/
/-- the room of a forwarder's frame -/
def lmR (Y : ZY) (dz ds : Nat) : Room := { frames := zyl Y + 1, cells := dz, slots := ds, locals := 12 + (zyL Y + 11) + zwl (zyl Y) }
section ZLM
variable {G : ZG} {p : Program} {e : Env} {R : Room} {s : State} {m : MethodId} {args : Array Value} {below : List Frame} {meth : Method} {c : Code} {T : State} {locs : List Loc} {cells slots : Nat}
/-- the forwarder's frame: 'hpre' brings it to its call -/
theorem lam_run {Y' : ZY} {vs : List ZV} {μ ν : ZM} {o : ZO} (hM : zmet G Y' vs μ o ν) (hgok : zgok G) (X : Stand p (zgl G) e R s m args below meth c T locs cells slots) (hexec : p.tables.exec = Jvm.exec) {g : JFrame} (hg : g.method = m) (hsize : g.locals.size = c.maxLocals) {ig : Instr} {len : Nat} (hdg : decode c.code g.pc = .ok (ig, len))
    {mk : MethodId} {methk : Method} {ck : Code} (args' : Array Value) (hmk : T.vm.method? mk = some methk) (hck : methk.code = some ck) (hml : ck.maxLocals = 2) (hlk : methk.locks = false) (hpk : T.plainMethod mk) (hretk : methk.sig.returnType = some .int) (htab : ck.exceptionTable.toList = [])
    {ipc idx : Nat} (hd1 : decode ck.code ipc = .ok (.invokestatic idx, 3)) (hd2 : decode ck.code (ipc + 3) = .ok (.ireturn, 1)) {la : Array Slot} (hla : la.size = 2) {t : MethodId} (hn : T.methodNamed? (zyn Y') = some t)
    (hpre : ∀ U : State, Stand p (zgl G) e (lmR Y' (zsz ν - zsz μ) (zsl ν - zsl μ)) (T.calling g mk args') mk args' (.java g :: below) methk ck U [] 0 0 → U.vm = T.vm → U.heap = T.heap → ∀ target, (∀ acts, Steps p.tables e (.java g :: below) (doInvoke e (U.setTop { method := mk, pc := ipc, locals := la, stack := [], locked := none }) acts t (vs.map zc).toArray).1 target) → Steps p.tables e (.java g :: below) (U.setTop (entryFrame mk args' ck.maxLocals)) target)
    (hv : ∀ v, o = .inl v → ∃ x, v = some (vI x)) (hq : ∀ q, o = .inr q → zkc q.1 = true ∧ zpk ν q)
    (hfr : zyl Y' + 2 ≤ R.frames) (hlo : 2 * g.monitorRoom + (g.stack.map fun v => v.category).sum + 13 + (12 + (zyL Y' + 11) + zwl (zyl Y')) ≤ R.locals) (hc : cells + (zsz ν - zsz μ) ≤ R.cells) (hs : slots + (zsl ν - zsl μ) ≤ R.slots)
    (hws : ∀ w ∈ zws Y', ∀ (a' : Array Value) (V : State), s.WarmedH V.vm → w.before a' V = true) (hinit : ∀ (a' : Array Value) (V : State), s.WarmedH V.vm → (Cond.initialized (zyn Y').cls).before a' V = true) (hk : zkk G T) (hfit : zfit G μ T.heap) :
    ∃ (U' : State) (L : List Loc), Stand p (zgl G) e R s m args below meth c U' (locs ++ L) (cells + (zsz ν - zsz μ)) (slots + (zsl ν - zsl μ)) ∧ (∀ z ∈ L, zlo G ≤ z.base) ∧ zfit G ν U'.heap ∧
      ∀ acts, Steps p.tables e below (doInvoke e (T.setTop g) acts mk args').1 (match o with
        | .inl v => U'.setTop { g with pc := g.pc + len, stack := (zvo v).toList ++ g.stack }
        | .inr q => (U'.setTop g).pushFrame (.throwing q.2.2)) := by
  obtain ⟨Y₀, hin⟩ := X.into hg hsize hdg args' (R' := lmR Y' (zsz ν - zsz μ) (zsl ν - zsl μ)) hmk hck hlk hpk (by unfold lmR; dsimp only; omega) (by unfold lmR; dsimp only; rw [hml]; omega) hc hs
  generalize hU : (T.setTop g).pushFrame (.java (entryFrame mk args' ck.maxLocals)) = U at Y₀ hin
  have hvm : U.vm = T.vm := by rw [← hU]; rfl
  have hheap : U.heap = T.heap := by rw [← hU]; rfl
  have hnU : U.methodNamed? (zyn Y') = some t := by rw [← hU]; exact hn
  have hkU : zkk G U := by
    refine ⟨?_, ?_⟩
    · rw [hvm]; exact hk.1
    · rw [hheap]; exact hk.2
  have hfitU : zfit G μ U.heap := by rw [hheap]; exact hfit
  have warm : ∀ {V : State}, (T.calling g mk args').WarmedH V.vm → s.WarmedH V.vm := fun h => State.WarmedH.trans X.warmed h
  cases o with
  | inl v =>
    obtain ⟨U1, L, Y₁, hL, hfit1, hst⟩ := zback hM Y₀ (g := { method := mk, pc := ipc, locals := la, stack := [], locked := none }) (ig := .invokestatic idx) (len := 3) (mk := t) rfl (by rw [hml]; exact hla) hd1 (by show 2 * 0 + 0 ≤ 12; omega) hnU (by unfold lmR; dsimp only; omega) (by unfold lmR; dsimp only; omega) (by unfold lmR; dsimp only; omega) (by unfold lmR; dsimp only; omega) (fun w hw a' V hV => hws w hw a' V (warm hV)) (fun a' V hV => hinit a' V (warm hV)) hkU hfitU
    rw [List.nil_append, Nat.zero_add, Nat.zero_add] at Y₁
    obtain ⟨x, rfl⟩ := hv v rfl
    obtain ⟨fs, hleave, -, hended, hWe, hsame⟩ := Y₁.leave (v := some (.int x)) (fun h => by rw [hretk] at h; cases h) hlk
    obtain ⟨T', X', hW', -, ht⟩ := X.outOf hg hdg hended hWe hsame
    refine ⟨T', L, X', hL, ?_, fun acts => ?_⟩
    · have hh : (U1.setFrames fs).heap = (T'.setTop { g with pc := g.pc + len, stack := (some (Value.int x)).toList ++ g.stack }).heap := by rw [ht]
      have hh' : U1.heap = T'.heap := hh
      rw [← hh']; exact hfit1
    · rw [hin acts]
      show Steps p.tables e below _ (T'.setTop { g with pc := g.pc + len, stack := (some (Value.int x)).toList ++ g.stack })
      rw [← ht]
      refine Steps.weaken (mid := [.java g]) ?_
      refine hpre U Y₀ hvm hheap _ fun acts' => ?_
      rw [doInvoke_state]
      refine Steps.trans hst ?_
      show Steps p.tables e (.java g :: below) (U1.setTop { method := mk, pc := ipc + 3, locals := la, stack := [.int x], locked := none }) _
      jvm_step Y₁.here [Y₁.here.top, hexec, hd2, Y₁.method', hretk, narrow]
      intro acts''
      rw [hleave { method := mk, pc := ipc + 3, locals := la, stack := [], locked := none } acts'' rfl rfl rfl]
      exact Steps.refl _
  | inr q =>
    obtain ⟨U1, L, Y₁, hL, hfit1, hst⟩ := zback hM Y₀ (g := { method := mk, pc := ipc, locals := la, stack := [], locked := none }) (ig := .invokestatic idx) (len := 3) (mk := t) rfl (by rw [hml]; exact hla) hd1 (by show 2 * 0 + 0 ≤ 12; omega) hnU (by unfold lmR; dsimp only; omega) (by unfold lmR; dsimp only; omega) (by unfold lmR; dsimp only; omega) (by unfold lmR; dsimp only; omega) (fun w hw a' V hV => hws w hw a' V (warm hV)) (fun a' V hV => hinit a' V (warm hV)) hkU hfitU
    rw [List.nil_append, Nat.zero_add, Nat.zero_add] at Y₁
    obtain ⟨hz, hpq⟩ := hq q rfl
    obtain ⟨-, ce, c1, c2, c3⟩ := zobj hgok hkU hfit1 hpq hz
    obtain ⟨vm', hWv, Y₂, st⟩ := Y₁.outThrough hlk q.2.2 (g := { method := mk, pc := ipc, locals := la, stack := [], locked := none }) rfl rfl rfl (cell := ce) c1 c2.1.1 (by obtain ⟨k9, h9, -⟩ := Vm.findClass_spec c3; rw [hvm] at h9; exact ⟨k9, h9⟩) (fun z hz' => by rw [htab] at hz'; exact (List.not_mem_nil hz').elim)
    obtain ⟨g₀, hfr2⟩ := Y₂.frames_eq
    have hend : Ended ((U1.setVm vm').setFrames (.throwing q.2.2 :: .java g :: below)) (.java g :: below) (.threw q.2.2) := State.frames_setFrames _ (State.cur_lt_of_frames hfr2)
    have hE9 := Y₂.ends (.throwing q.2.2 :: .java g :: below)
    obtain ⟨T', X', hW', -, ht⟩ := X.outOfThrown hg hend hE9.1 hE9.2
    refine ⟨T', L, X', hL, ?_, fun acts => ?_⟩
    · have hh : ((U1.setVm vm').setFrames (.throwing q.2.2 :: .java g :: below)).heap = ((T'.setTop g).pushFrame (.throwing q.2.2)).heap := by rw [ht]
      have hh' : U1.heap = T'.heap := hh
      rw [← hh']; exact hfit1
    · rw [hin acts]
      show Steps p.tables e below _ ((T'.setTop g).pushFrame (.throwing q.2.2))
      rw [← ht]
      refine Steps.weaken (mid := [.java g]) ?_
      refine hpre U Y₀ hvm hheap _ fun acts' => ?_
      rw [doInvoke_state]
      refine Steps.trans hst ?_
      show Steps p.tables e (.java g :: below) ((U1.setTop { method := mk, pc := ipc, locals := la, stack := [], locked := none }).pushFrame (.throwing q.2.2)) _
      rw [Y₁.pushThrowing_eq]
      exact st
end ZLM
