set_option maxRecDepth 100000
/-! LAMBDAS, 5: the call of a made object -/
def lmX : MethodName := ⟨"EchoFair$Operation", "apply", "(LEchoFair$State;)I"⟩
section ZLC
variable {G : ZG} {Y : ZY} {pc : Nat} {ls : List (Nat × ZV)} {st : List ZV} {μ : ZM} {Q : Option ZV → ZM → Prop} {E : ZP → ZM → Prop}
theorem lam_iface (hg : zgok G) {s : State} (hk : zkk G s) : ∃ (r0 : MethodId) (r : Method) (cL : ClassId) (kL : Class), s.methodNamed? lmX = some r0 ∧ s.vm.method? r0 = some r ∧ r.isStatic = false ∧ r0.cls = cL ∧ s.vm.findClass "EchoFair$Operation" = some cL ∧ s.vm.classes[cL]? = some kL ∧ kL.isInterface = true ∧ s.methodFound? lmX.cls lmX.name lmX.desc = some r0 ∧ r.name = "apply" ∧ r.desc = "(LEchoFair$State;)I" ∧ parseMethodDescriptor lmX.desc = some r.sig := by
  have hA := hk.1.alike
  obtain ⟨r0, r, hn, hrm, hstR, hsigR⟩ := Cond.declares_spec (hg.1 _ q2943)
  obtain ⟨cL, kL, r1, hcL, hkL, hiL, hfoundL, hn1⟩ := Cond.interfaceMethod_spec (hg.1 _ q2942)
  cases hn.symm.trans hn1
  have hr0cls : r0.cls = cL := Option.some.inj ((findClass_of_methodNamed hn).symm.trans hcL)
  obtain ⟨hnameR, hdescR⟩ := name_of_methodNamed hn hrm
  obtain ⟨kL', hkL', he⟩ := hA.2.2 _ _ hkL
  refine ⟨r0, r, cL, kL', ?_, by rw [hA.method?]; exact hrm, hstR, hr0cls, by rw [hA.findClass]; exact hcL, hkL', by rw [he]; exact hiL, ?_, hnameR, hdescR, hsigR⟩
  · have := State.methodNamed?_setVm (s := zgs G) hA lmX
    exact this.trans hn
  · have := State.methodFound?_setVm (s := zgs G) hA lmX.cls lmX.name lmX.desc
    exact this.trans hfoundL
/-- a made object's cell -/
theorem lam_no : ∀ k, k < 14 → zci (300 + k) = none ∧ zel (300 + k) = none := by
  intro k hk
  exact (by decide : ∀ k : Fin 14, zci (300 + k.val) = none ∧ zel (300 + k.val) = none) ⟨k, hk⟩
theorem lam_cell {H : Heap} {k n a : Nat} (hk : k < 14) (hF : zfit G μ H) (hq : zpk μ (300 + k, n, a)) : ∃ cell : Cell, H[a]? = some cell ∧ cell.cls = zgL G (300 + k) ∧ cell.vm = .none ∧ ∀ j, j < n → cell.slots[j]? = some (.int (zai μ a j)) := by
  obtain ⟨h1, h2⟩ := hq.lt (by show 300 + k ≠ 0; omega) (by show 300 + k ≠ 251; omega)
  have h3 := hF.2.2.2.1 a h1
  have h2' : ztg μ a = (300 + k, n) := h2
  obtain ⟨n1, n2⟩ := lam_no k hk
  rw [h2'] at h3
  unfold zcell at h3
  rw [n1] at h3
  dsimp only at h3
  rw [if_pos (Or.inr (by omega))] at h3
  obtain ⟨cell, c1, c2, c3, c4, c5⟩ := h3
  rw [if_pos (by omega)] at c2
  refine ⟨cell, c1, c2, c3.2 (Or.inr (by omega)), fun j hj => ?_⟩
  rw [c5 j hj]
  unfold zav
  rw [n2]
/-- the class of a site, at a state -/
theorem lam_at (hg : zgok G) {V : State} (hk : (zgs G).WarmedH V.vm) (hts : ∀ (a : Array Value) (w), w ∈ lw_all → w.before a V = true) {k n : Nat} {Y' : ZY} (h : zlmI[k]? = some (Y', n)) (e : Env) :
    ∃ (kk tk : Class) (methk : Method) (ck : Code) (t : MethodId) (metht : Method), V.vm.classes[zgL G (300 + k)]? = some kk ∧ kk.instanceTypes = Array.replicate n .int ∧ V.vm.method? ⟨zgL G (300 + k), 1⟩ = some methk ∧ methk.code = some ck ∧ ck.code = lmB n ∧ ck.maxLocals = 2 ∧ ck.exceptionTable.toList = [] ∧ methk.locks = false ∧ methk.accessFlags = 0x0001 ∧ methk.sig.returnType = some .int ∧
      V.plainMethod ⟨zgL G (300 + k), 1⟩ ∧ V.methodNamed? (zyn Y') = some t ∧ V.vm.classes[t.cls]? = some tk ∧ V.vm.method? t = some metht ∧ signaturePolymorphic tk metht = false ∧ metht.isStatic = true ∧ tk.init = .initialized ∧ metht.sig.parameters.length = n + 1 ∧
      plainRef V e (zgL G (300 + k)) (lmIx n) ∧ V.vm.methodReady (zgL G (300 + k)) (lmIx n) t ∧ (∀ j, j < n → ∃ f, V.vm.fieldReady (zgL G (300 + k)) (lmFi n j) (zgL G (300 + k)) f ∧ f.isStatic = false ∧ f.slot = j) := by
  obtain ⟨hk14, hn3, x, hx, hchk, hzyn, hzyc, hstat, hsig, -, -, -⟩ := lmG_at h
  obtain ⟨one, hat, -⟩ := hg.2.2.2.2.2.2.2.2.1 k x hx
  obtain ⟨mD, kD, cfD, i0, p0, lk, hmD, hkD, -, -, -, -, hmade, -, -⟩ := State.lambdaAt?_spec hat
  obtain ⟨kD', hkD', hnameD⟩ := className_of_methodNamed hmD
  cases hkD.symm.trans hkD'
  have hA := hk.alike
  obtain ⟨kD₁, hkD₁, heD₁⟩ := hA.2.2 _ _ hkD
  have hnameD₁ : kD₁.name = x.1.cls := by rw [heD₁]; exact hnameD
  obtain ⟨D, fwd, lay, m5, e1, e2, e3, e4, e5, e6, e7, e8, e9⟩ := lmChk_spec hchk
  obtain ⟨cO, kO, hfO, hkO, -, -, -, hsz⟩ := Cond.instantiable_spec (hts #[] _ q4672)
  obtain ⟨kk, tk, file, methk, ck, toy, t, g1, g2, g3, g4, g5, g6, g7, g8, g9, g10, g11, g12, g13, g14, g15, g16, g17, g18, g19⟩ := lam_made e1 e2 e3 e4 e5 e6 hkD₁ hnameD₁ (Lambda.isMade_warmer hk hmade) ⟨hfO, hkO, hsz⟩
  obtain ⟨f1, f2, f3⟩ := g19 lay e7
  obtain ⟨mY, methY, cY, y1, y2, -, -, y3⟩ := zmet_code (a := #[]) (hts #[] _ hzyc.1)
  obtain ⟨kY, hkY, hnameY⟩ := className_of_methodNamed y1
  have hfY := findClass_of_methodNamed y1
  have hcls : (zyn Y').cls = x.2.2.2.implClass := by rw [hzyn]
  rw [hcls] at hfY
  cases g13.symm.trans hfY
  cases g14.symm.trans hkY
  have ht : t = mY := by
    have h1 := State.methodFound?_of_named y1 hzyc.2.2.2.1
    rw [hzyn] at h1
    simp only [State.methodFound?, g13, g14, Option.bind_eq_bind, Option.bind_some] at h1
    rw [g16] at h1
    exact Option.some.inj h1
  subst ht
  have hsp : ∀ y : Method, signaturePolymorphic tk y = false := fun y => by
    have := hzyc.2.2.2.1
    have hn : tk.name = (zyn Y').cls := hnameY
    simp [signaturePolymorphic, hn, this.1, this.2]
  obtain ⟨b, hmem⟩ := memberRef_ask' (e := e) (vm := V.vm) (d := zgL G (300 + k)) (index := lmIx n) g1 g3 (Or.inl (by rw [g4]; exact e5.1)) (by rw [g4]; exact e5.2.2)
  obtain ⟨sig, hsg⟩ := Option.isSome_iff_exists.mp hsig
  refine ⟨kk, tk, methk, ck, t, methY, g1, by rw [f2, e8], g5, g6, ByteArray.ext g7, g8, g9, g10, g11, g12, ?_, y1, g14, y2, hsp _, Cond.static_spec y1 y2 (hts #[] _ hstat), Cond.initialized_spec (findClass_of_methodNamed y1) g14 (hts #[] _ hzyc.2.1), ?_, ⟨lmCi n, _, _, b, t.cls, tk, hmem, g18, g14, by simp [hsp]⟩, g17, fun j hj => ?_⟩
  · refine State.plainMethod.of_name fun k' hk' => ?_
    cases (show V.vm.classes[zgL G (300 + k)]? = some k' from hk').symm.trans g1
    rw [g2]
    have : ∀ x ∈ zlmT, (plainFor ⟨x.1.cls ++ "$$Lambda", "", ""⟩ : Bool) = plainFor ⟨x.1.cls ++ "$$Lambda", "", ""⟩ := fun _ _ => rfl
    have hc : x.1.cls = "EchoFair" ∨ x.1.cls = "EchoFair$Parser" := by
      have hh := (by decide +kernel : ∀ x ∈ zlmT, x.1.cls = "EchoFair" ∨ x.1.cls = "EchoFair$Parser")
      exact hh x (List.mem_of_getElem? hx)
    rcases hc with hc | hc <;> rw [hc] <;> decide
  · rw [y3 sig hsg]; exact (znp_of hzyc.2.2.1 sig hsg).symm
  · obtain ⟨a, b', nm, ds, f, p1, p2, p3, p4, p5, p6⟩ := lmFld_spec (e9 j hj)
    exact ⟨f, ⟨kk, j, kk, g1, f3 _ _ _ _ _ _ p1 p2 p3, g1, f1 _ _ p4⟩, p6, p5⟩
end ZLC
