/-! LAMBDAS, 2: what is known of a made class -/
theorem lam_made {σ : Lambda.Shape} {C : String} {D : ClassFile} {fwd : Method} {bytes : Array UInt8} {idx ci nt n : Nat} (h1 : σ.file C = some D) (h2 : (layoutMethods D).bind (·[1]?) = some fwd) (h3 : (fwd.code.map fun c => (c.code.data, c.maxLocals)) = some (bytes, 2)) (h4 : (fwd.accessFlags, fwd.sig.returnType) = (0x0001, some FieldType.int))
    (h5 : D.constantPool[idx]? = some (.methodref ci nt) ∧ D.constantPool.className? ci = some σ.implClass ∧ D.constantPool.nameAndType? nt = some (σ.implName, σ.implDesc.toString)) (h6 : D.constantPool[ci]? = some (.class_ n) ∧ D.constantPool.string? n = some σ.implClass ∧ ci ≠ D.thisClass)
    {vm : Vm} {d c : ClassId} {dk : Class} (hd : vm.classes[d]? = some dk) (hname : dk.name = C) (h : Lambda.isMade { classPath := fun _ => none } vm d σ c = true) {cO : ClassId} {kO : Class} (hO : vm.findClass "java/lang/Object" = some cO ∧ vm.classes[cO]? = some kO ∧ kO.instanceTypes.size = 0) :
    ∃ (k tk : Class) (file : ClassFile) (methk : Method) (ck : Code) (toy : ClassId) (t : MethodId),
      vm.classes[c]? = some k ∧ k.name = C ++ "$$Lambda" ∧ k.cf = some file ∧ file.constantPool = D.constantPool ∧
      vm.method? ⟨c, 1⟩ = some methk ∧ methk.code = some ck ∧ ck.code.data = bytes ∧ ck.maxLocals = 2 ∧ ck.exceptionTable.toList = [] ∧ methk.locks = false ∧ methk.accessFlags = 0x0001 ∧ methk.sig.returnType = some .int ∧
      vm.findClass σ.implClass = some toy ∧ vm.classes[toy]? = some tk ∧ tk.isInterface = σ.implItf ∧ ((methodIn toy σ.implName σ.implDesc.toString tk.isInterface none).ask { classPath := fun _ => none } vm).1 = .ok t ∧
      vm.methodReady c idx t ∧ vm.classReady c ci toy ∧
      ∀ lay, layoutFields D 0 = some lay → (∀ (i : Nat) a, lay.1[i]? = some a → k.fields[i]? = some a) ∧ k.instanceTypes = lay.2.1 ∧ ∀ (fi ci' nt' j : Nat) (name desc : String), D.constantPool[fi]? = some (.fieldref ci' nt') → D.constantPool.nameAndType? nt' = some (name, desc) → lay.1.findIdx? (·.name == name) = some j → k.resolved[fi]? = some (some (.field c j)) := by
  obtain ⟨dk', k, ok, tk, file, cf, object, iface, toy, lay, methods, target, found, hd', hk, hfile, hcf, hobj, -, hok, hlay, hms, ht, htk, hg, -, hrec, -, -, -, hitf, hpool, hmeth, hfields, ⟨hinst, -⟩, hres, -⟩ := Lambda.isMade_spec h
  cases hd.symm.trans hd'
  rw [hname, h1] at hcf
  cases hcf
  obtain ⟨o1, o2, o3⟩ := hO
  cases hobj.symm.trans o1
  cases hok.symm.trans o2
  rw [o3] at hlay
  have hemp : kO.instanceTypes = #[] := Array.eq_empty_of_size_eq_zero o3
  rw [hms, Option.bind_some] at h2
  obtain ⟨b, hb, hsame⟩ := hmeth 1 fwd h2
  simp only [Lambda.sameMethod, Bool.and_eq_true, decide_eq_true_eq] at hsame
  obtain ⟨⟨hn, -, hsig, hfl⟩, hcode⟩ := hsame
  simp only [Prod.mk.injEq] at h4
  cases hfc : fwd.code with
  | none => rw [hfc] at h3; cases h3
  | some x =>
    cases hbc : b.code with
    | none => simp [hfc, hbc] at hcode
    | some y =>
      simp only [hfc, hbc, Bool.and_eq_true, decide_eq_true_eq] at hcode
      simp only [hfc, Option.map_some, Option.some.injEq, Prod.mk.injEq] at h3
      refine ⟨k, tk, file, b, y, toy, target, hk, by rw [hrec.1, hname], hfile, hpool.2.1, by simp [Vm.method?, hk, hb], hbc, ?_, by rw [← hcode.1.1.1.1.2.1]; exact h3.2, ?_, ?_, by rw [← hfl]; exact h4.1, by rw [← hsig]; exact h4.2, ht, htk, hitf, hg,
        ⟨k, hk, hres idx _ (Lambda.resolvedOf_method h5.1 h5.2.1 ht htk h5.2.2 hg)⟩, ⟨k, hk, hres ci _ (Lambda.resolvedOf_class h6.1 h6.2.2 h6.2.1 ht)⟩, fun lay' hl' => ?_⟩
      · rw [← hcode.1.1.1.1.2.2]
        exact h3.1
      · have := hcode.1.1.2
        simpa using this
      · simp [Method.locks, Method.isSynchronized, ← hfl, h4.1, hasFlag, Acc.synchronized]
      · cases hlay.symm.trans hl'
        exact ⟨hfields, by rw [hinst, hemp]; simp, fun fi ci' nt' j name desc p1 p2 p3 => hres fi _ (Lambda.resolvedOf_field p1 p2 p3)⟩
