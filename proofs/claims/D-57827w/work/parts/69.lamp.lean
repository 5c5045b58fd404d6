/-! LAMBDAS, 3: forwarders up to their call -/
def lmC0 : ByteArray := ⟨#[0x2b, 0xb8, 0x00, 0x11, 0xac]⟩
def lmC1 : ByteArray := ⟨#[0x2a, 0xb4, 0x00, 0x0f, 0x2b, 0xb8, 0x00, 0x17, 0xac]⟩
def lmC2 : ByteArray := ⟨#[0x2a, 0xb4, 0x00, 0x10, 0x2a, 0xb4, 0x00, 0x12, 0x2b, 0xb8, 0x00, 0x1a, 0xac]⟩
theorem dlm0_0 : decode lmC0 0 = .ok (.aload_n 1, 1) := by decide +kernel
theorem dlm0_1 : decode lmC0 1 = .ok (.invokestatic 17, 3) := by decide +kernel
theorem dlm0_4 : decode lmC0 4 = .ok (.ireturn, 1) := by decide +kernel
theorem dlm1_0 : decode lmC1 0 = .ok (.aload_n 0, 1) := by decide +kernel
theorem dlm1_1 : decode lmC1 1 = .ok (.getfield 15, 3) := by decide +kernel
theorem dlm1_4 : decode lmC1 4 = .ok (.aload_n 1, 1) := by decide +kernel
theorem dlm1_5 : decode lmC1 5 = .ok (.invokestatic 23, 3) := by decide +kernel
theorem dlm1_8 : decode lmC1 8 = .ok (.ireturn, 1) := by decide +kernel
theorem dlm2_0 : decode lmC2 0 = .ok (.aload_n 0, 1) := by decide +kernel
theorem dlm2_1 : decode lmC2 1 = .ok (.getfield 16, 3) := by decide +kernel
theorem dlm2_4 : decode lmC2 4 = .ok (.aload_n 0, 1) := by decide +kernel
theorem dlm2_5 : decode lmC2 5 = .ok (.getfield 18, 3) := by decide +kernel
theorem dlm2_8 : decode lmC2 8 = .ok (.aload_n 1, 1) := by decide +kernel
theorem dlm2_9 : decode lmC2 9 = .ok (.invokestatic 26, 3) := by decide +kernel
theorem dlm2_12 : decode lmC2 12 = .ok (.ireturn, 1) := by decide +kernel
section ZLP
variable {p : Program} {l : Launch} {e : Env} {R : Room} {s : State} {mk : MethodId} {below : List Frame} {methk : Method} {ck : Code} {U : State} {a b : Addr} {t : MethodId} {kt : Class} {metht : Method} {cell : Cell} {f1 f2 : Field} {x1 x2 : Int32} {target : State}
theorem lam_pre0 (Y₀ : Stand p l e R s mk #[.ref a, .ref b] below methk ck U [] 0 0) (hexec : p.tables.exec = Jvm.exec) (hbytes : ck.code = lmC0) (hml : ck.maxLocals = 2)
    (href : plainRef U e mk.cls 17) (hready : U.vm.methodReady mk.cls 17 t) (hkt : U.vm.classes[t.cls]? = some kt) (hmt : U.vm.method? t = some metht) (hpoly : signaturePolymorphic kt metht = false) (hstatic : metht.isStatic = true) (hinit : kt.init = .initialized) (hpar : metht.sig.parameters.length = 1)
    (hrest : ∀ acts, Steps p.tables e below (doInvoke e (U.setTop { method := mk, pc := 1, locals := #[.val (.ref a), .val (.ref b)], stack := [], locked := none }) acts t #[.ref b]).1 target) : Steps p.tables e below (U.setTop (entryFrame mk #[.ref a, .ref b] ck.maxLocals)) target := by
  have hloc : entryFrame mk #[.ref a, .ref b] ck.maxLocals = { method := mk, pc := 0, locals := #[.val (.ref a), .val (.ref b)], stack := [], locked := none } := by rw [hml]; rfl
  rw [hloc]
  have hs : U.topJava?.isSome := Y₀.here.top
  jvm_step Y₀.here [hexec, hbytes, dlm0_0, Value.isRef]
  jvm_step Y₀.here [hexec, hbytes, dlm0_1, invokestatic.wp_ready (e := e) (s := U) (m := t) (k := kt) (meth := metht) (args := [.ref b]) (rest := [])
    (f := { method := mk, pc := 1, locals := #[.val (.ref a), .val (.ref b)], stack := [.ref b], locked := none }) hs href hready hkt hmt hpoly hstatic hinit hpar.symm rfl]
  intro acts'
  exact hrest acts'
theorem lam_pre1 (Y₀ : Stand p l e R s mk #[.ref a, .ref b] below methk ck U [] 0 0) (hexec : p.tables.exec = Jvm.exec) (hbytes : ck.code = lmC1) (hml : ck.maxLocals = 2)
    (hcell : U.heap[a]? = some cell) (hknown : cell.vm ≠ .unknown) (hf1 : U.vm.fieldReady mk.cls 15 mk.cls f1) (hf1s : f1.isStatic = false) (hs1 : cell.slots[f1.slot]? = some (.int x1))
    (href : plainRef U e mk.cls 23) (hready : U.vm.methodReady mk.cls 23 t) (hkt : U.vm.classes[t.cls]? = some kt) (hmt : U.vm.method? t = some metht) (hpoly : signaturePolymorphic kt metht = false) (hstatic : metht.isStatic = true) (hinit : kt.init = .initialized) (hpar : metht.sig.parameters.length = 2)
    (hrest : ∀ acts, Steps p.tables e below (doInvoke e (U.setTop { method := mk, pc := 5, locals := #[.val (.ref a), .val (.ref b)], stack := [], locked := none }) acts t #[.int x1, .ref b]).1 target) : Steps p.tables e below (U.setTop (entryFrame mk #[.ref a, .ref b] ck.maxLocals)) target := by
  have hloc : entryFrame mk #[.ref a, .ref b] ck.maxLocals = { method := mk, pc := 0, locals := #[.val (.ref a), .val (.ref b)], stack := [], locked := none } := by rw [hml]; rfl
  rw [hloc]
  have hs : U.topJava?.isSome := Y₀.here.top
  jvm_step Y₀.here [hexec, hbytes, dlm1_0, Value.isRef]
  jvm_step Y₀.here [hexec, hbytes, dlm1_1, getfield.wp_ready (e := e) (s := U) (c := mk.cls) (field := f1) (a := a) (rest := []) (cell := cell) (v := .int x1)
    (f := { method := mk, pc := 1, locals := #[.val (.ref a), .val (.ref b)], stack := [.ref a], locked := none }) hs hf1 hf1s rfl hcell hknown hs1]
  jvm_step Y₀.here [hexec, hbytes, dlm1_4, Value.isRef]
  jvm_step Y₀.here [hexec, hbytes, dlm1_5, invokestatic.wp_ready (e := e) (s := U) (m := t) (k := kt) (meth := metht) (args := [.int x1, .ref b]) (rest := [])
    (f := { method := mk, pc := 5, locals := #[.val (.ref a), .val (.ref b)], stack := [.ref b, .int x1], locked := none }) hs href hready hkt hmt hpoly hstatic hinit hpar.symm rfl]
  intro acts'
  exact hrest acts'
theorem lam_pre2 (Y₀ : Stand p l e R s mk #[.ref a, .ref b] below methk ck U [] 0 0) (hexec : p.tables.exec = Jvm.exec) (hbytes : ck.code = lmC2) (hml : ck.maxLocals = 2)
    (hcell : U.heap[a]? = some cell) (hknown : cell.vm ≠ .unknown) (hf1 : U.vm.fieldReady mk.cls 16 mk.cls f1) (hf1s : f1.isStatic = false) (hs1 : cell.slots[f1.slot]? = some (.int x1)) (hf2 : U.vm.fieldReady mk.cls 18 mk.cls f2) (hf2s : f2.isStatic = false) (hs2 : cell.slots[f2.slot]? = some (.int x2))
    (href : plainRef U e mk.cls 26) (hready : U.vm.methodReady mk.cls 26 t) (hkt : U.vm.classes[t.cls]? = some kt) (hmt : U.vm.method? t = some metht) (hpoly : signaturePolymorphic kt metht = false) (hstatic : metht.isStatic = true) (hinit : kt.init = .initialized) (hpar : metht.sig.parameters.length = 3)
    (hrest : ∀ acts, Steps p.tables e below (doInvoke e (U.setTop { method := mk, pc := 9, locals := #[.val (.ref a), .val (.ref b)], stack := [], locked := none }) acts t #[.int x1, .int x2, .ref b]).1 target) : Steps p.tables e below (U.setTop (entryFrame mk #[.ref a, .ref b] ck.maxLocals)) target := by
  have hloc : entryFrame mk #[.ref a, .ref b] ck.maxLocals = { method := mk, pc := 0, locals := #[.val (.ref a), .val (.ref b)], stack := [], locked := none } := by rw [hml]; rfl
  rw [hloc]
  have hs : U.topJava?.isSome := Y₀.here.top
  jvm_step Y₀.here [hexec, hbytes, dlm2_0, Value.isRef]
  jvm_step Y₀.here [hexec, hbytes, dlm2_1, getfield.wp_ready (e := e) (s := U) (c := mk.cls) (field := f1) (a := a) (rest := []) (cell := cell) (v := .int x1)
    (f := { method := mk, pc := 1, locals := #[.val (.ref a), .val (.ref b)], stack := [.ref a], locked := none }) hs hf1 hf1s rfl hcell hknown hs1]
  jvm_step Y₀.here [hexec, hbytes, dlm2_4, Value.isRef]
  jvm_step Y₀.here [hexec, hbytes, dlm2_5, getfield.wp_ready (e := e) (s := U) (c := mk.cls) (field := f2) (a := a) (rest := [.int x1]) (cell := cell) (v := .int x2)
    (f := { method := mk, pc := 5, locals := #[.val (.ref a), .val (.ref b)], stack := [.ref a, .int x1], locked := none }) hs hf2 hf2s rfl hcell hknown hs2]
  jvm_step Y₀.here [hexec, hbytes, dlm2_8, Value.isRef]
  jvm_step Y₀.here [hexec, hbytes, dlm2_9, invokestatic.wp_ready (e := e) (s := U) (m := t) (k := kt) (meth := metht) (args := [.int x1, .int x2, .ref b]) (rest := [])
    (f := { method := mk, pc := 9, locals := #[.val (.ref a), .val (.ref b)], stack := [.ref b, .int x2, .int x1], locked := none }) hs href hready hkt hmt hpoly hstatic hinit hpar.symm rfl]
  intro acts'
  exact hrest acts'
end ZLP
