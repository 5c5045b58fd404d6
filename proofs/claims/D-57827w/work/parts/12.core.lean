/-! THE OWN LAYER, 3: when memory stands for a heap; methods; calls; the judgement Wp -/
/-- launch, the start's state, the script's address, numbers of classes, of their slots, of array classes, of made classes, statics' values -/
abbrev ZG : Type := Launch × State × Nat × (Nat → ClassId) × (Nat → Nat → Nat) × (Nat → ClassId) × (Nat → ClassId) × (Nat → ZP)
def zgl (G : ZG) : Launch := G.1
def zgs (G : ZG) : State := G.2.1
def zgb (G : ZG) : Nat := G.2.2.1
def zgC (G : ZG) : Nat → ClassId := G.2.2.2.1
def zgI (G : ZG) : Nat → Nat → Nat := G.2.2.2.2.1
def zgA (G : ZG) : Nat → ClassId := G.2.2.2.2.2.1
def zgL (G : ZG) : Nat → ClassId := G.2.2.2.2.2.2.1
def zgS (G : ZG) : Nat → ZP := G.2.2.2.2.2.2.2
def zlo (G : ZG) : Nat := (zgs G).heap.size
/-- what a field holds in the machine -/
def zfv (μ : ZM) (f a : Nat) : Value := match zfk f with
  | 0 => .int (zfi μ f a)
  | 1 => zcp (zfr μ f a)
  | _ => .float (zfi μ f a).toUInt32
/-- what an array's place holds in the machine -/
def zav (t : Nat) (μ : ZM) (a j : Nat) : Value := match zel t with
  | some .long => .long (zal μ a j)
  | some (.object _) => zcp (zar μ a j)
  | _ => .int (zai μ a j)
/-- what the VM knows of a cell: nothing, where the run has made it -/
def zvm (t : Nat) (cell : Cell) : Prop := (cell.vm.isStatics = false ∧ cell.vm ≠ .unknown) ∧ (zdyn t = true ∨ 300 ≤ t → cell.vm = .none)
theorem zvm.of {t : Nat} {cell : Cell} (h : cell.vm = .none) : zvm t cell := ⟨⟨by rw [h]; rfl, by rw [h]; exact fun h => by cases h⟩, fun _ => h⟩
theorem zvm_kn {t : Nat} {cell : Cell} (h : zvm t cell) : cell.vm ≠ .unknown := h.1.2
theorem zvm_st {t : Nat} {cell : Cell} (h : zvm t cell) : ∀ k, cell.vm ≠ .statics k := fun k e => by
  have h1 := h.1.1
  rw [e] at h1; cases h1
def zOB (t o : Nat) (cC : ClassId) (N : Nat) (iS : Nat → Nat) (H : Heap) (V : Nat → Value) : Prop :=
  ∃ cell : Cell, H[o]? = some cell ∧ cell.cls = cC ∧ zvm t cell ∧ ∀ k, k < N → cell.slots[iS k]? = some (V k)
theorem zOB.kept {t o : Nat} {cC : ClassId} {N : Nat} {iS : Nat → Nat} {H H1 : Heap} {V : Nat → Value} (h : zOB t o cC N iS H V) (h1 : H1[o]? = H[o]?) : zOB t o cC N iS H1 V := by
  obtain ⟨cell, q, r⟩ := h
  exact ⟨cell, by rw [h1]; exact q, r⟩
theorem zOB.to {t o : Nat} {cC : ClassId} {N : Nat} {iS : Nat → Nat} {H : Heap} {V V' : Nat → Value} (h : zOB t o cC N iS H V) (hv : ∀ k, k < N → V k = V' k) : zOB t o cC N iS H V' := by
  obtain ⟨cell, q, r1, r2, r3⟩ := h
  exact ⟨cell, q, r1, r2, fun k hk => by rw [← hv k hk]; exact r3 k hk⟩
theorem t_OB.z {o : Nat} {cC : ClassId} {N : Nat} {iS : Nat → Nat} {H : Heap} {V : Nat → Value} (t : Nat) (h : t_OB o cC N iS H V) : zOB t o cC N iS H V := by
  obtain ⟨cell, q, r1, r2, r3⟩ := h
  exact ⟨cell, q, r1, zvm.of r2, r3⟩
/-- a cell as its tag says -/
def zcell (G : ZG) (μ : ZM) (H : Heap) (a t n : Nat) : Prop := match zci t with
  | some ci => ∃ r : vw_C, zCl[ci]? = some r ∧ zOB t a (zgC G ci) r.2.2 (zgI G ci) H (fun k => zfv μ (zfc ci k) a)
  | none => if (zel t).isSome ∨ 300 ≤ t then ∃ cell : Cell, H[a]? = some cell ∧ cell.cls = (if 300 ≤ t then zgL G t else zgA G t) ∧ zvm t cell ∧ cell.slots.size = n ∧ ∀ j, j < n → cell.slots[j]? = some (zav t μ a j) else True
/-- the tags of arrays but those of which only the kind of class is known -/
def zelN (t : Nat) : Option FieldType := if t = 207 ∨ t = 209 then none else zel t
theorem zelN_sp {t : Nat} {ty : FieldType} (h : zelN t = some ty) : zel t = some ty ∧ t ≠ 207 ∧ t ≠ 209 := by
  unfold zelN at h
  split at h
  · cases h
  · exact ⟨h, fun e => by omega, fun e => by omega⟩
/-- memory stands for the heap -/
def zfit (G : ZG) (μ : ZM) (H : Heap) : Prop := H.size = zsz μ ∧ zlo G ≤ zsz μ ∧ (∀ a, a < zlo G → H[a]? = (zgs G).heap[a]?) ∧ (∀ a, a < zsz μ → zcell G μ H a (ztg μ a).1 (ztg μ a).2) ∧ ∀ a, a < zsz μ → zdyn (ztg μ a).1 = true → zlo G ≤ a
/-- the start's state behind a state: its tables warmer -/
def zkk (G : ZG) (U : State) : Prop := (zgs G).WarmedH U.vm ∧ ∀ a, a < zlo G → U.heap[a]? = (zgs G).heap[a]?
/-- what the numbers of a world are -/
def zgok (G : ZG) : Prop := (∀ w ∈ lw_tbl, w.before #[Value.ref (zgb G)] (zgs G) = true) ∧ (zgl G).flags = flags0 ∧ (Cond.and given_1 narrow_1).before #[Value.ref (zgb G)] (zgs G) = true
  ∧ (∀ (ci : Nat) (r : vw_C), zCl[ci]? = some r → u_Kn (zgs G) r.1 r.2.1 r.2.2 (zgC G ci) (zgI G ci))
  ∧ (∀ (t : Nat) (ty : FieldType), zel t = some ty → ∃ (kA : Class) (comp : ClassId), (zgs G).vm.classes[zgA G t]? = some kA ∧ kA.kind = .array comp ty ∧ (t ≠ 207 → t ≠ 209 → (zgs G).vm.findClass ("[" ++ ty.toString) = some (zgA G t)) ∧ (t ≠ 207 → t ≠ 209 → ∀ C, ty = .object C → (zgs G).vm.findClass C = some comp))
  ∧ (∀ (k : Nat) (x : String × String × String), zstT[k]? = some x → va_Z x.1 x.2.1 x.2.2 (zcp (zgS G k)) (fun a => zlo G ≤ a) (zgs G) (zgs G).heap)
  ∧ (∀ (k : Nat) (x : String × String × String × Int32), zsiT[k]? = some x → va_Z x.1 x.2.1 x.2.2.1 (.int x.2.2.2) (fun a => zlo G ≤ a) (zgs G) (zgs G).heap)
  ∧ (∀ (k : Nat) (x : String × Nat × Nat), zsrT[k]? = some x → vk_R x.1 x.2.1 (ztx.getD x.2.2 "") (zgS G (100 + x.2.2)).2.2 (zgs G) ∧ (zgS G (100 + x.2.2)).1 = 123)
  ∧ (∀ (k : Nat) (x : MethodName × Nat × Nat × Jvm.Lambda.Shape), zlmT[k]? = some x → ∃ one, (zgs G).lambdaAt? x.1 x.2.1 x.2.2.1 x.2.2.2 = some (zgL G (300 + k), one) ∧ ∀ a, one = some a → zgS G (200 + k) = (300 + k, 0, a))
  ∧ (∀ x ∈ zncT, va_Nc x.1 x.2 (zgs G))
  ∧ vx_Zq Bundle.tN "UNASSIGNED_STACK" Bundle.steD (fun a => zlo G ≤ a) (zgs G) (zgs G).heap ∧ vx_Zq Bundle.tN "SUPPRESSED_SENTINEL" Bundle.listD (fun a => zlo G ≤ a) (zgs G) (zgs G).heap
/-- the statics' values are known to memory -/
def zst (G : ZG) (μ : ZM) : Prop := ∀ n, zpk μ (zgS G n)
def zgd (G : ZG) (μ : ZM) : Prop := zok μ ∧ zst G μ
theorem zst.ext {G : ZG} {μ ν : ZM} (h : zext μ ν) (k : zst G μ) : zst G ν := fun n => (k n).ext h
/-- two memories agree at an address -/
def zsame (μ ν : ZM) (a : Nat) : Prop := (∀ f, zfi ν f a = zfi μ f a) ∧ (∀ f, zfr ν f a = zfr μ f a) ∧ (∀ j, zai ν a j = zai μ a j) ∧ (∀ j, zar ν a j = zar μ a j) ∧ ∀ j, zal ν a j = zal μ a j
theorem zsame.rf (μ : ZM) (a : Nat) : zsame μ μ a := ⟨fun _ => rfl, fun _ => rfl, fun _ => rfl, fun _ => rfl, fun _ => rfl⟩
theorem zsame.trans {μ ν ρ : ZM} {a : Nat} (h : zsame μ ν a) (k : zsame ν ρ a) : zsame μ ρ a :=
  ⟨fun f => (k.1 f).trans (h.1 f), fun f => (k.2.1 f).trans (h.2.1 f), fun j => (k.2.2.1 j).trans (h.2.2.1 j), fun j => (k.2.2.2.1 j).trans (h.2.2.2.1 j), fun j => (k.2.2.2.2 j).trans (h.2.2.2.2 j)⟩
theorem zfv_same {μ ν : ZM} {a : Nat} (h : zsame μ ν a) (f : Nat) : zfv ν f a = zfv μ f a := by
  unfold zfv; rw [h.1, h.2.1]
theorem zav_same {μ ν : ZM} {a : Nat} (h : zsame μ ν a) (t j : Nat) : zav t ν a j = zav t μ a j := by
  unfold zav; rw [h.2.2.1, h.2.2.2.1, h.2.2.2.2]
theorem zcell_same {G : ZG} {μ ν : ZM} {H H' : Heap} {a t n : Nat} (h : zsame μ ν a) (hH : H'[a]? = H[a]?) (k : zcell G μ H a t n) : zcell G ν H' a t n := by
  unfold zcell at k ⊢
  cases hc : zci t with
  | some ci =>
    rw [hc] at k
    obtain ⟨r, h1, h2⟩ := k
    exact ⟨r, h1, (h2.kept hH).to fun k _ => (zfv_same h _).symm⟩
  | none =>
    rw [hc] at k
    dsimp only at k ⊢
    split at k
    · obtain ⟨cell, h1, h2, h3, h4, h5⟩ := k
      rw [if_pos (by assumption)]
      exact ⟨cell, by rw [hH]; exact h1, h2, h3, h4, fun j hj => by rw [h5 j hj, zav_same h]⟩
    · rw [if_neg (by assumption)]; trivial
/-- a method: name, code, locals, what it returns, handlers, height -/
abbrev ZY : Type := MethodName × ByteArray × Nat × Option FieldType × Option (List (Nat × Nat × Nat × Nat)) × Nat
def zyn (Y : ZY) : MethodName := Y.1
def zyb (Y : ZY) : ByteArray := Y.2.1
def zyL (Y : ZY) : Nat := Y.2.2.1
def zyr (Y : ZY) : Option FieldType := Y.2.2.2.1
def zyh (Y : ZY) : Option (List (Nat × Nat × Nat × Nat)) := Y.2.2.2.2.1
def zyl (Y : ZY) : Nat := Y.2.2.2.2.2
/-- the word of its code -/
def zcw (Y : ZY) : Cond := match zyh Y with
  | none => .code (zyn Y) (zyb Y) (zyL Y) (zyr Y)
  | some hh => .codeWith (zyn Y) (zyb Y) (zyL Y) (zyr Y) hh
abbrev zws (Y : ZY) : List Cond := zcw Y :: lw_all
/-- the words of stack for height n -/
def zwl (n : Nat) : Nat := 4096 + 600 * n
def zrm (Y : ZY) (dz ds : Nat) : Room := { frames := zyl Y, cells := dz, slots := ds, locals := zwl (zyl Y) }
/-- how a method ends: with a value or none, or with an exception -/
abbrev ZO : Type := Option ZV ⊕ ZP
def zvo (v : Option ZV) : Option Value := v.map zc
def zend (Q : Option ZV → ZM → Prop) (E : ZP → ZM → Prop) (o : ZO) (ν : ZM) : Prop := match o with
  | .inl v => Q v ν
  | .inr p => E p ν
def zoko (ν : ZM) (o : ZO) : Prop := match o with
  | .inl (some v) => zvk ν v
  | .inl none => True
  | .inr p => zpk ν p ∧ p.1 ≠ 0
/-- the class of a tag of an object -/
def zcn (t : Nat) : String := match zci t with
  | some ci => ((zCl[ci]?).getD ("", zT0, 0)).1
  | none => ""
/-- how the machine ends it -/
def zoc (o : ZO) : Outcome := match o with
  | .inl v => .returned (zvo v)
  | .inr p => .threw p.2.2
/-- the end in the machine -/
def zQQ (G : ZG) (o : ZO) (ν : ZM) (dz ds : Nat) : Array Value → State → Outcome → State → Prop := fun _ st oc t =>
  oc = zoc o ∧ zfit G ν t.heap ∧ st.WarmedH t.vm ∧ ∃ L : List Loc, st.sameButNew ({ t with vm := st.vm } : State) L dz ds ∧ ∀ z ∈ L, zlo G ≤ z.base
/-- the method Y, called with vs in memory μ, ends with o in memory ν -/
def zmet (G : ZG) (Y : ZY) (vs : List ZV) (μ : ZM) (o : ZO) (ν : ZM) : Prop :=
  MetFree (zgl G) (zyn Y) (headSpec (zws Y) (zrm Y (zsz ν - zsz μ) (zsl ν - zsl μ))) (va_Pc (vs.map zc) (fun U => zkk G U ∧ zfit G μ U.heap)) (fun _ _ _ _ _ => True) (zQQ G o ν (zsz ν - zsz μ) (zsl ν - zsl μ))
/-- A CALL: it ends, so that Q holds of its value, or E of its exception -/
def Call (G : ZG) (Y : ZY) (vs : List ZV) (μ : ZM) (Q : Option ZV → ZM → Prop) (E : ZP → ZM → Prop) : Prop :=
  zgok G → zgd G μ → (∀ v ∈ vs, zvk μ v) → ∃ (o : ZO) (ν : ZM), zend Q E o ν ∧ zext μ ν ∧ zok ν ∧ zoko ν o ∧ zmet G Y vs μ o ν
/-- what holds all through a method's run -/
def zctx (G : ZG) (Y : ZY) (p : Program) (s : State) (m : MethodId) (args : Array Value) (meth : Method) (c : Code) : Prop :=
  p.tables.exec = Jvm.exec ∧ c.code = zyb Y ∧ meth.sig.returnType = zyr Y ∧ meth.locks = false ∧ c.maxLocals = zyL Y ∧ s.vm.findClass (zyn Y).cls = some m.cls ∧ (meth.name = (zyn Y).name ∧ s.methodNamed? (zyn Y) = some m) ∧ (∀ w ∈ lw_all, w.before args s = true) ∧ zkk G s ∧ c.exceptionTable.toList = tableOf ((zyh Y).getD [])
/-- locals in the machine -/
def zlc (ls : List (Nat × ZV)) : List (Nat × Value) := ls.map fun q => (q.1, zc q.2)
/-- from this frame of Y, in memory μ, the method ends with o in memory ν -/
def zsim (G : ZG) (Y : ZY) (pc : Nat) (ls : List (Nat × ZV)) (st : List ZV) (μ : ZM) (o : ZO) (ν : ZM) : Prop :=
  ∀ (p : Program) (e : Env) (R : Room) (s : State) (m : MethodId) (args : Array Value) (below : List Frame) (meth : Method) (c : Code) (H : Heap) (locs : List Loc) (cells slots : Nat) (la : Array Slot),
    zctx G Y p s m args meth c → zfit G μ H → lv_has la (zyL Y) (zlc ls) → (∀ q ∈ locs, zlo G ≤ q.base) → zyl Y ≤ R.frames → zwl (zyl Y) ≤ R.locals → cells + (zsz ν - zsz μ) ≤ R.cells → slots + (zsl ν - zsl μ) ≤ R.slots →
    W p (zgl G) e R s m args below meth c H locs cells slots (fun t => ∃ oc, t.status = .running ∧ Ended t below oc ∧ zQQ G o ν (cells + (zsz ν - zsz μ)) (slots + (zsl ν - zsl μ)) args s oc t) (F0 m pc la (st.map zc))
/-- THE JUDGEMENT: from this frame of Y, in memory μ, the method ends, so that Q holds of its value, or E of its exception -/
def Wp (G : ZG) (Y : ZY) (pc : Nat) (ls : List (Nat × ZV)) (st : List ZV) (μ : ZM) (Q : Option ZV → ZM → Prop) (E : ZP → ZM → Prop) : Prop :=
  zgok G → zgd G μ → (∀ q ∈ ls, zvk μ q.2) → (∀ v ∈ st, zvk μ v) → ∃ (o : ZO) (ν : ZM), zend Q E o ν ∧ zext μ ν ∧ zok ν ∧ zoko ν o ∧ zsim G Y pc ls st μ o ν
/-- values' kinds at a method's end -/
def rI (Q : Int32 → ZM → Prop) : Option ZV → ZM → Prop := fun v μ => ∃ x, v = some (vI x) ∧ Q x μ
def rP (Q : ZP → ZM → Prop) : Option ZV → ZM → Prop := fun v μ => ∃ x, v = some (vP x) ∧ Q x μ
def rF (Q : UInt32 → ZM → Prop) : Option ZV → ZM → Prop := fun v μ => ∃ x, v = some (vF x) ∧ Q x μ
def rD (Q : UInt64 → ZM → Prop) : Option ZV → ZM → Prop := fun v μ => ∃ x, v = some (vD x) ∧ Q x μ
def rV (Q : ZM → Prop) : Option ZV → ZM → Prop := fun v μ => v = none ∧ Q μ
theorem W.mono {p : Program} {l : Launch} {e : Env} {R : Room} {s : State} {m : MethodId} {args : Array Value} {below : List Frame} {meth : Method} {c : Code} {H : Heap} {locs : List Loc} {cells slots : Nat} {Q Q' : State → Prop} {g : JFrame} (h : ∀ t, Q t → Q' t) (k : W p l e R s m args below meth c H locs cells slots Q g) : W p l e R s m args below meth c H locs cells slots Q' g := by
  intro T hT X
  obtain ⟨t, a, b⟩ := k T hT X
  exact ⟨t, a, h t b⟩
theorem Wp.mono {G : ZG} {Y : ZY} {pc : Nat} {ls : List (Nat × ZV)} {st : List ZV} {μ : ZM} {Q Q' : Option ZV → ZM → Prop} {E E' : ZP → ZM → Prop} (k : Wp G Y pc ls st μ Q E) (hQ : ∀ v ν, Q v ν → Q' v ν) (hE : ∀ q ν, E q ν → E' q ν) : Wp G Y pc ls st μ Q' E' := by
  intro h1 h2 h3 h4
  obtain ⟨o, ν, e1, e2⟩ := k h1 h2 h3 h4
  refine ⟨o, ν, ?_, e2⟩
  match o, e1 with
  | .inl v, e1 => exact hQ v ν e1
  | .inr q, e1 => exact hE q ν e1
theorem Call.mono {G : ZG} {Y : ZY} {vs : List ZV} {μ : ZM} {Q Q' : Option ZV → ZM → Prop} {E E' : ZP → ZM → Prop} (k : Call G Y vs μ Q E) (hQ : ∀ v ν, Q v ν → Q' v ν) (hE : ∀ q ν, E q ν → E' q ν) : Call G Y vs μ Q' E' := by
  intro h1 h2 h3
  obtain ⟨o, ν, e1, e2⟩ := k h1 h2 h3
  refine ⟨o, ν, ?_, e2⟩
  match o, e1 with
  | .inl v, e1 => exact hQ v ν e1
  | .inr q, e1 => exact hE q ν e1
/-- memory's order may be assumed -/
theorem Wp.adm {G : ZG} {Y : ZY} {pc : Nat} {ls : List (Nat × ZV)} {st : List ZV} {μ : ZM} {Q : Option ZV → ZM → Prop} {E : ZP → ZM → Prop} (k : zgok G → zgd G μ → (∀ q ∈ ls, zvk μ q.2) → (∀ v ∈ st, zvk μ v) → Wp G Y pc ls st μ Q E) : Wp G Y pc ls st μ Q E := fun h1 h2 h3 h4 => k h1 h2 h3 h4 h1 h2 h3 h4
theorem Call.adm {G : ZG} {Y : ZY} {vs : List ZV} {μ : ZM} {Q : Option ZV → ZM → Prop} {E : ZP → ZM → Prop} (k : zgok G → zgd G μ → (∀ v ∈ vs, zvk μ v) → Call G Y vs μ Q E) : Call G Y vs μ Q E := fun h1 h2 h3 => k h1 h2 h3 h1 h2 h3
/-- behind a call memory is in order, and has grown -/
theorem Call.ok {G : ZG} {Y : ZY} {vs : List ZV} {μ : ZM} {Q : Option ZV → ZM → Prop} {E : ZP → ZM → Prop} (k : Call G Y vs μ (fun v ν => zok ν → zext μ ν → (∀ x, v = some x → zvk ν x) → Q v ν) (fun q ν => zok ν → zext μ ν → zpk ν q → E q ν)) : Call G Y vs μ Q E := by
  intro h1 h2 h3
  obtain ⟨o, ν, e1, e2, e3, e4, e5⟩ := k h1 h2 h3
  refine ⟨o, ν, ?_, e2, e3, e4, e5⟩
  match o, e1, e4 with
  | .inl none, e1, e4 => exact e1 e3 e2 (fun x h => by cases h)
  | .inl (some v), e1, e4 => exact e1 e3 e2 (fun x h => by cases h; exact e4)
  | .inr q, e1, e4 => exact e1 e3 e2 e4.1
section ZB
variable {G : ZG} {p : Program} {e : Env} {R : Room} {s : State} {m : MethodId} {args : Array Value} {below : List Frame} {meth : Method} {c : Code} {U : State} {Ls : List Loc} {c0 s0 : Nat}
theorem zmet_code {Y : ZY} {a : Array Value} {U : State} (h : (zcw Y).before a U = true) : ∃ (mk : MethodId) (methY : Method) (cY : Code), U.methodNamed? (zyn Y) = some mk ∧ U.vm.method? mk = some methY ∧ methY.code = some cY ∧ cY.maxLocals = zyL Y ∧ ∀ sig, parseMethodDescriptor (zyn Y).desc = some sig → methY.sig = sig := by
  unfold zcw at h
  cases hh : zyh Y with
  | none =>
    rw [hh] at h
    obtain ⟨mk, hnamed⟩ := Cond.code_named h
    obtain ⟨methM, cM, hmethM, h2, h3, h4, h5, h6, h7, h8⟩ := Cond.code_spec hnamed h
    exact ⟨mk, methM, cM, hnamed, hmethM, h2, h4, fun sig hs => by rw [h8] at hs; exact Option.some.inj hs⟩
  | some hhs =>
    rw [hh] at h
    obtain ⟨mk, methM, cM, hnamed, hmethM, h2, h3, h4, h5, h6, h7, h8⟩ := Cond.codeWith_spec h
    exact ⟨mk, methM, cM, hnamed, hmethM, h2, h4, fun sig hs => by rw [h8] at hs; exact Option.some.inj hs⟩
/-- a call out of a frame: the machine's part (follows vx_back) -/
theorem zback {Y : ZY} {vs : List ZV} {μ ν : ZM} {o : ZO} (hM : zmet G Y vs μ o ν) (X : Stand p (zgl G) e R s m args below meth c U Ls c0 s0) {g : JFrame} {ig : Instr} {len : Nat} {mk : MethodId} (hg : g.method = m) (hsize : g.locals.size = c.maxLocals) (hdg : decode c.code g.pc = .ok (ig, len))
    (hW : 2 * g.monitorRoom + (g.stack.map fun v => v.category).sum ≤ 12) (hn : U.methodNamed? (zyn Y) = some mk) (hfr : zyl Y + 1 ≤ R.frames) (hlo : 12 + (zyL Y + 11) + zwl (zyl Y) ≤ R.locals) (hc : c0 + (zsz ν - zsz μ) ≤ R.cells) (hs : s0 + (zsl ν - zsl μ) ≤ R.slots)
    (hws : ∀ w ∈ zws Y, ∀ (a' : Array Value) (V : State), s.WarmedH V.vm → w.before a' V = true) (hinit : ∀ (a' : Array Value) (V : State), s.WarmedH V.vm → (Cond.initialized (zyn Y).cls).before a' V = true) (hk : zkk G U) (hfit : zfit G μ U.heap) :
    ∃ (U' : State) (L : List Loc), Stand p (zgl G) e R s m args below meth c U' (Ls ++ L) (c0 + (zsz ν - zsz μ)) (s0 + (zsl ν - zsl μ)) ∧ (∀ z ∈ L, zlo G ≤ z.base) ∧ zfit G ν U'.heap ∧
      Steps p.tables e below (doInvoke e (U.setTop g) [] mk (vs.map zc).toArray).1 (match o with
        | .inl v => U'.setTop { g with pc := g.pc + len, stack := (zvo v).toList ++ g.stack }
        | .inr q => (U'.setTop g).pushFrame (.throwing q.2.2)) := by
  obtain ⟨a, ha⟩ : ∃ a, a = (vs.map zc).toArray := ⟨_, rfl⟩
  rw [← ha]
  have h1 : (headSpec (zws Y) (zrm Y (zsz ν - zsz μ) (zsl ν - zsl μ))).pre.before a U = true := atoms_intro fun w hw => hws w hw _ _ X.warmed
  have h2 : (zcw Y).before a U = true := hws _ List.mem_cons_self _ _ X.warmed
  have h3 : (Cond.initialized (zyn Y).cls).before a U = true := hinit _ _ X.warmed
  obtain ⟨mk', methY, cY, hn', hmY, hcY, hlY, -⟩ := zmet_code h2
  cases Option.some.inj (hn'.symm.trans hn)
  obtain ⟨kY, hkY, -⟩ := className_of_methodNamed hn
  have hinitY : kY.init = .initialized := Cond.initialized_spec (findClass_of_methodNamed hn) hkY h3
  have h : At U g.method c below := by rw [hg]; exact X.here
  have hPc : va_Pc (vs.map zc) (fun U => zkk G U ∧ zfit G μ U.heap) a (U.calling g mk a) := ⟨ha, hk, hfit⟩
  have happ : (headSpec (zws Y) (zrm Y (zsz ν - zsz μ) (zsl ν - zsl μ))).appliesLoose (zyn Y) e.platform (U.calling g mk a) = true :=
    Spec.appliesLoose_calling (g := g) h hdg hn hkY hinitY
      (X.room_calling (g := g) (R' := (headSpec (zws Y) (zrm Y (zsz ν - zsz μ) (zsl ν - zsl μ))).room) hsize hmY hcY hfr (by rw [hlY]; show _ + zwl (zyl Y) ≤ _; omega) hc hs) h1
  obtain ⟨mid, hmid⟩ := h.above
  have hfr : (U.setTop g).frames = (.java g :: mid) ++ below := by rw [State.frames_setTop' g h.top, hmid]; rfl
  obtain ⟨oc, s₂, hsteps, -, hend, hq⟩ := Steps.callFree hM p X.admits X.cas X.clock (acts := []) hfr happ hPc trivial
  rw [State.frames_setTop' g h.top] at hend
  obtain ⟨g₀, hg0⟩ := Option.isSome_iff_exists.mp h.top
  obtain ⟨r, hr⟩ := State.topJava?_eq_some.mp hg0
  have hr' : (({ U with heap := s₂.heap, slotsUsed := s₂.slotsUsed } : State).setVm s₂.vm).frames = .java g₀ :: r := hr
  have hq' : oc = zoc o ∧ zfit G ν s₂.heap ∧ (U.calling g mk a).WarmedH s₂.vm ∧ ∃ L : List Loc, (U.calling g mk a).sameButNew ({ s₂ with vm := (U.calling g mk a).vm } : State) L (zsz ν - zsz μ) (zsl ν - zsl μ) ∧ ∀ z ∈ L, zlo G ≤ z.base := hq
  obtain ⟨hoc, hft, hW₂, L, hsm, hL⟩ := hq'
  obtain ⟨e2, q2, q3, q4, q5, q6⟩ := id hsm
  have e3 : s₂ = ({ (U.calling g mk a).setFrames s₂.frames with heap := s₂.heap, slotsUsed := s₂.slotsUsed } : State).setVm s₂.vm := by
    have : s₂ = ({ s₂ with vm := (U.calling g mk a).vm } : State).setVm s₂.vm := rfl
    rw [e2] at this
    exact this
  have hW' : U.WarmedH s₂.vm := hW₂
  have hsame : U.sameButNew ({ U with heap := s₂.heap, slotsUsed := s₂.slotsUsed } : State) L (zsz ν - zsz μ) (zsl ν - zsl μ) := by
    refine ⟨?_, q2, q3, q4, q5, q6⟩
    obtain ⟨t, ht, -⟩ := State.frames_cons hr
    show ({ U with heap := s₂.heap, slotsUsed := s₂.slotsUsed } : State) = { U.setFrames U.frames with heap := s₂.heap, slotsUsed := s₂.slotsUsed }
    rw [State.setFrames_self ht]
  refine ⟨({ U with heap := s₂.heap, slotsUsed := s₂.slotsUsed } : State).setVm s₂.vm, L,
    ⟨X.admits, X.cas, X.clock, X.frames, X.room, X.hears, X.method, X.code, (X.here.setHeapUsed s₂.heap s₂.slotsUsed).setVm hW'.alike, X.tail, State.WarmedH.trans X.warmed hW', X.limits, X.bytes, X.same.trans (hsame.setVm s.vm)⟩, hL, hft, ?_⟩
  match o, hoc with
  | .inl v, hoc =>
    subst hoc
    obtain ⟨c₂, i₂, len₂, hc₂, hd₂, hf₂⟩ := hend
    have hcc : c₂ = c := by
      have h1 : s₂.code? g.method = U.code? g.method := by
        rw [State.code?_eq, State.code?_eq, hW'.alike.method?]
      exact Option.some.inj (hc₂.symm.trans (h1.trans h.code))
    subst hcc
    have hlen : len₂ = len := by rw [hdg] at hd₂; cases hd₂; rfl
    subst hlen
    have hs₂ : s₂ = (({ U with heap := s₂.heap, slotsUsed := s₂.slotsUsed } : State).setVm s₂.vm).setTop { g with pc := g.pc + len₂, stack := (zvo v).toList ++ g.stack } := by
      refine e3.trans ?_
      rw [hf₂, State.calling_eq h.top, State.setFrames_setFrames, State.setTop_of_frames _ hr', hr]
      rfl
    show Steps p.tables e below _ ((({ U with heap := s₂.heap, slotsUsed := s₂.slotsUsed } : State).setVm s₂.vm).setTop { g with pc := g.pc + len₂, stack := (zvo v).toList ++ g.stack })
    rw [← hs₂]
    exact hsteps
  | .inr q, hoc =>
    subst hoc
    have hf₂ : s₂.frames = .throwing q.2.2 :: .java g :: U.frames.tail := hend
    have hs₂ : s₂ = ((({ U with heap := s₂.heap, slotsUsed := s₂.slotsUsed } : State).setVm s₂.vm).setTop g).pushFrame (.throwing q.2.2) := by
      refine e3.trans ?_
      rw [hf₂, State.calling_eq h.top, State.setFrames_setFrames, State.pushFrame, State.frames_setTop _ hr', State.setTop_of_frames _ hr', State.setFrames_setFrames, hr]
      rfl
    show Steps p.tables e below _ (((({ U with heap := s₂.heap, slotsUsed := s₂.slotsUsed } : State).setVm s₂.vm).setTop g).pushFrame (.throwing q.2.2))
    rw [← hs₂]
    exact hsteps
end ZB
