/-! THE OWN LAYER, 4: rules of the instructions that leave memory alone (printed by tools/gen_rules.py) -/
def zcat (v : ZV) : Nat := match v with
  | .inr (.inr (.inl _)) => 2
  | .inr (.inr (.inr (.inr _))) => 2
  | _ => 1
theorem zc_cat (v : ZV) : (zc v).category = zcat v := by
  match v with
  | .inl _ => rfl
  | .inr (.inl (t, n, a)) => cases t <;> rfl
  | .inr (.inr (.inl _)) => rfl
  | .inr (.inr (.inr (.inl _))) => rfl
  | .inr (.inr (.inr (.inr _))) => rfl
def zent : Nat → List ZV → List (Nat × ZV)
  | _, [] => []
  | i, v :: vs => (i, v) :: zent (if zcat v = 2 then i + 2 else i + 1) vs
theorem zent_lc : ∀ (vs : List ZV) (i : Nat), lv_args i (vs.map zc) = zlc (zent i vs) := by
  intro vs
  induction vs with
  | nil => intro i; rfl
  | cons v vs ih =>
    intro i
    show (i, zc v) :: lv_args (if (zc v).category = 2 then i + 2 else i + 1) (vs.map zc) = (i, zc v) :: zlc (zent (if zcat v = 2 then i + 2 else i + 1) vs)
    rw [zc_cat, ih]
theorem zent_ok {μ : ZM} : ∀ (vs : List ZV) (i : Nat), (∀ v ∈ vs, zvk μ v) → ∀ q ∈ zent i vs, zvk μ q.2 := by
  intro vs
  induction vs with
  | nil => intro i _ q hq; cases hq
  | cons v vs ih =>
    intro i h q hq
    rcases List.mem_cons.mp hq with e | e
    · rw [e]; exact h v List.mem_cons_self
    · exact ih _ (fun x hx => h x (List.mem_cons_of_mem _ hx)) q e
theorem zlen_sl (vs : List ZV) : (lg_sl (vs.map zc)).length = (vs.map zcat).sum := by
  induction vs with
  | nil => rfl
  | cons v vs ih =>
    have e : lg_sl ((v :: vs).map zc) = (if (zc v).category = 2 then [Slot.val (zc v), .second] else [.val (zc v)]) ++ lg_sl (vs.map zc) := by simp [lg_sl]
    rw [e, List.length_append, ih, zc_cat, List.map_cons, List.sum_cons]
    rcases (show zcat v = 1 ∨ zcat v = 2 by unfold zcat; split <;> simp) with h | h <;> rw [h] <;> simp
theorem table_nil : tableOf [] = [] := rfl
/-- a method's frame is entered -/
theorem Call.of {G : ZG} {Y : ZY} {vs : List ZV} {μ : ZM} {Q : Option ZV → ZM → Prop} {E : ZP → ZM → Prop} (hpl : plainFor (zyn Y) = true) (hlen : (vs.map zcat).sum ≤ zyL Y) (k : Wp G Y 0 (zent 0 vs) [] μ Q E) : Call G Y vs μ Q E := by
  intro h1 h2 h3
  obtain ⟨o, ν, e1, e2, e3, e4, hs⟩ := k h1 h2 (zent_ok vs 0 h3) (fun v hv => by cases hv)
  refine ⟨o, ν, e1, e2, e3, e4, ?_⟩
  have fin : ∀ (p : Program) (e : Env) (s : State) (m : MethodId) (args : Array Value) (below : List Frame) (meth : Method) (c : Code) (s₁ : State), BodyLoose p (zgl G) (zyn Y) (headSpec (zws Y) (zrm Y (zsz ν - zsz μ) (zsl ν - zsl μ))) (zyb Y) (zyL Y) (zyr Y) e s m args below meth c s₁ → c.maxLocals = zyL Y → c.exceptionTable.toList = tableOf ((zyh Y).getD []) → va_Pc (vs.map zc) (fun U => zkk G U ∧ zfit G μ U.heap) args s →
      ∃ s₂ oc, Steps p.tables e below (s₁.setTop (entryFrame m args (zyL Y))) s₂ ∧ s₂.status = .running ∧ Ended s₂ below oc ∧ zQQ G o ν (zsz ν - zsz μ) (zsl ν - zsl μ) args s oc s₂ := by
    intro p e s m args below meth c s₁ B hml htb hv
    obtain ⟨ha, hk, hf⟩ := hv
    have hts := atoms_spec (ws := zws Y) B.pre
    have hl := lv_entry (vs.map zc) (n := zyL Y) (by rw [zlen_sl]; exact hlen)
    rw [zent_lc] at hl
    have hh0 : s₁.heap = s.heap := by rw [B.state]; rfl
    have K := hs p e (zrm Y (zsz ν - zsz μ) (zsl ν - zsl μ)) s m args below meth c s.heap [] 0 0 _ ⟨B.exec, B.bytes, B.returns, B.notSynchronized, hml, findClass_of_methodNamed B.named, ⟨(name_of_methodNamed B.named B.method).1, B.named⟩, fun w h => hts w (List.mem_cons_of_mem _ h), hk, htb⟩ hf hl (fun q hq => by cases hq) (Nat.le_refl _) (Nat.le_refl _) (by rw [Nat.zero_add]; exact Nat.le_refl _) (by rw [Nat.zero_add]; exact Nat.le_refl _)
    have X₀ := Stand.of_body B
    subst ha
    rw [lg_entry_eq]
    obtain ⟨t, a1, oc, b1, b2, b3⟩ := K s₁ hh0 X₀
    rw [Nat.zero_add, Nat.zero_add] at b3
    exact ⟨t, oc, a1, b1, b2, b3⟩
  have hcw : ∀ (args : Array Value) (s : State), (headSpec (zws Y) (zrm Y (zsz ν - zsz μ) (zsl ν - zsl μ))).pre.before args s = true → (zcw Y).before args s = true := fun args s h => atoms_spec (ws := zws Y) h _ List.mem_cons_self
  unfold zmet
  cases hh : zyh Y with
  | none =>
    have hcw' : ∀ (args : Array Value) (s : State), (headSpec (zws Y) (zrm Y (zsz ν - zsz μ) (zsl ν - zsl μ))).pre.before args s = true → (Cond.code (zyn Y) (zyb Y) (zyL Y) (zyr Y)).before args s = true := fun args s h => by
      have h9 := hcw args s h
      unfold zcw at h9
      rw [hh] at h9
      exact h9
    refine MetFree.of_bodySF (code := zyb Y) (maxLocals := zyL Y) (ret := zyr Y) hpl ?_ ?_
    · intro args s m h hn
      obtain ⟨meth, c, g1, g2, g3, g4, g5, g6, -, -⟩ := Cond.code_spec hn (hcw' args s h)
      exact ⟨meth, c, g1, g2, g3, g4, g5, g6⟩
    · intro p e s m args below meth c s₁ B hml hP _
      refine fin p e s m args below meth c s₁ B hml ?_ hP
      obtain ⟨meth9, c9, g1, g2, -, -, -, -, g7, -⟩ := Cond.code_spec B.named (hcw' args s B.pre)
      cases Option.some.inj (g1.symm.trans B.method)
      cases Option.some.inj (g2.symm.trans (Stand.of_body B).code)
      rw [Array.isEmpty_iff.mp g7, hh]
      rfl
  | some hhs =>
    have hcw' : ∀ (args : Array Value) (s : State), (headSpec (zws Y) (zrm Y (zsz ν - zsz μ) (zsl ν - zsl μ))).pre.before args s = true → (Cond.codeWith (zyn Y) (zyb Y) (zyL Y) (zyr Y) hhs).before args s = true := fun args s h => by
      have h9 := hcw args s h
      unfold zcw at h9
      rw [hh] at h9
      exact h9
    refine MetFree.of_bodySF (code := zyb Y) (maxLocals := zyL Y) (ret := zyr Y) hpl ?_ ?_
    · intro args s m h hn
      obtain ⟨m9, meth, c, hn9, g1, g2, g3, g4, -, g5, g6, -⟩ := Cond.codeWith_spec (hcw' args s h)
      cases hn.symm.trans hn9
      exact ⟨meth, c, g1, g2, g3, g4, g5, g6⟩
    · intro p e s m args below meth c s₁ B hml hP _
      refine fin p e s m args below meth c s₁ B hml ?_ hP
      rw [vx_table (x := zyn Y) B (hcw' args s B.pre), hh]
      rfl
section ZR
variable {G : ZG} {Y : ZY} {pc : Nat} {ls : List (Nat × ZV)} {st : List ZV} {μ : ZM} {Q : Option ZV → ZM → Prop} {E : ZP → ZM → Prop}
theorem zv_cons {v : ZV} (h : zvk μ v) (k : ∀ w ∈ st, zvk μ w) : ∀ w ∈ v :: st, zvk μ w := fun w hw => (List.mem_cons.mp hw).elim (fun e => by rw [e]; exact h) (k w)
theorem zv_tail {v : ZV} (k : ∀ w ∈ v :: st, zvk μ w) : ∀ w ∈ st, zvk μ w := fun w hw => k w (List.mem_cons_of_mem _ hw)
theorem zv_head {v : ZV} (k : ∀ w ∈ v :: st, zvk μ w) : zvk μ v := k v List.mem_cons_self
theorem zv_I (x : Int32) : zvk μ (vI x) := trivial
theorem zv_L (x : Int64) : zvk μ (vL x) := trivial
theorem zv_F (x : UInt32) : zvk μ (vF x) := trivial
theorem zv_D (x : UInt64) : zvk μ (vD x) := trivial
/-- an instruction that leaves memory and locals alone -/
theorem Wp.stk {pc' : Nat} {st' : List ZV} (hv : (∀ v ∈ st, zvk μ v) → ∀ v ∈ st', zvk μ v)
    (hm : ∀ (p : Program) (e : Env) (R : Room) (s : State) (m : MethodId) (args : Array Value) (below : List Frame) (meth : Method) (c : Code) (H : Heap) (locs : List Loc) (cells slots : Nat) (la : Array Slot) (F : State → Prop), zctx G Y p s m args meth c → zfit G μ H → lv_has la (zyL Y) (zlc ls) → W p (zgl G) e R s m args below meth c H locs cells slots F (F0 m pc' la (st'.map zc)) → W p (zgl G) e R s m args below meth c H locs cells slots F (F0 m pc la (st.map zc)))
    (k : Wp G Y pc' ls st' μ Q E) : Wp G Y pc ls st μ Q E := by
  intro h1 h2 h3 h4
  obtain ⟨o, ν, e1, e2, e3, e4, hs⟩ := k h1 h2 h3 (hv h4)
  refine ⟨o, ν, e1, e2, e3, e4, ?_⟩
  intro p e R s m args below meth c H locs cells slots la hC hF hl hL hf hw hc hsl
  exact hm p e R s m args below meth c H locs cells slots la _ hC hF hl (hs p e R s m args below meth c H locs cells slots la hC hF hl hL hf hw hc hsl)
/-- an instruction that sets locals -/
theorem Wp.loc {pc' : Nat} {ls' : List (Nat × ZV)} {st' : List ZV} (hv : (∀ q ∈ ls, zvk μ q.2) → (∀ v ∈ st, zvk μ v) → (∀ q ∈ ls', zvk μ q.2) ∧ ∀ v ∈ st', zvk μ v)
    (hm : ∀ (p : Program) (e : Env) (R : Room) (s : State) (m : MethodId) (args : Array Value) (below : List Frame) (meth : Method) (c : Code) (H : Heap) (locs : List Loc) (cells slots : Nat) (la : Array Slot) (F : State → Prop), zctx G Y p s m args meth c → zfit G μ H → lv_has la (zyL Y) (zlc ls) → (∀ lb : Array Slot, lv_has lb (zyL Y) (zlc ls') → W p (zgl G) e R s m args below meth c H locs cells slots F (F0 m pc' lb (st'.map zc))) → W p (zgl G) e R s m args below meth c H locs cells slots F (F0 m pc la (st.map zc)))
    (k : Wp G Y pc' ls' st' μ Q E) : Wp G Y pc ls st μ Q E := by
  intro h1 h2 h3 h4
  obtain ⟨q1, q2⟩ := hv h3 h4
  obtain ⟨o, ν, e1, e2, e3, e4, hs⟩ := k h1 h2 q1 q2
  refine ⟨o, ν, e1, e2, e3, e4, ?_⟩
  intro p e R s m args below meth c H locs cells slots la hC hF hl hL hf hw hc hsl
  exact hm p e R s m args below meth c H locs cells slots la _ hC hF hl (fun lb hb => hs p e R s m args below meth c H locs cells slots lb hC hF hb hL hf hw hc hsl)
/-- a branch -/
theorem Wp.bra {C : Prop} {pt pf : Nat} {st' : List ZV} (hv : (∀ v ∈ st, zvk μ v) → ∀ v ∈ st', zvk μ v)
    (hm : ∀ (p : Program) (e : Env) (R : Room) (s : State) (m : MethodId) (args : Array Value) (below : List Frame) (meth : Method) (c : Code) (H : Heap) (locs : List Loc) (cells slots : Nat) (la : Array Slot) (F : State → Prop), zctx G Y p s m args meth c → zfit G μ H → lv_has la (zyL Y) (zlc ls) → (∀ v ∈ st, zvk μ v) → (C → W p (zgl G) e R s m args below meth c H locs cells slots F (F0 m pt la (st'.map zc))) → (¬ C → W p (zgl G) e R s m args below meth c H locs cells slots F (F0 m pf la (st'.map zc))) → W p (zgl G) e R s m args below meth c H locs cells slots F (F0 m pc la (st.map zc)))
    (kt : C → Wp G Y pt ls st' μ Q E) (kf : ¬ C → Wp G Y pf ls st' μ Q E) : Wp G Y pc ls st μ Q E := by
  intro h1 h2 h3 h4
  by_cases hC0 : C
  · obtain ⟨o, ν, e1, e2, e3, e4, hs⟩ := kt hC0 h1 h2 h3 (hv h4)
    refine ⟨o, ν, e1, e2, e3, e4, ?_⟩
    intro p e R s m args below meth c H locs cells slots la hC hF hl hL hf hw hc hsl
    exact hm p e R s m args below meth c H locs cells slots la _ hC hF hl h4 (fun _ => hs p e R s m args below meth c H locs cells slots la hC hF hl hL hf hw hc hsl) (fun q => absurd hC0 q)
  · obtain ⟨o, ν, e1, e2, e3, e4, hs⟩ := kf hC0 h1 h2 h3 (hv h4)
    refine ⟨o, ν, e1, e2, e3, e4, ?_⟩
    intro p e R s m args below meth c H locs cells slots la hC hF hl hL hf hw hc hsl
    exact hm p e R s m args below meth c H locs cells slots la _ hC hF hl h4 (fun q => absurd q hC0) (fun _ => hs p e R s m args below meth c H locs cells slots la hC hF hl hL hf hw hc hsl)
def zpick (l : List (Nat × ZV)) (ks : List Nat) : List (Nat × ZV) := ks.filterMap (fun k => l[k]?)
theorem zpick_lc (l : List (Nat × ZV)) (ks : List Nat) : lv_pick (zlc l) ks = zlc (zpick l ks) := by
  unfold lv_pick zpick zlc
  induction ks with
  | nil => rfl
  | cons k ks ih =>
    rw [List.filterMap_cons, List.filterMap_cons, List.getElem?_map]
    cases l[k]? with
    | none => exact ih
    | some q => simp only [Option.map_some]; rw [ih]; rfl
theorem zpick_ok {l l' : List (Nat × ZV)} {ks : List Nat} (h : zpick l ks = l') (k : ∀ q ∈ l, zvk μ q.2) : ∀ q ∈ l', zvk μ q.2 := by
  intro q hq
  rw [← h] at hq
  obtain ⟨i, -, hi⟩ := List.mem_filterMap.mp hq
  exact k q (List.mem_of_getElem? hi)
theorem zlc_at {la : Array Slot} {nL : Nat} {l : List (Nat × ZV)} (h : lv_has la nL (zlc l)) {k i : Nat} {v : ZV} (hk : l[k]? = some (i, v)) : la[i]? = some (.val (zc v)) := lv_at h k (by show (l.map _)[k]? = _; rw [List.getElem?_map, hk]; rfl)
theorem zlc_ok {l : List (Nat × ZV)} {k i : Nat} {v : ZV} (hk : l[k]? = some (i, v)) (h : ∀ q ∈ l, zvk μ q.2) : zvk μ v := h (i, v) (List.mem_of_getElem? hk)
/-- fewer locals, in another order -/
theorem Wp.lcl (ks : List Nat) {ls' : List (Nat × ZV)} (h : zpick ls ks = ls') (k : Wp G Y pc ls' st μ Q E) : Wp G Y pc ls st μ Q E := by
  intro h1 h2 h3 h4
  obtain ⟨o, ν, e1, e2, e3, e4, hs⟩ := k h1 h2 (zpick_ok h h3) h4
  refine ⟨o, ν, e1, e2, e3, e4, ?_⟩
  intro p e R s m args below meth c H locs cells slots la hC hF hl hL hf hw hc hsl
  exact hs p e R s m args below meth c H locs cells slots la hC hF (by have := lv_sub hl ks rfl; rw [zpick_lc, h] at this; exact this) hL hf hw hc hsl
def zflt (i : Nat) (q : Nat × ZV) : Bool := !(q.1 == i) && !(q.1 + 1 == i && zcat q.2 == 2)
def zflt2 (i : Nat) (q : Nat × ZV) : Bool := !(q.1 == i) && (!(q.1 == i + 1) && !(q.1 + 1 == i && zcat q.2 == 2))
theorem zflt_lc (i : Nat) (l : List (Nat × ZV)) : (zlc l).filter (fun q => !(q.1 == i) && !(q.1 + 1 == i && q.2.category == 2)) = zlc (l.filter (zflt i)) := by
  unfold zlc
  rw [List.filter_map]
  congr 1
  apply List.filter_congr
  intro q _
  show (!(q.1 == i) && !(q.1 + 1 == i && (zc q.2).category == 2)) = _
  rw [zc_cat]; rfl
theorem zflt2_lc (i : Nat) (l : List (Nat × ZV)) : (zlc l).filter (fun q => !(q.1 == i) && (!(q.1 == i + 1) && !(q.1 + 1 == i && q.2.category == 2))) = zlc (l.filter (zflt2 i)) := by
  unfold zlc
  rw [List.filter_map]
  congr 1
  apply List.filter_congr
  intro q _
  show (!(q.1 == i) && (!(q.1 == i + 1) && !(q.1 + 1 == i && (zc q.2).category == 2))) = _
  rw [zc_cat]; rfl
theorem zst_ok {i : Nat} {v : ZV} (hv : zvk μ v) (h : ∀ q ∈ ls, zvk μ q.2) (f : Nat × ZV → Bool) : ∀ q ∈ (i, v) :: ls.filter f, zvk μ q.2 := fun q hq => (List.mem_cons.mp hq).elim (fun e => by rw [e]; exact hv) (fun e => h q (List.mem_filter.mp e).1)

theorem Wp_iconst {n : Int} {v : Int32} (hd : decode (zyb Y) pc = .ok (.iconst n, 1)) (hv : Int32.ofInt n = v) (k : Wp G Y (pc + 1) ls (vI v :: st) μ Q E) : Wp G Y pc ls (st) μ Q E := Wp.stk (fun h => (zv_cons (zv_I _) h)) (fun p e R s m args below meth c H locs cells slots la F C hF hl kk => lv_iconst C.1 C.2.1 hd hv kk) k
theorem Wp_bipush {n : Int} {v : Int32} (hd : decode (zyb Y) pc = .ok (.bipush n, 2)) (hv : (Int8.ofInt n).toInt32 = v) (k : Wp G Y (pc + 2) ls (vI v :: st) μ Q E) : Wp G Y pc ls (st) μ Q E := Wp.stk (fun h => (zv_cons (zv_I _) h)) (fun p e R s m args below meth c H locs cells slots la F C hF hl kk => lv_bipush C.1 C.2.1 hd hv kk) k
theorem Wp_sipush {n : Int} {v : Int32} (hd : decode (zyb Y) pc = .ok (.sipush n, 3)) (hv : (Int16.ofInt n).toInt32 = v) (k : Wp G Y (pc + 3) ls (vI v :: st) μ Q E) : Wp G Y pc ls (st) μ Q E := Wp.stk (fun h => (zv_cons (zv_I _) h)) (fun p e R s m args below meth c H locs cells slots la F C hF hl kk => lv_sipush C.1 C.2.1 hd hv kk) k
theorem Wp_lconst {n : Fin 2} {v : Int64} (hd : decode (zyb Y) pc = .ok (.lconst n, 1)) (hv : Int64.ofNat (n : Nat) = v) (k : Wp G Y (pc + 1) ls (vL v :: st) μ Q E) : Wp G Y pc ls (st) μ Q E := Wp.stk (fun h => (zv_cons (zv_L _) h)) (fun p e R s m args below meth c H locs cells slots la F C hF hl kk => lv_lconst C.1 C.2.1 hd hv kk) k
theorem Wp_fconst1  (hd : decode (zyb Y) pc = .ok (.fconst 1, 1)) (k : Wp G Y (pc + 1) ls (vF 0x3f800000 :: st) μ Q E) : Wp G Y pc ls (st) μ Q E := Wp.stk (fun h => (zv_cons (zv_F _) h)) (fun p e R s m args below meth c H locs cells slots la F C hF hl kk => lv_fconst1 C.1 C.2.1 hd kk) k
theorem zv_N : zvk μ (vP zN) := Or.inl rfl
theorem Wp_null (hd : decode (zyb Y) pc = .ok (.aconst_null, 1)) (k : Wp G Y (pc + 1) ls (vP zN :: st) μ Q E) : Wp G Y pc ls st μ Q E := Wp.stk (fun h => zv_cons zv_N h) (fun p e R s m args below meth c H locs cells slots la F C hF hl kk => lv_null C.1 C.2.1 hd kk) k
theorem Wp_iadd {x y : Int32} (hd : decode (zyb Y) pc = .ok (.iadd, 1))  (k : Wp G Y (pc + 1) ls (vI (x + y) :: st) μ Q E) : Wp G Y pc ls (vI y :: vI x :: st) μ Q E := Wp.stk (fun h => (zv_cons (zv_I _) (zv_tail (zv_tail h)))) (fun p e R s m args below meth c H locs cells slots la F C hF hl kk => lv_iadd C.1 C.2.1 hd  kk) k
theorem Wp_isub {x y : Int32} (hd : decode (zyb Y) pc = .ok (.isub, 1))  (k : Wp G Y (pc + 1) ls (vI (x - y) :: st) μ Q E) : Wp G Y pc ls (vI y :: vI x :: st) μ Q E := Wp.stk (fun h => (zv_cons (zv_I _) (zv_tail (zv_tail h)))) (fun p e R s m args below meth c H locs cells slots la F C hF hl kk => lv_isub C.1 C.2.1 hd  kk) k
theorem Wp_imul {x y : Int32} (hd : decode (zyb Y) pc = .ok (.imul, 1))  (k : Wp G Y (pc + 1) ls (vI (x * y) :: st) μ Q E) : Wp G Y pc ls (vI y :: vI x :: st) μ Q E := Wp.stk (fun h => (zv_cons (zv_I _) (zv_tail (zv_tail h)))) (fun p e R s m args below meth c H locs cells slots la F C hF hl kk => lv_imul C.1 C.2.1 hd  kk) k
theorem Wp_iand {x y : Int32} (hd : decode (zyb Y) pc = .ok (.iand, 1))  (k : Wp G Y (pc + 1) ls (vI (x &&& y) :: st) μ Q E) : Wp G Y pc ls (vI y :: vI x :: st) μ Q E := Wp.stk (fun h => (zv_cons (zv_I _) (zv_tail (zv_tail h)))) (fun p e R s m args below meth c H locs cells slots la F C hF hl kk => lv_iand C.1 C.2.1 hd  kk) k
theorem Wp_ior {x y : Int32} (hd : decode (zyb Y) pc = .ok (.ior, 1))  (k : Wp G Y (pc + 1) ls (vI (x ||| y) :: st) μ Q E) : Wp G Y pc ls (vI y :: vI x :: st) μ Q E := Wp.stk (fun h => (zv_cons (zv_I _) (zv_tail (zv_tail h)))) (fun p e R s m args below meth c H locs cells slots la F C hF hl kk => lv_ior C.1 C.2.1 hd  kk) k
theorem Wp_ixor {x y : Int32} (hd : decode (zyb Y) pc = .ok (.ixor, 1))  (k : Wp G Y (pc + 1) ls (vI (x ^^^ y) :: st) μ Q E) : Wp G Y pc ls (vI y :: vI x :: st) μ Q E := Wp.stk (fun h => (zv_cons (zv_I _) (zv_tail (zv_tail h)))) (fun p e R s m args below meth c H locs cells slots la F C hF hl kk => lv_ixor C.1 C.2.1 hd  kk) k
theorem Wp_ishl {x y : Int32} (hd : decode (zyb Y) pc = .ok (.ishl, 1))  (k : Wp G Y (pc + 1) ls (vI (x <<< (y &&& 31)) :: st) μ Q E) : Wp G Y pc ls (vI y :: vI x :: st) μ Q E := Wp.stk (fun h => (zv_cons (zv_I _) (zv_tail (zv_tail h)))) (fun p e R s m args below meth c H locs cells slots la F C hF hl kk => lv_ishl C.1 C.2.1 hd  kk) k
theorem Wp_ishr {x y : Int32} (hd : decode (zyb Y) pc = .ok (.ishr, 1))  (k : Wp G Y (pc + 1) ls (vI (x >>> (y &&& 31)) :: st) μ Q E) : Wp G Y pc ls (vI y :: vI x :: st) μ Q E := Wp.stk (fun h => (zv_cons (zv_I _) (zv_tail (zv_tail h)))) (fun p e R s m args below meth c H locs cells slots la F C hF hl kk => lv_ishr C.1 C.2.1 hd  kk) k
theorem Wp_idiv {x y : Int32} (hd : decode (zyb Y) pc = .ok (.idiv, 1)) (hne : ¬ y = 0) (k : Wp G Y (pc + 1) ls (vI (x / y) :: st) μ Q E) : Wp G Y pc ls (vI y :: vI x :: st) μ Q E := Wp.stk (fun h => (zv_cons (zv_I _) (zv_tail (zv_tail h)))) (fun p e R s m args below meth c H locs cells slots la F C hF hl kk => lv_idiv C.1 C.2.1 hd hne kk) k
theorem Wp_irem {x y : Int32} (hd : decode (zyb Y) pc = .ok (.irem, 1)) (hne : ¬ y = 0) (k : Wp G Y (pc + 1) ls (vI (x - x / y * y) :: st) μ Q E) : Wp G Y pc ls (vI y :: vI x :: st) μ Q E := Wp.stk (fun h => (zv_cons (zv_I _) (zv_tail (zv_tail h)))) (fun p e R s m args below meth c H locs cells slots la F C hF hl kk => lv_irem C.1 C.2.1 hd hne kk) k
theorem Wp_iushr {x y : Int32} (hd : decode (zyb Y) pc = .ok (.iushr, 1)) (k : Wp G Y (pc + 1) ls (vI ((x.toUInt32 >>> (y.toUInt32 &&& Int32.toUInt32 31)).toInt32) :: st) μ Q E) : Wp G Y pc ls (vI y :: vI x :: st) μ Q E := Wp.stk (fun h => (zv_cons (zv_I _) (zv_tail (zv_tail h)))) (fun p e R s m args below meth c H locs cells slots la F C hF hl kk => lv_iushr C.1 C.2.1 hd rfl kk) k
theorem Wp_ineg {x : Int32} (hd : decode (zyb Y) pc = .ok (.ineg, 1)) (k : Wp G Y (pc + 1) ls (vI (-x) :: st) μ Q E) : Wp G Y pc ls (vI x :: st) μ Q E := Wp.stk (fun h => (zv_cons (zv_I _) (zv_tail h))) (fun p e R s m args below meth c H locs cells slots la F C hF hl kk => lv_ineg C.1 C.2.1 hd kk) k
theorem Wp_i2l {x : Int32} (hd : decode (zyb Y) pc = .ok (.i2l, 1)) (k : Wp G Y (pc + 1) ls (vL (x.toInt64) :: st) μ Q E) : Wp G Y pc ls (vI x :: st) μ Q E := Wp.stk (fun h => (zv_cons (zv_L _) (zv_tail h))) (fun p e R s m args below meth c H locs cells slots la F C hF hl kk => lv_i2l C.1 C.2.1 hd rfl kk) k
theorem Wp_i2b {x : Int32} (hd : decode (zyb Y) pc = .ok (.i2b, 1)) (k : Wp G Y (pc + 1) ls (vI (x.toInt8.toInt32) :: st) μ Q E) : Wp G Y pc ls (vI x :: st) μ Q E := Wp.stk (fun h => (zv_cons (zv_I _) (zv_tail h))) (fun p e R s m args below meth c H locs cells slots la F C hF hl kk => lv_i2b C.1 C.2.1 hd rfl kk) k
theorem Wp_i2c {x : Int32} (hd : decode (zyb Y) pc = .ok (.i2c, 1)) (k : Wp G Y (pc + 1) ls (vI ((x.toUInt32 % 65536).toInt32) :: st) μ Q E) : Wp G Y pc ls (vI x :: st) μ Q E := Wp.stk (fun h => (zv_cons (zv_I _) (zv_tail h))) (fun p e R s m args below meth c H locs cells slots la F C hF hl kk => lv_i2c C.1 C.2.1 hd rfl kk) k
theorem Wp_lcmp {x y : Int64} (hd : decode (zyb Y) pc = .ok (.lcmp, 1)) (k : Wp G Y (pc + 1) ls (vI (lg_cmp x y) :: st) μ Q E) : Wp G Y pc ls (vL y :: vL x :: st) μ Q E := Wp.stk (fun h => (zv_cons (zv_I _) (zv_tail (zv_tail h)))) (fun p e R s m args below meth c H locs cells slots la F C hF hl kk => W.lcmp C.1 C.2.1 hd kk) k
theorem Wp_i2f {x : Int32} (hd : decode (zyb Y) pc = .ok (.i2f, 1)) (k : Wp G Y (pc + 1) ls (vF (FP.i2f x) :: st) μ Q E) : Wp G Y pc ls (vI x :: st) μ Q E := Wp.stk (fun h => (zv_cons (zv_F _) (zv_tail h))) (fun p e R s m args below meth c H locs cells slots la F C hF hl kk => lv_i2f C.1 C.2.1 hd kk) k
theorem Wp_f2i {x : UInt32} (hd : decode (zyb Y) pc = .ok (.f2i, 1)) (k : Wp G Y (pc + 1) ls (vI (FP.f2i x) :: st) μ Q E) : Wp G Y pc ls (vF x :: st) μ Q E := Wp.stk (fun h => (zv_cons (zv_I _) (zv_tail h))) (fun p e R s m args below meth c H locs cells slots la F C hF hl kk => lv_f2i C.1 C.2.1 hd kk) k
theorem Wp_i2d {x : Int32} (hd : decode (zyb Y) pc = .ok (.i2d, 1)) (k : Wp G Y (pc + 1) ls (vD (FP.i2d x) :: st) μ Q E) : Wp G Y pc ls (vI x :: st) μ Q E := Wp.stk (fun h => (zv_cons (zv_D _) (zv_tail h))) (fun p e R s m args below meth c H locs cells slots la F C hF hl kk => lv_i2d C.1 C.2.1 hd kk) k
theorem Wp_d2i {x : UInt64} (hd : decode (zyb Y) pc = .ok (.d2i, 1)) (k : Wp G Y (pc + 1) ls (vI (FP.d2i x) :: st) μ Q E) : Wp G Y pc ls (vD x :: st) μ Q E := Wp.stk (fun h => (zv_cons (zv_I _) (zv_tail h))) (fun p e R s m args below meth c H locs cells slots la F C hF hl kk => lv_d2i C.1 C.2.1 hd kk) k
theorem Wp_f2d {x : UInt32} (hd : decode (zyb Y) pc = .ok (.f2d, 1)) (hne : vf_n64 (FP.f2d x)) (k : Wp G Y (pc + 1) ls (vD (FP.f2d x) :: st) μ Q E) : Wp G Y pc ls (vF x :: st) μ Q E := Wp.stk (fun h => (zv_cons (zv_D _) (zv_tail h))) (fun p e R s m args below meth c H locs cells slots la F C hF hl kk => lv_f2d C.1 C.2.1 hd hne kk) k
theorem Wp_fmul {x y : UInt32} (hd : decode (zyb Y) pc = .ok (.fmul, 1)) (hne : vf_n32 (FP.fmul x y)) (k : Wp G Y (pc + 1) ls (vF (FP.fmul x y) :: st) μ Q E) : Wp G Y pc ls (vF y :: vF x :: st) μ Q E := Wp.stk (fun h => (zv_cons (zv_F _) (zv_tail (zv_tail h)))) (fun p e R s m args below meth c H locs cells slots la F C hF hl kk => lv_fmul C.1 C.2.1 hd hne kk) k
theorem Wp_fdiv {x y : UInt32} (hd : decode (zyb Y) pc = .ok (.fdiv, 1)) (hne : vf_n32 (FP.fdiv x y)) (k : Wp G Y (pc + 1) ls (vF (FP.fdiv x y) :: st) μ Q E) : Wp G Y pc ls (vF y :: vF x :: st) μ Q E := Wp.stk (fun h => (zv_cons (zv_F _) (zv_tail (zv_tail h)))) (fun p e R s m args below meth c H locs cells slots la F C hF hl kk => lv_fdiv C.1 C.2.1 hd hne kk) k
theorem Wp_ddiv {x y : UInt64} (hd : decode (zyb Y) pc = .ok (.ddiv, 1)) (hne : vf_n64 (FP.ddiv x y)) (k : Wp G Y (pc + 1) ls (vD (FP.ddiv x y) :: st) μ Q E) : Wp G Y pc ls (vD y :: vD x :: st) μ Q E := Wp.stk (fun h => (zv_cons (zv_D _) (zv_tail (zv_tail h)))) (fun p e R s m args below meth c H locs cells slots la F C hF hl kk => lv_ddiv C.1 C.2.1 hd hne kk) k
theorem Wp_fcmp {x y : UInt32} {op : CmpOp} (hd : decode (zyb Y) pc = .ok (.fcmp op, 1)) (k : Wp G Y (pc + 1) ls (vI (Op.cmpValue (FP.fcmp x y) op) :: st) μ Q E) : Wp G Y pc ls (vF y :: vF x :: st) μ Q E := Wp.stk (fun h => (zv_cons (zv_I _) (zv_tail (zv_tail h)))) (fun p e R s m args below meth c H locs cells slots la F C hF hl kk => lv_fcmp C.1 C.2.1 hd kk) k
theorem Wp_dcmp {x y : UInt64} {op : CmpOp} (hd : decode (zyb Y) pc = .ok (.dcmp op, 1)) (k : Wp G Y (pc + 1) ls (vI (Op.cmpValue (FP.dcmp x y) op) :: st) μ Q E) : Wp G Y pc ls (vD y :: vD x :: st) μ Q E := Wp.stk (fun h => (zv_cons (zv_I _) (zv_tail (zv_tail h)))) (fun p e R s m args below meth c H locs cells slots la F C hF hl kk => lv_dcmp C.1 C.2.1 hd kk) k
theorem Wp_iload_n {j : Fin 4} {i : Nat} {x : Int32} (n : Nat) (hd : decode (zyb Y) pc = .ok (.iload_n j, 1)) (hi : (j : Nat) = i) (hl : ls[n]? = some (i, vI x)) (k : Wp G Y (pc + 1) ls (vI x :: st) μ Q E) : Wp G Y pc ls st μ Q E := Wp.stk (fun h => zv_cons (zv_I _) h) (fun p e R s m args below meth c H locs cells slots la F C hF hl2 kk => lv_iload_n C.1 C.2.1 hd hi (zlc_at hl2 hl) kk) k
theorem Wp_iload {i : Nat} {x : Int32} (n : Nat) (hd : decode (zyb Y) pc = .ok (.iload i, 2)) (hl : ls[n]? = some (i, vI x)) (k : Wp G Y (pc + 2) ls (vI x :: st) μ Q E) : Wp G Y pc ls st μ Q E := Wp.stk (fun h => zv_cons (zv_I _) h) (fun p e R s m args below meth c H locs cells slots la F C hF hl2 kk => lv_iload C.1 C.2.1 hd (zlc_at hl2 hl) kk) k
theorem Wp_lload_n {j : Fin 4} {i : Nat} {x : Int64} (n : Nat) (hd : decode (zyb Y) pc = .ok (.lload_n j, 1)) (hi : (j : Nat) = i) (hl : ls[n]? = some (i, vL x)) (k : Wp G Y (pc + 1) ls (vL x :: st) μ Q E) : Wp G Y pc ls st μ Q E := Wp.stk (fun h => zv_cons (zv_L _) h) (fun p e R s m args below meth c H locs cells slots la F C hF hl2 kk => lv_lload_n C.1 C.2.1 hd hi (zlc_at hl2 hl) kk) k
theorem Wp_lload {i : Nat} {x : Int64} (n : Nat) (hd : decode (zyb Y) pc = .ok (.lload i, 2)) (hl : ls[n]? = some (i, vL x)) (k : Wp G Y (pc + 2) ls (vL x :: st) μ Q E) : Wp G Y pc ls st μ Q E := Wp.stk (fun h => zv_cons (zv_L _) h) (fun p e R s m args below meth c H locs cells slots la F C hF hl2 kk => lv_lload C.1 C.2.1 hd (zlc_at hl2 hl) kk) k
theorem Wp_fload_n {j : Fin 4} {i : Nat} {x : UInt32} (n : Nat) (hd : decode (zyb Y) pc = .ok (.fload_n j, 1)) (hi : (j : Nat) = i) (hl : ls[n]? = some (i, vF x)) (k : Wp G Y (pc + 1) ls (vF x :: st) μ Q E) : Wp G Y pc ls st μ Q E := Wp.stk (fun h => zv_cons (zv_F _) h) (fun p e R s m args below meth c H locs cells slots la F C hF hl2 kk => lv_fload_n C.1 C.2.1 hd hi (zlc_at hl2 hl) kk) k
theorem Wp_fload {i : Nat} {x : UInt32} (n : Nat) (hd : decode (zyb Y) pc = .ok (.fload i, 2)) (hl : ls[n]? = some (i, vF x)) (k : Wp G Y (pc + 2) ls (vF x :: st) μ Q E) : Wp G Y pc ls st μ Q E := Wp.stk (fun h => zv_cons (zv_F _) h) (fun p e R s m args below meth c H locs cells slots la F C hF hl2 kk => lv_fload C.1 C.2.1 hd (zlc_at hl2 hl) kk) k
theorem Wp_dload_n {j : Fin 4} {i : Nat} {x : UInt64} (n : Nat) (hd : decode (zyb Y) pc = .ok (.dload_n j, 1)) (hi : (j : Nat) = i) (hl : ls[n]? = some (i, vD x)) (k : Wp G Y (pc + 1) ls (vD x :: st) μ Q E) : Wp G Y pc ls st μ Q E := Wp.stk (fun h => zv_cons (zv_D _) h) (fun p e R s m args below meth c H locs cells slots la F C hF hl2 kk => lv_dload_n C.1 C.2.1 hd hi (zlc_at hl2 hl) kk) k
theorem Wp_dload {i : Nat} {x : UInt64} (n : Nat) (hd : decode (zyb Y) pc = .ok (.dload i, 2)) (hl : ls[n]? = some (i, vD x)) (k : Wp G Y (pc + 2) ls (vD x :: st) μ Q E) : Wp G Y pc ls st μ Q E := Wp.stk (fun h => zv_cons (zv_D _) h) (fun p e R s m args below meth c H locs cells slots la F C hF hl2 kk => lv_dload C.1 C.2.1 hd (zlc_at hl2 hl) kk) k
theorem zcp_or (p : ZP) : zcp p = .null ∨ zcp p = .ref p.2.2 := by
  obtain ⟨t, n, a⟩ := p
  cases t
  · exact Or.inl rfl
  · exact Or.inr rfl
theorem Wp_aload_n {j : Fin 4} {i : Nat} {x : ZP} (n : Nat) (hd : decode (zyb Y) pc = .ok (.aload_n j, 1)) (hi : (j : Nat) = i) (hl : ls[n]? = some (i, vP x)) (k : Wp G Y (pc + 1) ls (vP x :: st) μ Q E) : Wp G Y pc ls st μ Q E := by
  intro h1 h2 h3 h4
  refine Wp.stk (fun h => zv_cons (zlc_ok (μ := μ) hl h3) h) (fun p e R s m args below meth c H locs cells slots la F C hF hl2 kk => ?_) k h1 h2 h3 h4
  have e1 := zlc_at hl2 hl
  have e0 : zc (vP x) = zcp x := rfl
  rw [List.map_cons, e0] at kk
  rw [e0] at e1
  rcases zcp_or x with h | h
  · rw [h] at e1 kk
    exact lv_aload_nN C.1 C.2.1 hd hi e1 kk
  · rw [h] at e1 kk
    exact lv_aload_n C.1 C.2.1 hd hi e1 kk
theorem Wp_aload {i : Nat} {x : ZP} (n : Nat) (hd : decode (zyb Y) pc = .ok (.aload i, 2)) (hl : ls[n]? = some (i, vP x)) (k : Wp G Y (pc + 2) ls (vP x :: st) μ Q E) : Wp G Y pc ls st μ Q E := by
  intro h1 h2 h3 h4
  refine Wp.stk (fun h => zv_cons (zlc_ok (μ := μ) hl h3) h) (fun p e R s m args below meth c H locs cells slots la F C hF hl2 kk => ?_) k h1 h2 h3 h4
  have e1 := zlc_at hl2 hl
  have e0 : zc (vP x) = zcp x := rfl
  rw [List.map_cons, e0] at kk
  rw [e0] at e1
  rcases zcp_or x with h | h
  · rw [h] at e1 kk
    exact lv_aloadN C.1 C.2.1 hd e1 kk
  · rw [h] at e1 kk
    exact lv_aload C.1 C.2.1 hd e1 kk
theorem Wp_istore_n {j : Fin 4} {i : Nat} {x : Int32} (ks : List Nat) {ls' : List (Nat × ZV)} (hd : decode (zyb Y) pc = .ok (.istore_n j, 1)) (hi : (j : Nat) = i) (hn : i < zyL Y) (hls : zpick ((i, vI x) :: ls.filter (zflt i)) ks = ls') (k : Wp G Y (pc + 1) ls' st μ Q E) : Wp G Y pc ls (vI x :: st) μ Q E := Wp.loc (fun h h' => ⟨zpick_ok hls (zst_ok (zv_I _) h _), zv_tail h'⟩) (fun p e R s m args below meth c H locs cells slots la F C hF hl kk => lv_istore_n C.1 C.2.1 hd hi hl hn (by show (i, zc (vI x)) :: _ = zlc ((i, vI x) :: ls.filter (zflt i)); rw [zflt_lc]; rfl) (fun lb hb => kk lb (by have h9 := lv_sub hb ks rfl; rw [zpick_lc, hls] at h9; exact h9))) k
theorem Wp_istore {i : Nat} {x : Int32} (ks : List Nat) {ls' : List (Nat × ZV)} (hd : decode (zyb Y) pc = .ok (.istore i, 2)) (hn : i < zyL Y) (hls : zpick ((i, vI x) :: ls.filter (zflt i)) ks = ls') (k : Wp G Y (pc + 2) ls' st μ Q E) : Wp G Y pc ls (vI x :: st) μ Q E := Wp.loc (fun h h' => ⟨zpick_ok hls (zst_ok (zv_I _) h _), zv_tail h'⟩) (fun p e R s m args below meth c H locs cells slots la F C hF hl kk => lv_istore C.1 C.2.1 hd hl hn (by show (i, zc (vI x)) :: _ = zlc ((i, vI x) :: ls.filter (zflt i)); rw [zflt_lc]; rfl) (fun lb hb => kk lb (by have h9 := lv_sub hb ks rfl; rw [zpick_lc, hls] at h9; exact h9))) k
theorem Wp_fstore_n {j : Fin 4} {i : Nat} {x : UInt32} (ks : List Nat) {ls' : List (Nat × ZV)} (hd : decode (zyb Y) pc = .ok (.fstore_n j, 1)) (hi : (j : Nat) = i) (hn : i < zyL Y) (hls : zpick ((i, vF x) :: ls.filter (zflt i)) ks = ls') (k : Wp G Y (pc + 1) ls' st μ Q E) : Wp G Y pc ls (vF x :: st) μ Q E := Wp.loc (fun h h' => ⟨zpick_ok hls (zst_ok (zv_F _) h _), zv_tail h'⟩) (fun p e R s m args below meth c H locs cells slots la F C hF hl kk => lv_fstore_n C.1 C.2.1 hd hi hl hn (by show (i, zc (vF x)) :: _ = zlc ((i, vF x) :: ls.filter (zflt i)); rw [zflt_lc]; rfl) (fun lb hb => kk lb (by have h9 := lv_sub hb ks rfl; rw [zpick_lc, hls] at h9; exact h9))) k
theorem Wp_fstore {i : Nat} {x : UInt32} (ks : List Nat) {ls' : List (Nat × ZV)} (hd : decode (zyb Y) pc = .ok (.fstore i, 2)) (hn : i < zyL Y) (hls : zpick ((i, vF x) :: ls.filter (zflt i)) ks = ls') (k : Wp G Y (pc + 2) ls' st μ Q E) : Wp G Y pc ls (vF x :: st) μ Q E := Wp.loc (fun h h' => ⟨zpick_ok hls (zst_ok (zv_F _) h _), zv_tail h'⟩) (fun p e R s m args below meth c H locs cells slots la F C hF hl kk => lv_fstore C.1 C.2.1 hd hl hn (by show (i, zc (vF x)) :: _ = zlc ((i, vF x) :: ls.filter (zflt i)); rw [zflt_lc]; rfl) (fun lb hb => kk lb (by have h9 := lv_sub hb ks rfl; rw [zpick_lc, hls] at h9; exact h9))) k
theorem Wp_lstore_n {j : Fin 4} {i : Nat} {x : Int64} (ks : List Nat) {ls' : List (Nat × ZV)} (hd : decode (zyb Y) pc = .ok (.lstore_n j, 1)) (hi : (j : Nat) = i) (hn : i + 1 < zyL Y) (hls : zpick ((i, vL x) :: ls.filter (zflt2 i)) ks = ls') (k : Wp G Y (pc + 1) ls' st μ Q E) : Wp G Y pc ls (vL x :: st) μ Q E := Wp.loc (fun h h' => ⟨zpick_ok hls (zst_ok (zv_L _) h _), zv_tail h'⟩) (fun p e R s m args below meth c H locs cells slots la F C hF hl kk => lv_lstore_n C.1 C.2.1 hd hi hl hn (by show (i, zc (vL x)) :: _ = zlc ((i, vL x) :: ls.filter (zflt2 i)); rw [zflt2_lc]; rfl) (fun lb hb => kk lb (by have h9 := lv_sub hb ks rfl; rw [zpick_lc, hls] at h9; exact h9))) k
theorem Wp_lstore {i : Nat} {x : Int64} (ks : List Nat) {ls' : List (Nat × ZV)} (hd : decode (zyb Y) pc = .ok (.lstore i, 2)) (hn : i + 1 < zyL Y) (hls : zpick ((i, vL x) :: ls.filter (zflt2 i)) ks = ls') (k : Wp G Y (pc + 2) ls' st μ Q E) : Wp G Y pc ls (vL x :: st) μ Q E := Wp.loc (fun h h' => ⟨zpick_ok hls (zst_ok (zv_L _) h _), zv_tail h'⟩) (fun p e R s m args below meth c H locs cells slots la F C hF hl kk => lv_lstore C.1 C.2.1 hd hl hn (by show (i, zc (vL x)) :: _ = zlc ((i, vL x) :: ls.filter (zflt2 i)); rw [zflt2_lc]; rfl) (fun lb hb => kk lb (by have h9 := lv_sub hb ks rfl; rw [zpick_lc, hls] at h9; exact h9))) k
theorem Wp_dstore_n {j : Fin 4} {i : Nat} {x : UInt64} (ks : List Nat) {ls' : List (Nat × ZV)} (hd : decode (zyb Y) pc = .ok (.dstore_n j, 1)) (hi : (j : Nat) = i) (hn : i + 1 < zyL Y) (hls : zpick ((i, vD x) :: ls.filter (zflt2 i)) ks = ls') (k : Wp G Y (pc + 1) ls' st μ Q E) : Wp G Y pc ls (vD x :: st) μ Q E := Wp.loc (fun h h' => ⟨zpick_ok hls (zst_ok (zv_D _) h _), zv_tail h'⟩) (fun p e R s m args below meth c H locs cells slots la F C hF hl kk => lv_dstore_n C.1 C.2.1 hd hi hl hn (by show (i, zc (vD x)) :: _ = zlc ((i, vD x) :: ls.filter (zflt2 i)); rw [zflt2_lc]; rfl) (fun lb hb => kk lb (by have h9 := lv_sub hb ks rfl; rw [zpick_lc, hls] at h9; exact h9))) k
theorem Wp_dstore {i : Nat} {x : UInt64} (ks : List Nat) {ls' : List (Nat × ZV)} (hd : decode (zyb Y) pc = .ok (.dstore i, 2)) (hn : i + 1 < zyL Y) (hls : zpick ((i, vD x) :: ls.filter (zflt2 i)) ks = ls') (k : Wp G Y (pc + 2) ls' st μ Q E) : Wp G Y pc ls (vD x :: st) μ Q E := Wp.loc (fun h h' => ⟨zpick_ok hls (zst_ok (zv_D _) h _), zv_tail h'⟩) (fun p e R s m args below meth c H locs cells slots la F C hF hl kk => lv_dstore C.1 C.2.1 hd hl hn (by show (i, zc (vD x)) :: _ = zlc ((i, vD x) :: ls.filter (zflt2 i)); rw [zflt2_lc]; rfl) (fun lb hb => kk lb (by have h9 := lv_sub hb ks rfl; rw [zpick_lc, hls] at h9; exact h9))) k
theorem Wp_astore_n {j : Fin 4} {i : Nat} {x : ZP} (ks : List Nat) {ls' : List (Nat × ZV)} (hd : decode (zyb Y) pc = .ok (.astore_n j, 1)) (hi : (j : Nat) = i) (hn : i < zyL Y) (hls : zpick ((i, vP x) :: ls.filter (zflt i)) ks = ls') (k : Wp G Y (pc + 1) ls' st μ Q E) : Wp G Y pc ls (vP x :: st) μ Q E := by
  refine Wp.loc (fun h h' => ⟨zpick_ok hls (zst_ok (zv_head h') h _), zv_tail h'⟩) (fun p e R s m args below meth c H locs cells slots la F C hF hl kk => ?_) k
  have e0 : zc (vP x) = zcp x := rfl
  rw [List.map_cons, e0]
  have hz : (i, zcp x) :: (zlc ls).filter (fun q => !(q.1 == i) && !(q.1 + 1 == i && q.2.category == 2)) = zlc ((i, vP x) :: ls.filter (zflt i)) := by rw [zflt_lc]; rfl
  rcases zcp_or x with h | h
  · rw [h] at hz ⊢
    exact lv_astore_nN C.1 C.2.1 hd hi hl hn hz (fun lb hb => kk lb (by have h9 := lv_sub hb ks rfl; rw [zpick_lc, hls] at h9; exact h9))
  · rw [h] at hz ⊢
    exact lv_astore_n C.1 C.2.1 hd hi hl hn hz (fun lb hb => kk lb (by have h9 := lv_sub hb ks rfl; rw [zpick_lc, hls] at h9; exact h9))
theorem Wp_astore {i : Nat} {x : ZP} (ks : List Nat) {ls' : List (Nat × ZV)} (hd : decode (zyb Y) pc = .ok (.astore i, 2)) (hn : i < zyL Y) (hls : zpick ((i, vP x) :: ls.filter (zflt i)) ks = ls') (k : Wp G Y (pc + 2) ls' st μ Q E) : Wp G Y pc ls (vP x :: st) μ Q E := by
  refine Wp.loc (fun h h' => ⟨zpick_ok hls (zst_ok (zv_head h') h _), zv_tail h'⟩) (fun p e R s m args below meth c H locs cells slots la F C hF hl kk => ?_) k
  have e0 : zc (vP x) = zcp x := rfl
  rw [List.map_cons, e0]
  have hz : (i, zcp x) :: (zlc ls).filter (fun q => !(q.1 == i) && !(q.1 + 1 == i && q.2.category == 2)) = zlc ((i, vP x) :: ls.filter (zflt i)) := by rw [zflt_lc]; rfl
  rcases zcp_or x with h | h
  · rw [h] at hz ⊢
    exact lv_astoreN C.1 C.2.1 hd hl hn hz (fun lb hb => kk lb (by have h9 := lv_sub hb ks rfl; rw [zpick_lc, hls] at h9; exact h9))
  · rw [h] at hz ⊢
    exact lv_astore C.1 C.2.1 hd hl hn hz (fun lb hb => kk lb (by have h9 := lv_sub hb ks rfl; rw [zpick_lc, hls] at h9; exact h9))
theorem Wp_iinc {i : Nat} {n : Int} {x v : Int32} (j : Nat) (ks : List Nat) {ls' : List (Nat × ZV)} (hd : decode (zyb Y) pc = .ok (.iinc i n, 3)) (hj : ls[j]? = some (i, vI x)) (hv : Int32.ofInt n = v) (hn : i < zyL Y) (hls : zpick ((i, vI (x + v)) :: ls.filter (zflt i)) ks = ls') (k : Wp G Y (pc + 3) ls' st μ Q E) : Wp G Y pc ls st μ Q E :=
  Wp.loc (fun h h' => ⟨zpick_ok hls (zst_ok (zv_I _) h _), h'⟩) (fun p e R s m args below meth c H locs cells slots la F C hF hl kk => lv_iinc (k := j) C.1 C.2.1 hd hl (by show (ls.map _)[j]? = _; rw [List.getElem?_map, hj]; rfl) (by rw [hv]) hn (by show (i, zc (vI (x + v))) :: _ = zlc ((i, vI (x + v)) :: ls.filter (zflt i)); rw [zflt_lc]; rfl) (fun lb hb => kk lb (by have h9 := lv_sub hb ks rfl; rw [zpick_lc, hls] at h9; exact h9))) k
theorem Wp_dup {v : ZV} (hd : decode (zyb Y) pc = .ok (.dup, 1)) (hv : zcat v = 1) (k : Wp G Y (pc + 1) ls (v :: v :: st) μ Q E) : Wp G Y pc ls (v :: st) μ Q E := Wp.stk (fun h => zv_cons (zv_head h) h) (fun p e R s m args below meth c H locs cells slots la F C hF hl kk => lv_dup C.1 C.2.1 hd (by rw [zc_cat, hv]) kk) k
theorem Wp_pop {v : ZV} (hd : decode (zyb Y) pc = .ok (.pop, 1)) (hv : zcat v = 1) (k : Wp G Y (pc + 1) ls st μ Q E) : Wp G Y pc ls (v :: st) μ Q E := Wp.stk (fun h => zv_tail h) (fun p e R s m args below meth c H locs cells slots la F C hF hl kk => lv_pop C.1 C.2.1 hd (by rw [zc_cat, hv]) kk) k
theorem Wp_dup_x1 {v w : ZV} (hd : decode (zyb Y) pc = .ok (.dup_x1, 1)) (hv : zcat v = 1) (hw : zcat w = 1) (k : Wp G Y (pc + 1) ls (v :: w :: v :: st) μ Q E) : Wp G Y pc ls (v :: w :: st) μ Q E := Wp.stk (fun h => zv_cons (zv_head h) (zv_cons (zv_head (zv_tail h)) (zv_cons (zv_head h) (zv_tail (zv_tail h))))) (fun p e R s m args below meth c H locs cells slots la F C hF hl kk => lv_dup_x1 C.1 C.2.1 hd (by rw [zc_cat, hv]) (by rw [zc_cat, hw]) kk) k
theorem Wp_dup_x2 {v w u : ZV} (hd : decode (zyb Y) pc = .ok (.dup_x2, 1)) (hv : zcat v = 1) (hw : zcat w = 1) (hu : zcat u = 1) (k : Wp G Y (pc + 1) ls (v :: w :: u :: v :: st) μ Q E) : Wp G Y pc ls (v :: w :: u :: st) μ Q E := Wp.stk (fun h => zv_cons (zv_head h) (zv_cons (zv_head (zv_tail h)) (zv_cons (zv_head (zv_tail (zv_tail h))) (zv_cons (zv_head h) (zv_tail (zv_tail (zv_tail h))))))) (fun p e R s m args below meth c H locs cells slots la F C hF hl kk => lv_dup_x2 C.1 C.2.1 hd (by rw [zc_cat, hv]) (by rw [zc_cat, hw]) (by rw [zc_cat, hu]) kk) k
theorem Wp_dup2 {v w : ZV} (hd : decode (zyb Y) pc = .ok (.dup2, 1)) (hv : zcat v = 1) (hw : zcat w = 1) (k : Wp G Y (pc + 1) ls (v :: w :: v :: w :: st) μ Q E) : Wp G Y pc ls (v :: w :: st) μ Q E := Wp.stk (fun h => zv_cons (zv_head h) (zv_cons (zv_head (zv_tail h)) h)) (fun p e R s m args below meth c H locs cells slots la F C hF hl kk => lv_dup2_11 C.1 C.2.1 hd (by rw [zc_cat, hv]) (by rw [zc_cat, hw]) kk) k
theorem Wp_goto {off : Int} {tgt : Nat} (hd : decode (zyb Y) pc = .ok (.goto off, 3)) (ht : (pc : Int) + off = (tgt : Int)) (k : Wp G Y tgt ls st μ Q E) : Wp G Y pc ls st μ Q E := Wp.stk (fun h => h) (fun p e R s m args below meth c H locs cells slots la F C hF hl kk => lv_goto C.1 C.2.1 hd ht kk) k
theorem Wp_if_eq {x : Int32} {off : Int} {tgt : Nat} (hd : decode (zyb Y) pc = .ok (.ifCond .eq off, 3)) (ht : (pc : Int) + off = (tgt : Int)) (kt : x = 0 → Wp G Y tgt ls st μ Q E) (kf : ¬ x = 0 → Wp G Y (pc + 3) ls st μ Q E) : Wp G Y pc ls (vI x :: st) μ Q E := Wp.bra (C := x = 0) (fun h => zv_tail h) (fun p e R s m args below meth c H locs cells slots la F C hF hl hv a b => lv_if_eq C.1 C.2.1 hd ht a b) kt kf
theorem Wp_icmp_eq {x y : Int32} {off : Int} {tgt : Nat} (hd : decode (zyb Y) pc = .ok (.if_icmp .eq off, 3)) (ht : (pc : Int) + off = (tgt : Int)) (kt : x = y → Wp G Y tgt ls st μ Q E) (kf : ¬ x = y → Wp G Y (pc + 3) ls st μ Q E) : Wp G Y pc ls (vI y :: vI x :: st) μ Q E := Wp.bra (C := x = y) (fun h => zv_tail (zv_tail h)) (fun p e R s m args below meth c H locs cells slots la F C hF hl hv a b => lv_icmp_eq C.1 C.2.1 hd ht a b) kt kf
theorem Wp_if_ne {x : Int32} {off : Int} {tgt : Nat} (hd : decode (zyb Y) pc = .ok (.ifCond .ne off, 3)) (ht : (pc : Int) + off = (tgt : Int)) (kt : ¬ x = 0 → Wp G Y tgt ls st μ Q E) (kf : x = 0 → Wp G Y (pc + 3) ls st μ Q E) : Wp G Y pc ls (vI x :: st) μ Q E := Wp.bra (C := x = 0) (fun h => zv_tail h) (fun p e R s m args below meth c H locs cells slots la F C hF hl hv a b => lv_if_ne C.1 C.2.1 hd ht b a) kf kt
theorem Wp_icmp_ne {x y : Int32} {off : Int} {tgt : Nat} (hd : decode (zyb Y) pc = .ok (.if_icmp .ne off, 3)) (ht : (pc : Int) + off = (tgt : Int)) (kt : ¬ x = y → Wp G Y tgt ls st μ Q E) (kf : x = y → Wp G Y (pc + 3) ls st μ Q E) : Wp G Y pc ls (vI y :: vI x :: st) μ Q E := Wp.bra (C := x = y) (fun h => zv_tail (zv_tail h)) (fun p e R s m args below meth c H locs cells slots la F C hF hl hv a b => lv_icmp_ne C.1 C.2.1 hd ht b a) kf kt
theorem Wp_if_lt {x : Int32} {off : Int} {tgt : Nat} (hd : decode (zyb Y) pc = .ok (.ifCond .lt off, 3)) (ht : (pc : Int) + off = (tgt : Int)) (kt : x < 0 → Wp G Y tgt ls st μ Q E) (kf : ¬ x < 0 → Wp G Y (pc + 3) ls st μ Q E) : Wp G Y pc ls (vI x :: st) μ Q E := Wp.bra (C := x < 0) (fun h => zv_tail h) (fun p e R s m args below meth c H locs cells slots la F C hF hl hv a b => lv_if_lt C.1 C.2.1 hd ht a b) kt kf
theorem Wp_icmp_lt {x y : Int32} {off : Int} {tgt : Nat} (hd : decode (zyb Y) pc = .ok (.if_icmp .lt off, 3)) (ht : (pc : Int) + off = (tgt : Int)) (kt : x < y → Wp G Y tgt ls st μ Q E) (kf : ¬ x < y → Wp G Y (pc + 3) ls st μ Q E) : Wp G Y pc ls (vI y :: vI x :: st) μ Q E := Wp.bra (C := x < y) (fun h => zv_tail (zv_tail h)) (fun p e R s m args below meth c H locs cells slots la F C hF hl hv a b => lv_icmp_lt C.1 C.2.1 hd ht a b) kt kf
theorem Wp_if_ge {x : Int32} {off : Int} {tgt : Nat} (hd : decode (zyb Y) pc = .ok (.ifCond .ge off, 3)) (ht : (pc : Int) + off = (tgt : Int)) (kt : 0 ≤ x → Wp G Y tgt ls st μ Q E) (kf : ¬ 0 ≤ x → Wp G Y (pc + 3) ls st μ Q E) : Wp G Y pc ls (vI x :: st) μ Q E := Wp.bra (C := 0 ≤ x) (fun h => zv_tail h) (fun p e R s m args below meth c H locs cells slots la F C hF hl hv a b => lv_if_ge C.1 C.2.1 hd ht a b) kt kf
theorem Wp_icmp_ge {x y : Int32} {off : Int} {tgt : Nat} (hd : decode (zyb Y) pc = .ok (.if_icmp .ge off, 3)) (ht : (pc : Int) + off = (tgt : Int)) (kt : y ≤ x → Wp G Y tgt ls st μ Q E) (kf : ¬ y ≤ x → Wp G Y (pc + 3) ls st μ Q E) : Wp G Y pc ls (vI y :: vI x :: st) μ Q E := Wp.bra (C := y ≤ x) (fun h => zv_tail (zv_tail h)) (fun p e R s m args below meth c H locs cells slots la F C hF hl hv a b => lv_icmp_ge C.1 C.2.1 hd ht a b) kt kf
theorem Wp_if_gt {x : Int32} {off : Int} {tgt : Nat} (hd : decode (zyb Y) pc = .ok (.ifCond .gt off, 3)) (ht : (pc : Int) + off = (tgt : Int)) (kt : 0 < x → Wp G Y tgt ls st μ Q E) (kf : ¬ 0 < x → Wp G Y (pc + 3) ls st μ Q E) : Wp G Y pc ls (vI x :: st) μ Q E := Wp.bra (C := 0 < x) (fun h => zv_tail h) (fun p e R s m args below meth c H locs cells slots la F C hF hl hv a b => lv_if_gt C.1 C.2.1 hd ht a b) kt kf
theorem Wp_icmp_gt {x y : Int32} {off : Int} {tgt : Nat} (hd : decode (zyb Y) pc = .ok (.if_icmp .gt off, 3)) (ht : (pc : Int) + off = (tgt : Int)) (kt : y < x → Wp G Y tgt ls st μ Q E) (kf : ¬ y < x → Wp G Y (pc + 3) ls st μ Q E) : Wp G Y pc ls (vI y :: vI x :: st) μ Q E := Wp.bra (C := y < x) (fun h => zv_tail (zv_tail h)) (fun p e R s m args below meth c H locs cells slots la F C hF hl hv a b => lv_icmp_gt C.1 C.2.1 hd ht a b) kt kf
theorem Wp_if_le {x : Int32} {off : Int} {tgt : Nat} (hd : decode (zyb Y) pc = .ok (.ifCond .le off, 3)) (ht : (pc : Int) + off = (tgt : Int)) (kt : x ≤ 0 → Wp G Y tgt ls st μ Q E) (kf : ¬ x ≤ 0 → Wp G Y (pc + 3) ls st μ Q E) : Wp G Y pc ls (vI x :: st) μ Q E := Wp.bra (C := x ≤ 0) (fun h => zv_tail h) (fun p e R s m args below meth c H locs cells slots la F C hF hl hv a b => lv_if_le C.1 C.2.1 hd ht a b) kt kf
theorem Wp_icmp_le {x y : Int32} {off : Int} {tgt : Nat} (hd : decode (zyb Y) pc = .ok (.if_icmp .le off, 3)) (ht : (pc : Int) + off = (tgt : Int)) (kt : x ≤ y → Wp G Y tgt ls st μ Q E) (kf : ¬ x ≤ y → Wp G Y (pc + 3) ls st μ Q E) : Wp G Y pc ls (vI y :: vI x :: st) μ Q E := Wp.bra (C := x ≤ y) (fun h => zv_tail (zv_tail h)) (fun p e R s m args below meth c H locs cells slots la F C hF hl hv a b => lv_icmp_le C.1 C.2.1 hd ht a b) kt kf
theorem Wp_ifnull {x : ZP} {off : Int} {tgt : Nat} (hd : decode (zyb Y) pc = .ok (.ifnull off, 3)) (ht : (pc : Int) + off = (tgt : Int)) (kt : x.1 = 0 → Wp G Y tgt ls st μ Q E) (kf : ¬ x.1 = 0 → Wp G Y (pc + 3) ls st μ Q E) : Wp G Y pc ls (vP x :: st) μ Q E :=
  Wp.bra (C := x.1 = 0) (fun h => zv_tail h) (fun p e R s m args below meth c H locs cells slots la F C hF hl hv a b => by
    have e0 : zc (vP x) = zcp x := rfl
    rw [List.map_cons, e0]
    by_cases h : x.1 = 0
    · rw [zcp_null h]; exact lv_ifnullN C.1 C.2.1 hd ht (a h)
    · rw [zcp_ref h]; exact lv_ifnull C.1 C.2.1 hd (b h)) kt kf
theorem Wp_ifnonnull {x : ZP} {off : Int} {tgt : Nat} (hd : decode (zyb Y) pc = .ok (.ifnonnull off, 3)) (ht : (pc : Int) + off = (tgt : Int)) (kt : ¬ x.1 = 0 → Wp G Y tgt ls st μ Q E) (kf : x.1 = 0 → Wp G Y (pc + 3) ls st μ Q E) : Wp G Y pc ls (vP x :: st) μ Q E :=
  Wp.bra (C := x.1 = 0) (fun h => zv_tail h) (fun p e R s m args below meth c H locs cells slots la F C hF hl hv a b => by
    have e0 : zc (vP x) = zcp x := rfl
    rw [List.map_cons, e0]
    by_cases h : x.1 = 0
    · rw [zcp_null h]; exact lv_ifnonnullN C.1 C.2.1 hd (a h)
    · rw [zcp_ref h]; exact lv_ifnonnull C.1 C.2.1 hd ht (b h)) kf kt
def zop (p : ZP) : Option Nat := match p.1 with
  | 0 => none
  | _ + 1 => some p.2.2
theorem zcp_op (p : ZP) : zcp p = va_rf (zop p) := by
  obtain ⟨t, n, a⟩ := p
  cases t <;> rfl
theorem zop_eq {p q : ZP} (hp : zpk μ p) (hq : zpk μ q) (o1 : p.1 ≠ 251) (o2 : q.1 ≠ 251) : zop p = zop q ↔ p = q := by
  constructor
  · intro h
    exact zcp_inj hp hq o1 o2 (by rw [zcp_op, zcp_op, h])
  · intro h; rw [h]
theorem Wp_acmp_eq {x y : ZP} {off : Int} {tgt : Nat} (hd : decode (zyb Y) pc = .ok (.if_acmp .eq off, 3)) (ht : (pc : Int) + off = (tgt : Int)) (hx : x.1 ≠ 251) (hy : y.1 ≠ 251) (kt : x = y → Wp G Y tgt ls st μ Q E) (kf : ¬ x = y → Wp G Y (pc + 3) ls st μ Q E) : Wp G Y pc ls (vP y :: vP x :: st) μ Q E :=
  Wp.bra (C := x = y) (fun h => zv_tail (zv_tail h)) (fun p e R s m args below meth c H locs cells slots la F C hF hl hv a b => by
    have e0 : zc (vP x) = zcp x := rfl
    have e1 : zc (vP y) = zcp y := rfl
    have q := zop_eq (zv_head (zv_tail hv)) (zv_head hv) hx hy
    rw [List.map_cons, List.map_cons, e0, e1, zcp_op, zcp_op]
    exact lv_acmp_eq C.1 C.2.1 hd ht (fun h => a (q.mp h)) (fun h => b (fun z => h (q.mpr z)))) kt kf
theorem Wp_acmp_ne {x y : ZP} {off : Int} {tgt : Nat} (hd : decode (zyb Y) pc = .ok (.if_acmp .ne off, 3)) (ht : (pc : Int) + off = (tgt : Int)) (hx : x.1 ≠ 251) (hy : y.1 ≠ 251) (kt : ¬ x = y → Wp G Y tgt ls st μ Q E) (kf : x = y → Wp G Y (pc + 3) ls st μ Q E) : Wp G Y pc ls (vP y :: vP x :: st) μ Q E :=
  Wp.bra (C := x = y) (fun h => zv_tail (zv_tail h)) (fun p e R s m args below meth c H locs cells slots la F C hF hl hv a b => by
    have e0 : zc (vP x) = zcp x := rfl
    have e1 : zc (vP y) = zcp y := rfl
    have q := zop_eq (zv_head (zv_tail hv)) (zv_head hv) hx hy
    rw [List.map_cons, List.map_cons, e0, e1, zcp_op, zcp_op]
    exact lv_acmp_ne C.1 C.2.1 hd ht (fun h => b (fun z => h (q.mpr z))) (fun h => a (q.mp h))) kf kt
theorem Wp_tableIn {dflt lo hi : Int} {offs : Array Int} {len : Nat} {x : Int32} {off : Int} {tgt : Nat} (hd : decode (zyb Y) pc = .ok (.tableswitch dflt lo hi offs, len)) (h1 : ¬ x.toInt < lo) (h2 : ¬ hi < x.toInt) (ho : offs[(x.toInt - lo).toNat]? = some off) (ht : (pc : Int) + off = (tgt : Int)) (k : Wp G Y tgt ls st μ Q E) : Wp G Y pc ls (vI x :: st) μ Q E := Wp.stk (fun h => zv_tail h) (fun p e R s m args below meth c H locs cells slots la F C hF hl kk => lv_tableIn C.1 C.2.1 hd h1 h2 ho ht kk) k
theorem Wp_tableOut {dflt lo hi : Int} {offs : Array Int} {len : Nat} {x : Int32} {tgt : Nat} (hd : decode (zyb Y) pc = .ok (.tableswitch dflt lo hi offs, len)) (h : x.toInt < lo ∨ hi < x.toInt) (ht : (pc : Int) + dflt = (tgt : Int)) (k : Wp G Y tgt ls st μ Q E) : Wp G Y pc ls (vI x :: st) μ Q E := Wp.stk (fun h => zv_tail h) (fun p e R s m args below meth c H locs cells slots la F C hF hl kk => lv_tableOut C.1 C.2.1 hd h ht kk) k
theorem Wp_lookup {dflt : Int} {ps : Array (Int × Int)} {len : Nat} {x : Int32} {off : Int} {tgt : Nat} (hd : decode (zyb Y) pc = .ok (.lookupswitch dflt ps, len)) (hp : (ps.toList.zip (ps.toList.drop 1)).all (fun (a, next) => a.1 < next.1) = true) (ho : Op.lookupswitch.offset ps.toList dflt x.toInt = off) (ht : (pc : Int) + off = (tgt : Int)) (k : Wp G Y tgt ls st μ Q E) : Wp G Y pc ls (vI x :: st) μ Q E := Wp.stk (fun h => zv_tail h) (fun p e R s m args below meth c H locs cells slots la F C hF hl kk => lv_lookup C.1 C.2.1 hd hp ho ht kk) k
/-- constants of the pool -/
theorem Wp_ldc {own : String} {index : Nat} {v : Int32} (ho : own = (zyn Y).cls) (hq : Cond.constant own index v ∈ lw_all) (hd : decode (zyb Y) pc = .ok (.ldc index, 2)) (k : Wp G Y (pc + 2) ls (vI v :: st) μ Q E) : Wp G Y pc ls st μ Q E := by
  subst ho
  exact Wp.stk (fun h => zv_cons (zv_I _) h) (fun p e R s m args below meth c H locs cells slots la F C hF hl kk => lv_ldc C.1 C.2.1 C.2.2.2.2.2.1 (C.2.2.2.2.2.2.2.1 _ hq) hd kk) k
theorem Wp_ldcw {own : String} {index : Nat} {v : Int32} (ho : own = (zyn Y).cls) (hq : Cond.constant own index v ∈ lw_all) (hd : decode (zyb Y) pc = .ok (.ldc_w index, 3)) (k : Wp G Y (pc + 3) ls (vI v :: st) μ Q E) : Wp G Y pc ls st μ Q E := by
  subst ho
  exact Wp.stk (fun h => zv_cons (zv_I _) h) (fun p e R s m args below meth c H locs cells slots la F C hF hl kk => lv_ldcw C.1 C.2.1 C.2.2.2.2.2.1 (C.2.2.2.2.2.2.2.1 _ hq) hd kk) k
theorem Wp_ldcf {own : String} {index : Nat} {v : UInt32} (ho : own = (zyn Y).cls) (hq : Cond.constantFloat own index v ∈ lw_all) (hd : decode (zyb Y) pc = .ok (.ldc index, 2)) (k : Wp G Y (pc + 2) ls (vF v :: st) μ Q E) : Wp G Y pc ls st μ Q E := by
  subst ho
  exact Wp.stk (fun h => zv_cons (zv_F _) h) (fun p e R s m args below meth c H locs cells slots la F C hF hl kk => lv_ldcf C.1 C.2.1 C.2.2.2.2.2.1 (C.2.2.2.2.2.2.2.1 _ hq) hd kk) k
theorem Wp_ldc2 {own : String} {index : Nat} {v : Int64} (ho : own = (zyn Y).cls) (hq : Cond.constantLong own index v ∈ lw_all) (hd : decode (zyb Y) pc = .ok (.ldc2_w index, 3)) (k : Wp G Y (pc + 3) ls (vL v :: st) μ Q E) : Wp G Y pc ls st μ Q E := by
  subst ho
  exact Wp.stk (fun h => zv_cons (zv_L _) h) (fun p e R s m args below meth c H locs cells slots la F C hF hl kk => lv_ldc2 C.1 C.2.1 C.2.2.2.2.2.1 (C.2.2.2.2.2.2.2.1 _ hq) hd kk) k
theorem Wp_ldc2d {own : String} {index : Nat} {v : UInt64} (ho : own = (zyn Y).cls) (hq : Cond.constantDouble own index v ∈ lw_all) (hd : decode (zyb Y) pc = .ok (.ldc2_w index, 3)) (k : Wp G Y (pc + 3) ls (vD v :: st) μ Q E) : Wp G Y pc ls st μ Q E := by
  subst ho
  exact Wp.stk (fun h => zv_cons (zv_D _) h) (fun p e R s m args below meth c H locs cells slots la F C hF hl kk => lv_ldc2d C.1 C.2.1 C.2.2.2.2.2.1 (C.2.2.2.2.2.2.2.1 _ hq) hd kk) k
end ZR
