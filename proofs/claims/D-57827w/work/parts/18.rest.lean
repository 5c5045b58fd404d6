/-! THE OWN LAYER, 9: casts, statics, constants, Object's constructor, Math.abs, clone, exceptions -/
section ZL
variable {G : ZG} {Y : ZY} {pc : Nat} {ls : List (Nat × ZV)} {st : List ZV} {μ : ZM} {Q : Option ZV → ZM → Prop} {E : ZP → ZM → Prop}
/-- an instruction that leaves memory and locals alone, with all that is known -/
theorem Wp.stf {pc' : Nat} {st' : List ZV} (hv : zgd G μ → (∀ v ∈ st, zvk μ v) → ∀ v ∈ st', zvk μ v)
    (hm : ∀ (p : Program) (e : Env) (R : Room) (s : State) (m : MethodId) (args : Array Value) (below : List Frame) (meth : Method) (c : Code) (H : Heap) (locs : List Loc) (cells slots : Nat) (la : Array Slot) (F : State → Prop), zgok G → zgd G μ → zctx G Y p s m args meth c → zfit G μ H → lv_has la (zyL Y) (zlc ls) → (∀ v ∈ st, zvk μ v) → zyl Y ≤ R.frames → zwl (zyl Y) ≤ R.locals → cells ≤ R.cells → slots ≤ R.slots → W p (zgl G) e R s m args below meth c H locs cells slots F (F0 m pc' la (st'.map zc)) → W p (zgl G) e R s m args below meth c H locs cells slots F (F0 m pc la (st.map zc)))
    (k : Wp G Y pc' ls st' μ Q E) : Wp G Y pc ls st μ Q E := by
  intro h1 h2 h3 h4
  obtain ⟨o, ρ, e1, e2, e3, e4, hs⟩ := k h1 h2 h3 (hv h2 h4)
  refine ⟨o, ρ, e1, e2, e3, e4, ?_⟩
  intro p e R s m args below meth c H locs cells slots la hC hF hl hL hf hw hc hsl2
  exact hm p e R s m args below meth c H locs cells slots la _ h1 h2 hC hF hl h4 hf hw (by omega) (by omega) (hs p e R s m args below meth c H locs cells slots la hC hF hl hL hf hw hc hsl2)
/-- checkcast -/
theorem Wp_cast {own C : String} {index : Nat} {q : ZP} (ho : own = (zyn Y).cls) (hl : Cond.classLink own index C ∈ lw_all) (hd : decode (zyb Y) pc = .ok (.checkcast index, 3)) (hq : q.1 = 0 ∨ zcan q.1 C) (k : Wp G Y (pc + 3) ls (vP q :: st) μ Q E) : Wp G Y pc ls (vP q :: st) μ Q E := by
  refine Wp.stf (fun _ h => h) (fun p e R s m args below meth c H locs cells slots la F h1 h2 hC hF hla h4 hf hw hc hs kk => ?_) k
  rw [List.map_cons, show zc (vP q) = zcp q from rfl] at kk ⊢
  rcases hq with hq | hq
  · rw [zcp_null hq] at kk ⊢
    exact lv_castN hC.1 hC.2.1 hd kk
  · have hk := hC.2.2.2.2.2.2.2.2.1
    obtain ⟨h0, cell, c1, c2, c3⟩ := zobj h1 hk hF (show zpk μ q from zv_head h4) hq.1
    rw [zcp_ref h0] at kk ⊢
    subst ho
    have hts := hC.2.2.2.2.2.2.2.1
    rcases hq.2 with e9 | e9
    · exact va_castE hC.1 hC.2.1 hC.2.2.2.2.2.1 (hts _ hl) ⟨cell, c1, c2.1.1, by rw [← e9]; exact c3⟩ hd kk
    · exact va_castY hC.1 hC.2.1 hC.2.2.2.2.2.1 (hts _ hl) (va_Nw.of rfl (zw_C (args := args) h1 hk e9)) ⟨cell, c1, c2.1.1, c3⟩ hd kk
/-- instanceof: it is one -/
theorem Wp_inst1 {own C : String} {index : Nat} {q : ZP} (ho : own = (zyn Y).cls) (hl : Cond.classLink own index C ∈ lw_all) (hd : decode (zyb Y) pc = .ok (.instanceof index, 3)) (hq : zcan q.1 C) (k : Wp G Y (pc + 3) ls (vI 1 :: st) μ Q E) : Wp G Y pc ls (vP q :: st) μ Q E := by
  refine Wp.stf (fun _ h => zv_cons (zv_I _) (zv_tail h)) (fun p e R s m args below meth c H locs cells slots la F h1 h2 hC hF hla h4 hf hw hc hs kk => ?_) k
  rw [List.map_cons, show zc (vI 1) = .int 1 from rfl] at kk
  rw [List.map_cons, show zc (vP q) = zcp q from rfl]
  have hk := hC.2.2.2.2.2.2.2.2.1
  obtain ⟨h0, cell, c1, c2, c3⟩ := zobj h1 hk hF (show zpk μ q from zv_head h4) hq.1
  rw [zcp_ref h0]
  subst ho
  have hts := hC.2.2.2.2.2.2.2.1
  rcases hq.2 with e9 | e9
  · exact va_instE hC.1 hC.2.1 hC.2.2.2.2.2.1 (hts _ hl) ⟨cell, c1, c2.1.1, by rw [← e9]; exact c3⟩ hd kk
  · exact va_instY hC.1 hC.2.1 hC.2.2.2.2.2.1 (hts _ hl) (va_Nw.of rfl (zw_C (args := args) h1 hk e9)) ⟨cell, c1, c2.1.1, c3⟩ hd kk
/-- instanceof: null, or it is none -/
theorem Wp_inst0 {own C : String} {index : Nat} {q : ZP} (ho : own = (zyn Y).cls) (hl : Cond.classLink own index C ∈ lw_all) (hd : decode (zyb Y) pc = .ok (.instanceof index, 3)) (hq : q.1 = 0 ∨ (zkc q.1 = true ∧ (zcls q.1, C) ∈ zncT)) (k : Wp G Y (pc + 3) ls (vI 0 :: st) μ Q E) : Wp G Y pc ls (vP q :: st) μ Q E := by
  refine Wp.stf (fun _ h => zv_cons (zv_I _) (zv_tail h)) (fun p e R s m args below meth c H locs cells slots la F h1 h2 hC hF hla h4 hf hw hc hs kk => ?_) k
  rw [List.map_cons, show zc (vI 0) = .int 0 from rfl] at kk
  rw [List.map_cons, show zc (vP q) = zcp q from rfl]
  rcases hq with hq | hq
  · rw [zcp_null hq]
    exact lv_instN hC.1 hC.2.1 hd kk
  · have hk := hC.2.2.2.2.2.2.2.2.1
    obtain ⟨h0, cell, c1, c2, c3⟩ := zobj h1 hk hF (show zpk μ q from zv_head h4) hq.1
    rw [zcp_ref h0]
    subst ho
    exact va_instNo hC.1 hC.2.1 hC.2.2.2.2.2.1 (hC.2.2.2.2.2.2.2.1 _ hl) (va_Nc.moved hk.1.alike (h1.2.2.2.2.2.2.2.2.2.1 _ hq.2)) ⟨cell, c1, c2.1.1, c3⟩ hd kk
/-- a static that holds a reference -/
theorem Wp.gst {v : ZV} {own C nm ds : String} {index : Nat} (ho : own = (zyn Y).cls) (hl : Cond.fieldLink own index C nm ds ∈ lw_all) (hd : decode (zyb Y) pc = .ok (.getstatic index, 3)) (hZ : zgok G → va_Z C nm ds (zc v) (fun a => zlo G ≤ a) (zgs G) (zgs G).heap) (hvk : zgd G μ → zvk μ v)
    (k : Wp G Y (pc + 3) ls (v :: st) μ Q E) : Wp G Y pc ls st μ Q E := by
  refine Wp.stf (fun h2 h => zv_cons (hvk h2) h) (fun p e R s m args below meth c H locs cells slots la F h1 h2 hC hF hla h4 hf hw hc hs kk => ?_) k
  subst ho
  have hk := hC.2.2.2.2.2.2.2.2.1
  obtain ⟨cf, kf, fi, f, a, cell, b1, b2, b3, b4, b5, b6, b7, b8⟩ := va_Z.moved hk.1.alike (hZ h1)
  exact W.gets hC.1 hC.2.1 hC.2.2.2.2.2.1 (hC.2.2.2.2.2.2.2.1 _ hl) b1 b2 b3 b4 (by rw [hF.2.2.1 a (Nat.lt_of_not_le b8)]; exact b5) (fun e => by rw [e] at b6; cases b6) b7 rfl hd kk
theorem Wp_getsP (k : Nat) {own C nm ds : String} {index : Nat} (ho : own = (zyn Y).cls) (hl : Cond.fieldLink own index C nm ds ∈ lw_all) (hd : decode (zyb Y) pc = .ok (.getstatic index, 3)) (hk : zstT[k]? = some (C, nm, ds)) (kk : Wp G Y (pc + 3) ls (vP (zgS G k) :: st) μ Q E) : Wp G Y pc ls st μ Q E :=
  Wp.gst (v := vP (zgS G k)) ho hl hd (fun hg => hg.2.2.2.2.2.1 k _ hk) (fun h => h.2 k) kk
theorem Wp_getsI (k : Nat) {own C nm ds : String} {index : Nat} {x : Int32} (ho : own = (zyn Y).cls) (hl : Cond.fieldLink own index C nm ds ∈ lw_all) (hd : decode (zyb Y) pc = .ok (.getstatic index, 3)) (hk : zsiT[k]? = some (C, nm, ds, x)) (kk : Wp G Y (pc + 3) ls (vI x :: st) μ Q E) : Wp G Y pc ls st μ Q E :=
  Wp.gst (v := vI x) ho hl hd (fun hg => hg.2.2.2.2.2.2.1 k _ hk) (fun _ => trivial) kk
/-- a String constant -/
theorem Wp_ldcs (k j : Nat) {own : String} {index : Nat} (ho : own = (zyn Y).cls) (hk : zsrT[k]? = some (own, index, j)) (hd : decode (zyb Y) pc = .ok (.ldc index, 2)) (kk : Wp G Y (pc + 2) ls (vP (zgS G (100 + j)) :: st) μ Q E) : Wp G Y pc ls st μ Q E := by
  refine Wp.stf (fun h2 h => zv_cons (show zvk μ (vP (zgS G (100 + j))) from h2.2 _) h) (fun p e R s m args below meth c H locs cells slots la F h1 h2 hC hF hla h4 hf hw hc hs k9 => ?_) kk
  subst ho
  obtain ⟨hR, ht⟩ := h1.2.2.2.2.2.2.2.1 k _ hk
  rw [List.map_cons, show zc (vP (zgS G (100 + j))) = .ref (zgS G (100 + j)).2.2 from zcp_ref (by rw [show (zgS G (100 + j)).1 = 123 from ht]; decide)] at k9
  exact va_ldcS hC.1 hC.2.1 hC.2.2.2.2.2.1 (vk_R.warm hC.2.2.2.2.2.2.2.2.1.1 hR) hd k9
theorem Wp_ldcws (k j : Nat) {own : String} {index : Nat} (ho : own = (zyn Y).cls) (hk : zsrT[k]? = some (own, index, j)) (hd : decode (zyb Y) pc = .ok (.ldc_w index, 3)) (kk : Wp G Y (pc + 3) ls (vP (zgS G (100 + j)) :: st) μ Q E) : Wp G Y pc ls st μ Q E := by
  refine Wp.stf (fun h2 h => zv_cons (show zvk μ (vP (zgS G (100 + j))) from h2.2 _) h) (fun p e R s m args below meth c H locs cells slots la F h1 h2 hC hF hla h4 hf hw hc hs k9 => ?_) kk
  subst ho
  obtain ⟨hR, ht⟩ := h1.2.2.2.2.2.2.2.1 k _ hk
  rw [List.map_cons, show zc (vP (zgS G (100 + j))) = .ref (zgS G (100 + j)).2.2 from zcp_ref (by rw [show (zgS G (100 + j)).1 = 123 from ht]; decide)] at k9
  have hR' := vk_R.warm hC.2.2.2.2.2.2.2.2.1.1 hR
  intro T hT X
  obtain ⟨t9, a1, b1⟩ := k9 T hT X
  obtain ⟨k, cf, i, a', hk7, hcf, hcp, -, hr, hev'⟩ := Cond.stringRef_spec hC.2.2.2.2.2.1 hR'.1
  cases hR'.2.symm.trans hev'
  obtain ⟨k', hk', he⟩ := X.warmed.alike.2.2 _ _ hk7
  have hr' : k'.resolved[index]? = some (some (.string (zgS G (100 + j)).2.2)) := by
    rcases X.warmed.entry hk7 hk' index with h | ⟨h, -⟩
    · rw [h]; exact hr
    · rw [hr] at h; cases h
  refine ⟨t9, ?_, b1⟩
  have hd' : decode c.code pc = .ok (.ldc_w index, 3) := by rw [hC.2.1]; exact hd
  jvm_step X.here [hC.1, hd', ldc_w.wp_string (e := e) (s := T) (f := F0 m pc la (st.map zc)) X.here.top hk' (by rw [he]; exact hcf) hcp hr']
  exact a1
/-- Object's constructor -/
theorem Wp_objInit {own : String} {index : Nat} {q : ZP} (ho : own = (zyn Y).cls) (hl : Cond.methodLink own index Lib.objectInit ∈ lw_all) (hd : decode (zyb Y) pc = .ok (.invokespecial index, 3)) (hq : q.1 ≠ 0) (hlv : 1 ≤ zyl Y) (hst : (st.map zcat).sum ≤ 100) (k : Wp G Y (pc + 3) ls st μ Q E) : Wp G Y pc ls (vP q :: st) μ Q E := by
  refine Wp.stf (fun _ h => zv_tail h) (fun p e R s m args below meth c H locs cells slots la F h1 h2 hC hF hla h4 hf hw hc hs kk => ?_) k
  subst ho
  have hts := hC.2.2.2.2.2.2.2.1
  have hr := zrest hst
  rw [List.map_cons, show zc (vP q) = .ref q.2.2 from zcp_ref hq]
  exact W.objInit hC.1 hC.2.1 hC.2.2.2.2.2.1 (hts _ hl) (hts _ q237) (hts _ q238) rfl (by rw [hC.2.2.2.2.1]; exact hla.1) rfl hd (Nat.le_trans hlv hf) (by show 2 * 0 + _ + 12 ≤ _; unfold zwl at hw; omega) kk
/-- Math.abs -/
theorem Wp_abs {own : String} {index : Nat} {x : Int32} (ho : own = (zyn Y).cls) (hl : Cond.methodLink own index Lib.Math.abs.name ∈ lw_all) (hd : decode (zyb Y) pc = .ok (.invokestatic index, 3)) (hlv : 1 ≤ zyl Y) (hst : (st.map zcat).sum ≤ 100) (k : Wp G Y (pc + 3) ls (vI (if 0 ≤ x then x else 0 - x) :: st) μ Q E) : Wp G Y pc ls (vI x :: st) μ Q E := by
  refine Wp.stf (fun _ h => zv_cons (zv_I _) (zv_tail h)) (fun p e R s m args below meth c H locs cells slots la F h1 h2 hC hF hla h4 hf hw hc hs kk => ?_) k
  subst ho
  have hts := hC.2.2.2.2.2.2.2.1
  have hr := zrest hst
  exact va_mabs hC.1 hC.2.1 (by rw [hC.2.2.2.2.1]; exact hla.1.symm) hC.2.2.2.2.2.1 (hts _ hl) (hts _ q1586) (hts _ q177) (hts _ q1587) (Nat.le_trans hlv hf) (by unfold zwl at hw; omega) hc hs hd kk
/-- an array's clone -/
theorem Wp_clone (t : Nat) (ad : String) {own : String} {index : Nat} {q : ZP} {ty : FieldType} (hq' : zelN q.1 = some ty) (hel' : zelN t = some ty) (hty : ty = .int ∨ ty = .byte ∨ ty = .boolean) (had : "[" ++ ty.toString = ad) (ho : own = (zyn Y).cls) (hl : Cond.methodLink own index ⟨ad, "clone", "()Ljava/lang/Object;"⟩ ∈ lw_all) (hsm : Cond.sameMethod ad "java/lang/Object" "clone" "()Ljava/lang/Object;" ∈ lw_all) (hsel : Cond.selects ad ⟨ad, "clone", "()Ljava/lang/Object;"⟩ ⟨"java/lang/Object", "clone", "()Ljava/lang/Object;"⟩ ∈ lw_all) (hcl : Cond.castable ad "java/lang/Cloneable" ∈ lw_tbl)
    (hd : decode (zyb Y) pc = .ok (.invokevirtual index, 3)) (hb : ∀ i, i < q.2.1 → znr ty (zai μ q.2.2 i)) (hlv : 1 ≤ zyl Y) (hst : (st.map zcat).sum ≤ 100) (k : Wp G Y (pc + 3) ls (vP (t, q.2.1, zsz μ) :: st) (zCi (zNew μ t q.2.1 q.2.1) q.2.2 0 (zsz μ) 0 q.2.1) Q E) : Wp G Y pc ls (vP q :: st) μ Q E := by
  obtain ⟨hq, m1, m2⟩ := zelN_sp hq'
  obtain ⟨hel, n1, n2⟩ := zelN_sp hel'
  have h0 := (zel_ci hel).2.2.1
  have hext : zext μ (zCi (zNew μ t q.2.1 q.2.1) q.2.2 0 (zsz μ) 0 q.2.1) := (zext_zNew μ t q.2.1 q.2.1).trans (zext_zCi _ _ _ _ _ _)
  have hnew : zvk (zCi (zNew μ t q.2.1 q.2.1) q.2.2 0 (zsz μ) 0 q.2.1) (vP (t, q.2.1, zsz μ)) := zpk.ext (zext_zCi _ _ _ _ _ _) (zpk_new μ h0 q.2.1 q.2.1)
  refine Wp.al q.2.1 hext rfl rfl (fun a => (a.zNew t q.2.1 q.2.1).zCi _ _ (Nat.lt_succ_self _) _ _) (fun h => zv_cons hnew (fun w hw => (zv_tail h w hw).ext hext)) (fun p e R s m args below meth c H locs cells slots la F h1 hC hok hF hla h4 hf hw hc hs kk => ?_) k
  have hk := hC.2.2.2.2.2.2.2.2.1
  have hts := hC.2.2.2.2.2.2.2.1
  subst ho
  obtain ⟨cell, c1, c2, c3, c4, c5, c6, hlt, -⟩ := zarr h1 hk hF (show zpk μ q from zv_head h4) hq
  obtain ⟨kA, comp, k1, k2, k3', -⟩ := h1.2.2.2.2.1 _ _ hq
  have k3 := k3' m1 m2
  obtain ⟨_, _, _, _, k4', -⟩ := h1.2.2.2.2.1 _ _ hel
  have k4 := k4' n1 n2
  have hcls : s.vm.findClass ad = some cell.cls := by rw [hk.1.alike.findClass, ← had, c4]; exact k3
  have hcA : cell.cls = zgA G t := by rw [c4]; exact Option.some.inj (k3.symm.trans k4)
  obtain ⟨c0, t0, f1, f2, f3⟩ := Cond.castable_spec (zw_C (args := args) h1 hk hcl)
  cases hcls.symm.trans f1
  obtain ⟨-, kS, hkS, compS, hkindS⟩ := id c2
  have hr := zrest hst
  rw [List.map_cons, show zc (vP q) = .ref q.2.2 from zcp_ref (zel_ci hq).2.2.1]
  intro T hT X
  subst hT
  obtain ⟨-, kT, hkT, compT, hkindT⟩ := State.isArrayOf_alike X.warmed.alike c2
  obtain ⟨vm', X', st'⟩ := X.cloneArray hC.1 hC.2.2.2.2.2.1 (hts _ hl) (hts _ hsm) (hts _ q379) (hts _ q380) (hts _ hsel) (a := q.2.2) (cell := cell) c1 (zvm_st c3) (zvm_kn c3) hcls f2 f3
    (fun i v hv => by
      have hi : i < q.2.1 := by rw [← c5]; exact (Array.getElem?_eq_some_iff.mp hv).1
      have hv' : v = zav q.1 μ q.2.2 i := Option.some.inj (hv.symm.trans (c6 i hi))
      have hft := zav_znr hq hty (hb i hi)
      rw [← hv'] at hft
      simpa [State.fitsSlot, State.slotType?, hkT, hkindT] using hft)
    (g := F0 m pc la (.ref q.2.2 :: st.map zc)) rfl (by rw [hC.2.2.2.2.1]; exact hla.1) rfl (by rw [hC.2.1]; exact hd) (Nat.le_trans hlv hf) (by show 2 * 0 + _ + 14 ≤ _; unfold zwl at hw; omega) hc (by rw [c5]; exact hs) (hloader := Vm.clonesLoader_of_array hkS hkindS)
  have hHs := hF.1
  have hF' : zfit G (zCi (zNew μ t q.2.1 q.2.1) q.2.2 0 (zsz μ) 0 q.2.1) (T.heap.push { cls := cell.cls, slots := cell.slots }) := by
    refine zfit_arr (cell := { cls := cell.cls, slots := cell.slots }) hel hF rfl (fun a => ztg_zNew μ t q.2.1 q.2.1 a) (fun a ha => zsame.trans (zsame_zNew (t := t) (n := q.2.1) (k := q.2.1)) (zsame_zCi (Nat.ne_of_lt ha))) (by rw [← hHs]; exact Array.getElem?_push_size) (by rw [Array.size_push, hHs]) (fun q hq => by rw [Array.getElem?_push, if_neg (by omega)]) hcA rfl c5 (fun j hj => ?_)
    rw [c6 j hj, zav_I hel hty, zav_I hq hty, zai_zCi, if_pos ⟨rfl, Nat.zero_le _, by omega⟩, Nat.zero_add, Nat.sub_zero]
    rfl
  have K := kk _ hF'
  rw [List.map_cons, show zc (vP (t, q.2.1, zsz μ)) = .ref (zsz μ) from zcp_ref h0] at K
  rw [c5] at X'
  obtain ⟨t9, b1, b2⟩ := K ((T.setVm vm').pushCell { cls := cell.cls, slots := cell.slots }) rfl X'
  refine ⟨t9, st' t9 ?_, b2⟩
  rw [hHs]
  exact b1
/-! exceptions under way -/
/-- an instruction that throws -/
theorem Wp_athrow {q : ZP} (hd : decode (zyb Y) pc = .ok (.athrow, 1)) (hq : q.1 ≠ 0) (k : Wx G Y pc ls q μ Q E) : Wp G Y pc ls (vP q :: st) μ Q E := by
  intro h1 h2 h3 h4
  obtain ⟨o, ρ, e1, e2, e3, e4, hs⟩ := k h1 h2 h3 (show zpk μ q from zv_head h4) hq
  refine ⟨o, ρ, e1, e2, e3, e4, ?_⟩
  intro p e R s m args below meth c H locs cells slots la hC hF hl hL hf hw hc hsl2
  have K := hs p e R s m args below meth c H locs cells slots la (st.map zc) hC hF hl hL hf hw hc hsl2
  rw [List.map_cons, show zc (vP q) = .ref q.2.2 from zcp_ref hq]
  exact vx_athrow hC.1 hC.2.1 hd K
/-- a row of the exception table passes an exception of tag t by -/
def zpass (Y : ZY) (pc t : Nat) (x : Nat × Nat × Nat × Nat) : Prop := covers ⟨x.1, x.2.1, x.2.2.1, x.2.2.2⟩ pc = false ∨ (x.2.2.2 ≠ 0 ∧ ∃ nm : String, Cond.classLink (zyn Y).cls x.2.2.2 nm ∈ lw_all ∧ (zcls t, nm) ∈ zncT)
theorem zpass.row {p : Program} {e : Env} {s : State} {m : MethodId} {args : Array Value} {meth : Method} {c : Code} (hpl : e.platform.magicAccessors = ({} : Platform).magicAccessors) (hg : zgok G) (hC : zctx G Y p s m args meth c) {t pc : Nat} {cls : ClassId} (hcl : s.vm.findClass (zcls t) = some cls) {x : Nat × Nat × Nat × Nat} (h : zpass Y pc t x) : RowPassed e.platform s m.cls pc cls ⟨x.1, x.2.1, x.2.2.1, x.2.2.2⟩ := by
  rcases h with h | ⟨h0, nm, h1, h2⟩
  · exact Or.inl h
  · obtain ⟨c6, hc6, hcl6⟩ := Cond.classLink_spec hC.2.2.2.2.2.1 (hC.2.2.2.2.2.2.2.1 _ h1) e.platform hpl
    obtain ⟨a8, b8, g1, g2, g3⟩ := va_Nc.moved hC.2.2.2.2.2.2.2.2.1.1.alike (hg.2.2.2.2.2.2.2.2.2.1 _ h2)
    cases Option.some.inj (g1.symm.trans hcl)
    cases Option.some.inj (g2.symm.trans hc6)
    exact Or.inr ⟨h0, _, hcl6, g3⟩
/-- not caught here -/
theorem Wx.out {q : ZP} (hz : zkc q.1 = true) (hp : ∀ x ∈ (zyh Y).getD [], zpass Y pc q.1 x) (hE : E q μ) : Wx G Y pc ls q μ Q E := by
  intro h1 h2 h3 h4 h5
  refine ⟨.inr q, μ, hE, zext.rf μ, h2.1, ⟨h4, h5⟩, ?_⟩
  intro p e R s m args below meth c H locs cells slots la stk hC hF hla hL hf hw hc hs T hT X
  subst hT
  have hpl : e.platform.magicAccessors = ({} : Platform).magicAccessors := by rw [X.admits.platform]
  obtain ⟨-, ce, c1, c2, c3⟩ := zobj h1 hC.2.2.2.2.2.2.2.2.1 hF h4 hz
  obtain ⟨vm', hW', X', st⟩ := X.outThrough hC.2.2.2.1 q.2.2 (g := F0 m pc la stk) rfl rfl rfl (cell := ce) c1 (c2.1.1)
    (by obtain ⟨k9, h9, -⟩ := Vm.findClass_spec c3; exact ⟨k9, h9⟩) (fun z hz => by
      rw [hC.2.2.2.2.2.2.2.2.2] at hz
      unfold tableOf at hz
      obtain ⟨x, hx, hx2⟩ := List.mem_map.mp hz
      rw [← hx2]
      exact (hp x hx).row hpl h1 hC c3)
  obtain ⟨g₀, hfr⟩ := X'.frames_eq
  have hend : Ended ((T.setVm vm').setFrames (.throwing q.2.2 :: below)) below (.threw q.2.2) := State.frames_setFrames _ (State.cur_lt_of_frames hfr)
  have hE9 := X'.ends (.throwing q.2.2 :: below)
  refine ⟨(T.setVm vm').setFrames (.throwing q.2.2 :: below), ?_, .threw q.2.2, X'.here.running, hend, rfl, hF, hE9.1, locs, hE9.2.mono (by omega) (by omega), hL⟩
  rw [X.pushThrowing_eq]
  exact st
/-- caught here -/
theorem Wx.catch {q : ZP} (pre : List (Nat × Nat × Nat × Nat)) (x : Nat × Nat × Nat × Nat) (suf : List (Nat × Nat × Nat × Nat)) (hsp : (zyh Y).getD [] = pre ++ x :: suf) (hz : zkc q.1 = true) (hp : ∀ y ∈ pre, zpass Y pc q.1 y) (hx : covers ⟨x.1, x.2.1, x.2.2.1, x.2.2.2⟩ pc = true) (hty : x.2.2.2 = 0 ∨ ∃ nm : String, x.2.2.2 ≠ 0 ∧ Cond.classLink (zyn Y).cls x.2.2.2 nm ∈ lw_all ∧ zcan q.1 nm) (k : Wp G Y x.2.2.1 ls [vP q] μ Q E) : Wx G Y pc ls q μ Q E := by
  intro h1 h2 h3 h4 h5
  obtain ⟨o, ρ, e1, e2, e3, e4, hs⟩ := k h1 h2 h3 (fun v hv => by rw [List.mem_singleton.mp hv]; exact h4)
  refine ⟨o, ρ, e1, e2, e3, e4, ?_⟩
  intro p e R s m args below meth c H locs cells slots la stk hC hF hla hL hf hw hc hsl T hT X
  subst hT
  have hpl : e.platform.magicAccessors = ({} : Platform).magicAccessors := by rw [X.admits.platform]
  obtain ⟨-, ce, c1, c2, c3⟩ := zobj h1 hC.2.2.2.2.2.2.2.2.1 hF h4 hz
  obtain ⟨vm', X', st⟩ := X.thenCaughtThrough q.2.2 (g := F0 m pc la stk) rfl (Steps.refl _) (cell := ce) c1 (c2.1.1) (by obtain ⟨k9, h9, -⟩ := Vm.findClass_spec c3; exact ⟨k9, h9⟩) (tableOf pre) ⟨x.1, x.2.1, x.2.2.1, x.2.2.2⟩ (tableOf suf) (by rw [hC.2.2.2.2.2.2.2.2.2, hsp]; unfold tableOf; rw [List.map_append, List.map_cons])
    (fun z hz => by
      unfold tableOf at hz
      obtain ⟨y, hy, hy2⟩ := List.mem_map.mp hz
      rw [← hy2]
      exact (hp y hy).row hpl h1 hC c3) hx
    (by
      rcases hty with h | ⟨nm, h0, hl, hc9⟩
      · exact Or.inl h
      · obtain ⟨c6, hc6, hcl6⟩ := Cond.classLink_spec hC.2.2.2.2.2.1 (hC.2.2.2.2.2.2.2.1 _ hl) e.platform hpl
        exact Or.inr ⟨h0, c6, hcl6, hc9.asg h1 hC.2.2.2.2.2.2.2.2.1 c3 hc6⟩)
  have K := hs p e R s m args below meth c T.heap locs cells slots la hC hF hla hL hf hw hc hsl (T.setVm vm') rfl X'
  rw [show [vP q].map zc = [.ref q.2.2] by show [zcp q] = _; rw [zcp_ref h5]] at K
  obtain ⟨t, w1, w2⟩ := K
  exact ⟨t, st.trans w1, w2⟩
/-- a private method, whatever the receiver's class -/
theorem Wp_vpriv (Y' : ZY) (q : ZP) (vs : List ZV) {own : String} {index : Nat} {st' : List ZV} (hY : zyc Y' vs.length) (hin : Cond.instanceMethod (zyn Y') ∈ lw_all) (hpriv : Cond.privateMethod (zyn Y') ∈ lw_tbl) {nm ds : String} (hsm : Cond.sameMethod (zyn Y').cls (zyn Y').cls nm ds ∈ lw_all) (hq : zkc q.1 = true) (ho : own = (zyn Y).cls) (hl : Cond.methodLink own index (zyn Y') ∈ lw_all) (hd : decode (zyb Y) pc = .ok (.invokevirtual index, 3)) (hsig : (parseMethodDescriptor (zyn Y').desc).isSome = true) (hlev : zyl Y' < zyl Y) (hst : (st'.map zcat).sum ≤ 12) (he : st = vs.reverse ++ vP q :: st')
    (K : Call G Y' (vP q :: vs) μ (fun v ν => Wp G Y (pc + 3) ls (v.toList ++ st') ν Q E) (fun q ν => Wx G Y pc ls q ν Q E)) : Wp G Y pc ls st μ Q E := by
  refine Wp.call hY hlev hst hd (zsplit (vs := vP q :: vs) (by rw [he]; simp)) (fun p e R s m args below meth c T locs cells slots la h1 hC hF h4 X => ?_) K
  have hts := hC.2.2.2.2.2.2.2.1
  subst ho
  subst he
  obtain ⟨h0, cell, c1, c2, c3⟩ := zobj h1 hC.2.2.2.2.2.2.2.2.1 hF (show zpk μ q from h4 (vP q) (by simp)) hq
  have e0 : zc (vP q) = .ref q.2.2 := zcp_ref h0
  obtain ⟨mk, methM, hnamed, hmethM, hstM, habM⟩ := Cond.instanceMethod_spec (hts _ hin)
  obtain ⟨mk9, methM9, hn9, hm9, hsg⟩ := zmet_sig hY hts
  cases hnamed.symm.trans hn9
  cases hmethM.symm.trans hm9
  obtain ⟨sig, hs⟩ := Option.isSome_iff_exists.mp hsig
  have hW := hC.2.2.2.2.2.2.2.2.1.1
  have hP0 : va_Nw (.privateMethod (zyn Y')) (zgs G) := va_Nw.of rfl (h1.1 _ hpriv)
  have hP : va_Nw (.privateMethod (zyn Y')) s := va_tabs rfl (rfl : ((zgs G).setVm s.vm).vm = s.vm) (by rw [Cond.privateMethod_setVm hW.alike]; exact hP0)
  obtain ⟨cn, ck, r1, hcn, hck, hni, -⟩ := Cond.sameMethod_found (hts _ hsm)
  obtain ⟨kP, hkP, -⟩ := className_of_methodNamed hnamed
  have hcls : cn = mk.cls := Option.some.inj (hcn.symm.trans (findClass_of_methodNamed hnamed))
  rw [hcls] at hck
  cases hkP.symm.trans hck
  have hselP : selectMethod e.platform s.vm cell.cls mk = .method mk := by rw [Launch.admits_selectMethod X.admits]; exact selectMethod_private hmethM (Cond.privateMethod_at hP mk methM hnamed hmethM)
  obtain ⟨vm₁, X₁, hstep₁⟩ := X.invokevirtual hC.1 hC.2.2.2.2.2.1 (hts _ hl) hnamed hmethM hstM hkP hni hY.2.2.2.1 (a := q.2.2) (cell := cell) c1
    (zvm_st c2) hselP hmethM habM hkP hni (g := F0 m pc la ((vs.reverse ++ vP q :: st').map zc)) rfl (argsL := vs.map zc) (rest := st'.map zc) (by rw [hsg sig hs, List.length_map]; exact znp_of hY.2.2.1 sig hs) (by show List.map zc _ = _; rw [List.map_append, List.map_reverse, List.map_cons, e0]) (by rw [hC.2.1]; exact hd)
  refine ⟨vm₁, mk, X₁, hnamed, fun target h => hstep₁ target ?_⟩
  rw [List.map_cons, e0] at h
  exact h
end ZL
