set_option maxRecDepth 100000
/-! LAMBDAS, 7: making them -/
/-- a made object -/
def zlm (q : ZP) : Prop := ∃ k Y' n a, zlmI[k]? = some (Y', n) ∧ q = (300 + k, n, a)
theorem lam_three {α : Type} {x : Array Nat} {f : Nat → Nat → Nat → Option α} {r : α} (h : (match x with
    | #[a0, a1, a2] => f a0 a1 a2
    | _ => none) = some r) : ∃ a0 a1 a2, f a0 a1 a2 = some r := by
  rcases x with ⟨_ | ⟨a, _ | ⟨b, _ | ⟨c, _ | ⟨d, l⟩⟩⟩⟩⟩
  · cases h
  · cases h
  · cases h
  · exact ⟨a, b, c, h⟩
  · cases h
theorem lam_dyn {α : Type} {x : Option CpInfo} {f : Nat → Nat → Option α} {r : α} (h : (match x with
    | some (.invokeDynamic b nt) => f b nt
    | _ => none) = some r) : ∃ b nt, x = some (.invokeDynamic b nt) ∧ f b nt = some r := by
  split at h
  · exact ⟨_, _, rfl, h⟩
  · cases h
theorem lam_hdl6 {α : Type} {x : Option CpInfo} {f : Nat → Option α} {r : α} (h : (match x with
    | some (.methodHandle 6 a) => f a
    | _ => none) = some r) : ∃ a, f a = some r := by
  split at h
  · exact ⟨_, h⟩
  · cases h
theorem lam_hdl {α : Type} {x : Option CpInfo} {f : Nat → Nat → Option α} {r : α} (h : (match x with
    | some (.methodHandle k a) => f k a
    | _ => none) = some r) : ∃ k a, f k a = some r := by
  split at h
  · exact ⟨_, _, h⟩
  · cases h
theorem lam_mty {α : Type} {x : Option CpInfo} {f : Nat → Option α} {r : α} (h : (match x with
    | some (.methodType a) => f a
    | _ => none) = some r) : ∃ a, f a = some r := by
  split at h
  · exact ⟨_, h⟩
  · cases h
theorem lam_obj {α : Type} {x : Option FieldType} {f : String → Option α} {r : α} (h : (match x with
    | some (.object a) => f a
    | _ => none) = some r) : ∃ a, f a = some r := by
  split at h
  · exact ⟨_, h⟩
  · cases h
/-- what an instruction's entry says: its descriptor -/
theorem lam_desc {cf : ClassFile} {index : Nat} {σ : Lambda.Shape} (h : Lambda.shapeOf? cf index = some σ) : ∃ (b nt : Nat) (name desc : String) (site : MethodDescriptor), cf.constantPool[index]? = some (.invokeDynamic b nt) ∧ cf.constantPool.nameAndType? nt = some (name, desc) ∧ parseMethodDescriptor desc = some site ∧ site.parameters = σ.captured := by
  unfold Lambda.shapeOf? at h
  obtain ⟨b, nt, e1, h⟩ := lam_dyn h
  obtain ⟨entries, -, h⟩ := Option.bind_eq_some_iff.mp h
  obtain ⟨bm, -, h⟩ := Option.bind_eq_some_iff.mp h
  obtain ⟨r, h⟩ := lam_hdl6 h
  obtain ⟨u, -, h⟩ := Option.bind_eq_some_iff.mp h
  obtain ⟨a0, a1, a2, h⟩ := lam_three h
  obtain ⟨d0, h⟩ := lam_mty h
  obtain ⟨kind, r1, h⟩ := lam_hdl h
  obtain ⟨d2, h⟩ := lam_mty h
  obtain ⟨⟨name, desc⟩, e2, h⟩ := Option.bind_eq_some_iff.mp h
  obtain ⟨site, e3, h⟩ := Option.bind_eq_some_iff.mp h
  obtain ⟨iface, h⟩ := lam_obj h
  obtain ⟨⟨implClass, implName, implDesc, implItf⟩, -, h⟩ := Option.bind_eq_some_iff.mp h
  obtain ⟨x1, -, h⟩ := Option.bind_eq_some_iff.mp h
  obtain ⟨x2, -, h⟩ := Option.bind_eq_some_iff.mp h
  obtain ⟨x3, -, h⟩ := Option.bind_eq_some_iff.mp h
  obtain ⟨x4, -, h⟩ := Option.bind_eq_some_iff.mp h
  obtain ⟨x5, -, h⟩ := Option.bind_eq_some_iff.mp h
  cases h
  exact ⟨b, nt, name, desc, site, e1, e2, e3, rfl⟩
theorem lmCap {k n : Nat} {Y' : ZY} {x : MethodName × Nat × Nat × Lambda.Shape} (h : zlmI[k]? = some (Y', n)) (hx : zlmT[k]? = some x) : x.2.2.2.captured.length = n := by
  match k, h, hx with
  | 0, h, hx => cases h; cases hx; rfl
  | 1, h, hx => cases h; cases hx; rfl
  | 2, h, hx => cases h; cases hx; rfl
  | 3, h, hx => cases h; cases hx; rfl
  | 4, h, hx => cases h; cases hx; rfl
  | 5, h, hx => cases h; cases hx; rfl
  | 6, h, hx => cases h; cases hx; rfl
  | 7, h, hx => cases h; cases hx; rfl
  | 8, h, hx => cases h; cases hx; rfl
  | 9, h, hx => cases h; cases hx; rfl
  | 10, h, hx => cases h; cases hx; rfl
  | 11, h, hx => cases h; cases hx; rfl
  | 12, h, hx => cases h; cases hx; rfl
  | 13, h, hx => cases h; cases hx; rfl
  | k + 14, h, hx => cases h
theorem lam_spec_at {G : ZG} (hg : zgok G) {s : State} (hk : zkk G s) {k : Nat} {x : MethodName × Nat × Nat × Lambda.Shape} (hx : zlmT[k]? = some x) {m : MethodId} (hm : s.methodNamed? x.1 = some m) :
    ∃ (kS : Class) (cf : ClassFile) (i0 p0 : Nat) (lk : Linked), s.vm.classes[m.cls]? = some kS ∧ kS.cf = some cf ∧ kS.name = x.1.cls ∧ Lambda.shapeOf? cf x.2.2.1 = some x.2.2.2 ∧ (kS.callSites.find? fun y => y.1 == m.idx && y.2.1 == x.2.1) = some (i0, p0, lk) ∧ Lambda.isMade { classPath := fun _ => none } s.vm m.cls x.2.2.2 (zgL G (300 + k)) = true ∧ s.lambdaCallable x.2.2.2 (zgL G (300 + k)) = true ∧
      ((∃ a, lk = .constant a ∧ x.2.2.2.captured = [] ∧ zgS G (200 + k) = (300 + k, 0, a)) ∨ (lk = .makes (zgL G (300 + k)) ∧ x.2.2.2.captured ≠ [])) := by
  obtain ⟨one, hat, hone⟩ := hg.2.2.2.2.2.2.2.2.1 k x hx
  obtain ⟨m0, kc, cf, i0, p0, l, hm0, hkc, hcf, hsh, hin, hfind, hmade, hcall, hl⟩ := State.lambdaAt?_spec hat
  have hA := hk.1.alike
  have hm1 : s.methodNamed? x.1 = some m0 := (State.methodNamed?_setVm (s := zgs G) hA x.1).trans hm0
  cases hm.symm.trans hm1
  obtain ⟨kc', hk', he⟩ := hA.2.2 _ _ hkc
  obtain ⟨kn, hkn, hname⟩ := className_of_methodNamed hm
  cases hk'.symm.trans hkn
  have hcall' : s.lambdaCallable x.2.2.2 (zgL G (300 + k)) = true := by
    simp only [State.lambdaCallable, hA.findClass, hA.assignable, hA.superclasses, hA.declaredIn] at hcall ⊢
    exact hcall
  refine ⟨kc', cf, i0, p0, l, hk', by rw [he]; exact hcf, hname, hsh, by rw [he]; exact hfind, Lambda.isMade_warmer hk.1 hmade, hcall', ?_⟩
  rcases hl with ⟨a, cell, h1, h2, h3, -⟩ | ⟨h1, h2, h3⟩
  · exact Or.inl ⟨a, h1, h3, hone a h2⟩
  · exact Or.inr ⟨h1, h3⟩
section ZLQ
variable {G : ZG} {Y : ZY} {pc : Nat} {ls : List (Nat × ZV)} {st : List ZV} {μ : ZM} {Q : Option ZV → ZM → Prop} {E : ZP → ZM → Prop}
/-- a lambda that keeps nothing: the site's one object -/
theorem Wp_lamK (k : Nat) {x : MethodName × Nat × Nat × Lambda.Shape} {a : Nat} (hx : zlmT[k]? = some x) (hx1 : x.1 = zyn Y) (hx2 : x.2.1 = pc) (hcap : x.2.2.2.captured = []) (hd : decode (zyb Y) pc = .ok (.invokedynamic x.2.2.1, 5)) (ha : zgS G (200 + k) = (300 + k, 0, a)) (hst : (st.map zcat).sum ≤ 100)
    (kk : Wp G Y (pc + 5) ls (vP (300 + k, 0, a) :: st) μ Q E) : Wp G Y pc ls st μ Q E := by
  refine Wp.stf (fun h2 h => zv_cons (show zvk μ (vP (300 + k, 0, a)) from by rw [← ha]; exact h2.2 _) h) (fun p e R s m args below meth c H locs cells slots la F h1 h2 hC hF hla h4 hf hw hc hs k9 => ?_) kk
  have hkk := hC.2.2.2.2.2.2.2.2.1
  obtain ⟨kS, cf, i0, p0, lk, g1, g2, g3, g4, g5, g6, g7, g8⟩ := lam_spec_at h1 hkk hx (by rw [hx1]; exact hC.2.2.2.2.2.2.1.2)
  rcases g8 with ⟨a', rfl, -, g9⟩ | ⟨-, g9⟩
  · have ea : a' = a := by rw [ha] at g9; simpa using g9.symm
    subst ea
    intro T hT X
    obtain ⟨t, w1, w2⟩ := k9 T hT X
    refine ⟨t, ?_, w2⟩
    rw [List.map_cons, show zc (vP (300 + k, 0, a')) = .ref a' from zcp_ref (p := (300 + k, 0, a')) (by show 300 + k ≠ 0; omega)] at w1
    exact X.lambdaConstant hC.1 (g := F0 m pc la (st.map zc)) rfl (by rw [hC.2.2.2.2.1]; exact hla.1) (by rw [hC.2.1]; exact hd) g1 (by rw [hx2] at g5; exact g5) (by
      rw [X.admits.platform]
      have h9 : (((st.map zc)).map fun v : Value => v.category).sum ≤ 100 := zrest hst
      unfold zwl at hw
      show 2 * 0 + _ + 3072 ≤ _
      have h8 : (List.map (fun v : Value => v.category) (F0 m pc la (st.map zc)).stack).sum ≤ 100 := h9
      omega) w1
  · exact absurd hcap g9
/-- the cell that a site makes, with its ints -/
theorem lam_new {k n : Nat} {xs : List Int32} (hn : xs.length = n) (hk : k < 14) {H : Heap} {ν : ZM} (hF : zfit G μ H) (hsz : zsz ν = zsz μ + 1) (htg : ∀ a, ztg ν a = if a = zsz μ then (300 + k, n) else ztg μ a) (hsame : ∀ a, a < zsz μ → zsame μ ν a) (hv : ∀ j, j < n → xs[j]? = some (zai ν (zsz μ) j)) :
    zfit G ν (H.push { cls := zgL G (300 + k), slots := (xs.map Value.int).toArray, vm := .none }) := by
  obtain ⟨n1, n2⟩ := lam_no k hk
  refine zfit_new hF hsz htg hsame (by rw [Array.size_push, hF.1]) (fun q hq => by rw [Array.getElem?_push, if_neg (by rw [hF.1]; omega)]) ?_
  unfold zcell
  rw [n1]
  dsimp only
  rw [if_pos (Or.inr (by omega)), if_pos (by omega)]
  refine ⟨_, by rw [← hF.1]; exact Array.getElem?_push_size, rfl, rfl, by simp [hn], fun j hj => ?_⟩
  unfold zav
  rw [n2]
  simp only [List.getElem?_toArray, List.getElem?_map, hv j hj, Option.map_some]
theorem lam_zip (xs : List Int32) : (((Array.replicate xs.length FieldType.int).toList.zip (xs.map Value.int)).map fun (t, v) => narrow t v) = xs.map Value.int := by
  rw [Array.toList_replicate]
  induction xs with
  | nil => rfl
  | cons x xs ih =>
    rw [List.length_cons, List.replicate_succ, List.map_cons, List.zip_cons_cons, List.map_cons, ih]
    rfl
/-- a lambda that keeps ints -/
theorem Wp.lamM (k : Nat) {x : MethodName × Nat × Nat × Lambda.Shape} {Y' : ZY} {n : Nat} {xs : List Int32} {st' : List ZV} {ν : ZM} (hx : zlmT[k]? = some x) (hi : zlmI[k]? = some (Y', n)) (hx1 : x.1 = zyn Y) (hx2 : x.2.1 = pc) (hcap : x.2.2.2.captured ≠ []) (hn : xs.length = n) (hd : decode (zyb Y) pc = .ok (.invokedynamic x.2.2.1, 5)) (hs0 : st = (xs.map vI).reverse ++ st') (hst : (st.map zcat).sum ≤ 100)
    (hext : zext μ ν) (hsz : zsz ν = zsz μ + 1) (hsl : zsl ν = zsl μ + n) (hok : zok μ → zok ν) (htg : ∀ a, ztg ν a = if a = zsz μ then (300 + k, n) else ztg μ a) (hsame : ∀ a, a < zsz μ → zsame μ ν a) (hv : ∀ j, j < n → xs[j]? = some (zai ν (zsz μ) j))
    (kk : Wp G Y (pc + 5) ls (vP (300 + k, n, zsz μ) :: st') ν Q E) : Wp G Y pc ls st μ Q E := by
  obtain ⟨hk14, hn3, x', hx', hchk, -⟩ := lmG_at hi
  cases hx.symm.trans hx'
  refine Wp.al n hext hsz hsl hok (fun h => zv_cons (show zvk ν (vP (300 + k, n, zsz μ)) from show zpk ν (300 + k, n, zsz μ) from Or.inr (Or.inr ⟨(by show 300 + k ≠ 0; omega), (by show zsz μ < _; rw [hsz]; exact Nat.lt_succ_self _), (by show ztg ν (zsz μ) = _; rw [htg, if_pos rfl])⟩)) (fun w hw => (h w (by rw [hs0]; exact List.mem_append_right _ hw)).ext hext)) (fun p e R s m args below meth c H locs cells slots la F h1 hC hok9 hF hla h4 hf hw hc hs k9 => ?_) kk
  have hkk := hC.2.2.2.2.2.2.2.2.1
  have hts := hC.2.2.2.2.2.2.2.1
  obtain ⟨kS, cf, i0, p0, lk, g1, g2, g3, g4, g5, g6, g7, g8⟩ := lam_spec_at h1 hkk hx (by rw [hx1]; exact hC.2.2.2.2.2.2.1.2)
  rcases g8 with ⟨a', -, g9, -⟩ | ⟨rfl, -⟩
  · exact absurd g9 hcap
  obtain ⟨bsm, nt, nm9, desc, site, hcp, hnt, hsite, hpar⟩ := lam_desc g4
  have allw : ∀ (a : Array Value) (w), w ∈ lw_all → w.before a s = true := fun a' w hw' => word_at (State.WarmedH.refl s) (lw_self w hw').2 (hts w hw')
  obtain ⟨kk9, tk9, methk9, ck9, t9, metht9, q1, q2, -⟩ := lam_at h1 hkk.1 allw hi e
  obtain ⟨kK, hkK, htyK, hkindK, -⟩ : ∃ kK, s.vm.classes[zgL G (300 + k)]? = some kK ∧ kK.instanceTypes = Array.replicate n .int ∧ kK.kind = .ordinary ∧ True := by
    obtain ⟨dk', k5, ok5, tk5, file5, cf5, object5, iface5, toy5, lay5, methods5, target5, found5, -, hk5, -, -, -, -, -, -, -, -, -, -, -, hrec5, -⟩ := Lambda.isMade_spec g6
    cases hk5.symm.trans q1
    exact ⟨_, hk5, q2, hrec5.2.1, trivial⟩
  have hz : ((kK.instanceTypes.toList.zip (xs.map Value.int)).map fun (t, v) => narrow t v) = xs.map Value.int := by rw [htyK, ← hn]; exact lam_zip xs
  have hzc : st.map zc = (xs.map Value.int).reverse ++ st'.map zc := by
    rw [hs0, List.map_append, List.map_reverse, List.map_map]
    rfl
  intro T hT X
  have hlen : (xs.map Value.int).length = site.parameters.length := by
    rw [hpar, List.length_map, hn]
    have hc9 : lmChk x.2.2.2 x.1.cls n = true := hchk
    exact (lmCap hi hx).symm
  obtain ⟨X₁, st1⟩ := X.lambdaMakes hC.1 (g := F0 m pc la (st.map zc)) rfl (by rw [hC.2.2.2.2.1]; exact hla.1) (by rw [hC.2.1]; exact hd) (vals := xs.map Value.int) (rest := st'.map zc)
    g1 (by rw [hx2] at g5; exact g5) g2 hcp hnt (parseLong_of_parse hsite) hlen hzc hkK
    (by
      rw [X.admits.platform]
      have h9 : (((st.map zc)).map fun v : Value => v.category).sum ≤ 100 := zrest hst
      unfold zwl at hw
      show 2 * 0 + _ + 3072 ≤ _
      have h8 : (List.map (fun v : Value => v.category) (F0 m pc la (st.map zc)).stack).sum ≤ 100 := h9
      omega) hc (by rw [hz, List.length_map, hn]; exact hs)
    (fun i v hv9 => by
      rw [hz] at hv9
      simp only [List.getElem?_toArray, List.getElem?_map, Option.map_eq_some_iff] at hv9
      obtain ⟨y, hy, rfl⟩ := hv9
      have hi9 : i < n := by rw [← hn]; exact (List.getElem?_eq_some_iff.mp hy).1
      simp [State.fitsSlot, State.slotType?, hkK, hkindK, htyK, fits, hi9])
  rw [hz] at X₁ st1
  have hfit := lam_new (G := G) (k := k) hn hk14 (by rw [← hT] at hF; exact hF) hsz htg hsame hv
  rw [show slots + (xs.map Value.int).toArray.size = slots + n by simp [hn]] at X₁
  obtain ⟨t, w1, w2⟩ := k9 (T.pushCell { cls := zgL G (300 + k), slots := (xs.map Value.int).toArray, vm := .none }).heap hfit (T.pushCell { cls := zgL G (300 + k), slots := (xs.map Value.int).toArray, vm := .none }) rfl X₁
  refine ⟨t, st1 t ?_, w2⟩
  have e0 : zc (vP (300 + k, n, zsz μ)) = .ref (zsz μ) := zcp_ref (p := (300 + k, n, zsz μ)) (by show 300 + k ≠ 0; omega)
  rw [List.map_cons, e0] at w1
  have e1 : T.heap.size = zsz μ := by rw [hT]; exact hF.1
  show Steps _ _ _ ((T.pushCell _).setTop { (F0 m pc la (st.map zc)) with pc := pc + 5, stack := .ref T.heap.size :: st'.map zc }) _
  rw [e1]
  exact w1
theorem Wp_lam1 (k : Nat) {x : MethodName × Nat × Nat × Lambda.Shape} {Y' : ZY} {z1 : Int32} (hx : zlmT[k]? = some x) (hi : zlmI[k]? = some (Y', 1)) (hx1 : x.1 = zyn Y) (hx2 : x.2.1 = pc) (hd : decode (zyb Y) pc = .ok (.invokedynamic x.2.2.1, 5)) (hst : ((vI z1 :: st).map zcat).sum ≤ 100)
    (kk : Wp G Y (pc + 5) ls (vP (300 + k, 1, zsz μ) :: st) (zAi (zNew μ (300 + k) 1 1) (zsz μ) 0 z1) Q E) : Wp G Y pc ls (vI z1 :: st) μ Q E := by
  refine Wp.lamM k (xs := [z1]) (ν := zAi (zNew μ (300 + k) 1 1) (zsz μ) 0 z1) hx hi hx1 hx2 (fun h => by have := lmCap hi hx; rw [h] at this; cases this) rfl hd rfl hst ((zext_zNew μ (300 + k) 1 1).trans (zext_zAi _ _ _ _)) rfl rfl (fun a => (a.zNew (300 + k) 1 1).zAi (Nat.lt_succ_self _) _ _) (fun a => ztg_zNew μ (300 + k) 1 1 a) (fun a ha => (zsame_zNew (t := 300 + k) (n := 1) (k := 1)).trans (zsame_zAi (by show a ≠ zsz μ; omega) _)) (fun j hj => ?_) kk
  match j, hj with
  | 0, _ => rw [zai_zAi, if_pos ⟨rfl, rfl⟩]; rfl
theorem Wp_lam2 (k : Nat) {x : MethodName × Nat × Nat × Lambda.Shape} {Y' : ZY} {z1 z2 : Int32} (hx : zlmT[k]? = some x) (hi : zlmI[k]? = some (Y', 2)) (hx1 : x.1 = zyn Y) (hx2 : x.2.1 = pc) (hd : decode (zyb Y) pc = .ok (.invokedynamic x.2.2.1, 5)) (hst : ((vI z2 :: vI z1 :: st).map zcat).sum ≤ 100)
    (kk : Wp G Y (pc + 5) ls (vP (300 + k, 2, zsz μ) :: st) (zAi (zAi (zNew μ (300 + k) 2 2) (zsz μ) 0 z1) (zsz μ) 1 z2) Q E) : Wp G Y pc ls (vI z2 :: vI z1 :: st) μ Q E := by
  refine Wp.lamM k (xs := [z1, z2]) (ν := zAi (zAi (zNew μ (300 + k) 2 2) (zsz μ) 0 z1) (zsz μ) 1 z2) hx hi hx1 hx2 (fun h => by have := lmCap hi hx; rw [h] at this; cases this) rfl hd rfl hst (((zext_zNew μ (300 + k) 2 2).trans (zext_zAi _ _ _ _)).trans (zext_zAi _ _ _ _)) rfl rfl (fun a => ((a.zNew (300 + k) 2 2).zAi (Nat.lt_succ_self _) _ _).zAi (Nat.lt_succ_self _) _ _) (fun a => ztg_zNew μ (300 + k) 2 2 a) (fun a ha => ((zsame_zNew (t := 300 + k) (n := 2) (k := 2)).trans (zsame_zAi (by show a ≠ zsz μ; omega) _)).trans (zsame_zAi (by show a ≠ zsz μ; omega) _)) (fun j hj => ?_) kk
  match j, hj with
  | 0, _ => rw [zai_zAi, if_neg (fun e => by cases e.2), zai_zAi, if_pos ⟨rfl, rfl⟩]; rfl
  | 1, _ => rw [zai_zAi, if_pos ⟨rfl, rfl⟩]; rfl
/-- a made object into an array of operations -/
theorem Wp_aastL {y : ZP} {i : Int32} {n a : Nat} (hd : decode (zyb Y) pc = .ok (.aastore, 1)) (hl : zlm y) (hin : vp_in i n) (k : Wp G Y (pc + 1) ls st (zAr μ a i.toNatClampNeg y) Q E) : Wp G Y pc ls (vP y :: vI i :: vP (206, n, a) :: st) μ Q E := by
  obtain ⟨k0, Y', n0, a0, hk0, rfl⟩ := hl
  obtain ⟨hk14, hn3, x, hx, hchk, hzyn, hzyc, hstat, hsig, hif, hnm, hsam⟩ := lmG_at hk0
  have hel : zel 206 = some (.object "EchoFair$Operation") := rfl
  have hy0 : zc (vP (300 + k0, n0, a0)) = .ref a0 := zcp_ref (p := (300 + k0, n0, a0)) (by show 300 + k0 ≠ 0; omega)
  refine Wp.ast (q := (206, n, a)) (v := vP (300 + k0, n0, a0)) (w := zcp (300 + k0, n0, a0)) hel rfl hin (zext_zAr _ _ _ _) rfl rfl rfl (fun b c d => b.zAr d _ c) (by rw [zav_P hel, zar_zAr, if_pos ⟨rfl, rfl⟩]; rfl) (fun j h => zav_zAr_oth h _) (fun b h => zsame_zAr h _)
    (fun p e R s m args below meth c H locs cells slots la F cell hg hC hF hv c1 c2 c3 c4 c5 kk => ?_) k
  have hk := hC.2.2.2.2.2.2.2.2.1
  obtain ⟨cv, v1, v2, v3, -⟩ := lam_cell hk14 hF hv
  obtain ⟨one, hat, -⟩ := hg.2.2.2.2.2.2.2.2.1 k0 x hx
  obtain ⟨mD, kD, cfD, i0, p0, lk, hmD, hkD, -, -, -, -, hmade, hcan, -⟩ := State.lambdaAt?_spec hat
  have hA := hk.1.alike
  have hcan' : s.lambdaCallable x.2.2.2 (zgL G (300 + k0)) = true := by
    simp only [State.lambdaCallable, hA.findClass, hA.assignable, hA.superclasses, hA.declaredIn] at hcan ⊢
    exact hcan
  obtain ⟨iI, hi2, hasg, -⟩ := State.lambdaCallable_spec hcan'
  rw [hif] at hi2
  obtain ⟨-, kv, -, -, -, -, -, -, -, -, -, -, -, -, hkv, -⟩ := Lambda.isMade_spec (Lambda.isMade_warmer hk.1 hmade)
  obtain ⟨kA, comp, k1, k2, k3, k4⟩ := hg.2.2.2.2.1 _ _ hel
  have k5 : s.vm.findClass "EchoFair$Operation" = some comp := by rw [hA.findClass]; exact k4 (by decide) (by decide) _ rfl
  cases hi2.symm.trans k5
  obtain ⟨kc, kc1, -⟩ := Vm.findClass_spec k5
  obtain ⟨-, kA', kA1, comp', kA2⟩ := c2
  obtain ⟨kA'', e1, e2⟩ := hA.2.2 _ _ k1
  rw [c4] at kA1
  cases e1.symm.trans kA1
  have e3 : kA'.kind = .array comp' (.object "EchoFair$Operation") := kA2
  have e4 : comp' = iI := by
    have : kA'.kind = .array iI (.object "EchoFair$Operation") := by rw [e2]; exact k2
    rw [e3] at this
    simpa using this
  subst e4
  show W _ _ _ _ _ _ _ _ _ _ _ _ _ _ _ (F0 m pc la (zcp (300 + k0, n0, a0) :: .int i :: .ref a :: st.map zc))
  have hy1 : zcp (300 + k0, n0, a0) = .ref a0 := hy0
  rw [hy1] at kk ⊢
  exact W.aast hC.1 hC.2.1 c1 (zvm_st c3) (zvm_kn c3) (by rw [c4]; exact e1) e3 rfl kc1 (by simpa using c5) v1 (fun k h => by rw [v3] at h; cases h) (by rw [v2]; exact hkv) (by rw [v2]; exact hasg) rfl rfl hd kk
theorem Wg_aastL {y : ZP} {i : Int32} {n a j : Nat} (hd : decode (zyb Y) pc = .ok (.aastore, 1)) (hl : zlm y) (hi : zix i j n) (k : Wp G Y (pc + 1) ls st (zAr μ a j y) Q E) : Wp G Y pc ls (vP y :: vI i :: vP (206, n, a) :: st) μ Q E := Wp_aastL hd hl hi.in.1 (by rw [hi.in.2]; exact k)
/-- for the walks -/
theorem CallLam.to {q b : ZP} {lev pc' : Nat} {st' : List ZV} {K : Int32 → ZM → Prop} (h : CallLam G q b lev μ (rI K) (fun q ν => zkc q.1 = true ∧ Wx G Y pc ls q ν Q E)) (k : ∀ x ν, K x ν → Wp G Y pc' ls (vI x :: st') ν Q E) : CallLam G q b lev μ (rI fun x ν => Wp G Y pc' ls (vI x :: st') ν Q E) (fun q ν => zkc q.1 = true ∧ Wx G Y pc ls q ν Q E) := by
  obtain ⟨k0, Y', n, a, h1, h2, h3, h4, h5, h6⟩ := h
  exact ⟨k0, Y', n, a, h1, h2, h3, h4, h5, h6.mono (fun v ν a => by obtain ⟨x, rfl, b⟩ := a; exact ⟨x, rfl, k x ν b⟩) (fun q ν a => a)⟩
theorem CallLam.toE {q b : ZP} {lev pc' : Nat} {st' : List ZV} {K : Int32 → ZM → Prop} (h : CallLam G q b lev μ (rI K) (fun q ν => zkc q.1 = true ∧ E q ν)) (hh : zyh Y = none) (k : ∀ x ν, K x ν → Wp G Y pc' ls (vI x :: st') ν Q E) : CallLam G q b lev μ (rI fun x ν => Wp G Y pc' ls (vI x :: st') ν Q E) (fun q ν => zkc q.1 = true ∧ Wx G Y pc ls q ν Q E) := by
  obtain ⟨k0, Y', n, a, h1, h2, h3, h4, h5, h6⟩ := h
  exact ⟨k0, Y', n, a, h1, h2, h3, h4, h5, h6.mono (fun v ν a => by obtain ⟨x, rfl, b⟩ := a; exact ⟨x, rfl, k x ν b⟩) (fun q ν a => ⟨a.1, Wx.out a.1 (by rw [hh]; intro x hx; cases hx) a.2⟩)⟩
end ZLQ
