/-! THE OWN LAYER, 7: references stored in arrays, new cells, copies, casts, statics, constants -/
section ZJ
variable {G : ZG} {Y : ZY} {pc : Nat} {ls : List (Nat × ZV)} {st : List ZV} {μ : ZM} {Q : Option ZV → ZM → Prop} {E : ZP → ZM → Prop}
/-- an object of tag u is a C -/
def zcan (u : Nat) (C : String) : Prop := zkc u = true ∧ (zcls u = C ∨ Cond.castable (zcls u) C ∈ lw_tbl)
theorem zcan.asg (hg : zgok G) {s : State} (hk : zkk G s) {u : Nat} {C : String} (h : zcan u C) {c t : ClassId} (h1 : s.vm.findClass (zcls u) = some c) (h2 : s.vm.findClass C = some t) : s.vm.assignable c t = true := by
  rcases h.2 with e | e
  · rw [e, h2] at h1; cases h1; exact va_asg _ _
  · obtain ⟨c', t', f1, f2, f3⟩ := Cond.castable_spec (args := #[]) (zw_C hg hk e)
    cases f1.symm.trans h1
    cases f2.symm.trans h2
    exact f3
/-- null, or an object that may stand in an array of tag t -/
def zstoT : List (Nat × Nat) := [(204, 2), (204, 3), (204, 4), (204, 24), (204, 124), (205, 16), (205, 17)]
def zsto (t u : Nat) : Bool := u == 0 || zstoT.contains (t, u)
theorem zsto_can {t u : Nat} (h : zsto t u = true) (hu : u ≠ 0) : ∃ C, zel t = some (.object C) ∧ zcan u C := by
  unfold zsto at h
  rw [Bool.or_eq_true] at h
  rcases h with h | h
  · exact absurd (by simpa using h) hu
  · have h' : (t, u) ∈ zstoT := by simpa using h
    unfold zstoT at h'
    simp only [List.mem_cons, Prod.mk.injEq, List.not_mem_nil, or_false] at h'
    rcases h' with ⟨rfl, rfl⟩ | ⟨rfl, rfl⟩ | ⟨rfl, rfl⟩ | ⟨rfl, rfl⟩ | ⟨rfl, rfl⟩ | ⟨rfl, rfl⟩ | ⟨rfl, rfl⟩
    · exact ⟨_, rfl, rfl, Or.inr q4611⟩
    · exact ⟨_, rfl, rfl, Or.inr q4623⟩
    · exact ⟨_, rfl, rfl, Or.inr q4624⟩
    · exact ⟨_, rfl, rfl, Or.inr q4634⟩
    · exact ⟨_, rfl, rfl, Or.inr q4634⟩
    · exact ⟨_, rfl, rfl, Or.inl rfl⟩
    · exact ⟨_, rfl, rfl, Or.inr q4650⟩
theorem Wp_aastore {x : ZP} {i : Int32} {q : ZP} (hd : decode (zyb Y) pc = .ok (.aastore, 1)) (hob : zob q.1 = true) (hdy : zdyn q.1 = true) (hs : zsto q.1 x.1 = true) (hin : vp_in i q.2.1) (k : Wp G Y (pc + 1) ls st (zAr μ q.2.2 i.toNatClampNeg x) Q E) : Wp G Y pc ls (vP x :: vI i :: vP q :: st) μ Q E := by
  obtain ⟨C, hel⟩ := zob_el hob
  refine Wp.ast (v := vP x) (w := zcp x) hel hdy hin (zext_zAr _ _ _ _) rfl rfl rfl (fun a c b => a.zAr b _ c) (by rw [zav_P hel, zar_zAr, if_pos ⟨rfl, rfl⟩]; rfl) (fun j h => zav_zAr_oth h x) (fun a h => zsame_zAr h x)
    (fun p e R s m args below meth c H locs cells slots la F cell hg hC hF hv c1 c2 c3 c4 c5 kk => ?_) k
  by_cases h0 : x.1 = 0
  · show W _ _ _ _ _ _ _ _ _ _ _ _ _ _ _ (F0 m pc la (zcp x :: .int i :: .ref q.2.2 :: st.map zc))
    rw [zcp_null h0] at kk ⊢
    exact va_WaastN hC.1 hC.2.1 c1 c2 (zvm_kn c3) c5 rfl rfl hd kk
  · obtain ⟨C', hel', hcan⟩ := zsto_can hs h0
    cases hel.symm.trans hel'
    have hk := hC.2.2.2.2.2.2.2.2.1
    obtain ⟨-, cv, v1, v2, v3⟩ := zobj hg hk hF hv hcan.1
    obtain ⟨kA, comp, k1, k2, k3, k4⟩ := hg.2.2.2.2.1 _ _ hel
    have k5 : s.vm.findClass C = some comp := by rw [hk.1.alike.findClass]; exact k4 (fun e => by rw [e] at hdy; exact absurd hdy (by decide)) (fun e => by rw [e] at hdy; exact absurd hdy (by decide)) C rfl
    obtain ⟨kv, kv1, -⟩ := Vm.findClass_spec v3
    obtain ⟨kc, kc1, -⟩ := Vm.findClass_spec k5
    obtain ⟨-, kA', kA1, comp', kA2⟩ := c2
    obtain ⟨kA'', e1, e2⟩ := hk.1.alike.2.2 _ _ k1
    rw [c4] at kA1
    cases e1.symm.trans kA1
    have e3 : kA'.kind = .array comp (.object C) := by rw [e2]; exact k2
    show W _ _ _ _ _ _ _ _ _ _ _ _ _ _ _ (F0 m pc la (zcp x :: .int i :: .ref q.2.2 :: st.map zc))
    rw [zcp_ref h0] at kk ⊢
    exact W.aast hC.1 hC.2.1 c1 (zvm_st c3) (zvm_kn c3) (by rw [c4]; exact e1) e3 rfl kc1 (by simpa using c5) v1 (zvm_st v2) kv1 (hcan.asg hg hk v3 k5) rfl rfl hd kk
/-- an instruction that makes a cell -/
theorem Wp.al {pc' : Nat} {st' : List ZV} {ν : ZM} (kz : Nat) (hext : zext μ ν) (hsz : zsz ν = zsz μ + 1) (hsl : zsl ν = zsl μ + kz) (hok : zok μ → zok ν) (hv : (∀ v ∈ st, zvk μ v) → ∀ v ∈ st', zvk ν v)
    (hm : ∀ (p : Program) (e : Env) (R : Room) (s : State) (m : MethodId) (args : Array Value) (below : List Frame) (meth : Method) (c : Code) (H : Heap) (locs : List Loc) (cells slots : Nat) (la : Array Slot) (F : State → Prop), zgok G → zctx G Y p s m args meth c → zok μ → zfit G μ H → lv_has la (zyL Y) (zlc ls) → (∀ v ∈ st, zvk μ v) → zyl Y ≤ R.frames → zwl (zyl Y) ≤ R.locals → cells + 1 ≤ R.cells → slots + kz ≤ R.slots →
      (∀ H' : Heap, zfit G ν H' → W p (zgl G) e R s m args below meth c H' locs (cells + 1) (slots + kz) F (F0 m pc' la (st'.map zc))) → W p (zgl G) e R s m args below meth c H locs cells slots F (F0 m pc la (st.map zc)))
    (k : Wp G Y pc' ls st' ν Q E) : Wp G Y pc ls st μ Q E := by
  intro h1 h2 h3 h4
  obtain ⟨o, ρ, e1, e2, e3, e4, hs⟩ := k h1 ⟨hok h2.1, h2.2.ext hext⟩ (fun q hq => (h3 q hq).ext hext) (hv h4)
  refine ⟨o, ρ, e1, hext.trans e2, e3, e4, ?_⟩
  intro p e R s m args below meth c H locs cells slots la hC hF hl hL hf hw hc hsl2
  have a1 := e2.1
  have a2 := e2.2.1
  rw [hsz] at a1
  rw [hsl] at a2
  refine hm p e R s m args below meth c H locs cells slots la _ h1 hC h2.1 hF hl h4 hf hw (by omega) (by omega) fun H' hF' => ?_
  have K := hs p e R s m args below meth c H' locs (cells + 1) (slots + kz) la hC hF' hl hL hf hw (by omega) (by omega)
  rw [show cells + 1 + (zsz ρ - zsz ν) = cells + (zsz ρ - zsz μ) by omega, show slots + kz + (zsl ρ - zsl ν) = slots + (zsl ρ - zsl μ) by omega] at K
  exact K
/-- heap and memory, grown by a cell -/
theorem zfit_new {H H' : Heap} {ν : ZM} {t n : Nat} (hF : zfit G μ H) (hsz : zsz ν = zsz μ + 1) (htg : ∀ a, ztg ν a = if a = zsz μ then (t, n) else ztg μ a) (hsame : ∀ a, a < zsz μ → zsame μ ν a) (h2 : H'.size = zsz μ + 1) (h3 : ∀ q, q < zsz μ → H'[q]? = H[q]?) (hc : zcell G ν H' (zsz μ) t n) : zfit G ν H' := by
  refine ⟨by rw [h2, hsz], by rw [hsz]; exact Nat.le_succ_of_le hF.2.1, fun a ha => ?_, fun a ha => ?_, fun a ha hd => ?_⟩
  · rw [h3 a (Nat.lt_of_lt_of_le ha hF.2.1)]; exact hF.2.2.1 a ha
  · rw [hsz] at ha
    rw [htg]
    by_cases e : a = zsz μ
    · rw [if_pos e, e]; exact hc
    · rw [if_neg e]
      have ha' : a < zsz μ := by omega
      exact zcell_same (hsame a ha') (h3 a ha') (hF.2.2.2.1 a ha')
  · rw [hsz] at ha
    by_cases e : a = zsz μ
    · rw [e]; exact hF.2.1
    · rw [htg, if_neg e] at hd
      exact hF.2.2.2.2 a (by omega) hd
theorem zok_zero (h : zok μ) (f : Nat) : zfi μ f (zsz μ) = 0 ∧ zfr μ f (zsz μ) = zN := ⟨h.1 f _ (Nat.le_refl _), h.2.1 f _ (Nat.le_refl _)⟩
theorem zfk_dv : ∀ f, f < 145 → (zfk f = 0 ∧ (zfy f = .int ∨ zfy f = .boolean ∨ zfy f = .byte)) ∨ (zfk f = 1 ∧ (zfy f).isReference = true) ∨ (zfk f = 2 ∧ zfy f = .float) := by decide +kernel
theorem zdv {f a : Nat} (hf : f < 145) (h1 : zfi μ f a = 0) (h2 : zfr μ f a = zN) : defaultValue (zfy f) = zfv μ f a := by
  unfold zfv
  rw [h1, h2]
  rcases zfk_dv f hf with ⟨e, e' | e' | e'⟩ | ⟨e, e'⟩ | ⟨e, e'⟩
  · rw [e, e']; rfl
  · rw [e, e']; rfl
  · rw [e, e']; rfl
  · rw [e]
    cases hy : zfy f <;> rw [hy] at e' <;> first | rfl | cases e'
  · rw [e, e']; rfl
/-- a new object -/
theorem Wp_new (t n : Nat) {own C : String} {index ci : Nat} (hci : zci t = some ci) (ht0 : t < 100) {r : vw_C} (hr : zCl[ci]? = some r) (hC0 : r.1 = C) (ho : own = (zyn Y).cls) (hl : Cond.classLink own index C ∈ lw_all) (hi : Cond.instantiable C n ∈ lw_all) (hn : Cond.initialized C ∈ lw_all) (hd : decode (zyb Y) pc = .ok (.new index, 3))
    (k : Wp G Y (pc + 3) ls (vP (t, 0, zsz μ) :: st) (zNew μ t 0 n) Q E) : Wp G Y pc ls st μ Q E := by
  have h0 : t ≠ 0 := by rintro rfl; cases hci
  refine Wp.al n (zext_zNew μ t 0 n) rfl rfl (fun a => a.zNew t 0 n) (fun h => zv_cons (show zvk (zNew μ t 0 n) (vP (t, 0, zsz μ)) from zpk_new μ h0 0 n) (fun w hw => (h w hw).ext (zext_zNew μ t 0 n))) (fun p e R s m args below meth c H locs cells slots la F h1 hC hok hF hl2 h4 hf hw hc hs kk => ?_) k
  obtain ⟨hx, hb, -, -, -, hown, -, hts, hkk, -⟩ := hC
  subst ho
  subst hC0
  have hKn := zkn h1 hkk hr
  refine W.newcK hx hb hown (hts _ hl) (hts _ hi) (hts _ hn) rfl hd hc hs hKn.2.1 hF.1 fun H' kC k1 g1 g2 g3 => ?_
  have e0 : (zc (vP (t, 0, zsz μ)) : Value) = .ref (zsz μ) := zcp_ref h0
  have := kk H' (zfit_new hF rfl (fun a => ztg_zNew μ t 0 n a) (fun a _ => zsame_zNew) g2 g3 ?_)
  · rw [List.map_cons, e0] at this
    exact this
  · unfold zcell
    rw [hci]
    refine ⟨r, hr, ?_⟩
    have hB := u_born (o := zsz μ) (H := H') (fun k => zfy (zfc ci k)) hts (zCl_in ci r hr) hKn k1 g1 (fun k hk => zfc_ty ci r hr k hk)
    refine (hB.to fun k hk => ?_).z t
    have hm : zfc ci k ∈ zfC.getD ci [] := by
      unfold zfc
      have hk9 : k < (zfC.getD ci []).length := by rw [zfC_len ci r hr]; exact hk
      generalize zfC.getD ci [] = L at hk9 ⊢
      rw [List.getD_eq_getElem?_getD, List.getElem?_eq_getElem hk9]
      exact List.getElem_mem _
    exact zdv (zfc_lt ci (zci_lt hci) _ hm) (zok_zero hok _).1 (zok_zero hok _).2
theorem zfit_arr {H H' : Heap} {ν : ZM} {t n : Nat} {ty : FieldType} {cell : Cell} (hel : zel t = some ty) (hF : zfit G μ H) (hsz : zsz ν = zsz μ + 1) (htg : ∀ a, ztg ν a = if a = zsz μ then (t, n) else ztg μ a) (hsame : ∀ a, a < zsz μ → zsame μ ν a) (h1 : H'[zsz μ]? = some cell) (h2 : H'.size = zsz μ + 1) (h3 : ∀ q, q < zsz μ → H'[q]? = H[q]?) (c1 : cell.cls = zgA G t) (c2 : cell.vm = .none) (c3 : cell.slots.size = n) (c4 : ∀ j, j < n → cell.slots[j]? = some (zav t ν (zsz μ) j)) : zfit G ν H' := by
  refine zfit_new hF hsz htg hsame h2 h3 ?_
  obtain ⟨e1, e2, e3, e4⟩ := zel_ci hel
  unfold zcell
  rw [e1]
  dsimp only
  rw [if_pos (Or.inl (by rw [hel]; rfl)), if_neg e2]
  exact ⟨cell, h1, c1, zvm.of c2, c3, c4⟩
theorem zav_new {t : Nat} (hok : zok μ) (ty : FieldType) (hel : zel t = some ty) {ν : ZM} (h1 : zai ν = zai μ) (h2 : zar ν = zar μ) (h3 : zal ν = zal μ) (j : Nat) : zav t ν (zsz μ) j = defaultValue ty := by
  unfold zav
  rw [h1, h2, h3, hok.2.2.1 _ _ (Nat.le_refl _), hok.2.2.2.1 _ _ (Nat.le_refl _), hok.2.2.2.2.1 _ _ (Nat.le_refl _)]
  rw [hel]
  unfold zel at hel
  split at hel <;> first | (cases hel; rfl) | cases hel
theorem zcb (atype : ArrayType) : componentBytes (newarray.typeOf atype) ≤ 8 := by cases atype <;> decide
theorem Wp_newarray (t : Nat) {atype : ArrayType} {x : Int32} (hel' : zelN t = some (newarray.typeOf atype)) (hl : Cond.arrayClass (newarray.typeOf atype) ∈ lw_all) (hx : ¬ x < 0) (hb : x.toNatClampNeg ≤ 1000000) (hd : decode (zyb Y) pc = .ok (.newarray atype, 2))
    (k : Wp G Y (pc + 2) ls (vP (t, x.toNatClampNeg, zsz μ) :: st) (zNew μ t x.toNatClampNeg x.toNatClampNeg) Q E) : Wp G Y pc ls (vI x :: st) μ Q E := by
  obtain ⟨hel, n1, n2⟩ := zelN_sp hel'
  have h0 := (zel_ci hel).2.2.1
  refine Wp.al x.toNatClampNeg (zext_zNew μ t _ _) rfl rfl (fun a => a.zNew t _ _) (fun h => zv_cons (show zvk (zNew μ t x.toNatClampNeg x.toNatClampNeg) (vP (t, x.toNatClampNeg, zsz μ)) from zpk_new μ h0 _ _) (fun w hw => (zv_tail h w hw).ext (zext_zNew μ t _ _))) (fun p e R s m args below meth c H locs cells slots la F h1 hC hok hF hl2 h4 hf hw hc hs kk => ?_) k
  obtain ⟨hxx, hbb, -, -, -, hown, -, hts, hkk, -⟩ := hC
  refine va_newaK hxx hbb (hts _ hl) rfl hd rfl hx rfl (Nat.le_trans (Nat.mul_le_mul hb (zcb atype)) (by decide)) hc hs hF.1 fun H' cA g1 g2 g3 g4 g5 => ?_
  have e0 : (zc (vP (t, x.toNatClampNeg, zsz μ)) : Value) = .ref (zsz μ) := zcp_ref h0
  have hcA : cA = zgA G t := by
    obtain ⟨_, _, _, _, k3, -⟩ := h1.2.2.2.2.1 _ _ hel
    have := hkk.1.alike.findClass (name := "[" ++ (newarray.typeOf atype).toString) (loader := none)
    rw [g5, k3 n1 n2] at this
    exact Option.some.inj this
  have := kk H' (zfit_arr hel hF rfl (fun a => ztg_zNew μ t _ _ a) (fun a _ => zsame_zNew) g1 g2 g3 hcA rfl (arrV_size _ _ _) (fun j hj => by
    rw [arrV_read _ _ hj, zav_new (ν := zNew μ t x.toNatClampNeg x.toNatClampNeg) hok _ hel rfl rfl rfl]))
  rw [List.map_cons, e0] at this
  exact this
theorem Wp_anewarray (t : Nat) {own C : String} {index : Nat} {x : Int32} (hel' : zelN t = some (.object C)) (ho : own = (zyn Y).cls) (hl : Cond.classLink own index C ∈ lw_all) (hov : Cond.arrayOver (.object C) ∈ lw_tbl) (hx : ¬ x < 0) (hb : x.toNatClampNeg ≤ 1000000) (hd : decode (zyb Y) pc = .ok (.anewarray index, 3))
    (k : Wp G Y (pc + 3) ls (vP (t, x.toNatClampNeg, zsz μ) :: st) (zNew μ t x.toNatClampNeg x.toNatClampNeg) Q E) : Wp G Y pc ls (vI x :: st) μ Q E := by
  obtain ⟨hel, n1, n2⟩ := zelN_sp hel'
  have h0 := (zel_ci hel).2.2.1
  refine Wp.al x.toNatClampNeg (zext_zNew μ t _ _) rfl rfl (fun a => a.zNew t _ _) (fun h => zv_cons (show zvk (zNew μ t x.toNatClampNeg x.toNatClampNeg) (vP (t, x.toNatClampNeg, zsz μ)) from zpk_new μ h0 _ _) (fun w hw => (zv_tail h w hw).ext (zext_zNew μ t _ _))) (fun p e R s m args below meth c H locs cells slots la F h1 hC hok hF hl2 h4 hf hw hc hs kk => ?_) k
  obtain ⟨hxx, hbb, -, -, -, hown, -, hts, hkk, -⟩ := hC
  subst ho
  refine W.anew hxx hbb hown (hts _ hl) (zw_A h1 hkk hov) rfl hd rfl hx (by omega) hc hs fun cA kA comp g1 g2 g3 g4 => ?_
  have e0 : (zc (vP (t, x.toNatClampNeg, zsz μ)) : Value) = .ref (zsz μ) := zcp_ref h0
  have hcA : cA = zgA G t := by
    obtain ⟨_, _, _, _, k3, -⟩ := h1.2.2.2.2.1 _ _ hel
    have := hkk.1.alike.findClass (name := "[" ++ (FieldType.object C).toString) (loader := none)
    rw [g1, k3 n1 n2] at this
    exact Option.some.inj this
  have hHs := hF.1
  have := kk (H.push { cls := cA, slots := Array.replicate x.toNatClampNeg .null, vm := .none }) (zfit_arr hel hF rfl (fun a => ztg_zNew μ t _ _ a) (fun a _ => zsame_zNew) (by rw [← hHs]; exact Array.getElem?_push_size) (by rw [Array.size_push, hHs]) (fun q hq => by rw [Array.getElem?_push, if_neg (by omega)]) hcA rfl (by simp) (fun j hj => by
    rw [zav_new (ν := zNew μ t x.toNatClampNeg x.toNatClampNeg) hok _ hel rfl rfl rfl]; simp [hj, defaultValue]))
  rw [List.map_cons, e0] at this
  rw [hHs]
  exact this
/-- System.arraycopy of ints or bytes -/
theorem zrest (h : (st.map zcat).sum ≤ 100) : ((st.map zc).map fun v => v.category).sum ≤ 100 := by
  rw [List.map_map, show ((fun v : Value => v.category) ∘ zc) = zcat from funext zc_cat]; exact h
theorem zav_znr {t : Nat} {ty : FieldType} (hel : zel t = some ty) (hty : ty = .int ∨ ty = .byte ∨ ty = .boolean) {a j : Nat} (h : znr ty (zai μ a j)) : fits ty (zav t μ a j) = true := by rw [zav_I hel hty]; exact h.2
theorem Wp_copyI {own : String} {index : Nat} {q0 q1 : ZP} {sp dp n : Int32} {ty : FieldType} (ho : own = (zyn Y).cls) (hl : Cond.methodLink own index arraycopyName ∈ lw_all) (hd : decode (zyb Y) pc = .ok (.invokestatic index, 3)) (e0 : zel q0.1 = some ty) (e1 : zel q1.1 = some ty) (hty : ty = .int ∨ ty = .byte ∨ ty = .boolean) (hdy : zdyn q1.1 = true)
    (h1 : ¬ sp < 0) (h2 : ¬ dp < 0) (h3 : ¬ n < 0) (h4 : sp.toNatClampNeg + n.toNatClampNeg ≤ q0.2.1) (h5 : dp.toNatClampNeg + n.toNatClampNeg ≤ q1.2.1) (hb : ∀ i, i < n.toNatClampNeg → znr ty (zai μ q0.2.2 (sp.toNatClampNeg + i))) (hlv : 1 ≤ zyl Y) (hst : (st.map zcat).sum ≤ 100)
    (k : Wp G Y (pc + 3) ls st (zCi μ q0.2.2 sp.toNatClampNeg q1.2.2 dp.toNatClampNeg n.toNatClampNeg) Q E) : Wp G Y pc ls (vI n :: vI dp :: vP q1 :: vI sp :: vP q0 :: st) μ Q E := by
  intro w1 w2 w3 w4
  have m1 : zpk μ q1 := zv_head (zv_tail (zv_tail w4))
  have m0 : zpk μ q0 := zv_head (zv_tail (zv_tail (zv_tail (zv_tail w4))))
  obtain ⟨x1, x2, x3, x4⟩ := zel_ci e1
  obtain ⟨l1, t1⟩ := m1.lt x3 x4
  obtain ⟨o, ρ, f1, f2, f3, f4, hs⟩ := k w1 ⟨w2.1.zCi _ _ l1 _ _, w2.2.ext (zext_zCi _ _ _ _ _ _)⟩ (fun q hq => (w3 q hq).ext (zext_zCi _ _ _ _ _ _)) (fun v hv => (zv_tail (zv_tail (zv_tail (zv_tail (zv_tail w4)))) v hv).ext (zext_zCi _ _ _ _ _ _))
  refine ⟨o, ρ, f1, (zext_zCi _ _ _ _ _ _).trans f2, f3, f4, ?_⟩
  intro p e R s m args below meth c H locs cells slots la hC hF hla hL hf hw hc hsl2
  have hk := hC.2.2.2.2.2.2.2.2.1
  obtain ⟨c0, a1, a2, a3, a4, a5, a6, -⟩ := zarr w1 hk hF m0 e0
  obtain ⟨c1, b1, b2, b3, b4, b5, b6, -⟩ := zarr w1 hk hF m1 e1
  obtain ⟨-, k0, hk0, cm0, hkk0⟩ := id a2
  obtain ⟨-, k1, hk1, cm1, hkk1⟩ := id b2
  have hdyn : zlo G ≤ q1.2.2 := hF.2.2.2.2 q1.2.2 l1 (by rw [t1]; exact hdy)
  have nn : ∀ z : Int32, ¬ z < 0 → z.toInt = (z.toNatClampNeg : Int) := by
    intro z hz
    have hz0 : (0 : Int) ≤ z.toInt := by
      have := Int32.not_lt.mp hz
      simpa using Int32.le_iff_toInt_le.mp this
    show z.toInt = ((z.toInt.toNat : Nat) : Int)
    omega
  have hprim : refKind ty = false := by rcases hty with rfl | rfl | rfl <;> rfl
  have hval : ∀ i, i < n.toNatClampNeg → c0.slots.getD (sp.toNatClampNeg + i) .null = .int (zai μ q0.2.2 (sp.toNatClampNeg + i)) := by
    intro i hi
    rw [Array.getD_eq_getD_getElem?, a6 _ (by omega), zav_I e0 hty]
    rfl
  rw [List.map_cons, List.map_cons, List.map_cons, List.map_cons, List.map_cons, show zc (vP q0) = .ref q0.2.2 from zcp_ref (zel_ci e0).2.2.1, show zc (vP q1) = .ref q1.2.2 from zcp_ref x3]
  intro T hT X
  subst ho
  have hts := hC.2.2.2.2.2.2.2.1
  have hr := zrest hst
  obtain ⟨vm', X', step⟩ := X.arraycopy hC.1 hC.2.2.2.2.2.1 (hts _ hl) (hts _ q389) (hts _ q388) (hts _ q179) (src := q0.2.2) (dst := q1.2.2) (cs := c0) (cd := c1) (srcPos := sp) (destPos := dp) (n := n) (by rw [hT]; exact a1) (by rw [hT]; exact b1)
    a2.1 b2.1 (zvm_kn a3) (zvm_kn b3) hk0 hk1 hkk0 hkk1 (by simp [hprim]) h1 h2 h3
    (by rw [nn sp h1, nn n h3, a5]; omega)
    (by rw [nn dp h2, nn n h3, b5]; omega)
    (fun vm₁ _ i hi => by rw [hval i hi]; exact ⟨(hb i hi).2, trivial⟩)
    (g := F0 m pc la (.int n :: .int dp :: .ref q1.2.2 :: .int sp :: .ref q0.2.2 :: st.map zc)) rfl (by rw [hC.2.2.2.2.1]; exact hla.1) (rest := st.map zc) rfl (by rw [hC.2.1]; exact hd) (Nat.le_trans hlv hf) (by
      show 2 * 0 + _ + (5 + 2 + 11) ≤ _
      unfold zwl at hw
      omega)
  have hlt : q1.2.2 < T.heap.size := (Array.getElem?_eq_some_iff.mp (by rw [hT]; exact b1)).1
  have hlen : (c0.stretch sp.toNatClampNeg n.toNatClampNeg).length = n.toNatClampNeg := by unfold Cell.stretch; simp
  have hcp : ∀ j, j < q1.2.1 → (copied c0 c1 sp dp n).slots[j]? = some (zav q1.1 (zCi μ q0.2.2 sp.toNatClampNeg q1.2.2 dp.toNatClampNeg n.toNatClampNeg) q1.2.2 j) := by
    intro j hj
    show (c1.storeRun _ _).slots[j]? = _
    rw [Cell.storeRun_get _ _ _ _ (by rw [hlen, b5]; exact h5), hlen, zav_I e1 hty, zai_zCi]
    by_cases hjj : dp.toNatClampNeg ≤ j ∧ j < dp.toNatClampNeg + n.toNatClampNeg
    · rw [if_pos hjj, if_pos ⟨rfl, hjj⟩]
      unfold Cell.stretch
      rw [List.getElem?_map, List.getElem?_range (by omega)]
      exact congrArg some (hval _ (by omega))
    · rw [if_neg hjj, if_neg (fun h => hjj h.2), b6 j hj, zav_I e1 hty]
  have hsame9 : ∀ a, a ≠ q1.2.2 → zsame μ (zCi μ q0.2.2 sp.toNatClampNeg q1.2.2 dp.toNatClampNeg n.toNatClampNeg) a := fun a ha => zsame_zCi ha
  have g1 : ((T.setVm vm').setCell q1.2.2 (copied c0 c1 sp dp n)).heap[q1.2.2]? = some (copied c0 c1 sp dp n) := heapAt_setCell_self _ hlt
  have g2 : ((T.setVm vm').setCell q1.2.2 (copied c0 c1 sp dp n)).heap.size = H.size := by rw [size_setCell, ← hT]; rfl
  have g3 : ∀ a, a ≠ q1.2.2 → ((T.setVm vm').setCell q1.2.2 (copied c0 c1 sp dp n)).heap[a]? = H[a]? := fun a ha => by rw [heapAt_setCell_ne _ (Ne.symm ha), ← hT]; rfl
  obtain ⟨s1, s2, s3⟩ : (copied c0 c1 sp dp n).cls = c1.cls ∧ (copied c0 c1 sp dp n).vm = c1.vm ∧ (copied c0 c1 sp dp n).slots.size = c1.slots.size := ⟨(Cell.storeRun_facts c1 _ _).1, (Cell.storeRun_facts c1 _ _).2.1, (Cell.storeRun_facts c1 _ _).2.2.1⟩
  have hF' : zfit G (zCi μ q0.2.2 sp.toNatClampNeg q1.2.2 dp.toNatClampNeg n.toNatClampNeg) ((T.setVm vm').setCell q1.2.2 (copied c0 c1 sp dp n)).heap := by
    refine ⟨by rw [g2]; exact hF.1, hF.2.1, fun a ha => ?_, fun a ha => ?_, fun a ha => hF.2.2.2.2 a ha⟩
    · rw [g3 a (Nat.ne_of_lt (Nat.lt_of_lt_of_le ha hdyn))]; exact hF.2.2.1 a ha
    · rw [ztg_zCi]
      by_cases e9 : a = q1.2.2
      · rw [e9, t1]
        unfold zcell
        rw [x1]
        dsimp only
        rw [if_pos (Or.inl (by rw [e1]; rfl)), if_neg x2]
        exact ⟨_, g1, by rw [s1]; exact b4, by unfold zvm; rw [s2]; exact b3, by rw [s3]; exact b5, hcp⟩
      · exact zcell_same (hsame9 a e9) (g3 a e9) (hF.2.2.2.1 a ha)
  obtain ⟨t, y1, y2⟩ := hs p e R s m args below meth c _ _ cells slots la hC hF' hla (fun z hz => (List.mem_append.mp hz).elim (hL z) (fun hz => by
    obtain ⟨w, -, hw⟩ := List.mem_map.mp hz
    rw [← hw]; exact hdyn)) hf hw hc hsl2 _ rfl X'
  exact ⟨t, step t y1, y2⟩
end ZJ
