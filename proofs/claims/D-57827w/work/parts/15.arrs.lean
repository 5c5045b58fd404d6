/-! THE OWN LAYER, 6: returns, arrays, casts, statics, constants -/
section ZI
variable {G : ZG} {Y : ZY} {pc : Nat} {ls : List (Nat × ZV)} {st : List ZV} {μ : ZM} {Q : Option ZV → ZM → Prop} {E : ZP → ZM → Prop}
/-- a method ends -/
theorem Wp.ret {v : Option ZV} (hq : Q v μ) (hv : (∀ w ∈ st, zvk μ w) → zoko μ (.inl v))
    (hm : ∀ (p : Program) (e : Env) (R : Room) (s : State) (m : MethodId) (args : Array Value) (below : List Frame) (meth : Method) (c : Code) (H : Heap) (locs : List Loc) (cells slots : Nat) (la : Array Slot) (Qc : Array Value → State → Outcome → State → Prop), zctx G Y p s m args meth c →
      (∀ t : State, t.heap = H → s.WarmedH t.vm → Qc args s (.returned (zvo v)) t) → (∀ q ∈ locs, zlo G ≤ q.base) → W p (zgl G) e R s m args below meth c H locs cells slots (MQ below Qc args s cells slots (fun a => zlo G ≤ a)) (F0 m pc la (st.map zc))) : Wp G Y pc ls st μ Q E := by
  intro h1 h2 h3 h4
  refine ⟨.inl v, μ, hq, zext.rf μ, h2.1, hv h4, ?_⟩
  intro p e R s m args below meth c H locs cells slots la hC hF hl hL hf hw hc hs
  rw [Nat.sub_self, Nat.sub_self, Nat.add_zero, Nat.add_zero]
  refine W.mono ?_ (hm p e R s m args below meth c H locs cells slots la (fun _ _ oc t => oc = zoc (.inl v) ∧ zfit G μ t.heap) hC (fun t ht _ => ⟨rfl, by rw [ht]; exact hF⟩) hL)
  rintro t ⟨oc, a1, a2, ⟨a3, a4⟩, L, ⟨-, a5, a6⟩, a7⟩
  exact ⟨oc, a1, a2, a3, a4, a5, L, a6, a7⟩
theorem Wp_ireturn {x : Int32} {ty : FieldType} (hd : decode (zyb Y) pc = .ok (.ireturn, 1)) (hr : zyr Y = some ty) (hn : narrow ty (.int x) = .int x) (hq : Q (some (vI x)) μ) : Wp G Y pc ls [vI x] μ Q E :=
  Wp.ret (v := some (vI x)) hq (fun _ => trivial) fun p e R s m args below meth c H locs cells slots la Qc hC hq hf => W.zret hC.1 hC.2.1 (ty := ty) (by rw [hC.2.2.1, hr]) hn hq hf hd hC.2.2.2.1
theorem Wp_return (hd : decode (zyb Y) pc = .ok (.return_, 1)) (hr : zyr Y = none) (hq : Q none μ) : Wp G Y pc ls [] μ Q E :=
  Wp.ret (v := none) hq (fun _ => trivial) fun p e R s m args below meth c H locs cells slots la Qc hC hq hf => W.vret hC.1 hC.2.1 (by rw [hC.2.2.1, hr]) hq hf hd hC.2.2.2.1
theorem Wp_areturn {q : ZP} {ty : FieldType} (hd : decode (zyb Y) pc = .ok (.areturn, 1)) (hr : zyr Y = some ty) (hty : (∃ n, ty = .object n) ∨ ∃ t, ty = .array t) (hq : Q (some (vP q)) μ) : Wp G Y pc ls [vP q] μ Q E :=
  Wp.ret (v := some (vP q)) hq (fun h => h _ List.mem_cons_self) fun p e R s m args below meth c H locs cells slots la Qc hC hq hf => W.aret hC.1 hC.2.1 (by rw [hC.2.2.1, hr]) hty ((zcp_or q).elim Or.inl fun e => Or.inr ⟨_, e⟩) hq hf hd hC.2.2.2.1
theorem Wp_freturn {x : UInt32} (hd : decode (zyb Y) pc = .ok (.freturn, 1)) (hr : zyr Y = some .float) (hq : Q (some (vF x)) μ) : Wp G Y pc ls [vF x] μ Q E :=
  Wp.ret (v := some (vF x)) hq (fun _ => trivial) fun p e R s m args below meth c H locs cells slots la Qc hC hq hf => W.fret hC.1 hC.2.1 (by rw [hC.2.2.1, hr]) hq hf hd hC.2.2.2.1
theorem Wp_dreturn {x : UInt64} (hd : decode (zyb Y) pc = .ok (.dreturn, 1)) (hr : zyr Y = some .double) (hq : Q (some (vD x)) μ) : Wp G Y pc ls [vD x] μ Q E :=
  Wp.ret (v := some (vD x)) hq (fun _ => trivial) fun p e R s m args below meth c H locs cells slots la Qc hC hq hf => W.dret hC.1 hC.2.1 (by rw [hC.2.2.1, hr]) hq hf hd hC.2.2.2.1
/-! arrays -/
theorem zel_ci {t : Nat} {ty : FieldType} (h : zel t = some ty) : zci t = none ∧ ¬ 300 ≤ t ∧ t ≠ 0 ∧ t ≠ 251 := by
  have : 200 ≤ t ∧ t < 210 := by
    unfold zel at h
    split at h <;> first | (cases h; done) | omega
  refine ⟨?_, by omega, by omega, by omega⟩
  unfold zci
  split
  · rfl
  · omega
  · omega
  · rw [if_neg (by omega)]
theorem zarr (hg : zgok G) {s : State} (hk : zkk G s) {H : Heap} (hF : zfit G μ H) {q : ZP} (hq : zpk μ q) {ty : FieldType} (hel : zel q.1 = some ty) :
    ∃ cell : Cell, H[q.2.2]? = some cell ∧ s.isArrayOf cell ty ∧ zvm q.1 cell ∧ cell.cls = zgA G q.1 ∧ cell.slots.size = q.2.1 ∧ (∀ j, j < q.2.1 → cell.slots[j]? = some (zav q.1 μ q.2.2 j)) ∧ q.2.2 < zsz μ ∧ ztg μ q.2.2 = (q.1, q.2.1) := by
  obtain ⟨e1, e2, e3, e4⟩ := zel_ci hel
  obtain ⟨hlt, htg⟩ := hq.lt e3 e4
  have hcell := hF.2.2.2.1 q.2.2 hlt
  rw [htg] at hcell
  unfold zcell at hcell
  rw [e1] at hcell
  dsimp only at hcell
  rw [if_pos (Or.inl (by rw [hel]; rfl))] at hcell
  obtain ⟨cell, c1, c2, c3, c4, c5⟩ := hcell
  rw [if_neg e2] at c2
  obtain ⟨kA, comp, k1, k2, -⟩ := hg.2.2.2.2.1 _ _ hel
  refine ⟨cell, c1, State.isArrayOf_alike hk.1.alike ⟨zvm_st c3, kA, (by rw [c2]; exact k1), comp, k2⟩, c3, c2, c4, c5, hlt, htg⟩
theorem zin_lt {i : Int32} {n : Nat} (h : vp_in i n) : i.toNatClampNeg < n := by unfold vp_in at h; omega
theorem Wp_arraylength {q : ZP} {n : Int32} (hd : decode (zyb Y) pc = .ok (.arraylength, 1)) (ht : (zel q.1).isSome = true) (hn : q.2.1.toInt32 = n) (k : Wp G Y (pc + 1) ls (vI n :: st) μ Q E) : Wp G Y pc ls (vP q :: st) μ Q E := by
  intro h1 h2 h3 h4
  obtain ⟨ty, hel⟩ := Option.isSome_iff_exists.mp ht
  refine Wp.stk (fun h => zv_cons (zv_I _) (zv_tail h)) (fun p e R s m args below meth c H locs cells slots la F hC hF hl2 kk => ?_) k h1 h2 h3 h4
  obtain ⟨cell, c1, c2, c3, -, c4, -⟩ := zarr h1 hC.2.2.2.2.2.2.2.2.1 hF (zv_head h4) hel
  rw [List.map_cons, show zc (vP q) = .ref q.2.2 from zcp_ref (zel_ci hel).2.2.1]
  exact W.alen hC.1 hC.2.1 c1 c2 (by rw [c4]; exact hn) rfl rfl hd kk
theorem zlen (n : Nat) : n.toInt32 = nI n := rfl
/-- an array's place is read -/
theorem Wp.ald {ty : FieldType} {v : ZV} {q : ZP} {i : Int32} (hel : zel q.1 = some ty) (hin : vp_in i q.2.1) (hv : zav q.1 μ q.2.2 i.toNatClampNeg = zc v) (hvk : zok μ → zvk μ v)
    (hm : ∀ (p : Program) (e : Env) (R : Room) (s : State) (m : MethodId) (args : Array Value) (below : List Frame) (meth : Method) (c : Code) (H : Heap) (locs : List Loc) (cells slots : Nat) (la : Array Slot) (F : State → Prop) (cell : Cell), zctx G Y p s m args meth c → H[q.2.2]? = some cell → s.isArrayOf cell ty → cell.vm ≠ .unknown → ¬ (i < 0 ∨ cell.slots.size ≤ i.toNatClampNeg) → cell.slots[i.toNatClampNeg]? = some (zc v) →
      W p (zgl G) e R s m args below meth c H locs cells slots F (F0 m (pc + 1) la (zc v :: st.map zc)) → W p (zgl G) e R s m args below meth c H locs cells slots F (F0 m pc la (.int i :: .ref q.2.2 :: st.map zc)))
    (k : Wp G Y (pc + 1) ls (v :: st) μ Q E) : Wp G Y pc ls (vI i :: vP q :: st) μ Q E := by
  intro h1 h2 h3 h4
  refine Wp.stk (fun h => zv_cons (hvk h2.1) (zv_tail (zv_tail h))) (fun p e R s m args below meth c H locs cells slots la F hC hF hl2 kk => ?_) k h1 h2 h3 h4
  obtain ⟨cell, c1, c2, c3, -, c4, c5, -⟩ := zarr h1 hC.2.2.2.2.2.2.2.2.1 hF (zv_head (zv_tail h4)) hel
  rw [List.map_cons, List.map_cons, show zc (vP q) = .ref q.2.2 from zcp_ref (zel_ci hel).2.2.1]
  rw [List.map_cons] at kk
  exact hm p e R s m args below meth c H locs cells slots la F cell hC c1 c2 (zvm_kn c3) (by rw [c4]; exact hin) (by rw [c5 _ (zin_lt hin), hv]) kk
theorem zav_I {t : Nat} {ty : FieldType} (h : zel t = some ty) (h2 : ty = .int ∨ ty = .byte ∨ ty = .boolean) (a j : Nat) : zav t μ a j = zc (vI (zai μ a j)) := by
  unfold zav; rw [h]; rcases h2 with rfl | rfl | rfl <;> rfl
theorem zav_L {t : Nat} (h : zel t = some .long) (a j : Nat) : zav t μ a j = zc (vL (zal μ a j)) := by unfold zav; rw [h]; rfl
theorem zav_P {t : Nat} {C : String} (h : zel t = some (.object C)) (a j : Nat) : zav t μ a j = zc (vP (zar μ a j)) := by unfold zav; rw [h]; rfl
theorem Wp_iaload {q : ZP} {i : Int32} (hd : decode (zyb Y) pc = .ok (.iaload, 1)) (hel : zel q.1 = some .int) (hin : vp_in i q.2.1) (k : Wp G Y (pc + 1) ls (vI (zai μ q.2.2 i.toNatClampNeg) :: st) μ Q E) : Wp G Y pc ls (vI i :: vP q :: st) μ Q E :=
  Wp.ald hel hin (zav_I hel (by simp) _ _) (fun _ => zv_I _) (fun p e R s m args below meth c H locs cells slots la F cell C c1 c2 c3 c4 c5 kk => W.iald C.1 C.2.1 c1 c2 c3 c4 c5 rfl rfl hd kk) k
theorem Wp_baload {q : ZP} {i : Int32} (hd : decode (zyb Y) pc = .ok (.baload, 1)) (hel : zel q.1 = some .byte ∨ zel q.1 = some .boolean) (hin : vp_in i q.2.1) (k : Wp G Y (pc + 1) ls (vI (zai μ q.2.2 i.toNatClampNeg) :: st) μ Q E) : Wp G Y pc ls (vI i :: vP q :: st) μ Q E := by
  rcases hel with hel | hel
  · exact Wp.ald hel hin (zav_I hel (by simp) _ _) (fun _ => zv_I _) (fun p e R s m args below meth c H locs cells slots la F cell C c1 c2 c3 c4 c5 kk => W.bald C.1 C.2.1 c1 c2 c3 c4 c5 rfl rfl hd kk) k
  · exact Wp.ald hel hin (zav_I hel (by simp) _ _) (fun _ => zv_I _) (fun p e R s m args below meth c H locs cells slots la F cell C c1 c2 c3 c4 c5 kk => W.zald C.1 C.2.1 c1 c2 c3 c4 c5 rfl rfl hd kk) k
theorem Wp_laload {q : ZP} {i : Int32} (hd : decode (zyb Y) pc = .ok (.laload, 1)) (hel : zel q.1 = some .long) (hin : vp_in i q.2.1) (k : Wp G Y (pc + 1) ls (vL (zal μ q.2.2 i.toNatClampNeg) :: st) μ Q E) : Wp G Y pc ls (vI i :: vP q :: st) μ Q E :=
  Wp.ald hel hin (zav_L hel _ _) (fun _ => zv_L _) (fun p e R s m args below meth c H locs cells slots la F cell C c1 c2 c3 c4 c5 kk => W.lald C.1 C.2.1 c1 c2 c3 c4 c5 rfl rfl hd kk) k
/-- the class of a reference array's elements -/
def zob (t : Nat) : Bool := match zel t with
  | some (.object _) => true
  | _ => false
theorem zob_el {t : Nat} (h : zob t = true) : ∃ C, zel t = some (.object C) := by
  unfold zob at h
  split at h
  · exact ⟨_, by assumption⟩
  · cases h
theorem Wp_aaload {q : ZP} {i : Int32} (hd : decode (zyb Y) pc = .ok (.aaload, 1)) (hel : zob q.1 = true) (hin : vp_in i q.2.1) (k : Wp G Y (pc + 1) ls (vP (zar μ q.2.2 i.toNatClampNeg) :: st) μ Q E) : Wp G Y pc ls (vI i :: vP q :: st) μ Q E := by
  obtain ⟨C, hel⟩ := zob_el hel
  exact Wp.ald hel hin (zav_P hel _ _) (fun h => h.2.2.2.2.2.2 _ _) (fun p e R s m args below meth c H locs cells slots la F cell C c1 c2 c3 c4 c5 kk => W.aald C.1 C.2.1 c1 c2 rfl c3 c4 c5 rfl rfl hd kk) k
/-- an array's place is written -/
theorem Wp.ast {ty : FieldType} {v : ZV} {w : Value} {q : ZP} {i : Int32} {ν : ZM} (hel : zel q.1 = some ty) (hdy : zdyn q.1 = true) (hin : vp_in i q.2.1) (hext : zext μ ν) (hsz : zsz ν = zsz μ) (hsl : zsl ν = zsl μ) (htg : ztg ν = ztg μ) (hok : zok μ → zvk μ v → q.2.2 < zsz μ → zok ν)
    (hw : zav q.1 ν q.2.2 i.toNatClampNeg = w) (hoth : ∀ j, j ≠ i.toNatClampNeg → zav q.1 ν q.2.2 j = zav q.1 μ q.2.2 j) (hsame : ∀ a, a ≠ q.2.2 → zsame μ ν a)
    (hm : ∀ (p : Program) (e : Env) (R : Room) (s : State) (m : MethodId) (args : Array Value) (below : List Frame) (meth : Method) (c : Code) (H : Heap) (locs : List Loc) (cells slots : Nat) (la : Array Slot) (F : State → Prop) (cell : Cell), zgok G → zctx G Y p s m args meth c → zfit G μ H → zvk μ v → H[q.2.2]? = some cell → s.isArrayOf cell ty → zvm q.1 cell → cell.cls = zgA G q.1 → ¬ (i < 0 ∨ cell.slots.size ≤ i.toNatClampNeg) →
      (∀ H' : Heap, H'[q.2.2]? = some (cell.setSlot i.toNatClampNeg w) → H'.size = H.size → (∀ a, a ≠ q.2.2 → H'[a]? = H[a]?) → W p (zgl G) e R s m args below meth c H' (locs ++ [⟨q.2.2, i.toNatClampNeg⟩]) cells slots F (F0 m (pc + 1) la (st.map zc))) → W p (zgl G) e R s m args below meth c H locs cells slots F (F0 m pc la (zc v :: .int i :: .ref q.2.2 :: st.map zc)))
    (k : Wp G Y (pc + 1) ls st ν Q E) : Wp G Y pc ls (v :: vI i :: vP q :: st) μ Q E := by
  obtain ⟨e1, e2, e3, e4⟩ := zel_ci hel
  refine Wp.wrt hext hsz hsl (fun a b => hok a (zv_head b) ((zv_head (zv_tail (zv_tail b)) : zpk μ q).lt e3 e4).1) (fun h => zv_tail (zv_tail (zv_tail h))) (fun p e R s m args below meth c H locs cells slots la F h1 hC hF hl2 h4 kk => ?_) k
  obtain ⟨cell, c1, c2, c3, c4, c5, c6, hlt, htg9⟩ := zarr h1 hC.2.2.2.2.2.2.2.2.1 hF (zv_head (zv_tail (zv_tail h4))) hel
  rw [List.map_cons, List.map_cons, List.map_cons, show zc (vP q) = .ref q.2.2 from zcp_ref e3]
  have hdyn : zlo G ≤ q.2.2 := hF.2.2.2.2 q.2.2 hlt (by rw [htg9]; exact hdy)
  refine hm p e R s m args below meth c H locs cells slots la F cell h1 hC hF (zv_head h4) c1 c2 c3 c4 (by rw [c5]; exact hin) fun H' g1 g2 g3 => ?_
  refine kk H' [⟨q.2.2, i.toNatClampNeg⟩] ⟨by rw [g2, hsz]; exact hF.1, by rw [hsz]; exact hF.2.1, fun a ha => ?_, fun a ha => ?_, fun a ha => ?_⟩ (fun z hz => by rw [List.mem_singleton.mp hz]; exact hdyn)
  · rw [g3 a (Nat.ne_of_lt (Nat.lt_of_lt_of_le ha hdyn))]; exact hF.2.2.1 a ha
  · rw [htg]
    rw [hsz] at ha
    by_cases e9 : a = q.2.2
    · rw [e9, htg9]
      unfold zcell
      rw [e1]
      dsimp only
      rw [if_pos (Or.inl (by rw [hel]; rfl))]
      refine ⟨_, g1, by rw [if_neg e2]; exact c4, c3, by show (cell.slots.setIfInBounds _ _).size = _; simp [c5], fun j hj => ?_⟩
      show (cell.slots.setIfInBounds i.toNatClampNeg w)[j]? = _
      rw [Array.getElem?_setIfInBounds]
      by_cases ej : i.toNatClampNeg = j
      · rw [if_pos ej, if_pos (by rw [c5, ej]; exact hj), ← ej, hw]
      · rw [if_neg ej, c6 j hj, hoth j (Ne.symm ej)]
    · exact zcell_same (hsame a e9) (g3 a e9) (hF.2.2.2.1 a ha)
  · rw [htg]
    exact hF.2.2.2.2 a (by rw [← hsz]; exact ha)
theorem zav_zAi_oth {t : Nat} {a i j : Nat} (h : j ≠ i) (x : Int32) : zav t (zAi μ a i x) a j = zav t μ a j := by unfold zav; rw [zai_zAi, if_neg (fun e => h e.2), zar_zAi, zal_zAi]
theorem zav_zAr_oth {t : Nat} {a i j : Nat} (h : j ≠ i) (x : ZP) : zav t (zAr μ a i x) a j = zav t μ a j := by unfold zav; rw [zar_zAr, if_neg (fun e => h e.2), zai_zAr, zal_zAr]
theorem zav_zAl_oth {t : Nat} {a i j : Nat} (h : j ≠ i) (x : Int64) : zav t (zAl μ a i x) a j = zav t μ a j := by unfold zav; rw [zal_zAl, if_neg (fun e => h e.2), zar_zAl, zai_zAl]
theorem Wp_iastore {x i : Int32} {q : ZP} (hd : decode (zyb Y) pc = .ok (.iastore, 1)) (ht : q.1 = 200) (hin : vp_in i q.2.1) (k : Wp G Y (pc + 1) ls st (zAi μ q.2.2 i.toNatClampNeg x) Q E) : Wp G Y pc ls (vI x :: vI i :: vP q :: st) μ Q E :=
  have hel : zel q.1 = some .int := by rw [ht]; rfl
  Wp.ast (v := vI x) (w := .int x) hel (by rw [ht]; rfl) hin (zext_zAi _ _ _ _) rfl rfl rfl (fun a _ b => a.zAi b _ _) (by rw [zav_I hel (by simp), zai_zAi, if_pos ⟨rfl, rfl⟩]; rfl) (fun j h => zav_zAi_oth h x) (fun a h => zsame_zAi h x)
    (fun p e R s m args below meth c H locs cells slots la F cell hg C hF hv c1 c2 c3 c4 c5 kk => W.iast C.1 C.2.1 c1 c2 (zvm_kn c3) c5 rfl rfl hd kk) k
theorem Wp_bastore {x i : Int32} {q : ZP} (hd : decode (zyb Y) pc = .ok (.bastore, 1)) (ht : q.1 = 202) (hin : vp_in i q.2.1) (k : Wp G Y (pc + 1) ls st (zAi μ q.2.2 i.toNatClampNeg x.toInt8.toInt32) Q E) : Wp G Y pc ls (vI x :: vI i :: vP q :: st) μ Q E :=
  have hel : zel q.1 = some .byte := by rw [ht]; rfl
  Wp.ast (v := vI x) (w := narrow .byte (.int x)) hel (by rw [ht]; rfl) hin (zext_zAi _ _ _ _) rfl rfl rfl (fun a _ b => a.zAi b _ _) (by rw [zav_I hel (by simp), zai_zAi, if_pos ⟨rfl, rfl⟩, narrow_byte]; rfl) (fun j h => zav_zAi_oth h _) (fun a h => zsame_zAi h _)
    (fun p e R s m args below meth c H locs cells slots la F cell hg C hF hv c1 c2 c3 c4 c5 kk => W.bast C.1 C.2.1 c1 c2 (zvm_kn c3) c5 rfl rfl hd kk) k
theorem Wp_zastore {x i : Int32} {q : ZP} (hd : decode (zyb Y) pc = .ok (.bastore, 1)) (ht : q.1 = 201) (hx : x = 0 ∨ x = 1) (hin : vp_in i q.2.1) (k : Wp G Y (pc + 1) ls st (zAi μ q.2.2 i.toNatClampNeg x) Q E) : Wp G Y pc ls (vI x :: vI i :: vP q :: st) μ Q E :=
  have hel : zel q.1 = some .boolean := by rw [ht]; rfl
  Wp.ast (v := vI x) (w := narrow .boolean (.int x)) hel (by rw [ht]; rfl) hin (zext_zAi _ _ _ _) rfl rfl rfl (fun a _ b => a.zAi b _ _) (by rw [zav_I hel (by simp), zai_zAi, if_pos ⟨rfl, rfl⟩, (znr_bool hx).1]; rfl) (fun j h => zav_zAi_oth h _) (fun a h => zsame_zAi h _)
    (fun p e R s m args below meth c H locs cells slots la F cell hg C hF hv c1 c2 c3 c4 c5 kk => W.zast C.1 C.2.1 c1 c2 (zvm_kn c3) c5 rfl rfl hd kk) k
theorem Wp_lastore {x : Int64} {i : Int32} {q : ZP} (hd : decode (zyb Y) pc = .ok (.lastore, 1)) (ht : q.1 = 203) (hin : vp_in i q.2.1) (k : Wp G Y (pc + 1) ls st (zAl μ q.2.2 i.toNatClampNeg x) Q E) : Wp G Y pc ls (vL x :: vI i :: vP q :: st) μ Q E :=
  have hel : zel q.1 = some .long := by rw [ht]; rfl
  Wp.ast (v := vL x) (w := .long x) hel (by rw [ht]; rfl) hin (zext_zAl _ _ _ _) rfl rfl rfl (fun a _ b => a.zAl b _ _) (by rw [zav_L hel, zal_zAl, if_pos ⟨rfl, rfl⟩]; rfl) (fun j h => zav_zAl_oth h x) (fun a h => zsame_zAl h x)
    (fun p e R s m args below meth c H locs cells slots la F cell hg C hF hv c1 c2 c3 c4 c5 kk => W.last C.1 C.2.1 c1 c2 (zvm_kn c3) c5 rfl rfl hd kk) k
/-- the class of an object's cell, by its tag -/
def zcls (t : Nat) : String := match zel t with
  | some ty => "[" ++ ty.toString
  | none => zcn t
/-- objects whose class is known -/
def zkc (t : Nat) : Bool := (zci t).isSome || ((zel t).isSome && decide (t ≠ 207 ∧ t ≠ 209))
theorem zobj (hg : zgok G) {s : State} (hk : zkk G s) {H : Heap} (hF : zfit G μ H) {q : ZP} (hq : zpk μ q) (hz : zkc q.1 = true) :
    q.1 ≠ 0 ∧ ∃ cell : Cell, H[q.2.2]? = some cell ∧ zvm q.1 cell ∧ s.vm.findClass (zcls q.1) = some cell.cls := by
  cases he : zel q.1 with
  | some ty =>
    obtain ⟨cell, c1, c2, c3, c4, -⟩ := zarr hg hk hF hq he
    obtain ⟨kA, comp, k1, k2, k3, -⟩ := hg.2.2.2.2.1 _ _ he
    refine ⟨(zel_ci he).2.2.1, cell, c1, c3, ?_⟩
    unfold zcls
    rw [he, c4, hk.1.alike.findClass]
    unfold zkc at hz
    rw [(zel_ci he).1, he] at hz
    have hn : q.1 ≠ 207 ∧ q.1 ≠ 209 := by simpa using hz
    exact k3 hn.1 hn.2
  | none =>
    unfold zkc at hz
    rw [he, Option.isSome_none, Bool.false_and, Bool.or_false] at hz
    obtain ⟨ci, hci⟩ := Option.isSome_iff_exists.mp hz
    have h0 : q.1 ≠ 0 := by intro e; rw [e] at hci; cases hci
    have h1 : q.1 ≠ 251 := by intro e; rw [e] at hci; simp [zci] at hci
    obtain ⟨hlt, htg⟩ := hq.lt h0 h1
    have hcell := hF.2.2.2.1 q.2.2 hlt
    rw [htg] at hcell
    unfold zcell at hcell
    rw [hci] at hcell
    obtain ⟨r, hr, cell, c1, c2, c3, c4⟩ := hcell
    refine ⟨h0, cell, c1, c3, ?_⟩
    unfold zcls zcn
    rw [he, hci]
    dsimp only
    rw [hr, c2]
    exact (zkn hg hk hr).2.1
end ZI
