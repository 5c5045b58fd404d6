/-! THE OWN LAYER, 11: exceptions' objects -/
section ZX
variable {G : ZG} {Y : ZY} {pc : Nat} {ls : List (Nat × ZV)} {st : List ZV} {μ : ZM} {Q : Option ZV → ZM → Prop} {E : ZP → ZM → Prop}
theorem zex_hat (hg : zgok G) {s : State} (hk : zkk G s) {args : Array Value} (hts : ∀ w ∈ lw_all, w.before args s = true) {L : List Cond} (h : L.all zexb = true) : ∀ w ∈ L, w.before args s = true ∧ vx_ot w = true := by
  intro w hw
  have hb := List.all_eq_true.mp h w hw
  unfold zexb at hb
  rw [Bool.and_eq_true, Bool.and_eq_true] at hb
  obtain ⟨h1, h2, h3⟩ := hb
  have hm : w ∈ lw_tbl := of_decide_eq_true h3
  refine ⟨?_, h2⟩
  unfold zexk at h1
  rw [Bool.or_eq_true] at h1
  rcases h1 with h1 | h1
  · exact hts w (lw_g hm h1)
  · split at h1
    · exact zw_C hg hk hm
    · exact (va_Nw.warmD hk.1 (va_Nw.of rfl (hg.1 _ hm))).use rfl
    · cases h1
/-- new X(); dup; <init>: an exception's object -/
theorem Wp_exc (t : Nat) {own cls : String} {names : List String} {ik ic ci : Nat} {r : vw_C} (hci : zci t = some ci) (hr : zCl[ci]? = some r) (hr0 : r.1 = cls ∧ r.2.2 = 0) (ho : own = (zyn Y).cls) (hfit : (Bundle.fit cls && names.all Bundle.fit) = true) (hk : Cond.classLink own ik cls ∈ lw_all) (hini : Cond.initialized cls ∈ lw_all) (hat : (vx_at0 own ic cls names).all zexb = true)
    (d0 : decode (zyb Y) pc = .ok (.new ik, 3)) (d3 : decode (zyb Y) (pc + 3) = .ok (.dup, 1)) (d4 : decode (zyb Y) (pc + 4) = .ok (.invokespecial ic, 3)) (hlv : 3 + names.length < zyl Y) (hnm : names.length ≤ 4) (hst : (st.map zcat).sum ≤ 100)
    (k : Wp G Y (pc + 7) ls (vP (t, 0, zsz μ) :: st) (zNew μ t 0 6) Q E) : Wp G Y pc ls st μ Q E := by
  have h0 : t ≠ 0 := by rintro rfl; cases hci
  refine Wp.al 6 (zext_zNew μ t 0 6) rfl rfl (fun a => a.zNew t 0 6) (fun h => zv_cons (show zvk (zNew μ t 0 6) (vP (t, 0, zsz μ)) from zpk_new μ h0 0 6) (fun w hw => (h w hw).ext (zext_zNew μ t 0 6))) (fun p e R s m args below meth c H locs cells slots la F hg hC hok hF hla h4 hf hw hRcells hRslots kk => ?_) k
  have hts := hC.2.2.2.2.2.2.2.1
  have hkk := hC.2.2.2.2.2.2.2.2.1
  have hrest := zrest hst
  obtain ⟨hexec, hb⟩ : p.tables.exec = Jvm.exec ∧ c.code = zyb Y := ⟨hC.1, hC.2.1⟩
  have hown : s.vm.findClass own = some m.cls := by rw [ho]; exact hC.2.2.2.2.2.1
  rw [Bool.and_eq_true, List.all_eq_true] at hfit
  obtain ⟨hcls, hnames⟩ := hfit
  have hats := zex_hat hg hkk hts hat
  have hlw : zwl (zyl Y) ≤ R.locals := hw
  unfold zwl at hlw
  intro T hT X
  subst hT
  have hl : (zgl G).stackTraces = false := by unfold Launch.stackTraces; rw [hg.2.1]; decide +kernel
  have htr : e.platform.stackTraces = false := (show e.platform.stackTraces = (zgl G).stackTraces by rw [X.admits.platform]).trans hl
  have Y9 := vx_rebase X (R' := { frames := R.frames, locals := R.locals, cells := 1, slots := 6 }) (Nat.le_refl _) (Nat.le_refl _) hRcells hRslots
  obtain ⟨s', hA'⟩ : ∃ z, z = (T.setVm s.vm).setFrames (.invoking m args :: below) := ⟨_, rfl⟩
  rw [← hA'] at Y9
  have hvm : s'.vm = s.vm := by rw [hA']; rfl
  have hhp : s'.heap = T.heap := by rw [hA']; rfl
  have hW0 : s.WarmedH s'.vm := by rw [hvm]; exact State.WarmedH.refl s
  have hat' : ∀ w ∈ vx_at0 own ic cls names, w.before args s' = true := fun w hw => vx_ot_at hW0 hvm.symm (hats w hw).2 (hats w hw).1
  have hgood : ∀ w ∈ lw_all, vx_ot w = true := fun w hw => by
    unfold vx_ot
    rw [(List.mem_filter.mp hw).2, Bool.or_true]
  have hk' : (Cond.classLink own ik cls).before args s' = true := vx_ot_at hW0 hvm.symm (hgood _ hk) (hts _ hk)
  have hini' : (Cond.initialized cls).before args s' = true := vx_ot_at hW0 hvm.symm (hgood _ hini) (hts _ hini)
  have hkeep : ∀ a : Nat, a < (zgs G).heap.size → ¬ zlo G ≤ a → T.heap[a]? = (zgs G).heap[a]? := fun a _ ha => hF.2.2.1 a (Nat.lt_of_not_le ha)
  have hal : (zgs G).vm.Alike s'.vm := by rw [hvm]; exact hkk.1.alike
  have hU' : vx_Zq Bundle.tN "UNASSIGNED_STACK" Bundle.steD (fun a => zlo G ≤ a) s' s'.heap := by rw [hhp]; exact vx_Zq.moved hal (vx_Zq.kept hg.2.2.2.2.2.2.2.2.2.2.1 hkeep)
  have hN' : vx_Zq Bundle.tN "SUPPRESSED_SENTINEL" Bundle.listD (fun a => zlo G ≤ a) s' s'.heap := by rw [hhp]; exact vx_Zq.moved hal (vx_Zq.kept hg.2.2.2.2.2.2.2.2.2.2.2 hkeep)
  have h : ∀ w ∈ Bundle.ownAtoms0 own ic cls names, w.before args s' = true := vx_own hat' (vx_isRefq hU'.1) (vx_isRefq hN'.1) hU'.2.word hN'.2.word
  have hown' : s'.vm.findClass own = some m.cls := by rw [hvm]; exact hown
  have hins : (Cond.instantiable cls 6).before args s' = true := h _ (by simp [Bundle.ownAtoms0])
  obtain ⟨vm₁, cX, kX, hfX, hkX, -, -, X₁, st1⟩ := Y9.newCold hexec (own := own) (C := cls) (index := ik) (n := 6) hown' hk' hins hini'
    (g := F0 m pc la (st.map zc)) rfl (by rw [hb]; exact d0) (Nat.le_refl _) (Nat.le_refl _)
  generalize hT1 : (T.setVm vm₁).pushCell { cls := cX, slots := kX.instanceTypes.map defaultValue, vm := .none } = T1 at X₁ st1
  have hcat : (Value.ref T.heap.size).category = 1 := rfl
  have hcellA : T1.heap[T.heap.size]? = some (freshCell cX kX) := by rw [← hT1]; exact State.heap_pushCell_size _ _
  have d3' : decode c.code (pc + 3) = .ok (.dup, 1) := by rw [hb]; exact d3
  have hsize : la.size = c.maxLocals := by rw [hC.2.2.2.2.1]; exact hla.1
  obtain ⟨V, ce, L, Z, hL, hlt, hcl9, hvm9, st'⟩ := vx_ctorMade0 X₁ hexec htr (own := own) (cls := cls) (names := names) (ic := ic) hown' hcls (fun n hn => hnames n hn) h (fun x hx => nomatch hx) hfX hkX hcellA (by rw [hhp]; exact Nat.le_refl _)
    (g := { method := m, pc := pc + 4, locals := la, stack := .ref T.heap.size :: .ref T.heap.size :: st.map zc, locked := none }) rfl hsize (rest := st.map zc) rfl
    (by rw [hb]; exact d4) (by show names.length + 3 < R.frames; omega) (by simp only [List.map_cons, List.sum_cons, hcat]; show 2 * 0 + _ + _ ≤ R.locals; omega)
  have Z0 := Stand.forget (locs := []) Z (fun y hy => by rw [hL y hy, hhp]; exact Nat.le_refl _)
  obtain ⟨f1, f2⟩ := vx_frame Z0.same
  rw [hhp] at f1 f2
  have hh : (V.setCell T.heap.size ce).heap[T.heap.size]? = some ce := heapAt_setCell_self (s := V) ce hlt
  have f3 : (V.setCell T.heap.size ce).heap.size ≤ T.heap.size + 1 := by
    have := Z0.same.2.2.1
    rw [hhp] at this
    simpa using this
  subst hA'
  have X5 := vx_back9 X Y9 Z0
  have X6 : Stand p (zgl G) e R s m args below meth c (V.setCell T.heap.size ce) locs (cells + 1) (slots + 6) := { X5 with same := X5.same.mono (by omega) (by omega) }
  have hlt2 : T.heap.size < (V.setCell T.heap.size ce).heap.size := (Array.getElem?_eq_some_iff.mp hh).1
  have hHs := hF.1
  have hKn := zkn hg hkk hr
  have hF' : zfit G (zNew μ t 0 6) (V.setCell T.heap.size ce).heap := by
    refine zfit_new hF rfl (fun a => ztg_zNew μ t 0 6 a) (fun a _ => zsame_zNew) (by rw [← hHs]; omega) (fun q hq => f2 q (by rw [hHs]; exact hq) (fun z hz => nomatch hz)) ?_
    unfold zcell
    rw [hci]
    refine ⟨r, hr, ce, by rw [← hHs]; exact hh, ?_, zvm.of hvm9, fun k hk => by rw [hr0.2] at hk; exact absurd hk (Nat.not_lt_zero k)⟩
    rw [hcl9]
    have e1 : s.vm.findClass r.1 = some (zgC G ci) := hKn.2.1
    rw [hr0.1] at e1
    have e2 : s.vm.findClass cls = some cX := hfX
    exact Option.some.inj (e2.symm.trans e1)
  have K := kk _ hF'
  rw [List.map_cons, show zc (vP (t, 0, zsz μ)) = .ref (zsz μ) from zcp_ref h0, ← hHs] at K
  obtain ⟨t9, a1, b1⟩ := K _ rfl X6
  refine ⟨t9, st1 _ ?_, b1⟩
  show Steps p.tables e below (T1.setTop { method := m, pc := pc + 3, locals := la, stack := .ref T.heap.size :: st.map zc, locked := none }) _
  jvm_step X₁.here [X₁.here.top, hexec, d3', Value.category]
  exact st' _ a1
end ZX
