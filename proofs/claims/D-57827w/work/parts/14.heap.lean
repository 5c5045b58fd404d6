/-! THE OWN LAYER, 5: rules of the instructions that read or write memory -/
section ZH
variable {G : ZG} {Y : ZY} {pc : Nat} {ls : List (Nat × ZV)} {st : List ZV} {μ : ZM} {Q : Option ZV → ZM → Prop} {E : ZP → ZM → Prop}
theorem zhas_ci {t f : Nat} (h : zhas t f = true) : ∃ ci, zci t = some ci ∧ f ∈ zfC.getD ci [] ∧ t ≠ 0 ∧ t ≠ 251 := by
  unfold zhas at h
  cases hc : zci t with
  | none => rw [hc] at h; cases h
  | some ci =>
    rw [hc] at h
    refine ⟨ci, rfl, by simpa using h, ?_, ?_⟩
    · rintro rfl; cases hc
    · rintro rfl; simp [zci] at hc
theorem zci_lt {t ci : Nat} (h : zci t = some ci) : ci < 27 := by
  unfold zci at h
  split at h
  · cases h
  · cases h; decide
  · cases h; decide
  · split at h
    · cases h; assumption
    · cases h
theorem zCl_at {ci : Nat} (h : ci < 27) : ∃ r, zCl[ci]? = some r := ⟨zCl[ci]'h, List.getElem?_eq_getElem _⟩
theorem zfc_inj {ci j k : Nat} (hj : j < (zfC.getD ci []).length) (hk : k < (zfC.getD ci []).length) (h : zfc ci j = zfc ci k) : j = k := by
  have hnd := zfc_nd ci
  unfold zfc at h
  generalize zfC.getD ci [] = L at hj hk h hnd
  rw [List.getD_eq_getElem?_getD, List.getD_eq_getElem?_getD, List.getElem?_eq_getElem hj, List.getElem?_eq_getElem hk] at h
  refine (List.getElem?_inj hj hnd).mp ?_
  rw [List.getElem?_eq_getElem hj, List.getElem?_eq_getElem hk]
  exact congrArg some h
/-- a known class, at a method's start -/
theorem zkn (hg : zgok G) {s : State} (hk : zkk G s) {ci : Nat} {r : vw_C} (h : zCl[ci]? = some r) : u_Kn s r.1 r.2.1 r.2.2 (zgC G ci) (zgI G ci) := u_Kn_moved hk.1.alike (hg.2.2.2.1 ci r h)
/-- words that don't ride: from the start's -/
theorem zw_F (hg : zgok G) {s : State} (hk : zkk G s) {args : Array Value} {a : String} {i : Nat} {b n d x : String} (h : Cond.fieldLinkNest a i b n d x ∈ lw_tbl) : (Cond.fieldLinkNest a i b n d x).before args s = true := (va_Nw.warmF hk.1 (va_Nw.of rfl (hg.1 _ h))).use rfl
theorem zw_M (hg : zgok G) {s : State} (hk : zkk G s) {args : Array Value} {a : String} {i : Nat} {x : MethodName} {b : String} (h : Cond.methodLinkNest a i x b ∈ lw_tbl) : (Cond.methodLinkNest a i x b).before args s = true := (va_Nw.warmM hk.1 (va_Nw.of rfl (hg.1 _ h))).use rfl
theorem zw_C (hg : zgok G) {s : State} (hk : zkk G s) {args : Array Value} {C T : String} (h : Cond.castable C T ∈ lw_tbl) : (Cond.castable C T).before args s = true := (va_Nw.warmC hk.1 (va_Nw.of rfl (hg.1 _ h))).use rfl
theorem zw_A (hg : zgok G) {s : State} (hk : zkk G s) {args : Array Value} {C : String} (h : Cond.arrayOver (.object C) ∈ lw_tbl) : (Cond.arrayOver (.object C)).before args s = true := (va_AO.moved hk.1.alike (va_AO.of (hg.1 _ h))).use
/-- a cell's object, by a pointer whose tag has the field f -/
theorem zfield (hg : zgok G) {p : Program} {s : State} {m : MethodId} {args : Array Value} {meth : Method} {c : Code} {H : Heap} (hC : zctx G Y p s m args meth c) (hF : zfit G μ H) {q : ZP} (hq : zpk μ q) {f : Nat} (hh : zhas q.1 f = true) :
    ∃ (ci k : Nat) (r : vw_C) (cell : Cell) (cf : ClassId) (kf : Class) (fi : Nat) (fd : Field) (kC : Class), zCl[ci]? = some r ∧ zci q.1 = some ci ∧ k < r.2.2 ∧ zfc ci k = f ∧ r.2.1 k = zft f ∧ H[q.2.2]? = some cell ∧ cell.cls = zgC G ci ∧ zvm q.1 cell ∧ (∀ j, j < r.2.2 → cell.slots[zgI G ci j]? = some (zfv μ (zfc ci j) q.2.2)) ∧ u_Kn s r.1 r.2.1 r.2.2 (zgC G ci) (zgI G ci) ∧
      s.fieldFound? (zft f).1 (zft f).2.1 (zft f).2.2.1 = some (cf, kf, fi, fd) ∧ fd.slot = zgI G ci k ∧ s.vm.classes[zgC G ci]? = some kC ∧ kC.kind = .ordinary ∧ q.2.2 < zsz μ ∧ ztg μ q.2.2 = (q.1, q.2.1) := by
  obtain ⟨ci, hci, hf, h0, h1⟩ := zhas_ci hh
  obtain ⟨hlt, htg⟩ := hq.lt h0 h1
  have hcell := hF.2.2.2.1 q.2.2 hlt
  rw [htg] at hcell
  unfold zcell at hcell
  rw [hci] at hcell
  obtain ⟨r, hr, cell, c1, c2, c3, c4⟩ := hcell
  obtain ⟨k, hk, hkf⟩ := List.getElem_of_mem hf
  have hk2 : k < r.2.2 := by rw [← zfC_len ci r hr]; exact hk
  have hkf' : zfc ci k = f := by unfold zfc; rw [List.getD_eq_getElem?_getD, List.getElem?_eq_getElem hk, hkf]; rfl
  have hT : r.2.1 k = zft f := by rw [← hkf']; exact zfc_T ci r hr k hk2
  have hKn := zkn hg hC.2.2.2.2.2.2.2.2.1 hr
  obtain ⟨hS, hfc, kC, hkC, hkind⟩ := id hKn
  obtain ⟨cf, kf, fi, fd, hi, hsl⟩ := hS k hk2
  rw [hT] at hi
  exact ⟨ci, k, r, cell, cf, kf, fi, fd, kC, hr, hci, hk2, hkf', hT, c1, c2, c3, c4, hKn, hi, hsl, hkC, hkind, hlt, htg⟩
/-- how javac spells a field: its own class, or one that inherits it -/
def zspell (ref : String) (f : Nat) (nm ds : String) : Prop := (zft f).2.1 = nm ∧ (zft f).2.2.1 = ds ∧ (ref = (zft f).1 ∨ Cond.sameField ref (zft f).1 nm ds ∈ lw_all)
theorem zspell.found {ref nm ds : String} {f : Nat} (h : zspell ref f nm ds) {s : State} {args : Array Value} (hts : ∀ w ∈ lw_all, w.before args s = true) {x : ClassId × Class × Nat × Field} (hx : s.fieldFound? (zft f).1 (zft f).2.1 (zft f).2.2.1 = some x) : s.fieldFound? ref nm ds = some x := by
  obtain ⟨h1, h2, h3⟩ := h
  rw [h1, h2] at hx
  rcases h3 with h3 | h3
  · rw [h3]; exact hx
  · exact u_same (hts _ h3) x hx
/-- a field is read -/
theorem Wp.get {v : ZV} {own ref nm ds : String} {index f : Nat} {q : ZP} (ho : own = (zyn Y).cls) (hl : Cond.fieldLink own index ref nm ds ∈ lw_all) (hsp : zspell ref f nm ds) (hd : decode (zyb Y) pc = .ok (.getfield index, 3)) (hh : zhas q.1 f = true) (hv : zfv μ f q.2.2 = zc v) (hvk : zok μ → zvk μ v)
    (k : Wp G Y (pc + 3) ls (v :: st) μ Q E) : Wp G Y pc ls (vP q :: st) μ Q E := by
  intro h1 h2 h3 h4
  refine Wp.stk (fun h => zv_cons (hvk h2.1) (zv_tail h)) (fun p e R s m args below meth c H locs cells slots la F hC hF hl2 kk => ?_) k h1 h2 h3 h4
  obtain ⟨ci, k, r, cell, cf, kf, fi, fd, kC, hr, hci, hk, hkf, hT, c1, c2, c3, c4, hKn, hi, hsl, hkC, hkind, hlt, htg⟩ := zfield h1 hC hF (zv_head h4) hh
  obtain ⟨hx, hb, -, -, -, hown, -, hts, hkk, -⟩ := hC
  subst ho
  have h0 : q.1 ≠ 0 := (zhas_ci hh).choose_spec.2.2.1
  have e0 : zc (vP q) = .ref q.2.2 := zcp_ref h0
  rw [List.map_cons, e0]
  rw [List.map_cons] at kk
  have hlays := u_lays hts (zCl_in ci r hr) hk
  rw [hT] at hlays
  refine W.getf hx hb hown (hts _ hl) (hsp.found hts hi) (u_facts hKn.2.1 hkC hlays hi).1 c1 (zvm_kn c3) (v := zc v) ?_ rfl rfl hd kk
  rw [hsl, c4 k hk, hkf, hv]
theorem Wp.getN {v : ZV} {own ref nm ds host : String} {index f : Nat} {q : ZP} (ho : own = (zyn Y).cls) (hl : Cond.fieldLinkNest own index ref nm ds host ∈ lw_tbl) (hsp : zspell ref f nm ds) (hd : decode (zyb Y) pc = .ok (.getfield index, 3)) (hh : zhas q.1 f = true) (hv : zfv μ f q.2.2 = zc v) (hvk : zok μ → zvk μ v)
    (k : Wp G Y (pc + 3) ls (v :: st) μ Q E) : Wp G Y pc ls (vP q :: st) μ Q E := by
  intro h1 h2 h3 h4
  refine Wp.stk (fun h => zv_cons (hvk h2.1) (zv_tail h)) (fun p e R s m args below meth c H locs cells slots la F hC hF hl2 kk => ?_) k h1 h2 h3 h4
  obtain ⟨ci, k, r, cell, cf, kf, fi, fd, kC, hr, hci, hk, hkf, hT, c1, c2, c3, c4, hKn, hi, hsl, hkC, hkind, hlt, htg⟩ := zfield h1 hC hF (zv_head h4) hh
  obtain ⟨hx, hb, -, -, -, hown, -, hts, hkk, -⟩ := hC
  subst ho
  have h0 : q.1 ≠ 0 := (zhas_ci hh).choose_spec.2.2.1
  have e0 : zc (vP q) = .ref q.2.2 := zcp_ref h0
  rw [List.map_cons, e0]
  rw [List.map_cons] at kk
  have hlays := u_lays hts (zCl_in ci r hr) hk
  rw [hT] at hlays
  refine va_Wgetf hx hb hown (zw_F h1 hkk hl) (hsp.found hts hi) (u_facts hKn.2.1 hkC hlays hi).1 c1 (zvm_kn c3) (v := zc v) ?_ rfl rfl hd kk
  rw [hsl, c4 k hk, hkf, hv]
theorem zfv_I {f : Nat} (h : zfk f = 0) (a : Nat) : zfv μ f a = zc (vI (zfi μ f a)) := by unfold zfv; rw [h]; rfl
theorem zfv_P {f : Nat} (h : zfk f = 1) (a : Nat) : zfv μ f a = zc (vP (zfr μ f a)) := by unfold zfv; rw [h]; rfl
theorem zfv_F {f : Nat} (h : zfk f = 2) (a : Nat) : zfv μ f a = zc (vF (zfi μ f a).toUInt32) := by unfold zfv; rw [h]; rfl
theorem Wp_getI {own ref nm ds : String} {index : Nat} (f : Nat) {q : ZP} (ho : own = (zyn Y).cls) (hl : Cond.fieldLink own index ref nm ds ∈ lw_all) (hsp : zspell ref f nm ds) (hd : decode (zyb Y) pc = .ok (.getfield index, 3)) (hk : zfk f = 0) (hh : zhas q.1 f = true) (k : Wp G Y (pc + 3) ls (vI (zfi μ f q.2.2) :: st) μ Q E) : Wp G Y pc ls (vP q :: st) μ Q E := Wp.get ho hl hsp hd hh (zfv_I hk _) (fun _ => zv_I _) k
theorem Wp_getP {own ref nm ds : String} {index : Nat} (f : Nat) {q : ZP} (ho : own = (zyn Y).cls) (hl : Cond.fieldLink own index ref nm ds ∈ lw_all) (hsp : zspell ref f nm ds) (hd : decode (zyb Y) pc = .ok (.getfield index, 3)) (hk : zfk f = 1) (hh : zhas q.1 f = true) (k : Wp G Y (pc + 3) ls (vP (zfr μ f q.2.2) :: st) μ Q E) : Wp G Y pc ls (vP q :: st) μ Q E := Wp.get ho hl hsp hd hh (zfv_P hk _) (fun h => h.2.2.2.2.2.1 f _) k
theorem Wp_getF {own ref nm ds : String} {index : Nat} (f : Nat) {q : ZP} (ho : own = (zyn Y).cls) (hl : Cond.fieldLink own index ref nm ds ∈ lw_all) (hsp : zspell ref f nm ds) (hd : decode (zyb Y) pc = .ok (.getfield index, 3)) (hk : zfk f = 2) (hh : zhas q.1 f = true) (k : Wp G Y (pc + 3) ls (vF (zfi μ f q.2.2).toUInt32 :: st) μ Q E) : Wp G Y pc ls (vP q :: st) μ Q E := Wp.get ho hl hsp hd hh (zfv_F hk _) (fun _ => zv_F _) k
theorem Wp_getNI {own ref nm ds host : String} {index : Nat} (f : Nat) {q : ZP} (ho : own = (zyn Y).cls) (hl : Cond.fieldLinkNest own index ref nm ds host ∈ lw_tbl) (hsp : zspell ref f nm ds) (hd : decode (zyb Y) pc = .ok (.getfield index, 3)) (hk : zfk f = 0) (hh : zhas q.1 f = true) (k : Wp G Y (pc + 3) ls (vI (zfi μ f q.2.2) :: st) μ Q E) : Wp G Y pc ls (vP q :: st) μ Q E := Wp.getN ho hl hsp hd hh (zfv_I hk _) (fun _ => zv_I _) k
theorem Wp_getNP {own ref nm ds host : String} {index : Nat} (f : Nat) {q : ZP} (ho : own = (zyn Y).cls) (hl : Cond.fieldLinkNest own index ref nm ds host ∈ lw_tbl) (hsp : zspell ref f nm ds) (hd : decode (zyb Y) pc = .ok (.getfield index, 3)) (hk : zfk f = 1) (hh : zhas q.1 f = true) (k : Wp G Y (pc + 3) ls (vP (zfr μ f q.2.2) :: st) μ Q E) : Wp G Y pc ls (vP q :: st) μ Q E := Wp.getN ho hl hsp hd hh (zfv_P hk _) (fun h => h.2.2.2.2.2.1 f _) k
/-- an instruction that writes memory at one address -/
theorem Wp.wrt {pc' : Nat} {st' : List ZV} {ν : ZM} (hext : zext μ ν) (hsz : zsz ν = zsz μ) (hsl : zsl ν = zsl μ) (hok : zok μ → (∀ v ∈ st, zvk μ v) → zok ν) (hv : (∀ v ∈ st, zvk μ v) → ∀ v ∈ st', zvk μ v)
    (hm : ∀ (p : Program) (e : Env) (R : Room) (s : State) (m : MethodId) (args : Array Value) (below : List Frame) (meth : Method) (c : Code) (H : Heap) (locs : List Loc) (cells slots : Nat) (la : Array Slot) (F : State → Prop), zgok G → zctx G Y p s m args meth c → zfit G μ H → lv_has la (zyL Y) (zlc ls) → (∀ v ∈ st, zvk μ v) → (∀ (H' : Heap) (locs' : List Loc), zfit G ν H' → (∀ z ∈ locs', zlo G ≤ z.base) → W p (zgl G) e R s m args below meth c H' (locs ++ locs') cells slots F (F0 m pc' la (st'.map zc))) → W p (zgl G) e R s m args below meth c H locs cells slots F (F0 m pc la (st.map zc)))
    (k : Wp G Y pc' ls st' ν Q E) : Wp G Y pc ls st μ Q E := by
  intro h1 h2 h3 h4
  obtain ⟨o, ρ, e1, e2, e3, e4, hs⟩ := k h1 ⟨hok h2.1 h4, h2.2.ext hext⟩ (fun q hq => (h3 q hq).ext hext) (fun v hvm => (hv h4 v hvm).ext hext)
  refine ⟨o, ρ, e1, hext.trans e2, e3, e4, ?_⟩
  intro p e R s m args below meth c H locs cells slots la hC hF hl hL hf hw hc hsl2
  rw [← hsz] at hc ⊢
  rw [← hsl] at hsl2 ⊢
  exact hm p e R s m args below meth c H locs cells slots la _ h1 hC hF hl h4 (fun H' locs' hF' hL' => hs p e R s m args below meth c H' (locs ++ locs') cells slots la hC hF' hl (fun z hz => (List.mem_append.mp hz).elim (hL z) (hL' z)) hf hw hc hsl2)
theorem zci_ne {t : Nat} (h : (1 ≤ t ∧ t < 100)) : zdyn t = true := by unfold zdyn; simp only [decide_eq_true_eq]; omega
/-- a field is written -/
theorem Wp.put {v : ZV} {ν : ZM} {own ref nm ds : String} {index f : Nat} {q : ZP} (fin : Bool) (ho : own = (zyn Y).cls) (hl : Cond.fieldLink own index ref nm ds ∈ lw_all) (hsp : zspell ref f nm ds) (hd : decode (zyb Y) pc = .ok (.putfield index, 3)) (hh : zhas q.1 f = true) (hw : q.1 < 100) (hfin : (zft f).2.2.2 = fin) (hf2 : fin = true → (zyn Y).name = "<init>" ∧ (zft f).1 = own)
    (hn : narrow (zfy f) (zc v) = zc v) (hfit : fits (zfy f) (zc v) = true) (hext : zext μ ν) (hsz : zsz ν = zsz μ) (hsl : zsl ν = zsl μ) (htg : ztg ν = ztg μ) (hok : zok μ → zvk μ v → q.2.2 < zsz μ → zok ν) (hv : zfv ν f q.2.2 = zc v) (hoth : ∀ g, g ≠ f → zfv ν g q.2.2 = zfv μ g q.2.2) (hsame : ∀ a, a ≠ q.2.2 → zsame μ ν a)
    (k : Wp G Y (pc + 3) ls st ν Q E) : Wp G Y pc ls (v :: vP q :: st) μ Q E := by
  have h0 : q.1 ≠ 0 := (zhas_ci hh).choose_spec.2.2.1
  have h251 : q.1 ≠ 251 := (zhas_ci hh).choose_spec.2.2.2
  refine Wp.wrt hext hsz hsl (fun a b => hok a (zv_head b) ((zv_head (zv_tail b) : zpk μ q).lt h0 h251).1) (fun h => zv_tail (zv_tail h)) (fun p e R s m args below meth c H locs cells slots la F h1 hC hF hl2 h4 kk => ?_) k
  obtain ⟨ci, k, r, cell, cf, kf, fi, fd, kC, hr, hci, hk, hkf, hT, c1, c2, c3, c4, hKn, hi, hsl9, hkC, hkind, hlt, htg9⟩ := zfield h1 hC hF (zv_head (zv_tail h4)) hh
  obtain ⟨hx, hb, -, -, -, hown, ⟨hname, -⟩, hts, hkk, -⟩ := hC
  subst ho
  have e0 : zc (vP q) = .ref q.2.2 := zcp_ref h0
  rw [List.map_cons, List.map_cons, e0]
  have hin := zCl_in ci r hr
  have hlay := hts _ (hin _ (u_in_lay hk))
  have hlays := u_lays hts hin hk
  have hty := zfc_ty ci r hr k hk
  rw [hT] at hlays hty
  rw [hkf] at hty
  unfold u_lay at hlay
  rw [hT] at hlay
  have hst := (u_facts hKn.2.1 hkC hlays hi).1
  have hap : ∀ x y, x < r.2.2 → y < r.2.2 → x ≠ y → zgI G ci x ≠ zgI G ci y := by
    intro x y hx9 hy9 hne
    obtain ⟨_, _, _, fa, hia, ea⟩ := hKn.1 x hx9
    obtain ⟨_, _, _, fb, hib, eb⟩ := hKn.1 y hy9
    rw [← ea, ← eb]
    refine u_apart (u_lays hts hin hx9) (u_lays hts hin hy9) hia hib ?_
    rw [(State.fieldFound?_type hia (zfc_ty ci r hr x hx9)).1, (State.fieldFound?_type hib (zfc_ty ci r hr y hy9)).1]
    exact zCl_nm ci r hr x hx9 y hy9 hne
  have hdyn : zlo G ≤ q.2.2 := hF.2.2.2.2 q.2.2 hlt (by rw [htg9]; exact zci_ne ⟨Nat.pos_of_ne_zero h0, hw⟩)
  have fin9 : ∀ H' : Heap, H'[q.2.2]? = some (cell.setSlot fd.slot (zc v)) → H'.size = H.size → (∀ b, b ≠ q.2.2 → H'[b]? = H[b]?) → zfit G ν H' := by
    intro H' g1 g2 g3
    refine ⟨by rw [g2, hsz]; exact hF.1, by rw [hsz]; exact hF.2.1, fun a ha => ?_, fun a ha => ?_, fun a ha => ?_⟩
    · rw [g3 a (Nat.ne_of_lt (Nat.lt_of_lt_of_le ha hdyn))]; exact hF.2.2.1 a ha
    · rw [htg]
      rw [hsz] at ha
      by_cases e9 : a = q.2.2
      · rw [e9, htg9]
        unfold zcell
        rw [hci]
        refine ⟨r, hr, cell.setSlot fd.slot (zc v), g1, c2, c3, fun j hj => ?_⟩
        rw [hsl9, t_set c4 hap hk (zc v) j hj]
        show some (if j = k then zc v else zfv μ (zfc ci j) q.2.2) = some (zfv ν (zfc ci j) q.2.2)
        by_cases ej : j = k
        · rw [if_pos ej, ej, hkf, hv]
        · rw [if_neg ej, hoth]
          intro hz
          refine ej ?_
          exact zfc_inj (by rw [zfC_len ci r hr]; exact hj) (by rw [zfC_len ci r hr]; exact hk) (by rw [hz, hkf])
      · exact zcell_same (hsame a e9) (g3 a e9) (hF.2.2.2.1 a ha)
    · rw [htg]
      exact hF.2.2.2.2 a (by rw [← hsz]; exact ha)
  cases fin with
  | false =>
    rw [if_neg (by rw [hfin]; decide)] at hlay
    have h6 := u_store hKn.2.1 hkC hkind hlay hi hty hn hfit
    refine W.putK hx hb (f := fd) ⟨hown, hts _ hl, ⟨_, _, _, hsp.found hts hi⟩, hst⟩ (by rw [c2]; exact h6) c1 (c3.2 (Or.inl (zci_ne ⟨Nat.pos_of_ne_zero (zhas_ci hh).choose_spec.2.2.1, hw⟩))) (by rw [hsl9]; exact k2_hasslot (c4 k hk)) rfl rfl hd fun H' g1 g2 g3 => ?_
    exact kk H' [⟨q.2.2, fd.slot⟩] (fin9 H' g1 g2 g3) (fun z hz => by rw [List.mem_singleton.mp hz]; exact hdyn)
  | true =>
    rw [if_pos hfin] at hlay
    have hcf : m.cls = cf := by
      obtain ⟨_, _, c', _, _, _, -, -, hf', -, -, -, hown2, -⟩ := Cond.laysFinal_spec hlay
      have e1 : c' = cf := by have := hi.symm.trans hf'; simp at this; exact this.1.symm
      rw [(hf2 rfl).2] at hown2
      rw [← e1]; exact Option.some.inj (hown.symm.trans hown2)
    have h6 := u_fits hKn.2.1 hkC hkind (Or.inr hlay) hi hty hn hfit
    refine W.putFinK hx hb hown (hts _ hl) (hsp.found hts hi) hst hcf (hname.trans (hf2 rfl).1) (by rw [c2]; exact h6) c1 (c3.2 (Or.inl (zci_ne ⟨Nat.pos_of_ne_zero (zhas_ci hh).choose_spec.2.2.1, hw⟩))) (by rw [hsl9]; exact k2_hasslot (c4 k hk)) rfl rfl hd fun H' g1 g2 g3 => ?_
    exact kk H' [⟨q.2.2, fd.slot⟩] (fin9 H' g1 g2 g3) (fun z hz => by rw [List.mem_singleton.mp hz]; exact hdyn)
/-- .. of a nest mate -/
theorem Wp.putN {v : ZV} {ν : ZM} {own ref nm ds host : String} {index f : Nat} {q : ZP} (ho : own = (zyn Y).cls) (hl : Cond.fieldLinkNest own index ref nm ds host ∈ lw_tbl) (hsp : zspell ref f nm ds) (hd : decode (zyb Y) pc = .ok (.putfield index, 3)) (hh : zhas q.1 f = true) (hw : q.1 < 100) (hfin : (zft f).2.2.2 = false)
    (hn : narrow (zfy f) (zc v) = zc v) (hfit : fits (zfy f) (zc v) = true) (hext : zext μ ν) (hsz : zsz ν = zsz μ) (hsl : zsl ν = zsl μ) (htg : ztg ν = ztg μ) (hok : zok μ → zvk μ v → q.2.2 < zsz μ → zok ν) (hv : zfv ν f q.2.2 = zc v) (hoth : ∀ g, g ≠ f → zfv ν g q.2.2 = zfv μ g q.2.2) (hsame : ∀ a, a ≠ q.2.2 → zsame μ ν a)
    (k : Wp G Y (pc + 3) ls st ν Q E) : Wp G Y pc ls (v :: vP q :: st) μ Q E := by
  have h0 : q.1 ≠ 0 := (zhas_ci hh).choose_spec.2.2.1
  have h251 : q.1 ≠ 251 := (zhas_ci hh).choose_spec.2.2.2
  refine Wp.wrt hext hsz hsl (fun a b => hok a (zv_head b) ((zv_head (zv_tail b) : zpk μ q).lt h0 h251).1) (fun h => zv_tail (zv_tail h)) (fun p e R s m args below meth c H locs cells slots la F h1 hC hF hl2 h4 kk => ?_) k
  obtain ⟨ci, k, r, cell, cf, kf, fi, fd, kC, hr, hci, hk, hkf, hT, c1, c2, c3, c4, hKn, hi, hsl9, hkC, hkind, hlt, htg9⟩ := zfield h1 hC hF (zv_head (zv_tail h4)) hh
  obtain ⟨hx, hb, -, -, -, hown, ⟨hname, -⟩, hts, hkk, -⟩ := hC
  subst ho
  have e0 : zc (vP q) = .ref q.2.2 := zcp_ref h0
  rw [List.map_cons, List.map_cons, e0]
  have hin := zCl_in ci r hr
  have hlay := hts _ (hin _ (u_in_lay hk))
  have hlays := u_lays hts hin hk
  have hty := zfc_ty ci r hr k hk
  rw [hT] at hlays hty
  rw [hkf] at hty
  unfold u_lay at hlay
  rw [hT, if_neg (by rw [hfin]; decide)] at hlay
  have hst := (u_facts hKn.2.1 hkC hlays hi).1
  have hap : ∀ x y, x < r.2.2 → y < r.2.2 → x ≠ y → zgI G ci x ≠ zgI G ci y := by
    intro x y hx9 hy9 hne
    obtain ⟨_, _, _, fa, hia, ea⟩ := hKn.1 x hx9
    obtain ⟨_, _, _, fb, hib, eb⟩ := hKn.1 y hy9
    rw [← ea, ← eb]
    refine u_apart (u_lays hts hin hx9) (u_lays hts hin hy9) hia hib ?_
    rw [(State.fieldFound?_type hia (zfc_ty ci r hr x hx9)).1, (State.fieldFound?_type hib (zfc_ty ci r hr y hy9)).1]
    exact zCl_nm ci r hr x hx9 y hy9 hne
  have hdyn : zlo G ≤ q.2.2 := hF.2.2.2.2 q.2.2 hlt (by rw [htg9]; exact zci_ne ⟨Nat.pos_of_ne_zero h0, hw⟩)
  have h6 := u_store hKn.2.1 hkC hkind hlay hi hty hn hfit
  refine va_WputK hx hb (f := fd) hown (zw_F h1 hkk hl) (hsp.found hts hi) hst (by rw [c2]; exact h6) c1 (c3.2 (Or.inl (zci_ne ⟨Nat.pos_of_ne_zero (zhas_ci hh).choose_spec.2.2.1, hw⟩))) (by rw [hsl9]; exact k2_hasslot (c4 k hk)) rfl rfl hd fun H' g1 g2 g3 => ?_
  refine kk H' [⟨q.2.2, fd.slot⟩] ?_ (fun z hz => by rw [List.mem_singleton.mp hz]; exact hdyn)
  refine ⟨by rw [g2, hsz]; exact hF.1, by rw [hsz]; exact hF.2.1, fun a ha => ?_, fun a ha => ?_, fun a ha => ?_⟩
  · rw [g3 a (Nat.ne_of_lt (Nat.lt_of_lt_of_le ha hdyn))]; exact hF.2.2.1 a ha
  · rw [htg]
    rw [hsz] at ha
    by_cases e9 : a = q.2.2
    · rw [e9, htg9]
      unfold zcell
      rw [hci]
      refine ⟨r, hr, cell.setSlot fd.slot (zc v), g1, c2, c3, fun j hj => ?_⟩
      rw [hsl9, t_set c4 hap hk (zc v) j hj]
      show some (if j = k then zc v else zfv μ (zfc ci j) q.2.2) = some (zfv ν (zfc ci j) q.2.2)
      by_cases ej : j = k
      · rw [if_pos ej, ej, hkf, hv]
      · rw [if_neg ej, hoth]
        intro hz
        refine ej ?_
        exact zfc_inj (by rw [zfC_len ci r hr]; exact hj) (by rw [zfC_len ci r hr]; exact hk) (by rw [hz, hkf])
    · exact zcell_same (hsame a e9) (g3 a e9) (hF.2.2.2.1 a ha)
  · rw [htg]
    exact hF.2.2.2.2 a (by rw [← hsz]; exact ha)
theorem zfv_zFi_self {f a : Nat} (h : zfk f = 0) (v : Int32) : zfv (zFi μ f a v) f a = zc (vI v) := by rw [zfv_I h, zfi_zFi, if_pos ⟨rfl, rfl⟩]
theorem zfv_zFi_oth {f a g : Nat} (h : g ≠ f) (v : Int32) : zfv (zFi μ f a v) g a = zfv μ g a := by unfold zfv; rw [zfi_zFi, if_neg (fun e => h e.1), zfr_zFi]
theorem zfv_zFr_self {f a : Nat} (h : zfk f = 1) (v : ZP) : zfv (zFr μ f a v) f a = zc (vP v) := by rw [zfv_P h, zfr_zFr, if_pos ⟨rfl, rfl⟩]
theorem zfv_zFr_oth {f a g : Nat} (h : g ≠ f) (v : ZP) : zfv (zFr μ f a v) g a = zfv μ g a := by unfold zfv; rw [zfr_zFr, if_neg (fun e => h e.1), zfi_zFr]
theorem zsame_zFi {f a b : Nat} (h : b ≠ a) (v : Int32) : zsame μ (zFi μ f a v) b := ⟨fun g => by rw [zfi_zFi, if_neg (fun e => h e.2)], fun _ => rfl, fun _ => rfl, fun _ => rfl, fun _ => rfl⟩
theorem zsame_zFr {f a b : Nat} (h : b ≠ a) (v : ZP) : zsame μ (zFr μ f a v) b := ⟨fun _ => rfl, fun g => by rw [zfr_zFr, if_neg (fun e => h e.2)], fun _ => rfl, fun _ => rfl, fun _ => rfl⟩
theorem zsame_zAi {a i b : Nat} (h : b ≠ a) (v : Int32) : zsame μ (zAi μ a i v) b := ⟨fun _ => rfl, fun _ => rfl, fun j => by rw [zai_zAi, if_neg (fun e => h e.1)], fun _ => rfl, fun _ => rfl⟩
theorem zsame_zAr {a i b : Nat} (h : b ≠ a) (v : ZP) : zsame μ (zAr μ a i v) b := ⟨fun _ => rfl, fun _ => rfl, fun _ => rfl, fun j => by rw [zar_zAr, if_neg (fun e => h e.1)], fun _ => rfl⟩
theorem zsame_zAl {a i b : Nat} (h : b ≠ a) (v : Int64) : zsame μ (zAl μ a i v) b := ⟨fun _ => rfl, fun _ => rfl, fun _ => rfl, fun _ => rfl, fun j => by rw [zal_zAl, if_neg (fun e => h e.1)]⟩
theorem zsame_zCi {a i b j n c : Nat} (h : c ≠ b) : zsame μ (zCi μ a i b j n) c := ⟨fun _ => rfl, fun _ => rfl, fun y => by rw [zai_zCi, if_neg (fun e => h e.1)], fun _ => rfl, fun _ => rfl⟩
theorem zsame_zNew {t n k b : Nat} : zsame μ (zNew μ t n k) b := ⟨fun _ => rfl, fun _ => rfl, fun _ => rfl, fun _ => rfl, fun _ => rfl⟩
/-- int values that an int field of type ty keeps as they are -/
def znr (ty : FieldType) (x : Int32) : Prop := narrow ty (.int x) = .int x ∧ fits ty (.int x) = true
theorem znr_int (x : Int32) : znr .int x := ⟨rfl, rfl⟩
theorem znr_bool {x : Int32} (h : x = 0 ∨ x = 1) : znr .boolean x := by rcases h with h | h <;> rw [h] <;> exact ⟨by decide, by decide⟩
theorem znr_byte {x : Int32} (h : x.toInt8.toInt32 = x) : znr .byte x := ⟨by rw [narrow_byte, h], by have := pk_fb x; rw [h] at this; exact this⟩
theorem zref_nf {ty : FieldType} (h : ty.isReference = true) (p : ZP) : narrow ty (zcp p) = zcp p ∧ fits ty (zcp p) = true := by
  rcases zcp_or p with e | e <;> rw [e] <;> cases ty <;> first | exact ⟨rfl, rfl⟩ | cases h
theorem Wp_putI {own ref nm ds : String} {index : Nat} (f : Nat) (fin : Bool) {q : ZP} {x : Int32} (ho : own = (zyn Y).cls) (hl : Cond.fieldLink own index ref nm ds ∈ lw_all) (hsp : zspell ref f nm ds) (hd : decode (zyb Y) pc = .ok (.putfield index, 3)) (hk : zfk f = 0) (hfin : (zft f).2.2.2 = fin) (hf2 : fin = true → (zyn Y).name = "<init>" ∧ (zft f).1 = own) (hh : zhas q.1 f = true) (hw : q.1 < 100) (hn : znr (zfy f) x) (k : Wp G Y (pc + 3) ls st (zFi μ f q.2.2 x) Q E) : Wp G Y pc ls (vI x :: vP q :: st) μ Q E :=
  Wp.put (v := vI x) fin ho hl hsp hd hh hw hfin hf2 hn.1 hn.2 (zext_zFi μ f q.2.2 x) rfl rfl rfl (fun a _ b => a.zFi f b x) (zfv_zFi_self hk x) (fun g h => zfv_zFi_oth h x) (fun a h => zsame_zFi h x) k
theorem Wp_putP {own ref nm ds : String} {index : Nat} (f : Nat) (fin : Bool) {q : ZP} {x : ZP} (ho : own = (zyn Y).cls) (hl : Cond.fieldLink own index ref nm ds ∈ lw_all) (hsp : zspell ref f nm ds) (hd : decode (zyb Y) pc = .ok (.putfield index, 3)) (hk : zfk f = 1) (hty : (zfy f).isReference = true) (hfin : (zft f).2.2.2 = fin) (hf2 : fin = true → (zyn Y).name = "<init>" ∧ (zft f).1 = own) (hh : zhas q.1 f = true) (hw : q.1 < 100) (k : Wp G Y (pc + 3) ls st (zFr μ f q.2.2 x) Q E) : Wp G Y pc ls (vP x :: vP q :: st) μ Q E :=
  Wp.put (v := vP x) fin ho hl hsp hd hh hw hfin hf2 (zref_nf hty x).1 (zref_nf hty x).2 (zext_zFr μ f q.2.2 x) rfl rfl rfl (fun a c b => a.zFr f b c) (zfv_zFr_self hk x) (fun g h => zfv_zFr_oth h x) (fun a h => zsame_zFr h x) k
theorem Wp_putF {own ref nm ds : String} {index : Nat} (f : Nat) (fin : Bool) {q : ZP} {x : UInt32} (ho : own = (zyn Y).cls) (hl : Cond.fieldLink own index ref nm ds ∈ lw_all) (hsp : zspell ref f nm ds) (hd : decode (zyb Y) pc = .ok (.putfield index, 3)) (hk : zfk f = 2) (hty : zfy f = .float) (hfin : (zft f).2.2.2 = fin) (hf2 : fin = true → (zyn Y).name = "<init>" ∧ (zft f).1 = own) (hh : zhas q.1 f = true) (hw : q.1 < 100) (k : Wp G Y (pc + 3) ls st (zFi μ f q.2.2 x.toInt32) Q E) : Wp G Y pc ls (vF x :: vP q :: st) μ Q E :=
  Wp.put (v := vF x) fin ho hl hsp hd hh hw hfin hf2 (by rw [hty]; rfl) (by rw [hty]; rfl) (zext_zFi μ f q.2.2 _) rfl rfl rfl (fun a _ b => a.zFi f b _) (by rw [zfv_F hk, zfi_zFi, if_pos ⟨rfl, rfl⟩]; rfl) (fun g h => zfv_zFi_oth h _) (fun a h => zsame_zFi h _) k
theorem Wp_putNI {own ref nm ds host : String} {index : Nat} (f : Nat) {q : ZP} {x : Int32} (ho : own = (zyn Y).cls) (hl : Cond.fieldLinkNest own index ref nm ds host ∈ lw_tbl) (hsp : zspell ref f nm ds) (hd : decode (zyb Y) pc = .ok (.putfield index, 3)) (hk : zfk f = 0) (hfin : (zft f).2.2.2 = false) (hh : zhas q.1 f = true) (hw : q.1 < 100) (hn : znr (zfy f) x) (k : Wp G Y (pc + 3) ls st (zFi μ f q.2.2 x) Q E) : Wp G Y pc ls (vI x :: vP q :: st) μ Q E :=
  Wp.putN (v := vI x) ho hl hsp hd hh hw hfin hn.1 hn.2 (zext_zFi μ f q.2.2 x) rfl rfl rfl (fun a _ b => a.zFi f b x) (zfv_zFi_self hk x) (fun g h => zfv_zFi_oth h x) (fun a h => zsame_zFi h x) k
theorem Wp_putNP {own ref nm ds host : String} {index : Nat} (f : Nat) {q : ZP} {x : ZP} (ho : own = (zyn Y).cls) (hl : Cond.fieldLinkNest own index ref nm ds host ∈ lw_tbl) (hsp : zspell ref f nm ds) (hd : decode (zyb Y) pc = .ok (.putfield index, 3)) (hk : zfk f = 1) (hty : (zfy f).isReference = true) (hfin : (zft f).2.2.2 = false) (hh : zhas q.1 f = true) (hw : q.1 < 100) (k : Wp G Y (pc + 3) ls st (zFr μ f q.2.2 x) Q E) : Wp G Y pc ls (vP x :: vP q :: st) μ Q E :=
  Wp.putN (v := vP x) ho hl hsp hd hh hw hfin (zref_nf hty x).1 (zref_nf hty x).2 (zext_zFr μ f q.2.2 x) rfl rfl rfl (fun a c b => a.zFr f b c) (zfv_zFr_self hk x) (fun g h => zfv_zFr_oth h x) (fun a h => zsame_zFr h x) k
end ZH
