/-! THE OWN LAYER, 10: rules as the printed walks use them (tools/gen_walk.py) -/
/-- the other tag of a kind: constants of the start -/
def zalt (k : Nat) : Nat := if k = 202 then 208 else 100 + k
/-- a pointer of a kind -/
def zis (k : Nat) (q : ZP) : Prop := q.1 = k ∨ q.1 = zalt k
theorem zlt {a b : Nat} (h : Nat.ble (a + 1) b = true) : a < b := Nat.le_of_ble_eq_true h
/-- an index -/
def zix (i : Int32) (j n : Nat) : Prop := i = nI j ∧ j < n ∧ j < 2147483648
theorem zix.in {i : Int32} {j n : Nat} (h : zix i j n) : vp_in i n ∧ i.toNatClampNeg = j := by
  obtain ⟨rfl, h1, h2⟩ := h
  have e := nI_clamp (n := j) h2
  exact ⟨vp_in_iff.mpr (by rw [nI_toInt h2]; omega), e⟩
theorem zix.mk {j n : Nat} (h : j < n) (h2 : j < 2147483648) : zix (nI j) j n := ⟨rfl, h, h2⟩
section ZM1
variable {G : ZG} {Y : ZY} {pc : Nat} {ls : List (Nat × ZV)} {st : List ZV} {μ : ZM} {Q : Option ZV → ZM → Prop} {E : ZP → ZM → Prop}
theorem Wg_fconst0 (hd : decode (zyb Y) pc = .ok (.fconst 0, 1)) (k : Wp G Y (pc + 1) ls (vF FP.fconst0 :: st) μ Q E) : Wp G Y pc ls st μ Q E := Wp.stk (fun h => (zv_cons (zv_F _) h)) (fun p e R s m args below meth c H locs cells slots la F C hF hl kk => lv_fconst0 C.1 C.2.1 hd kk) k
theorem Wg_fconst1 (hd : decode (zyb Y) pc = .ok (.fconst 1, 1)) (k : Wp G Y (pc + 1) ls (vF FP.fconst1 :: st) μ Q E) : Wp G Y pc ls st μ Q E := Wp.stk (fun h => (zv_cons (zv_F _) h)) (fun p e R s m args below meth c H locs cells slots la F C hF hl kk => lv_fconst1 C.1 C.2.1 hd kk) k
theorem Wg_fconst2 (hd : decode (zyb Y) pc = .ok (.fconst 2, 1)) (k : Wp G Y (pc + 1) ls (vF FP.fconst2 :: st) μ Q E) : Wp G Y pc ls st μ Q E := Wp.stk (fun h => (zv_cons (zv_F _) h)) (fun p e R s m args below meth c H locs cells slots la F C hF hl kk => lv_fconst2 C.1 C.2.1 hd kk) k
/-! fields -/
theorem Wg_I (f : Nat) {own ref nm ds : String} {index t n a : Nat} {x : Int32} (hl : Cond.fieldLink own index ref nm ds ∈ lw_all) (hd : decode (zyb Y) pc = .ok (.getfield index, 3)) (ho : own = (zyn Y).cls) (hsp : zspell ref f nm ds) (hk : zfk f = 0) (hh : zhas t f = true) (hx : zfi μ f a = x) (k : Wp G Y (pc + 3) ls (vI x :: st) μ Q E) : Wp G Y pc ls (vP (t, n, a) :: st) μ Q E := Wp_getI (q := (t, n, a)) f ho hl hsp hd hk hh (by rw [← hx] at k; exact k)
theorem Wg_P (f : Nat) {own ref nm ds : String} {index t n a : Nat} {x : ZP} (hl : Cond.fieldLink own index ref nm ds ∈ lw_all) (hd : decode (zyb Y) pc = .ok (.getfield index, 3)) (ho : own = (zyn Y).cls) (hsp : zspell ref f nm ds) (hk : zfk f = 1) (hh : zhas t f = true) (hx : zfr μ f a = x) (k : Wp G Y (pc + 3) ls (vP x :: st) μ Q E) : Wp G Y pc ls (vP (t, n, a) :: st) μ Q E := Wp_getP (q := (t, n, a)) f ho hl hsp hd hk hh (by rw [← hx] at k; exact k)
theorem Wg_F (f : Nat) {own ref nm ds : String} {index t n a : Nat} {x : Int32} (hl : Cond.fieldLink own index ref nm ds ∈ lw_all) (hd : decode (zyb Y) pc = .ok (.getfield index, 3)) (ho : own = (zyn Y).cls) (hsp : zspell ref f nm ds) (hk : zfk f = 2) (hh : zhas t f = true) (hx : zfi μ f a = x) (k : Wp G Y (pc + 3) ls (vF x.toUInt32 :: st) μ Q E) : Wp G Y pc ls (vP (t, n, a) :: st) μ Q E := Wp_getF (q := (t, n, a)) f ho hl hsp hd hk hh (by rw [← hx] at k; exact k)
theorem Wg_NI (f : Nat) {own ref nm ds host : String} {index t n a : Nat} {x : Int32} (hl : Cond.fieldLinkNest own index ref nm ds host ∈ lw_tbl) (hd : decode (zyb Y) pc = .ok (.getfield index, 3)) (ho : own = (zyn Y).cls) (hsp : zspell ref f nm ds) (hk : zfk f = 0) (hh : zhas t f = true) (hx : zfi μ f a = x) (k : Wp G Y (pc + 3) ls (vI x :: st) μ Q E) : Wp G Y pc ls (vP (t, n, a) :: st) μ Q E := Wp_getNI (q := (t, n, a)) f ho hl hsp hd hk hh (by rw [← hx] at k; exact k)
theorem Wg_NP (f : Nat) {own ref nm ds host : String} {index t n a : Nat} {x : ZP} (hl : Cond.fieldLinkNest own index ref nm ds host ∈ lw_tbl) (hd : decode (zyb Y) pc = .ok (.getfield index, 3)) (ho : own = (zyn Y).cls) (hsp : zspell ref f nm ds) (hk : zfk f = 1) (hh : zhas t f = true) (hx : zfr μ f a = x) (k : Wp G Y (pc + 3) ls (vP x :: st) μ Q E) : Wp G Y pc ls (vP (t, n, a) :: st) μ Q E := Wp_getNP (q := (t, n, a)) f ho hl hsp hd hk hh (by rw [← hx] at k; exact k)
theorem zis_has {k f : Nat} {q : ZP} (hz : zis k q) (h1 : (zhas k f && zhas (zalt k) f) = true) : zhas q.1 f = true := by
  rw [Bool.and_eq_true] at h1
  rcases hz with e | e <;> rw [e]
  · exact h1.1
  · exact h1.2
theorem Wm_I (f t : Nat) {own ref nm ds : String} {index : Nat} {q : ZP} {x : Int32} (hl : Cond.fieldLink own index ref nm ds ∈ lw_all) (hd : decode (zyb Y) pc = .ok (.getfield index, 3)) (ho : own = (zyn Y).cls) (hsp : zspell ref f nm ds) (hk : zfk f = 0) (hz : zis t q) (hh : (zhas t f && zhas (zalt t) f) = true) (hx : zfi μ f q.2.2 = x) (k : Wp G Y (pc + 3) ls (vI x :: st) μ Q E) : Wp G Y pc ls (vP q :: st) μ Q E := Wp_getI f ho hl hsp hd hk (zis_has hz hh) (by rw [← hx] at k; exact k)
theorem Wm_P (f t : Nat) {own ref nm ds : String} {index : Nat} {q x : ZP} (hl : Cond.fieldLink own index ref nm ds ∈ lw_all) (hd : decode (zyb Y) pc = .ok (.getfield index, 3)) (ho : own = (zyn Y).cls) (hsp : zspell ref f nm ds) (hk : zfk f = 1) (hz : zis t q) (hh : (zhas t f && zhas (zalt t) f) = true) (hx : zfr μ f q.2.2 = x) (k : Wp G Y (pc + 3) ls (vP x :: st) μ Q E) : Wp G Y pc ls (vP q :: st) μ Q E := Wp_getP f ho hl hsp hd hk (zis_has hz hh) (by rw [← hx] at k; exact k)
theorem Wg_putI (f : Nat) {own ref nm ds : String} {index t n a : Nat} {x : Int32} (hl : Cond.fieldLink own index ref nm ds ∈ lw_all) (hd : decode (zyb Y) pc = .ok (.putfield index, 3)) (ho : own = (zyn Y).cls) (hsp : zspell ref f nm ds) (hk : zfk f = 0) (hfin : (zft f).2.2.2 = true → (zyn Y).name = "<init>" ∧ (zft f).1 = own) (hh : zhas t f = true) (hw : t < 100) (hn : znr (zfy f) x) (k : Wp G Y (pc + 3) ls st (zFi μ f a x) Q E) : Wp G Y pc ls (vI x :: vP (t, n, a) :: st) μ Q E := Wp_putI (q := (t, n, a)) f (zft f).2.2.2 ho hl hsp hd hk rfl hfin hh hw hn k
theorem Wg_putP (f : Nat) {own ref nm ds : String} {index t n a : Nat} {x : ZP} (hl : Cond.fieldLink own index ref nm ds ∈ lw_all) (hd : decode (zyb Y) pc = .ok (.putfield index, 3)) (ho : own = (zyn Y).cls) (hsp : zspell ref f nm ds) (hk : zfk f = 1) (hty : (zfy f).isReference = true) (hfin : (zft f).2.2.2 = true → (zyn Y).name = "<init>" ∧ (zft f).1 = own) (hh : zhas t f = true) (hw : t < 100) (k : Wp G Y (pc + 3) ls st (zFr μ f a x) Q E) : Wp G Y pc ls (vP x :: vP (t, n, a) :: st) μ Q E := Wp_putP (q := (t, n, a)) f (zft f).2.2.2 ho hl hsp hd hk hty rfl hfin hh hw k
theorem Wg_putF (f : Nat) {own ref nm ds : String} {index t n a : Nat} {x : UInt32} (hl : Cond.fieldLink own index ref nm ds ∈ lw_all) (hd : decode (zyb Y) pc = .ok (.putfield index, 3)) (ho : own = (zyn Y).cls) (hsp : zspell ref f nm ds) (hk : zfk f = 2) (hty : zfy f = .float) (hfin : (zft f).2.2.2 = true → (zyn Y).name = "<init>" ∧ (zft f).1 = own) (hh : zhas t f = true) (hw : t < 100) (k : Wp G Y (pc + 3) ls st (zFi μ f a x.toInt32) Q E) : Wp G Y pc ls (vF x :: vP (t, n, a) :: st) μ Q E := Wp_putF (q := (t, n, a)) f (zft f).2.2.2 ho hl hsp hd hk hty rfl hfin hh hw k
theorem Wg_putNI (f : Nat) {own ref nm ds host : String} {index t n a : Nat} {x : Int32} (hl : Cond.fieldLinkNest own index ref nm ds host ∈ lw_tbl) (hd : decode (zyb Y) pc = .ok (.putfield index, 3)) (ho : own = (zyn Y).cls) (hsp : zspell ref f nm ds) (hk : zfk f = 0) (hfin : (zft f).2.2.2 = false) (hh : zhas t f = true) (hw : t < 100) (hn : znr (zfy f) x) (k : Wp G Y (pc + 3) ls st (zFi μ f a x) Q E) : Wp G Y pc ls (vI x :: vP (t, n, a) :: st) μ Q E := Wp_putNI (q := (t, n, a)) f ho hl hsp hd hk hfin hh hw hn k
theorem Wg_putNP (f : Nat) {own ref nm ds host : String} {index t n a : Nat} {x : ZP} (hl : Cond.fieldLinkNest own index ref nm ds host ∈ lw_tbl) (hd : decode (zyb Y) pc = .ok (.putfield index, 3)) (ho : own = (zyn Y).cls) (hsp : zspell ref f nm ds) (hk : zfk f = 1) (hty : (zfy f).isReference = true) (hfin : (zft f).2.2.2 = false) (hh : zhas t f = true) (hw : t < 100) (k : Wp G Y (pc + 3) ls st (zFr μ f a x) Q E) : Wp G Y pc ls (vP x :: vP (t, n, a) :: st) μ Q E := Wp_putNP (q := (t, n, a)) f ho hl hsp hd hk hty hfin hh hw k
/-! arrays -/
theorem Wg_iald {t n a j : Nat} {i x : Int32} (hd : decode (zyb Y) pc = .ok (.iaload, 1)) (hel : zel t = some .int) (hi : zix i j n) (hx : zai μ a j = x) (k : Wp G Y (pc + 1) ls (vI x :: st) μ Q E) : Wp G Y pc ls (vI i :: vP (t, n, a) :: st) μ Q E := Wp_iaload (q := (t, n, a)) hd hel hi.in.1 (by rw [show (t, n, a).2.2 = a from rfl, hi.in.2, hx]; exact k)
theorem Wg_bald {t n a j : Nat} {i x : Int32} (hd : decode (zyb Y) pc = .ok (.baload, 1)) (hel : zel t = some .byte ∨ zel t = some .boolean) (hi : zix i j n) (hx : zai μ a j = x) (k : Wp G Y (pc + 1) ls (vI x :: st) μ Q E) : Wp G Y pc ls (vI i :: vP (t, n, a) :: st) μ Q E := Wp_baload (q := (t, n, a)) hd hel hi.in.1 (by rw [show (t, n, a).2.2 = a from rfl, hi.in.2, hx]; exact k)
theorem Wm_bald {q : ZP} {j : Nat} {i x : Int32} (hd : decode (zyb Y) pc = .ok (.baload, 1)) (hz : zis 202 q) (hi : zix i j q.2.1) (hx : zai μ q.2.2 j = x) (k : Wp G Y (pc + 1) ls (vI x :: st) μ Q E) : Wp G Y pc ls (vI i :: vP q :: st) μ Q E := Wp_baload hd (Or.inl (by rcases hz with e | e <;> rw [e] <;> rfl)) hi.in.1 (by rw [hi.in.2, hx]; exact k)
theorem Wg_lald {t n a j : Nat} {i : Int32} {x : Int64} (hd : decode (zyb Y) pc = .ok (.laload, 1)) (hel : zel t = some .long) (hi : zix i j n) (hx : zal μ a j = x) (k : Wp G Y (pc + 1) ls (vL x :: st) μ Q E) : Wp G Y pc ls (vI i :: vP (t, n, a) :: st) μ Q E := Wp_laload (q := (t, n, a)) hd hel hi.in.1 (by rw [show (t, n, a).2.2 = a from rfl, hi.in.2, hx]; exact k)
theorem Wg_aald {t n a j : Nat} {i : Int32} {x : ZP} (hd : decode (zyb Y) pc = .ok (.aaload, 1)) (hel : zob t = true) (hi : zix i j n) (hx : zar μ a j = x) (k : Wp G Y (pc + 1) ls (vP x :: st) μ Q E) : Wp G Y pc ls (vI i :: vP (t, n, a) :: st) μ Q E := Wp_aaload (q := (t, n, a)) hd hel hi.in.1 (by rw [show (t, n, a).2.2 = a from rfl, hi.in.2, hx]; exact k)
theorem Wg_alen {t n a : Nat} (hd : decode (zyb Y) pc = .ok (.arraylength, 1)) (ht : (zel t).isSome = true) (k : Wp G Y (pc + 1) ls (vI (nI n) :: st) μ Q E) : Wp G Y pc ls (vP (t, n, a) :: st) μ Q E := Wp_arraylength (q := (t, n, a)) hd ht (zlen n) k
theorem Wm_alen {q : ZP} (hd : decode (zyb Y) pc = .ok (.arraylength, 1)) (hz : zis 202 q) (k : Wp G Y (pc + 1) ls (vI (nI q.2.1) :: st) μ Q E) : Wp G Y pc ls (vP q :: st) μ Q E := Wp_arraylength hd (by rcases hz with e | e <;> rw [e] <;> rfl) (zlen q.2.1) k
theorem Wg_iast {n a j : Nat} {x i : Int32} (hd : decode (zyb Y) pc = .ok (.iastore, 1)) (hi : zix i j n) (k : Wp G Y (pc + 1) ls st (zAi μ a j x) Q E) : Wp G Y pc ls (vI x :: vI i :: vP (200, n, a) :: st) μ Q E := Wp_iastore (q := (200, n, a)) hd rfl hi.in.1 (by rw [hi.in.2]; exact k)
theorem Wg_bast {n a j : Nat} {x i : Int32} (hd : decode (zyb Y) pc = .ok (.bastore, 1)) (hi : zix i j n) (k : Wp G Y (pc + 1) ls st (zAi μ a j x.toInt8.toInt32) Q E) : Wp G Y pc ls (vI x :: vI i :: vP (202, n, a) :: st) μ Q E := Wp_bastore (q := (202, n, a)) hd rfl hi.in.1 (by rw [hi.in.2]; exact k)
theorem Wg_zast {n a j : Nat} {x i : Int32} (hd : decode (zyb Y) pc = .ok (.bastore, 1)) (hx : x = 0 ∨ x = 1) (hi : zix i j n) (k : Wp G Y (pc + 1) ls st (zAi μ a j x) Q E) : Wp G Y pc ls (vI x :: vI i :: vP (201, n, a) :: st) μ Q E := Wp_zastore (q := (201, n, a)) hd rfl hx hi.in.1 (by rw [hi.in.2]; exact k)
theorem Wg_last {n a j : Nat} {x : Int64} {i : Int32} (hd : decode (zyb Y) pc = .ok (.lastore, 1)) (hi : zix i j n) (k : Wp G Y (pc + 1) ls st (zAl μ a j x) Q E) : Wp G Y pc ls (vL x :: vI i :: vP (203, n, a) :: st) μ Q E := Wp_lastore (q := (203, n, a)) hd rfl hi.in.1 (by rw [hi.in.2]; exact k)
theorem Wg_aast {t n a j : Nat} {x : ZP} {i : Int32} (hd : decode (zyb Y) pc = .ok (.aastore, 1)) (hob : zob t = true) (hdy : zdyn t = true) (hs : zsto t x.1 = true) (hi : zix i j n) (k : Wp G Y (pc + 1) ls st (zAr μ a j x) Q E) : Wp G Y pc ls (vP x :: vI i :: vP (t, n, a) :: st) μ Q E := Wp_aastore (q := (t, n, a)) hd hob hdy hs hi.in.1 (by rw [hi.in.2]; exact k)
theorem Wg_newa (t : Nat) {j : Nat} {atype : ArrayType} {x : Int32} (hl : Cond.arrayClass (newarray.typeOf atype) ∈ lw_all) (hd : decode (zyb Y) pc = .ok (.newarray atype, 2)) (hel : zelN t = some (newarray.typeOf atype)) (hx : x = nI j) (hb : j ≤ 1000000) (k : Wp G Y (pc + 2) ls (vP (t, j, zsz μ) :: st) (zNew μ t j j) Q E) : Wp G Y pc ls (vI x :: st) μ Q E := by
  subst hx
  have e := nI_clamp (n := j) (by omega)
  exact Wp_newarray t hel hl (nI_pos (by omega)) (by rw [e]; exact hb) hd (by rw [e]; exact k)
theorem Wg_anewa (t : Nat) {j : Nat} {own C : String} {index : Nat} {x : Int32} (hl : Cond.classLink own index C ∈ lw_all) (hd : decode (zyb Y) pc = .ok (.anewarray index, 3)) (ho : own = (zyn Y).cls) (hel : zelN t = some (.object C)) (hov : Cond.arrayOver (.object C) ∈ lw_tbl) (hx : x = nI j) (hb : j ≤ 1000000) (k : Wp G Y (pc + 3) ls (vP (t, j, zsz μ) :: st) (zNew μ t j j) Q E) : Wp G Y pc ls (vI x :: st) μ Q E := by
  subst hx
  have e := nI_clamp (n := j) (by omega)
  exact Wp_anewarray t hel ho hl hov (nI_pos (by omega)) (by rw [e]; exact hb) hd (by rw [e]; exact k)
theorem Wg_new (t n : Nat) {own C : String} {index ci : Nat} {r : vw_C} (hl : Cond.classLink own index C ∈ lw_all) (hi : Cond.instantiable C n ∈ lw_all) (hn : Cond.initialized C ∈ lw_all) (hd : decode (zyb Y) pc = .ok (.new index, 3)) (ho : own = (zyn Y).cls) (hci : zci t = some ci) (ht0 : t < 100) (hr : zCl[ci]? = some r) (hC0 : r.1 = C) (k : Wp G Y (pc + 3) ls (vP (t, 0, zsz μ) :: st) (zNew μ t 0 n) Q E) : Wp G Y pc ls st μ Q E := Wp_new t n hci ht0 hr hC0 ho hl hi hn hd k
/-! what a call gives back -/
theorem Call.toI {Y' : ZY} {vs st' : List ZV} {pc' : Nat} {K : Int32 → ZM → Prop} (h : Call G Y' vs μ (rI K) (fun q ν => zkc q.1 = true ∧ E q ν)) (hh : zyh Y = none) (k : ∀ x ν, K x ν → Wp G Y pc' ls (vI x :: st') ν Q E) : Call G Y' vs μ (fun v ν => Wp G Y pc' ls (v.toList ++ st') ν Q E) (fun q ν => Wx G Y pc ls q ν Q E) :=
  h.mono (fun v ν a => by obtain ⟨x, rfl, b⟩ := a; exact k x ν b) (fun q ν a => Wx.out a.1 (by rw [hh]; intro x hx; cases hx) a.2)
theorem Call.toP {Y' : ZY} {vs st' : List ZV} {pc' : Nat} {K : ZP → ZM → Prop} (h : Call G Y' vs μ (rP K) (fun q ν => zkc q.1 = true ∧ E q ν)) (hh : zyh Y = none) (k : ∀ x ν, K x ν → Wp G Y pc' ls (vP x :: st') ν Q E) : Call G Y' vs μ (fun v ν => Wp G Y pc' ls (v.toList ++ st') ν Q E) (fun q ν => Wx G Y pc ls q ν Q E) :=
  h.mono (fun v ν a => by obtain ⟨x, rfl, b⟩ := a; exact k x ν b) (fun q ν a => Wx.out a.1 (by rw [hh]; intro x hx; cases hx) a.2)
theorem Call.toF {Y' : ZY} {vs st' : List ZV} {pc' : Nat} {K : UInt32 → ZM → Prop} (h : Call G Y' vs μ (rF K) (fun q ν => zkc q.1 = true ∧ E q ν)) (hh : zyh Y = none) (k : ∀ x ν, K x ν → Wp G Y pc' ls (vF x :: st') ν Q E) : Call G Y' vs μ (fun v ν => Wp G Y pc' ls (v.toList ++ st') ν Q E) (fun q ν => Wx G Y pc ls q ν Q E) :=
  h.mono (fun v ν a => by obtain ⟨x, rfl, b⟩ := a; exact k x ν b) (fun q ν a => Wx.out a.1 (by rw [hh]; intro x hx; cases hx) a.2)
theorem Call.toD {Y' : ZY} {vs st' : List ZV} {pc' : Nat} {K : UInt64 → ZM → Prop} (h : Call G Y' vs μ (rD K) (fun q ν => zkc q.1 = true ∧ E q ν)) (hh : zyh Y = none) (k : ∀ x ν, K x ν → Wp G Y pc' ls (vD x :: st') ν Q E) : Call G Y' vs μ (fun v ν => Wp G Y pc' ls (v.toList ++ st') ν Q E) (fun q ν => Wx G Y pc ls q ν Q E) :=
  h.mono (fun v ν a => by obtain ⟨x, rfl, b⟩ := a; exact k x ν b) (fun q ν a => Wx.out a.1 (by rw [hh]; intro x hx; cases hx) a.2)
theorem Call.toV {Y' : ZY} {vs st' : List ZV} {pc' : Nat} {K : ZM → Prop} (h : Call G Y' vs μ (rV K) (fun q ν => zkc q.1 = true ∧ E q ν)) (hh : zyh Y = none) (k : ∀ ν, K ν → Wp G Y pc' ls st' ν Q E) : Call G Y' vs μ (fun v ν => Wp G Y pc' ls (v.toList ++ st') ν Q E) (fun q ν => Wx G Y pc ls q ν Q E) :=
  h.mono (fun v ν a => by obtain ⟨rfl, b⟩ := a; exact k ν b) (fun q ν a => Wx.out a.1 (by rw [hh]; intro x hx; cases hx) a.2)
theorem Call.toIx {Y' : ZY} {vs st' : List ZV} {pc' : Nat} {K : Int32 → ZM → Prop} (h : Call G Y' vs μ (rI K) (fun q ν => Wx G Y pc ls q ν Q E)) (k : ∀ x ν, K x ν → Wp G Y pc' ls (vI x :: st') ν Q E) : Call G Y' vs μ (fun v ν => Wp G Y pc' ls (v.toList ++ st') ν Q E) (fun q ν => Wx G Y pc ls q ν Q E) :=
  h.mono (fun v ν a => by obtain ⟨x, rfl, b⟩ := a; exact k x ν b) (fun q ν a => a)
theorem Call.toPx {Y' : ZY} {vs st' : List ZV} {pc' : Nat} {K : ZP → ZM → Prop} (h : Call G Y' vs μ (rP K) (fun q ν => Wx G Y pc ls q ν Q E)) (k : ∀ x ν, K x ν → Wp G Y pc' ls (vP x :: st') ν Q E) : Call G Y' vs μ (fun v ν => Wp G Y pc' ls (v.toList ++ st') ν Q E) (fun q ν => Wx G Y pc ls q ν Q E) :=
  h.mono (fun v ν a => by obtain ⟨x, rfl, b⟩ := a; exact k x ν b) (fun q ν a => a)
theorem Call.toVx {Y' : ZY} {vs st' : List ZV} {pc' : Nat} {K : ZM → Prop} (h : Call G Y' vs μ (rV K) (fun q ν => Wx G Y pc ls q ν Q E)) (k : ∀ ν, K ν → Wp G Y pc' ls st' ν Q E) : Call G Y' vs μ (fun v ν => Wp G Y pc' ls (v.toList ++ st') ν Q E) (fun q ν => Wx G Y pc ls q ν Q E) :=
  h.mono (fun v ν a => by obtain ⟨rfl, b⟩ := a; exact k ν b) (fun q ν a => a)
theorem zis_kc {k : Nat} {q : ZP} (hz : zis k q) (h1 : (zkc k && zkc (zalt k)) = true) : zkc q.1 = true := by
  rw [Bool.and_eq_true] at h1
  rcases hz with e | e <;> rw [e]
  · exact h1.1
  · exact h1.2
theorem zis_cls {k : Nat} {q : ZP} {C : String} (hz : zis k q) (h1 : zcls k = C) (h2 : zcls (zalt k) = C) : zcls q.1 = C := by
  rcases hz with e | e <;> rw [e]
  · exact h1
  · exact h2
theorem zis_can {k : Nat} {q : ZP} {C : String} (hz : zis k q) (h1 : (zkc k && zkc (zalt k)) = true) (h2 : zcls k = C) (h3 : zcls (zalt k) = C) : zcan q.1 C := ⟨zis_kc hz h1, Or.inl (zis_cls hz h2 h3)⟩
theorem zis_ne {k : Nat} {q : ZP} (hz : zis k q) (h1 : (k != 0 && zalt k != 0) = true) : ¬ q.1 = 0 := by
  simp only [Bool.and_eq_true, bne_iff_ne] at h1
  rcases hz with e | e <;> rw [e]
  · exact h1.1
  · exact h1.2
theorem zis_sto {k : Nat} {q : ZP} (hz : zis k q) (h1 : (zsto 204 k && zsto 204 (zalt k)) = true) : zsto 204 q.1 = true := by
  rw [Bool.and_eq_true] at h1
  rcases hz with e | e <;> rw [e]
  · exact h1.1
  · exact h1.2
/-- a run of places to copy -/
def zcpo (i j k n0 n1 : Nat) : Prop := i + k ≤ n0 ∧ j + k ≤ n1 ∧ i < 2147483648 ∧ j < 2147483648 ∧ k < 2147483648
theorem zis_byte {q : ZP} (h : zis 202 q) : zel q.1 = some .byte := by rcases h with e | e <;> rw [e] <;> rfl
theorem Wg_copy {own : String} {index : Nat} {q0 q1 : ZP} {sp dp n : Int32} {ty : FieldType} {i j k : Nat} (hl : Cond.methodLink own index arraycopyName ∈ lw_all) (hd : decode (zyb Y) pc = .ok (.invokestatic index, 3)) (e0 : zel q0.1 = some ty) (e1 : zel q1.1 = some ty) (hty : (ty == .int || ty == .byte || ty == .boolean) = true) (hdy : zdyn q1.1 = true) (h1 : sp = nI i) (h2 : dp = nI j) (h3 : n = nI k) (hc : zcpo i j k q0.2.1 q1.2.1) (hb : ∀ o, o < k → znr ty (zai μ q0.2.2 (i + o))) (hlv : 1 ≤ zyl Y) (hst : (st.map zcat).sum ≤ 100) (ho : own = (zyn Y).cls)
    (kk : Wp G Y (pc + 3) ls st (zCi μ q0.2.2 i q1.2.2 j k) Q E) : Wp G Y pc ls (vI n :: vI dp :: vP q1 :: vI sp :: vP q0 :: st) μ Q E := by
  subst h1 h2 h3
  obtain ⟨c1, c2, c3, c4, c5⟩ := hc
  have e3 := nI_clamp c3
  have e4 := nI_clamp c4
  have e5 := nI_clamp c5
  refine Wp_copyI ho hl hd e0 e1 (by simp at hty; rcases hty with (h | h) | h <;> simp [h]) hdy (nI_pos c3) (nI_pos c4) (nI_pos c5) (by rw [e3, e5]; exact c1) (by rw [e4, e5]; exact c2) (by rw [e3, e5]; exact hb) hlv hst ?_
  rw [e3, e4, e5]; exact kk
/-- a String constant, known to be one -/
theorem Wg_ldcs (k j : Nat) {own : String} {index : Nat} (hd : decode (zyb Y) pc = .ok (.ldc index, 2)) (ho : own = (zyn Y).cls) (hk : zsrT[k]? = some (own, index, j)) (kk : zis 23 (zgS G (100 + j)) → Wp G Y (pc + 2) ls (vP (zgS G (100 + j)) :: st) μ Q E) : Wp G Y pc ls st μ Q E :=
  fun h1 => Wp_ldcs k j ho hk hd (kk (Or.inr (h1.2.2.2.2.2.2.2.1 k _ hk).2)) h1
theorem Wg_ldcws (k j : Nat) {own : String} {index : Nat} (hd : decode (zyb Y) pc = .ok (.ldc_w index, 3)) (ho : own = (zyn Y).cls) (hk : zsrT[k]? = some (own, index, j)) (kk : zis 23 (zgS G (100 + j)) → Wp G Y (pc + 3) ls (vP (zgS G (100 + j)) :: st) μ Q E) : Wp G Y pc ls st μ Q E :=
  fun h1 => Wp_ldcws k j ho hk hd (kk (Or.inr (h1.2.2.2.2.2.2.2.1 k _ hk).2)) h1
end ZM1
/-- lookupswitch's default -/
theorem zlk_dflt : ∀ (ps : List (Int × Int)) (d x : Int), (∀ p ∈ ps, p.1 ≠ x) → Op.lookupswitch.offset ps d x = d := by
  intro ps d x h
  exact Op.lookupswitch.offset_none (List.find?_eq_none.mpr (fun p hp => by simpa using h p hp))
