set_option maxRecDepth 100000
/-! THE COMPONENT, 12: a State object holds a row -/
/-- the field of an Echo that holds word w of its row; a Valley's; the State's own -/
def fE (w : Nat) : Nat := if w = 7 then 22 else if w = 8 then 25 else if w = 9 then 23 else if w = 10 then 24 else w + 15
def oE (w : Nat) : Int32 := if w = 13 then 1 else 0
def fV (w : Nat) : Nat := if w = 7 then 31 else if w = 8 then 32 else if w = 9 then 35 else if w = 10 then 36 else if w = 11 then 38 else if w = 12 then 39 else 37
def fS (w : Nat) : Nat := if w = 2 then 14 else if w = 3 then 8 else if w = 5 then 19 else if w = 6 then 20 else w + 8
theorem fE_inj : ∀ w w' : Fin 15, 7 ≤ w.val → 7 ≤ w'.val → fE w.val = fE w'.val → w = w' := by decide
theorem fV_inj : ∀ w w' : Fin 14, 7 ≤ w.val → 7 ≤ w'.val → fV w.val = fV w'.val → w = w' := by decide
theorem fS_inj : ∀ w w' : Fin 11, w.val ∈ [2, 3, 5, 6, 7, 8, 9, 10] → w'.val ∈ [2, 3, 5, 6, 7, 8, 9, 10] → fS w.val = fS w'.val → w = w' := by decide
/-- the header -/
def zS0 (μ : ZM) (lo hi s : Nat) (r : Nat → Int32) (K V F fg el vl ds sm : Nat) : Prop := (lo ≤ s ∧ s < hi ∧ fg < hi) ∧ (r 0 = nI K ∧ r 1 = nI V ∧ r 4 = nI F ∧ K ≤ 12 ∧ V ≤ 8 ∧ 0 < F ∧ F ≤ 12) ∧ (∀ w, w ∈ [2, 3, 5, 6, 7, 8, 9, 10] → zfi μ (fS w) s = r w) ∧ (zfr μ 9 s = (200, F, fg) ∧ zfr μ 10 s = (10, 0, el) ∧ zfr μ 11 s = (10, 0, vl) ∧ zfr μ 12 s = (13, 0, ds) ∧ zfr μ 13 s = (14, 0, sm)) ∧ ∀ i, i < F → zai μ fg i = r (11 + i)
/-- the echoes -/
def zSE (μ : ZM) (lo hi el ar K : Nat) (ea : Nat → Nat) (r : Nat → Int32) : Prop := (lo ≤ el ∧ el < hi ∧ lo ≤ ar ∧ ar < hi) ∧ zLs μ el ar 12 K (fun e => (3, 0, ea e)) ∧ (∀ e, e < K → lo ≤ ea e ∧ ea e < hi) ∧ (∀ e e', e < K → e' < K → ea e = ea e' → e = e') ∧ ∀ e w, e < K → 7 ≤ w → w < 15 → zfi μ (fE w) (ea e) = wE r e w - oE w
/-- the valleys -/
def zSV (μ : ZM) (lo hi vl ar V fg : Nat) (va ta sa : Nat → Nat) (r : Nat → Int32) : Prop := (lo ≤ vl ∧ vl < hi ∧ lo ≤ ar ∧ ar < hi) ∧ zLs μ vl ar 8 V (fun v => (4, 0, va v)) ∧ (∀ v, v < V → (lo ≤ va v ∧ va v < hi) ∧ (lo ≤ ta v ∧ ta v < hi) ∧ (lo ≤ sa v ∧ sa v < hi) ∧ sa v ≠ fg) ∧ (∀ v v', v < V → v' < V → va v = va v' ∨ ta v = ta v' ∨ sa v = sa v' → v = v') ∧ (∀ v w, v < V → 7 ≤ w → w < 14 → zfi μ (fV w) (va v) = wV r v w) ∧ (∀ v, v < V → zfr μ 33 (va v) = (201, 12, ta v) ∧ zfr μ 34 (va v) = (200, 3, sa v)) ∧ (∀ v e, v < V → e < 12 → zai μ (ta v) e = wP r v e 0 ∧ (wP r v e 0 = 0 ∨ wP r v e 0 = 1)) ∧ ∀ v k, v < V → k < 3 → nI k < wV r v 13 → zai μ (sa v) k = wV r v (14 + k)
/-- a map's table and nodes lie in [lo, hi) -/
def zBh (μ : ZM) (m lo hi : Nat) (ks : List Nat) (nd : Nat → Nat) : Prop := (∀ n t, zfr μ 107 m = (205, n, t) → lo ≤ t ∧ t < hi) ∧ ∀ x ∈ ks, lo ≤ nd x ∧ nd x < hi
/-- the pairs deserted -/
def zSD (μ : ZM) (lo hi ds dm K V : Nat) (r : Nat → Int32) : Prop := (lo ≤ ds ∧ ds < hi ∧ lo ≤ dm ∧ dm < hi) ∧ zfr μ 104 ds = (15, 0, dm) ∧ zKc μ dm ∧ ∃ ks nd kp vl, zMp μ 17 dm ks nd kp vl ∧ (∀ x ∈ ks, (vl x).1 ≠ 0 ∧ x / 12 < V ∧ x % 12 < K) ∧ zBh μ dm lo hi ks nd ∧ ∀ x, x / 12 < V → x % 12 < K → (x ∈ ks ↔ r (339 + 3 * x + 1) = 1)
/-- an Integer -/
def zIn (μ : ZM) (p : ZP) (v : Int32) : Prop := zis 24 p ∧ zfi μ 144 p.2.2 = v
/-- the days served -/
def zSS (μ : ZM) (lo hi sm K V : Nat) (r : Nat → Int32) : Prop := (lo ≤ sm ∧ sm < hi) ∧ zEc μ sm ∧ ∃ ks nd kp vl, zMp μ 16 sm ks nd kp vl ∧ (∀ x ∈ ks, zIn μ (vl x) (r (339 + 3 * x + 2)) ∧ (vl x).2.2 < zsz μ) ∧ zBh μ sm lo hi ks nd ∧ ∀ x, x / 12 < V → x % 12 < K → x ∉ ks → r (339 + 3 * x + 2) = 0
/-- two maps' tables are two -/
def zTd (μ : ZM) (dm sm : Nat) : Prop := ∀ n n' t, zfr μ 107 dm = (205, n, t) → ¬ zfr μ 107 sm = (205, n', t)
/-- all but the header's counts and the places of objects -/
def zSta (μ : ZM) (lo hi s : Nat) (r : Nat → Int32) (K V F fg el ear vl var ds dm sm : Nat) (ea va ta sa : Nat → Nat) : Prop := zS0 μ lo hi s r K V F fg el vl ds sm ∧ zSE μ lo hi el ear K ea r ∧ zSV μ lo hi vl var V fg va ta sa r ∧ zSD μ lo hi ds dm K V r ∧ zSS μ lo hi sm K V r ∧ zTd μ dm sm
/-- tags of what never changes once it is made -/
def zim (t : Nat) : Prop := t = 9 ∨ t = 18 ∨ t = 20 ∨ t = 24 ∨ t = 124 ∨ t = 207 ∨ t = 123 ∨ t = 208
section KP
variable {μ ν : ZM} {lo hi s K V F fg el ear vl var ds dm sm : Nat} {ea va ta sa : Nat → Nat} {r r' : Nat → Int32}
theorem zS0.kp (h : zS0 μ lo hi s r K V F fg el vl ds sm) (ks : zsmC μ ν s) (kf : zsmC μ ν fg) : zS0 ν lo hi s r K V F fg el vl ds sm := by
  obtain ⟨h1, h2, h3, h4, h5⟩ := h
  exact ⟨h1, h2, fun w hw => (ks.1 _).trans (h3 w hw), ⟨(ks.2.1 _ (by decide) (by decide)).trans h4.1, (ks.2.1 _ (by decide) (by decide)).trans h4.2.1, (ks.2.1 _ (by decide) (by decide)).trans h4.2.2.1, (ks.2.1 _ (by decide) (by decide)).trans h4.2.2.2.1, (ks.2.1 _ (by decide) (by decide)).trans h4.2.2.2.2⟩, fun i hi => (kf.2.2.1 i).trans (h5 i hi)⟩
theorem zLs.kpC {l ar cap n : Nat} {f : Nat → ZP} (h : zLs μ l ar cap n f) (h1 : zsmC μ ν l) (h2 : zsmC μ ν ar) : zLs ν l ar cap n f :=
  ⟨(h1.2.1 95 (by decide) (by decide)).trans h.1, (h1.1 96).trans h.2.1, h.2.2.1, h.2.2.2.1, fun i hi => (h2.2.2.2 i).trans (h.2.2.2.2 i hi)⟩
theorem zSE.kp (h : zSE μ lo hi el ear K ea r) (k : ∀ a, lo ≤ a → a < hi → zsmC μ ν a) : zSE ν lo hi el ear K ea r := by
  obtain ⟨h1, h2, h3, h4, h5⟩ := h
  exact ⟨h1, h2.kpC (k _ h1.1 h1.2.1) (k _ h1.2.2.1 h1.2.2.2), h3, h4, fun e w he hw1 hw2 => ((k _ (h3 e he).1 (h3 e he).2).1 _).trans (h5 e w he hw1 hw2)⟩
theorem zSV.kp (h : zSV μ lo hi vl var V fg va ta sa r) (k : ∀ a, lo ≤ a → a < hi → zsmC μ ν a) : zSV ν lo hi vl var V fg va ta sa r := by
  obtain ⟨h1, h2, h3, h4, h5, h6, h7, h8⟩ := h
  have kv : ∀ v, v < V → zsmC μ ν (va v) := fun v hv => k _ (h3 v hv).1.1 (h3 v hv).1.2
  exact ⟨h1, h2.kpC (k _ h1.1 h1.2.1) (k _ h1.2.2.1 h1.2.2.2), h3, h4, fun v w hv hw1 hw2 => ((kv v hv).1 _).trans (h5 v w hv hw1 hw2), fun v hv => ⟨((kv v hv).2.1 _ (by decide) (by decide)).trans (h6 v hv).1, ((kv v hv).2.1 _ (by decide) (by decide)).trans (h6 v hv).2⟩, fun v e hv he => ⟨((k _ (h3 v hv).2.1.1 (h3 v hv).2.1.2).2.2.1 e).trans (h7 v e hv he).1, (h7 v e hv he).2⟩, fun v j hv hj hn => ((k _ (h3 v hv).2.2.1.1 (h3 v hv).2.2.1.2).2.2.1 j).trans (h8 v j hv hj hn)⟩
theorem zMp.kpC {T m : Nat} {ks : List Nat} {nd kp : Nat → Nat} {vl : Nat → ZP} (h : zMp μ T m ks nd kp vl) (hok : zok μ) (hs : zsz μ ≤ zsz ν) (hm : lo ≤ m ∧ m < hi) (hb : zBh μ m lo hi ks nd) (k : ∀ a, lo ≤ a → a < hi → zsmC μ ν a) (k2 : ∀ a, a < zsz μ → zim (ztg μ a).1 → zsmC μ ν a) : zMp ν T m ks nd kp vl ∧ zBh ν m lo hi ks nd := by
  have km := k m hm.1 hm.2
  refine ⟨h.kp hs km.1 km.2.1 (fun n t e i => (k t (hb.1 n t e).1 (hb.1 n t e).2).2.2.2 i) (fun x hx => ⟨(k _ (hb.2 x hx).1 (hb.2 x hx).2).1, (k _ (hb.2 x hx).1 (hb.2 x hx).2).2.1, ?_⟩), ⟨fun n t e => hb.1 n t ((km.2.1 107 (by decide) (by decide)).symm.trans e), hb.2⟩⟩
  have := hok.ref (h.nd.2 x hx).2.2.2.1 (by decide) (by decide)
  exact (k2 _ this.1 (by rw [this.2]; exact Or.inl rfl)).1
/-- a state whose objects have not changed, but for its maps' caches -/
theorem zSta.kq (h : zSta μ lo hi s r K V F fg el ear vl var ds dm sm ea va ta sa) (hok : zok μ) (hx : zext μ ν) (k' : ∀ a, lo ≤ a → a < hi → zsmC μ ν a) (kf : zsmC μ ν fg) (k2 : ∀ a, a < zsz μ → zim (ztg μ a).1 → zsmC μ ν a) (kd : zKc μ dm → zKc ν dm) (ke : zEc μ sm → zEc ν sm) : zSta ν lo hi s r K V F fg el ear vl var ds dm sm ea va ta sa := by
  obtain ⟨h0, h1, h2, ⟨d1, d2, d3, ks, nd, kp, vl', d4, d5, d6, d7⟩, ⟨s1, s2, ks', nd', kp', vl'', s3, s4, s5, s6⟩, htd⟩ := h
  obtain ⟨e1, e2⟩ := d4.kpC hok hx.1 ⟨d1.2.2.1, d1.2.2.2⟩ d6 k' k2
  obtain ⟨f1, f2⟩ := s3.kpC hok hx.1 s1 s5 k' k2
  refine ⟨h0.kp (k' s h0.1.1 h0.1.2.1) kf, h1.kp k', h2.kp k', ⟨d1, ((k' ds d1.1 d1.2.1).2.1 104 (by decide) (by decide)).trans d2, kd d3, ks, nd, kp, vl', e1, d5, e2, d7⟩, ⟨s1, ke s2, ks', nd', kp', vl'', f1, fun x hx' => ⟨⟨(s4 x hx').1.1, ?_⟩, Nat.lt_of_lt_of_le (s4 x hx').2 hx.1⟩, f2, s6⟩, fun n n' t e1 e2 => htd n n' t (((k' dm d1.2.2.1 d1.2.2.2).2.1 107 (by decide) (by decide)).symm.trans e1) (((k' sm s1.1 s1.2).2.1 107 (by decide) (by decide)).symm.trans e2)⟩
  have hn := (s3.nd.2 x hx').2.2.2.2.2.2
  have hp := hok.2.2.2.2.2.1 119 (nd' x)
  rw [hn] at hp
  obtain ⟨⟨q1, q2⟩, q3⟩ := s4 x hx'
  have hz : (vl'' x).1 = 24 ∨ (vl'' x).1 = 124 := q1
  have hl := hp.lt (by omega) (by omega)
  rw [(k2 (vl'' x).2.2 hl.1 (by
    have e9 : (ztg μ (vl'' x).2.2).1 = (vl'' x).1 := congrArg Prod.fst hl.2
    unfold zim; omega)).1]
  exact q2
theorem zSta.kp (h : zSta μ lo hi s r K V F fg el ear vl var ds dm sm ea va ta sa) (hok : zok μ) (hx : zext μ ν) (k : ∀ a, a < hi → zsmC μ ν a) (k2 : ∀ a, a < zsz μ → zim (ztg μ a).1 → zsmC μ ν a) (kd : zKc μ dm → zKc ν dm) (ke : zEc μ sm → zEc ν sm) : zSta ν lo hi s r K V F fg el ear vl var ds dm sm ea va ta sa :=
  h.kq hok hx (fun a _ ha => k a ha) (k fg h.1.1.2.2) k2 kd ke
end KP
section ZJ
variable {G : ZG} {μ : ZM} {Q : Option ZV → ZM → Prop} {E : ZP → ZM → Prop} {lo hi s K V F fg el ear vl var ds dm sm : Nat} {ea va ta sa : Nat → Nat} {r : Nat → Int32} {z1 z2 z3 : Int32}
theorem C_sEcho (e : Nat) (h1 : z1 = nI e) (he : e < K) (h : zSta μ lo hi s r K V F fg el ear vl var ds dm sm ea va ta sa) (k : Q (some (vP (3, 0, ea e))) μ) : Call G Y_X2_echo [vP (2, 0, s), vI z1] μ Q E :=
  S_X2_echo ⟨_, h.1.2.2.2.1.2.1, C_alGet e h1 he h.2.1.2.1 ⟨_, rfl, _, rfl, k⟩⟩
theorem C_sValley (v : Nat) (h1 : z1 = nI v) (hv : v < V) (h : zSta μ lo hi s r K V F fg el ear vl var ds dm sm ea va ta sa) (k : Q (some (vP (4, 0, va v))) μ) : Call G Y_X2_valley [vP (2, 0, s), vI z1] μ Q E :=
  S_X2_valley ⟨_, h.1.2.2.2.1.2.2.1, C_alGet v h1 hv h.2.2.1.2.1 ⟨_, rfl, _, rfl, k⟩⟩
theorem zSta.eE (h : zSta μ lo hi s r K V F fg el ear vl var ds dm sm ea va ta sa) {e : Nat} (he : e < K) (w : Nat) (hw : 7 ≤ w ∧ w < 15) : zfi μ (fE w) (ea e) = wE r e w - oE w := h.2.1.2.2.2.2 e w he hw.1 hw.2
theorem zSta.eV (h : zSta μ lo hi s r K V F fg el ear vl var ds dm sm ea va ta sa) {v : Nat} (hv : v < V) (w : Nat) (hw : 7 ≤ w ∧ w < 14) : zfi μ (fV w) (va v) = wV r v w := h.2.2.1.2.2.2.2.1 v w hv hw.1 hw.2
theorem i32_s0 (x : Int32) : x - 0 = x := Int32.sub_zero x
theorem C_sTrue (v e : Nat) (hv : v < V) (he : e < K) (h : zSta μ lo hi s r K V F fg el ear vl var ds dm sm ea va ta sa) (k : Q (some (vI (sTrue r v e))) μ) : Call G Y_X4_trueScore [vP (4, 0, va v), vP (3, 0, ea e)] μ Q E := by
  have e1 := h.eE he 8 (by decide)
  have e2 := h.eE he 7 (by decide)
  rw [show oE 8 = 0 from rfl, i32_s0] at e1
  rw [show oE 7 = 0 from rfl, i32_s0] at e2
  exact S_X4_trueScore ⟨_, e1, _, e2, _, h.eV hv 7 (by decide), k⟩
theorem C_sSeen (v e : Nat) (h1 : z1 = nI v) (h2 : z2 = nI e) (hv : v < V) (he : e < K) (h : zSta μ lo hi s r K V F fg el ear vl var ds dm sm ea va ta sa) (k : Q (some (vI (sSeen r v e))) μ) : Call G Y_X2_seenScore [vP (2, 0, s), vI z1, vI z2] μ Q E := by
  have hK := h.1.2.1.2.2.2.1
  have ht := h.2.2.1.2.2.2.2.2.2.1 v e hv (by omega)
  refine S_X2_seenScore (C_sValley v h1 hv h ⟨_, rfl, _, rfl, _, _, (h.2.2.1.2.2.2.2.2.1 v hv).1, e, zix.eq h2 (by omega) (by omega), _, ht.1, fun q => ?_, fun q => ?_⟩)
  · unfold sSeen at k
    rw [if_neg (by rw [q]; decide)] at k
    exact k
  · unfold sSeen at k
    rw [if_pos (ht.2.resolve_left q)] at k
    exact C_sValley v h1 hv h ⟨_, rfl, _, rfl, C_sEcho e h2 he h ⟨_, rfl, _, rfl, C_sTrue v e hv he h ⟨_, rfl, k⟩⟩⟩
end ZJ
