set_option maxRecDepth 100000
/-! THE COMPONENT, 14: a State's operations: what it reads; contracts end -/
/-- the addresses that a State's operations may write to -/
def zWl (lo : Nat) (μ : ZM) (a : Nat) : Prop := lo ≤ a ∧ ¬ zim (ztg μ a).1
theorem zG.wl {lo c d c' d' : Nat} {μ ν ρ : ZM} (h : zG (zWl lo μ) c d μ ν) (k : zG (zWl lo ν) c' d' ν ρ) : zG (zWl lo μ) (c + c') (d + d') μ ρ := h.trans k fun a ha w => ⟨w.1, by rw [← h.1.2.2 a ha]; exact w.2⟩
theorem zG.no {W : Nat → Prop} {c d : Nat} {μ ν : ZM} (h : zG (fun _ => False) c d μ ν) : zG W c d μ ν := h.mono (fun _ _ q => q.elim) (Nat.le_refl _) (Nat.le_refl _)
section KP
variable {μ ν : ZM} {lo hi s K V F fg el ear vl var ds dm sm : Nat} {ea va ta sa : Nat → Nat} {r r' : Nat → Int32}
/-- writes elsewhere -/
theorem zSta.far (h : zSta μ lo hi s r K V F fg el ear vl var ds dm sm ea va ta sa) (hok : zok μ) (hh : hi ≤ zsz μ) {W : Nat → Prop} {c d : Nat} (g : zG W c d μ ν) (hW : ∀ a, a < zsz μ → W a → hi ≤ a ∧ ¬ zim (ztg μ a).1) : zSta ν lo hi s r K V F fg el ear vl var ds dm sm ea va ta sa := by
  have k1 : ∀ a, a < hi → zsame μ ν a := fun a ha => g.same (by omega) (fun w => by have := (hW a (by omega) w).1; omega)
  have k2 : ∀ a, a < zsz μ → zim (ztg μ a).1 → zsame μ ν a := fun a ha hz => g.same ha (fun w => (hW a ha w).2 hz)
  refine h.kp hok g.1 (fun a ha => (k1 a ha).c) (fun a ha hz => (k2 a ha hz).c) (fun q => q.kp ((k1 dm h.2.2.2.1.1.2.2.2).2.1 _) fun b hb => ?_) (fun q => q.kp ((k1 sm h.2.2.2.2.1.1.2).2.1 _) fun b hb => ?_)
  · have := hok.ref hb (by decide) (by decide)
    have := k2 b this.1 (by rw [this.2]; unfold zim; omega)
    exact ⟨this.2.1 _, this.1 _⟩
  · have := hok.ref hb (by decide) (by decide)
    exact (k2 b this.1 (by rw [this.2]; unfold zim; omega)).2.1 _
theorem zSta.fa2 (h : zSta μ lo hi s r K V F fg el ear vl var ds dm sm ea va ta sa) (hok : zok μ) (hh : hi ≤ zsz μ) {W : Nat → Prop} {c d : Nat} (g : zG W c d μ ν) (hW : ∀ a, a < zsz μ → W a → (a < lo ∨ hi ≤ a) ∧ a ≠ fg ∧ ¬ zim (ztg μ a).1) : zSta ν lo hi s r K V F fg el ear vl var ds dm sm ea va ta sa := by
  have k1 : ∀ a, lo ≤ a → a < hi → zsame μ ν a := fun a h1 h2 => g.same (by omega) (fun w => by have := (hW a (by omega) w).1; omega)
  have k2 : ∀ a, a < zsz μ → zim (ztg μ a).1 → zsame μ ν a := fun a ha hz => g.same ha (fun w => (hW a ha w).2.2 hz)
  have d1 := h.2.2.2.1.1
  have s1 := h.2.2.2.2.1.1
  have f1 := h.1.1.2.2
  refine h.kq hok g.1 (fun a h1 h2 => (k1 a h1 h2).c) (g.same (by omega) (fun w => (hW fg (by omega) w).2.1 rfl)).c (fun a ha hz => (k2 a ha hz).c) (fun q => q.kp ((k1 dm (by omega) (by omega)).2.1 _) fun b hb => ?_) (fun q => q.kp ((k1 sm s1.1 s1.2).2.1 _) fun b hb => ?_)
  · have := hok.ref hb (by decide) (by decide)
    have := k2 b this.1 (by rw [this.2]; unfold zim; omega)
    exact ⟨this.2.1 _, this.1 _⟩
  · have := hok.ref hb (by decide) (by decide)
    exact (k2 b this.1 (by rw [this.2]; unfold zim; omega)).2.1 _
theorem zSta.nw (h : zSta μ lo hi s r K V F fg el ear vl var ds dm sm ea va ta sa) (hok : zok μ) (hh : hi ≤ zsz μ) {c d : Nat} (g : zG (fun _ => False) c d μ ν) : zSta ν lo hi s r K V F fg el ear vl var ds dm sm ea va ta sa := h.far hok hh g (fun _ _ q => q.elim)
/-- an array's place written -/
theorem zsame_ai {μ : ZM} {a i : Nat} {v : Int32} {t : Nat} (h : (ztg μ a).1 = t) (ht : ¬ zmp t) : ∀ b, b < zsz μ → zmp (ztg μ b).1 → zsame μ (zAi μ a i v) b := fun b _ hb => zsame_zAi (by rintro rfl; rw [h] at hb; exact ht hb) v
theorem zSta.stK (h : zSta μ lo hi s r K V F fg el ear vl var ds dm sm ea va ta sa) (hok : zok μ) (hh : hi ≤ zsz μ) {v : Nat} (hv : v < V) (k : Nat) (hk : k < 3) {x : Int32} : zSta (zAi μ (sa v) k x) lo hi s (wU r (203 + 17 * v + (14 + k)) x) K V F fg el ear vl var ds dm sm ea va ta sa := by
  have hK := h.1.2.1.2.2.2.1
  have hV := h.1.2.1.2.2.2.2.1
  obtain ⟨t1, t2, t3, t4, t5, -⟩ := h.tg hok
  have hr : ∀ j, j < 203 ∨ 339 ≤ j → wU r (203 + 17 * v + (14 + k)) x j = r j := fun j hj => wU_n (by omega)
  have ks : ∀ b, b < zsz μ → zmp (ztg μ b).1 → zsame μ (zAi μ (sa v) k x) b := zsame_ai (t5 v hv).2.2 (by unfold zmp; omega)
  obtain ⟨a1, a2, a3, a4, a5, a6, a7, a8⟩ := h.2.2.1
  refine ⟨h.1.cg (fun j hj => hr j (Or.inl (by omega))) (fun w' hw' => rfl) rfl (fun i => ?_), h.2.1.cg (fun j _ hj => hr j (Or.inl hj)) hK (fun e' w' he' h1 h2 => rfl) rfl rfl rfl, ⟨a1, a2, a3, a4, fun v' w' hv' h1 h2 => ?_, a6, fun v' e hv' he => ?_, fun v' k' hv' hk' hn => ?_⟩, h.2.2.2.1.kt hok hh t2 (Nat.le_refl _) ks hV (fun x hx => hr _ (Or.inr (by omega))), h.2.2.2.2.1.kt hok hh t3 (Nat.le_refl _) ks hV (fun x hx => hr _ (Or.inr (by omega))), h.2.2.2.2.2⟩
  · rw [zai_zAi, if_neg (fun q => (a3 v hv).2.2.2 q.1.symm)]
  · have : wV (wU r (203 + 17 * v + (14 + k)) x) v' w' = wV r v' w' := wU_n (by omega)
    rw [this]; exact a5 v' w' hv' h1 h2
  · have : wP (wU r (203 + 17 * v + (14 + k)) x) v' e 0 = wP r v' e 0 := hr _ (Or.inr (by omega))
    rw [this, zai_zAi, if_neg (fun q => by have q1 := (t5 v' hv').2.1; rw [q.1, (t5 v hv).2.2] at q1; omega)]
    exact a7 v' e hv' he
  · have e13 : wV (wU r (203 + 17 * v + (14 + k)) x) v' 13 = wV r v' 13 := wU_n (by omega)
    rw [e13] at hn
    rw [zai_zAi]
    by_cases q : sa v' = sa v ∧ k' = k
    · have := a4 v' v hv' hv (Or.inr (Or.inr q.1))
      obtain ⟨-, q2⟩ := q
      subst this; subst q2
      rw [if_pos ⟨rfl, rfl⟩]
      show _ = wU r (203 + 17 * v' + (14 + k')) x (203 + 17 * v' + (14 + k'))
      rw [wU_s]
    · rw [if_neg q]
      have : wV (wU r (203 + 17 * v + (14 + k)) x) v' (14 + k') = wV r v' (14 + k') := wU_n (by
        intro q3
        have h3 : v' = v := by omega
        exact q ⟨by rw [h3], by omega⟩)
      rw [this]; exact a8 v' k' hv' hk' hn
theorem zSta.stT (h : zSta μ lo hi s r K V F fg el ear vl var ds dm sm ea va ta sa) (hok : zok μ) (hh : hi ≤ zsz μ) {v e : Nat} (hv : v < V) (he : e < 12) {x : Int32} (hx : x = 0 ∨ x = 1) : zSta (zAi μ (ta v) e x) lo hi s (wU r (iP v e 0) x) K V F fg el ear vl var ds dm sm ea va ta sa := by
  have hK := h.1.2.1.2.2.2.1
  have hV := h.1.2.1.2.2.2.2.1
  obtain ⟨t1, t2, t3, t4, t5, -⟩ := h.tg hok
  have hr : ∀ j, j < 339 ∨ (j - 339) % 3 ≠ 0 → wU r (iP v e 0) x j = r j := fun j hj => wU_n (by unfold iP; omega)
  have ks : ∀ b, b < zsz μ → zmp (ztg μ b).1 → zsame μ (zAi μ (ta v) e x) b := zsame_ai (t5 v hv).2.1 (by unfold zmp; omega)
  obtain ⟨a1, a2, a3, a4, a5, a6, a7, a8⟩ := h.2.2.1
  refine ⟨h.1.cg (fun j hj => hr j (Or.inl (by omega))) (fun w' hw' => rfl) rfl (fun i => ?_), h.2.1.cg (fun j _ hj => hr j (Or.inl (by omega))) hK (fun e' w' he' h1 h2 => rfl) rfl rfl rfl, ⟨a1, a2, a3, a4, fun v' w' hv' h1 h2 => ?_, a6, fun v' e' hv' he' => ?_, fun v' k' hv' hk' hn => ?_⟩, h.2.2.2.1.kt hok hh t2 (Nat.le_refl _) ks hV (fun x hx => hr _ (Or.inr (by omega))), h.2.2.2.2.1.kt hok hh t3 (Nat.le_refl _) ks hV (fun x hx => hr _ (Or.inr (by omega))), h.2.2.2.2.2⟩
  · rw [zai_zAi, if_neg (fun q => by rw [q.1, (t5 v hv).2.1] at t1; omega)]
  · have : wV (wU r (iP v e 0) x) v' w' = wV r v' w' := hr _ (Or.inl (by omega))
    rw [this]; exact a5 v' w' hv' h1 h2
  · rw [zai_zAi]
    by_cases q : ta v' = ta v ∧ e' = e
    · have := a4 v' v hv' hv (Or.inr (Or.inl q.1))
      obtain ⟨-, q2⟩ := q
      subst this; subst q2
      have e1 : wP (wU r (iP v' e' 0) x) v' e' 0 = x := wU_s
      rw [if_pos ⟨rfl, rfl⟩, e1]
      exact ⟨rfl, hx⟩
    · have : wP (wU r (iP v e 0) x) v' e' 0 = wP r v' e' 0 := wU_n (by
        unfold iP
        intro q3
        have h3 : v' = v ∧ e' = e := by omega
        exact q ⟨by rw [h3.1], h3.2⟩)
      rw [if_neg q, this]; exact a7 v' e' hv' he'
  · have e13 : ∀ w', w' < 17 → wV (wU r (iP v e 0) x) v' w' = wV r v' w' := fun w' hw' => hr _ (Or.inl (by omega))
    rw [e13 13 (by decide)] at hn
    rw [e13 _ (by omega), zai_zAi, if_neg (fun q => by have q1 := (t5 v' hv').2.2; rw [q.1, (t5 v hv).2.1] at q1; omega)]
    exact a8 v' k' hv' hk' hn
/-- the state's own addresses may be written -/
theorem zSta.ow (h : zSta μ lo hi s r K V F fg el ear vl var ds dm sm ea va ta sa) (hok : zok μ) : (∀ e, e < K → zWl lo μ (ea e)) ∧ (∀ v, v < V → zWl lo μ (va v) ∧ zWl lo μ (ta v) ∧ zWl lo μ (sa v)) := by
  obtain ⟨t1, t2, t3, t4, t5, -⟩ := h.tg hok
  refine ⟨fun e he => ⟨(h.2.1.2.2.1 e he).1, by rw [t4 e he]; unfold zim; omega⟩, fun v hv => ⟨⟨(h.2.2.1.2.2.1 v hv).1.1, by rw [(t5 v hv).1]; unfold zim; omega⟩, ⟨(h.2.2.1.2.2.1 v hv).2.1.1, by rw [(t5 v hv).2.1]; unfold zim; omega⟩, ⟨(h.2.2.1.2.2.1 v hv).2.2.1.1, by rw [(t5 v hv).2.2]; unfold zim; omega⟩⟩⟩
end KP
section ZJ
variable {G : ZG} {μ : ZM} {Q : Option ZV → ZM → Prop} {E : ZP → ZM → Prop} {lo hi s K V F fg el ear vl var ds dm sm : Nat} {ea va ta sa : Nat → Nat} {r : Nat → Int32} {z1 z2 z3 : Int32}
/-- new Pair(v, e) -/
theorem zG_pair (v e : Nat) : zG (fun _ => False) 1 2 μ (zFi (zFi (zNew μ 9 0 2) 92 (zsz μ) (nI v)) 93 (zsz μ) (nI e)) := by
  have q : (False ∨ zsz μ ≤ zsz μ) := Or.inr (Nat.le_refl _)
  exact zG.trN (W := fun _ => False) (zG.nw (t := 9) (n := 0) (k := 2)) ((zG.fi q).tr (zG.fi q))
theorem C_sHasDes (v e : Nat) (h1 : z1 = nI v) (h2 : z2 = nI e) (hv : v < V) (he : e < K) (hok : zok μ) (hh : hi ≤ zsz μ) (h : zSta μ lo hi s r K V F fg el ear vl var ds dm sm ea va ta sa)
    (kt : wP r v e 1 = 1 → ∀ ν, zG (fun _ => False) 1 2 μ ν → Q (some (vI 1)) ν) (kf : ¬ wP r v e 1 = 1 → ∀ ν, zG (fun _ => False) 1 2 μ ν → Q (some (vI 0)) ν) : Call G Y_X2_hasDeserted [vP (2, 0, s), vI z1, vI z2] μ Q E := by
  have hK := h.1.2.1.2.2.2.1
  have hV := h.1.2.1.2.2.2.2.1
  obtain ⟨d1, d2, d3, ks, nd, kp, vl', d4, d5, d6, d7⟩ := h.2.2.2.1
  have hx : (12 * v + e) / 12 = v ∧ (12 * v + e) % 12 = e := by omega
  have hiff := d7 (12 * v + e) (by omega) (by omega)
  have hdm := hok.ref d2 (by decide) (by decide)
  obtain ⟨o1, o2, o3⟩ := d4.kn hok hdm.1 (Or.inr rfl)
  refine S_X2_hasDeserted ⟨_, h.1.2.2.2.1.2.2.2.1, C_lsEmpty d2 d4 (fun q => ⟨_, rfl, fun _ => kf (fun e1 => ?_) μ ((zG.rf _ _).mono (fun _ _ h => h) (by omega) (by omega)), fun e => absurd e (by decide)⟩) (fun q => ⟨_, rfl, fun e => absurd rfl e, fun _ => ⟨_, h.1.2.2.2.1.2.2.2.1, ?_⟩⟩)⟩
  · have : 12 * v + e ∈ ks := hiff.mpr e1
    rw [q] at this; cases this
  · have g := zG_pair (μ := μ) v e
    subst h1; subst h2
    have s0 : ∀ a, a < zsz μ → zsame μ (zFi (zFi (zNew μ 9 0 2) 92 (zsz μ) (nI v)) 93 (zsz μ) (nI e)) a := fun a ha => g.same ha id
    have d4' := (d4.far (fun a ha => ⟨o1 a ha, id⟩) g).1
    refine S_X9_init ⟨rfl, C_lsHas (k := 12 * v + e) (((s0 ds (by omega)).2.1 _).trans d2) d4' (by omega) ?_ ?_ (fun q => ⟨_, rfl, fun e => absurd e (by decide), fun _ => kt (hiff.mp q) _ g⟩) (fun q => ⟨_, rfl, fun _ => kf (fun e1 => q (hiff.mpr e1)) _ g, fun e => absurd rfl e⟩)⟩
    · rw [zfi_zFi, if_neg (fun e => by cases e.1), zfi_zFi, if_pos ⟨rfl, rfl⟩, hx.1]
    · rw [zfi_zFi, if_pos ⟨rfl, rfl⟩, hx.2]
/-- as above; nothing is made where nothing is deserted -/
theorem C_sHasDesP (p v e : Nat) (h1 : z1 = nI v) (h2 : z2 = nI e) (hv : v < V) (he : e < K) (hok : zok μ) (hh : hi ≤ zsz μ) (hp : p = 1 ∨ (p = 0 ∧ ∀ v e, v < V → e < K → ¬ wP r v e 1 = 1)) (h : zSta μ lo hi s r K V F fg el ear vl var ds dm sm ea va ta sa)
    (k : ∀ ν, zG (fun _ => False) p (2 * p) μ ν → Q (some (vI (if wP r v e 1 = 1 then 1 else 0))) ν) : Call G Y_X2_hasDeserted [vP (2, 0, s), vI z1, vI z2] μ Q E := by
  rcases hp with rfl | ⟨rfl, hno⟩
  · exact C_sHasDes v e h1 h2 hv he hok hh h (fun q ν g => by have := k ν g; rw [if_pos q] at this; exact this) (fun q ν g => by have := k ν g; rw [if_neg q] at this; exact this)
  · obtain ⟨d1, d2, d3, ks, nd, kp, vl', d4, d5, d6, d7⟩ := h.2.2.2.1
    have hks : ks = [] := by
      cases ks with
      | nil => rfl
      | cons x ks =>
        obtain ⟨-, q1, q2⟩ := d5 x List.mem_cons_self
        have := (d7 x q1 q2).mp List.mem_cons_self
        have e1 : 12 * (x / 12) + x % 12 = x := by omega
        have := hno (x / 12) (x % 12) q1 q2
        unfold wP at this
        rw [e1] at this
        exact absurd ((d7 x q1 q2).mp List.mem_cons_self) this
    subst hks
    have kk := k μ (zG.rf _ _)
    rw [if_neg (hno v e hv he)] at kk
    exact S_X2_hasDeserted ⟨_, h.1.2.2.2.1.2.2.2.1, C_lsEmpty d2 d4 (fun q => ⟨_, rfl, fun _ => kk, fun e => absurd e (by decide)⟩) (fun q => absurd rfl q)⟩
theorem C_sReason (v e : Nat) (h1 : z1 = nI v) (h2 : z2 = nI e) (hv : v < V) (he : e < K) (hok : zok μ) (hh : hi ≤ zsz μ) (h : zSta μ lo hi s r K V F fg el ear vl var ds dm sm ea va ta sa)
    (k : ∀ ν, zG (fun _ => False) 1 2 μ ν → Q (some (vI (sReason r v e))) ν) : Call G Y_X2_reason [vP (2, 0, s), vI z1, vI z2] μ Q E := by
  have e1 := h.eE he 9 (by decide)
  rw [show oE 9 = 0 from rfl, i32_s0] at e1
  have g0 : zG (fun _ => False) 1 2 μ μ := (zG.rf _ _).mono (fun _ _ h => h) (by omega) (by omega)
  refine S_X2_reason (C_sValley v h1 hv h ⟨_, rfl, _, rfl, _, h.eV hv 9 (by decide), C_sEcho e h2 he h ⟨_, rfl, _, rfl, _, e1, fun q => ?_, fun q => ?_⟩⟩)
  · refine C_sSeen v e h1 h2 hv he h ⟨_, rfl, fun q2 => ?_, fun q2 => ?_⟩
    · refine C_sHasDes v e h1 h2 hv he hok hh h (fun q3 ν g => ⟨_, rfl, fun e => absurd e (by decide), fun _ => ?_⟩) (fun q3 ν g => ⟨_, rfl, fun _ => ?_, fun e => absurd rfl e⟩)
      · have := k ν g
        unfold sReason at this
        rw [if_neg q, if_neg q2, if_pos q3] at this
        exact this
      · have := k ν g
        unfold sReason at this
        rw [if_neg q, if_neg q2, if_neg q3] at this
        exact this
    · have := k μ g0
      unfold sReason at this
      rw [if_neg q, if_pos q2] at this
      exact this
  · have := k μ g0
    unfold sReason at this
    rw [if_pos q] at this
    exact this
theorem C_sFog (d : Nat) (h1 : z1 = nI d) (hd : d < 2 ^ 31) (h : zSta μ lo hi s r K V F fg el ear vl var ds dm sm ea va ta sa) (k : Q (some (vI (sFogNow r d))) μ) : Call G Y_X2_fog [vP (2, 0, s), vI z1] μ Q E := by
  have hF := h.1.2.1.2.2.2.2.2
  have e4 : (r 4).toNatClampNeg = F := by rw [h.1.2.1.2.2.1, nI_clamp (by omega)]
  have hm := Nat.mod_lt d hF.1
  refine S_X2_fog ⟨_, _, h.1.2.2.2.1.1, nI_ne0 hF.1 (by omega), d % F, zix.eq (by rw [h1]; exact pk_rem hd hF.1 (by omega)) hm (by omega), _, h.1.2.2.2.2 (d % F) hm, ?_⟩
  unfold sFogNow at k
  rw [e4] at k
  exact k
theorem C_sPay (v e : Nat) (hv : v < V) (he : e < K) (hok : zok μ) (hh : hi ≤ zsz μ) (h : zSta μ lo hi s r K V F fg el ear vl var ds dm sm ea va ta sa)
    (k : ∀ ν, zSta ν lo hi s (sPays r v e) K V F fg el ear vl var ds dm sm ea va ta sa → zG (zWl lo μ) 0 0 μ ν → zsz ν = zsz μ → zfr ν = zfr μ → Q none ν) : Call G Y_X2_pay [vP (2, 0, s), vP (4, 0, va v), vP (3, 0, ea e)] μ Q E := by
  have hV := h.1.2.1.2.2.2.2.1
  have hK := h.1.2.1.2.2.2.1
  have o0 : oE 8 = 0 ∧ oE 11 = 0 ∧ oE 12 = 0 := ⟨rfl, rfl, rfl⟩
  have e8 := h.eE he 8 (by decide)
  have e11 := h.eE he 11 (by decide)
  have e12 := h.eE he 12 (by decide)
  rw [o0.1, i32_s0] at e8
  rw [o0.2.1, i32_s0] at e11
  rw [o0.2.2, i32_s0] at e12
  obtain ⟨w1, w2⟩ := h.ow hok
  have hE := w1 e he
  have hVw := (w2 v hv).1
  refine S_X2_pay ⟨_, h.eV hv 9 (by decide), _, e8, _, h.eV hv 10 (by decide), fun q => ⟨_, h.eV hv 12 (by decide), _, e11, k _ ?_ ((((zG.fi hVw).tr (zG.fi hVw)).tr (zG.fi hE)).tr (zG.fi hE)) rfl rfl⟩, fun q => ⟨_, e12, k _ ?_ (zG.fi hE) rfl rfl⟩⟩
  · unfold sPays
    rw [if_neg q]
    have hva : va v < zsz μ := Nat.lt_of_lt_of_le (h.2.2.1.2.2.1 v hv).1.2 hh
    have hea : ea e < zsz μ := Nat.lt_of_lt_of_le (h.2.1.2.2.1 e he).2 hh
    have a1 := h.stV hok hh hv 10 (by decide) (x := wV r v 10 - wV r v 9 * wE r e 8) (fun e => by cases e)
    have k1 := hok.zFi (fV 10) hva (wV r v 10 - wV r v 9 * wE r e 8)
    have a2 := a1.stV k1 hh hv 12 (by decide) (x := wV r v 12 + wV r v 9 * wE r e 8) (fun e => by cases e)
    have k2 := k1.zFi (fV 12) hva (wV r v 12 + wV r v 9 * wE r e 8)
    have a3 := a2.stE k2 hh he 11 (by decide) (x := wE r e 11 + wV r v 9 * wE r e 8) (y := wE r e 11 + wV r v 9 * wE r e 8) (by rw [o0.2.1, i32_s0])
    exact a3.stE (k2.zFi (fE 11) hea _) hh he 12 (by decide) (x := 0) (y := 0) (by rw [o0.2.2, i32_s0])
  · unfold sPays
    rw [if_pos q]
    exact h.stE hok hh he 12 (by decide) (x := wE r e 12 + 1) (y := wE r e 12 + 1) (by rw [o0.2.2, i32_s0])
end ZJ
