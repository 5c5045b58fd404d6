set_option maxRecDepth 100000
/-! THE COMPONENT, 16: a State's maps: days served, pairs deserted -/
/-- tags of what a State's own numbers rest on -/
def zot (t : Nat) : Prop := t = 2 ∨ t = 200 ∨ t = 10 ∨ t = 204 ∨ t = 3 ∨ t = 4 ∨ t = 201
/-- growth: tables counted apart -/
def zGt (lo c d sm dm : Nat) (μ ν : ZM) : Prop := zG (zWl lo μ) c (d + 2 * ((tl ν sm - tl μ sm) + (tl ν dm - tl μ dm))) μ ν ∧ tl μ sm ≤ tl ν sm ∧ tl μ dm ≤ tl ν dm
theorem zGt.tr {lo c d c' d' sm dm : Nat} {μ ν ρ : ZM} (h : zGt lo c d sm dm μ ν) (k : zGt lo c' d' sm dm ν ρ) : zGt lo (c + c') (d + d') sm dm μ ρ := by
  obtain ⟨h1, h2, h3⟩ := h
  obtain ⟨k1, k2, k3⟩ := k
  exact ⟨(zG.wl h1 k1).mono (fun _ _ q => q) (Nat.le_refl _) (by omega), by omega, by omega⟩
theorem zGt.mo {lo c d c' d' sm dm : Nat} {μ ν : ZM} (h : zGt lo c d sm dm μ ν) (hc : c ≤ c') (hd : d ≤ d') : zGt lo c' d' sm dm μ ν := ⟨h.1.mono (fun _ _ q => q) hc (by omega), h.2⟩
theorem zGt.rf (lo sm dm : Nat) (μ : ZM) : zGt lo 0 0 sm dm μ μ := ⟨(zG.rf _ _).mono (fun _ _ q => q) (Nat.le_refl _) (Nat.zero_le _), Nat.le_refl _, Nat.le_refl _⟩
theorem zGt.of {lo c d sm dm : Nat} {μ ν : ZM} (h : zG (zWl lo μ) c d μ ν) (k : zfr ν = zfr μ) : zGt lo c d sm dm μ ν := by
  have e : ∀ m, tl ν m = tl μ m := fun m => by unfold tl; rw [k]
  exact ⟨h.mono (fun _ _ q => q) (Nat.le_refl _) (Nat.le_add_right _ _), Nat.le_of_eq (e sm).symm, Nat.le_of_eq (e dm).symm⟩
theorem zGt.no {lo c d sm dm : Nat} {μ ν : ZM} (h : zG (fun _ => False) c d μ ν) (h1 : sm < zsz μ) (h2 : dm < zsz μ) : zGt lo c d sm dm μ ν := by
  have e : ∀ m, m < zsz μ → tl ν m = tl μ m := fun m hm => by unfold tl; rw [(h.same hm id).2.1]
  exact ⟨h.no.mono (fun _ _ q => q) (Nat.le_refl _) (Nat.le_add_right _ _), Nat.le_of_eq (e sm h1).symm, Nat.le_of_eq (e dm h2).symm⟩
section KP
variable {μ ν : ZM} {lo hi hi' s K V F fg el ear vl var ds dm sm : Nat} {ea va ta sa : Nat → Nat} {r r' : Nat → Int32}
theorem zBh.up {m : Nat} {ks : List Nat} {nd : Nat → Nat} (h : zBh μ m lo hi ks nd) (k : hi ≤ hi') : zBh μ m lo hi' ks nd := ⟨fun n t e => ⟨(h.1 n t e).1, Nat.lt_of_lt_of_le (h.1 n t e).2 k⟩, fun x hx => ⟨(h.2 x hx).1, Nat.lt_of_lt_of_le (h.2 x hx).2 k⟩⟩
theorem zSta.up (h : zSta μ lo hi s r K V F fg el ear vl var ds dm sm ea va ta sa) (k : hi ≤ hi') : zSta μ lo hi' s r K V F fg el ear vl var ds dm sm ea va ta sa := by
  obtain ⟨⟨a1, a2⟩, ⟨b1, b2, b3, b4⟩, ⟨c1, c2, c3, c4⟩, ⟨d1, d2, d3, ks, nd, kp, vl', d4, d5, d6, d7⟩, ⟨e1, e2, ks', nd', kp', vl'', e3, e4, e5, e6⟩, f1⟩ := h
  exact ⟨⟨by omega, a2⟩, ⟨by omega, b2, fun e he => ⟨(b3 e he).1, by have := (b3 e he).2; omega⟩, b4⟩, ⟨by omega, c2, fun v hv => by have := c3 v hv; omega, c4⟩, ⟨by omega, d2, d3, ks, nd, kp, vl', d4, d5, d6.up k, d7⟩, ⟨by omega, e2, ks', nd', kp', vl'', e3, e4, e5.up k, e6⟩, f1⟩
/-- all but the maps, where memory and row have changed elsewhere -/
theorem zSta.ot (h : zSta μ lo hi s r K V F fg el ear vl var ds dm sm ea va ta sa) (hok : zok μ) (hh : hi ≤ zsz μ) (hs : (ztg μ s).1 = 2) (k : ∀ a, a < zsz μ → zot (ztg μ a).1 → zsame μ ν a) (hr : ∀ j, j < 339 → r' j = r j) (hr2 : ∀ v e, wP r' v e 0 = wP r v e 0) :
    zS0 ν lo hi s r' K V F fg el vl ds sm ∧ zSE ν lo hi el ear K ea r' ∧ zSV ν lo hi vl var V fg va ta sa r' := by
  have hK := h.1.2.1.2.2.2.1
  have hV := h.1.2.1.2.2.2.2.1
  obtain ⟨t1, t2, t3, t4, t5, t6, t7, t8, t9⟩ := h.tg hok
  have k' : ∀ a t, a < hi → (ztg μ a).1 = t → zot t → zsame μ ν a := fun a t ha e q => k a (by omega) (by rw [e]; exact q)
  have h0 := h.1.cg (ν := μ) (fun j hj => hr j (by omega)) (fun _ _ => rfl) rfl (fun _ => rfl)
  have h1 := h.2.1.cg (ν := μ) (fun j _ hj => hr j (by omega)) hK (fun _ _ _ _ _ => rfl) rfl rfl rfl
  have h2 := h.2.2.1.cg (ν := μ) (fun j _ hj => hr j hj) (fun v e _ _ => hr2 v e) hV (fun _ _ _ _ _ => rfl) rfl rfl rfl (fun _ _ _ => ⟨rfl, rfl⟩)
  refine ⟨?_, ?_, ?_⟩
  · obtain ⟨a1, a2, a3, a4, a5⟩ := h0
    have ks := k' s 2 a1.2.1 hs (by unfold zot; omega)
    have kf := k' fg 200 a1.2.2 t1 (by unfold zot; omega)
    exact ⟨a1, a2, fun w hw => (ks.1 _).trans (a3 w hw), ⟨(ks.2.1 _).trans a4.1, (ks.2.1 _).trans a4.2.1, (ks.2.1 _).trans a4.2.2.1, (ks.2.1 _).trans a4.2.2.2.1, (ks.2.1 _).trans a4.2.2.2.2⟩, fun i hi => (kf.2.2.1 i).trans (a5 i hi)⟩
  · obtain ⟨a1, a2, a3, a4, a5⟩ := h1
    exact ⟨a1, a2.kp (k' el 10 a1.2.1 t6 (by unfold zot; omega)) (k' ear 204 a1.2.2.2 t8 (by unfold zot; omega)), a3, a4, fun e w he q1 q2 => ((k' _ 3 (a3 e he).2 (t4 e he) (by unfold zot; omega)).1 _).trans (a5 e w he q1 q2)⟩
  · obtain ⟨a1, a2, a3, a4, a5, a6, a7, a8⟩ := h2
    have kv : ∀ v, v < V → zsame μ ν (va v) := fun v hv => k' _ 4 (a3 v hv).1.2 (t5 v hv).1 (by unfold zot; omega)
    exact ⟨a1, a2.kp (k' vl 10 a1.2.1 t7 (by unfold zot; omega)) (k' var 204 a1.2.2.2 t9 (by unfold zot; omega)), a3, a4, fun v w hv q1 q2 => ((kv v hv).1 _).trans (a5 v w hv q1 q2), fun v hv => ⟨((kv v hv).2.1 _).trans (a6 v hv).1, ((kv v hv).2.1 _).trans (a6 v hv).2⟩, fun v e hv he => ⟨((k' _ 201 (a3 v hv).2.1.2 (t5 v hv).2.1 (by unfold zot; omega)).2.2.1 e).trans (a7 v e hv he).1, (a7 v e hv he).2⟩, fun v j hv hj hn => ((k' _ 200 (a3 v hv).2.2.1.2 (t5 v hv).2.2 (by unfold zot; omega)).2.2.1 j).trans (a8 v j hv hj hn)⟩
theorem iP_k {v e v' e' w : Nat} (he : e < 12) (he' : e' < 12) (h : iP v e w = iP v' e' w) : v = v' ∧ e = e' := by unfold iP at h; omega
end KP
section ZJ
variable {G : ZG} {μ : ZM} {Q : Option ZV → ZM → Prop} {E : ZP → ZM → Prop} {lo hi s K V F fg el ear vl var ds dm sm : Nat} {ea va ta sa : Nat → Nat} {r : Nat → Int32} {z1 z2 z3 : Int32}
/-- served.put(pair, days) -/
theorem C_sPut (v e rp : Nat) (p : ZP) (x : Int32) (hv : v < V) (he : e < K) (h92 : zfi μ 92 rp = nI v) (h93 : zfi μ 93 rp = nI e) (hp : zIn μ p x) (hpz : p.2.2 < zsz μ) (hok : zok μ) (hh : hi ≤ zsz μ) (hlo : lo ≤ zsz μ) (hs : (ztg μ s).1 = 2) (hpp : zpk μ p) (h : zSta μ lo hi s r K V F fg el ear vl var ds dm sm ea va ta sa)
    (k : ∀ ρ q, (q = zN ∨ zis 24 q) → zSta ρ lo (zsz ρ) s (wU r (iP v e 2) x) K V F fg el ear vl var ds dm sm ea va ta sa → zGt lo 3 6 sm dm μ ρ → Q (some (vP q)) ρ) : Call G Y_J22_put [vP (14, 0, sm), vP (9, 0, rp), vP p] μ Q E := by
  have hK := h.1.2.1.2.2.2.1
  have hV := h.1.2.1.2.2.2.2.1
  obtain ⟨t1, t2, t3, t4, t5, t6, t7, t8, t9⟩ := h.tg hok
  obtain ⟨d1, d3, ks, nd, kp, vl', d4, d5, d6, d7⟩ := h.2.2.2.2.1
  have htd := h.2.2.2.2.2
  have hsm : sm < zsz μ := by omega
  have hdm : dm < zsz μ := by have := h.2.2.2.1.1; omega
  obtain ⟨o1, o2, o3⟩ := d4.kn hok hsm (Or.inl rfl)
  have hdmt := (hok.ref h.2.2.2.1.2.1 (by decide) (by decide)).2
  have hx : (12 * v + e) / 12 = v ∧ (12 * v + e) % 12 = e := by omega
  have hr1 : ∀ j, j < 339 → wU r (iP v e 2) x j = r j := fun j hj => wU_n (by unfold iP; omega)
  have hr2 : ∀ v' e', wP (wU r (iP v e 2) x) v' e' 0 = wP r v' e' 0 := fun v' e' => wU_n (by unfold iP; omega)
  have hr3 : ∀ y, y < 96 → wU r (iP v e 2) x (339 + 3 * y + 1) = r (339 + 3 * y + 1) := fun y _ => wU_n (by unfold iP; omega)
  have own : ∀ a, zMw μ sm ks nd a → zWl lo μ a ∧ ¬ zot (ztg μ a).1 ∧ ¬ (zdt (ztg μ a).1 ∨ ∃ n, zfr μ 107 dm = (205, n, a)) := fun a ha => by
    rcases ha with q | ⟨n, q⟩ | ⟨y, hy, q⟩
    · rw [q]
      refine ⟨⟨d1.1, by rw [t3]; unfold zim; omega⟩, by rw [t3]; unfold zot; omega, ?_⟩
      rintro (q2 | ⟨n, q2⟩)
      · rw [t3] at q2; unfold zdt at q2; omega
      · have := (hok.ref q2 (by decide) (by decide)).2; rw [this] at t3; omega
    · have t := o2 n a q
      refine ⟨⟨(d6.1 n a q).1, by rw [t]; unfold zim; omega⟩, by rw [t]; unfold zot; omega, ?_⟩
      rintro (q2 | ⟨n2, q2⟩)
      · rw [t] at q2; unfold zdt at q2; omega
      · exact htd n2 n a q2 q
    · have t := (o3 y hy).1
      rw [q]
      refine ⟨⟨(d6.2 y hy).1, by rw [t]; unfold zim; omega⟩, by rw [t]; unfold zot; omega, ?_⟩
      rintro (q2 | ⟨n2, q2⟩)
      · rw [t] at q2; unfold zdt at q2; omega
      · have := (hok.ref q2 (by decide) (by decide)).2; rw [this] at t; omega
  -- behind either outcome
  have fin : ∀ (ρ : ZM) (W : Nat → Prop) (c d : Nat), (∀ a, a < zsz μ → W a → zMw μ sm ks nd a) → zG W c d μ ρ → zSS ρ lo (zsz ρ) sm K V (wU r (iP v e 2) x) → (∀ n n' t, zfr ρ 107 dm = (205, n, t) → ¬ zfr ρ 107 sm = (205, n', t)) → zSta ρ lo (zsz ρ) s (wU r (iP v e 2) x) K V F fg el ear vl var ds dm sm ea va ta sa := by
    intro ρ W c d hW g hS ht
    have hhρ : hi ≤ zsz ρ := Nat.le_trans hh g.1.1
    obtain ⟨p1, p2, p3⟩ := h.ot (ν := ρ) hok hh hs (fun a ha q => g.same ha (fun w => (own a (hW a ha w)).2.1 q)) hr1 hr2
    have p4 := h.2.2.2.1.kt' (ν := ρ) hok hh t2 g.1.1 (fun a ha q => g.same ha (fun w => (own a (hW a ha w)).2.2 q)) hV hr3
    have q0 : zSta ρ lo hi s (wU r (iP v e 2) x) K V F fg el ear vl var ds dm sm ea va ta sa → zSta ρ lo (zsz ρ) s (wU r (iP v e 2) x) K V F fg el ear vl var ds dm sm ea va ta sa := fun q => q.up hhρ
    obtain ⟨a1, a2⟩ := p1
    obtain ⟨b1, b2, b3, b4⟩ := p2
    obtain ⟨c1, c2, c3, c4⟩ := p3
    obtain ⟨e1, e2, e3, ks', nd', kp', vl'', e4, e5, e6, e7⟩ := p4
    exact ⟨⟨by omega, a2⟩, ⟨by omega, b2, fun e he => ⟨(b3 e he).1, by have := (b3 e he).2; omega⟩, b4⟩, ⟨by omega, c2, fun v hv => by have := c3 v hv; omega, c4⟩, ⟨by omega, e2, e3, ks', nd', kp', vl'', e4, e5, e6.up hhρ, e7⟩, hS, ht⟩
  have hkeep : ∀ (ρ : ZM) (W : Nat → Prop) (c d : Nat), (∀ a, a < zsz μ → W a → zMw μ sm ks nd a) → zG W c d μ ρ → (∀ y ∈ ks, zIn ρ (vl' y) (r (339 + 3 * y + 2)) ∧ (vl' y).2.2 < zsz ρ) ∧ zIn ρ p x := by
    intro ρ W c d hW g
    have kin : ∀ (p : ZP) (z : Int32), zIn μ p z → zpk μ p → zIn ρ p z := fun p z h1 h2 => by
      obtain ⟨l1, l2⟩ := h1.tg h2
      have ht24 : p.1 = 24 ∨ p.1 = 124 := h1.1
      have hlt := h2.lt (by omega) (by omega)
      have e9 : (ztg μ p.2.2).1 = p.1 := congrArg Prod.fst hlt.2
      have := g.same l1 (fun w => by
        rcases hW _ l1 w with q | ⟨n, q⟩ | ⟨y, hy, q⟩
        · rw [q, t3] at e9; omega
        · rw [o2 n _ q] at e9; omega
        · rw [q, (o3 y hy).1] at e9; omega)
      exact ⟨h1.1, (this.1 _).trans h1.2⟩
    refine ⟨fun y hy => ⟨kin _ _ (d5 y hy).1 ?_, Nat.lt_of_lt_of_le (d5 y hy).2 g.1.1⟩, kin p x hp hpp⟩
    have := hok.2.2.2.2.2.1 119 (nd y)
    rw [(d4.nd.2 y hy).2.2.2.2.2.2] at this
    exact this
  have hval : ∀ y ∈ ks, zis 24 (vl' y) := fun y hy => (d5 y hy).1.1
  refine Call.zq (C_hmPut_14 (k := 12 * v + e) hp.1 hsm d4 (by omega) (by rw [hx.1]; exact h92) (by rw [hx.2]; exact h93) hval (fun hk _ _ => ?_) (fun hk ρ b hb j1 j2 jc j3 j4 hokρ _ => ?_))
  · have g : zG (fun a => a = nd (12 * v + e)) 0 0 μ (zFr μ 119 (nd (12 * v + e)) p) := zG.fr rfl
    have hW : ∀ a, a < zsz μ → a = nd (12 * v + e) → zMw μ sm ks nd a := fun a _ q => Or.inr (Or.inr ⟨_, hk, q⟩)
    obtain ⟨q1, q2⟩ := hkeep _ _ _ _ hW g
    have r107 : ∀ f a, f ≠ 119 → zfr (zFr μ 119 (nd (12 * v + e)) p) f a = zfr μ f a := fun f a hf => by rw [zfr_zFr, if_neg (fun e => hf e.1)]
    refine k _ _ (Or.inr (hval _ hk)) (fin _ _ _ _ hW g ⟨by show lo ≤ sm ∧ sm < zsz μ; omega, d3.kp (r107 _ _ (by decide)) (fun b hb => r107 _ _ (by decide)), ks, nd, kp, upd1 vl' (12 * v + e) p, d4.set hk, fun y hy => ?_, ⟨fun n t e => ?_, fun y hy => ⟨(d6.2 y hy).1, by have := (d6.2 y hy).2; show _ < zsz μ; omega⟩⟩, fun y hy1 hy2 hy3 => ?_⟩ (fun n n' t e1 e2 => htd n n' t ((r107 _ _ (by decide)).symm.trans e1) ((r107 _ _ (by decide)).symm.trans e2))) ⟨?_, ?_, ?_⟩
    · by_cases q : y = 12 * v + e
      · subst q
        rw [upd1_s]
        have : wU r (iP v e 2) x (339 + 3 * (12 * v + e) + 2) = x := wU_s
        rw [this]
        exact ⟨q2, hpz⟩
      · rw [upd1_n q]
        have : wU r (iP v e 2) x (339 + 3 * y + 2) = r (339 + 3 * y + 2) := wU_n (by unfold iP; omega)
        rw [this]
        exact q1 y hy
    · have := d6.1 n t ((r107 _ _ (by decide)).symm.trans e); exact ⟨this.1, by show _ < zsz μ; omega⟩
    · have : wU r (iP v e 2) x (339 + 3 * y + 2) = r (339 + 3 * y + 2) := wU_n (fun q => hy3 ((show y = 12 * v + e by unfold iP at q; omega) ▸ hk))
      rw [this]; exact d7 y hy1 hy2 hy3
    · exact (g.mono (fun a _ q => (own a (hW a (by rw [q]; exact (d4.nd.2 _ hk).2.1) q)).1) (by omega) (by omega))
    · unfold tl; rw [r107 _ _ (by decide)]; exact Nat.le_refl _
    · unfold tl; rw [r107 _ _ (by decide)]; exact Nat.le_refl _
  · have hW : ∀ a, a < zsz μ → zMw μ sm ks nd a → zMw μ sm ks nd a := fun a _ q => q
    obtain ⟨q1, q2⟩ := hkeep _ _ _ _ hW j4
    have hbz : b < zsz ρ := by have := (j1.nd.2 (12 * v + e) (List.mem_append_right _ (List.mem_singleton.mpr rfl))).2.1; rw [upd1_s] at this; exact this
    have sdm : zsame μ ρ dm := j4.same hdm (fun w => by
      rcases w with q | ⟨n, q⟩ | ⟨y, hy, q⟩
      · rw [q] at hdmt; rw [hdmt] at t3; omega
      · have := o2 n _ q; rw [hdmt] at this; omega
      · have := (o3 y hy).1; rw [← q, hdmt] at this; omega)
    have ht : ∀ n n' t, zfr ρ 107 dm = (205, n, t) → ¬ zfr ρ 107 sm = (205, n', t) := fun n n' t e1 e2 => by
      rw [sdm.2.1] at e1
      rcases j2 n' t e2 with ⟨n2, q⟩ | q
      · exact htd n n2 t e1 q
      · have := (hok.ref e1 (by decide) (by decide)).1; omega
    have hec : zEc ρ sm := d3.kp jc.2 fun b hb => by
      have hbb := hok.ref hb (by decide) (by decide)
      exact (j4.same hbb.1 (fun w => by
        rcases w with q | ⟨n, q⟩ | ⟨y, hy, q⟩
        · have q2 := congrArg Prod.fst hbb.2; rw [q, t3] at q2; dsimp only at q2; omega
        · have := o2 n _ q; rw [hbb.2] at this; omega
        · have := (o3 y hy).1; rw [← q, hbb.2] at this; omega)).2.1 _
    refine k _ _ (Or.inl rfl) (fin _ _ _ _ hW j4 ⟨⟨d1.1, Nat.lt_of_lt_of_le hsm j4.1.1⟩, hec, _, _, _, _, j1, fun y hy => ?_, ⟨fun n t e => ?_, fun y hy => ?_⟩, fun y hy1 hy2 hy3 => ?_⟩ ht) ⟨?_, j3, ?_⟩
    · by_cases q : y = 12 * v + e
      · subst q
        rw [upd1_s]
        have : wU r (iP v e 2) x (339 + 3 * (12 * v + e) + 2) = x := wU_s
        rw [this]
        exact ⟨q2, Nat.lt_of_lt_of_le hpz j4.1.1⟩
      · rw [upd1_n q]
        have : wU r (iP v e 2) x (339 + 3 * y + 2) = r (339 + 3 * y + 2) := wU_n (by unfold iP; omega)
        rw [this]
        rcases List.mem_append.mp hy with hy | hy
        · exact q1 y hy
        · exact absurd (List.mem_singleton.mp hy) q
    · rcases j2 n t e with ⟨n2, q⟩ | q
      · have := d6.1 n2 t q; exact ⟨this.1, by have := j4.1.1; omega⟩
      · exact ⟨by omega, (hokρ.ref e (by decide) (by decide)).1⟩
    · by_cases q : y = 12 * v + e
      · subst q; rw [upd1_s]; exact ⟨by omega, hbz⟩
      · rw [upd1_n q]
        rcases List.mem_append.mp hy with hy | hy
        · exact ⟨(d6.2 y hy).1, by have := (d6.2 y hy).2; have := j4.1.1; omega⟩
        · exact absurd (List.mem_singleton.mp hy) q
    · have hyk : y ∉ ks ∧ y ≠ 12 * v + e := ⟨fun q => hy3 (List.mem_append_left _ q), fun q => hy3 (List.mem_append_right _ (List.mem_singleton.mpr q))⟩
      have : wU r (iP v e 2) x (339 + 3 * y + 2) = r (339 + 3 * y + 2) := wU_n (by unfold iP; omega)
      rw [this]; exact d7 y hy1 hy2 hyk.1
    · have e1 : tl ρ dm = tl μ dm := by unfold tl; rw [sdm.2.1]
      exact j4.mono (fun a _ q => (own a q).1) (Nat.le_refl _) (by omega)
    · unfold tl; rw [sdm.2.1]; exact Nat.le_refl _
end ZJ
