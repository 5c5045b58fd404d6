set_option maxRecDepth 100000
/-! THE COMPONENT, 17: a State's set of deserted pairs -/
section KP
variable {μ ρ : ZM} {lo hi s K V F fg el ear vl var ds dm sm : Nat} {ea va ta sa : Nat → Nat} {r r' : Nat → Int32}
/-- what writes to the set's own objects leave -/
theorem zSta.reD (h : zSta μ lo hi s r K V F fg el ear vl var ds dm sm ea va ta sa) (hok : zok μ) (hh : hi ≤ zsz μ) (hs : (ztg μ s).1 = 2) {ks : List Nat} {nd kp : Nat → Nat} {vl' : Nat → ZP} (d4 : zMp μ 17 dm ks nd kp vl') (d6 : zBh μ dm lo hi ks nd) {W : Nat → Prop} {c d : Nat} (g : zG W c d μ ρ) (hW : ∀ a, a < zsz μ → W a → zMw μ dm ks nd a)
    (hr : ∀ j, (∀ v e, v < 8 → e < 12 → j ≠ iP v e 1) → r' j = r j) :
    (zSD ρ lo (zsz ρ) ds dm K V r' → (∀ n n' t, zfr ρ 107 dm = (205, n, t) → ¬ zfr ρ 107 sm = (205, n', t)) → zSta ρ lo (zsz ρ) s r' K V F fg el ear vl var ds dm sm ea va ta sa) ∧ (∀ a, a < zsz μ → W a → zWl lo μ a) ∧ zsame μ ρ ds ∧ zsame μ ρ sm ∧ (∀ b, b < zsz μ → (ztg μ b).1 = 20 → zsame μ ρ b) := by
  have hK := h.1.2.1.2.2.2.1
  have hV := h.1.2.1.2.2.2.2.1
  obtain ⟨t1, t2, t3, t4, t5, t6, t7, t8, t9⟩ := h.tg hok
  have d1 := h.2.2.2.1.1
  have htd := h.2.2.2.2.2
  have hdm : dm < zsz μ := by omega
  have hsm : sm < zsz μ := by have := h.2.2.2.2.1.1; omega
  have hdmt : (ztg μ dm).1 = 15 := by rw [(hok.ref h.2.2.2.1.2.1 (by decide) (by decide)).2]
  obtain ⟨o1, o2, o3⟩ := d4.kn hok hdm (Or.inr rfl)
  have own : ∀ a, zMw μ dm ks nd a → zWl lo μ a ∧ ¬ zot (ztg μ a).1 ∧ ¬ (zvt (ztg μ a).1 ∨ ∃ n, zfr μ 107 sm = (205, n, a)) ∧ (ztg μ a).1 ≠ 13 ∧ (ztg μ a).1 ≠ 14 ∧ (ztg μ a).1 ≠ 20 := fun a ha => by
    rcases ha with q | ⟨n, q⟩ | ⟨y, hy, q⟩
    · rw [q]
      refine ⟨⟨d1.2.2.1, by rw [hdmt]; unfold zim; omega⟩, by rw [hdmt]; unfold zot; omega, ?_, by omega, by omega, by omega⟩
      rintro (q2 | ⟨n, q2⟩)
      · rw [hdmt] at q2; unfold zvt at q2; omega
      · have := (hok.ref q2 (by decide) (by decide)).2; rw [this] at hdmt; omega
    · have t := o2 n a q
      refine ⟨⟨(d6.1 n a q).1, by rw [t]; unfold zim; omega⟩, by rw [t]; unfold zot; omega, ?_, by omega, by omega, by omega⟩
      rintro (q2 | ⟨n2, q2⟩)
      · rw [t] at q2; unfold zvt at q2; omega
      · exact htd n n2 a q q2
    · have t := (o3 y hy).1
      rw [q]
      refine ⟨⟨(d6.2 y hy).1, by rw [t]; unfold zim; omega⟩, by rw [t]; unfold zot; omega, ?_, by omega, by omega, by omega⟩
      rintro (q2 | ⟨n2, q2⟩)
      · rw [t] at q2; unfold zvt at q2; omega
      · have := (hok.ref q2 (by decide) (by decide)).2; rw [this] at t; omega
  refine ⟨fun hD ht => ?_, fun a ha w => (own a (hW a ha w)).1, g.same (by omega) (fun w => (own _ (hW _ (by omega) w)).2.2.2.1 t2), g.same hsm (fun w => (own _ (hW _ hsm w)).2.2.2.2.1 t3), fun b hb e => g.same hb (fun w => (own _ (hW _ hb w)).2.2.2.2.2 e)⟩
  have hhρ : hi ≤ zsz ρ := Nat.le_trans hh g.1.1
  obtain ⟨p1, p2, p3⟩ := h.ot (ν := ρ) (r' := r') hok hh hs (fun a ha q => g.same ha (fun w => (own a (hW a ha w)).2.1 q)) (fun j hj => hr j (fun v e _ _ => by unfold iP; omega)) (fun v e => hr _ (fun v e _ _ => by unfold iP; omega))
  have p4 := h.2.2.2.2.1.kt' (ν := ρ) (r' := r') hok hh t3 g.1.1 (fun a ha q => g.same ha (fun w => (own a (hW a ha w)).2.2.1 q)) hV (fun x hx => hr _ (fun v e _ _ => by unfold iP; omega))
  obtain ⟨a1, a2⟩ := p1
  obtain ⟨b1, b2, b3, b4⟩ := p2
  obtain ⟨c1, c2, c3, c4⟩ := p3
  obtain ⟨e1, e3, ks', nd', kp', vl'', e4, e5, e6, e7⟩ := p4
  exact ⟨⟨by omega, a2⟩, ⟨by omega, b2, fun e he => ⟨(b3 e he).1, by have := (b3 e he).2; omega⟩, b4⟩, ⟨by omega, c2, fun v hv => by have := c3 v hv; omega, c4⟩, hD, ⟨by omega, e3, ks', nd', kp', vl'', e4, e5, e6.up hhρ, e7⟩, ht⟩
theorem sGone_at (K : Nat) (hK : K ≤ 12) (r : Nat → Int32) : ∀ V, V ≤ 8 → (∀ v e, v < V → e < K → sGoneV K r V (iP v e 1) = 0) ∧ ∀ j, (∀ v e, v < V → e < K → j ≠ iP v e 1) → sGoneV K r V j = r j := by
  have row : ∀ (v : Nat) (n : Nat) (q : Nat → Int32), n ≤ 12 → (∀ e, e < n → sGoneE v q n (iP v e 1) = 0) ∧ ∀ j, (∀ e, e < n → j ≠ iP v e 1) → sGoneE v q n j = q j := by
    intro v n q
    induction n with
    | zero => intro _; exact ⟨fun e he => by omega, fun j _ => rfl⟩
    | succ n ih =>
      intro hn
      obtain ⟨i1, i2⟩ := ih (by omega)
      refine ⟨fun e he => ?_, fun j hj => ?_⟩
      · show wU (sGoneE v q n) (iP v n 1) 0 (iP v e 1) = 0
        by_cases h : e = n
        · subst h; exact wU_s
        · rw [wU_n (by unfold iP; omega)]; exact i1 e (by omega)
      · show wU (sGoneE v q n) (iP v n 1) 0 j = q j
        rw [wU_n (hj n (by omega))]; exact i2 j fun e he => hj e (by omega)
  intro V
  induction V with
  | zero => intro _; exact ⟨fun v e hv => by omega, fun j _ => rfl⟩
  | succ V ih =>
    intro hV
    obtain ⟨i1, i2⟩ := ih (by omega)
    obtain ⟨r1, r2⟩ := row V K (sGoneV K r V) hK
    refine ⟨fun v e hv he => ?_, fun j hj => ?_⟩
    · show sGoneE V (sGoneV K r V) K (iP v e 1) = 0
      by_cases h : v = V
      · subst h; exact r1 e he
      · rw [r2 _ (fun e' he' => by unfold iP; omega)]; exact i1 v e (by omega) he
    · show sGoneE V (sGoneV K r V) K j = r j
      rw [r2 j (fun e he => hj V e (by omega) he)]; exact i2 j fun v e hv he => hj v e (by omega) he
end KP
section ZJ
variable {G : ZG} {μ : ZM} {Q : Option ZV → ZM → Prop} {E : ZP → ZM → Prop} {lo hi s K V F fg el ear vl var ds dm sm : Nat} {ea va ta sa : Nat → Nat} {r : Nat → Int32} {z1 z2 z3 : Int32}
theorem C_sDesClear (hok : zok μ) (hh : hi ≤ zsz μ) (hs : (ztg μ s).1 = 2) (h : zSta μ lo hi s r K V F fg el ear vl var ds dm sm ea va ta sa)
    (k : ∀ ρ, zSta ρ lo (zsz ρ) s (sGoneV K r V) K V F fg el ear vl var ds dm sm ea va ta sa → zGt lo 0 0 sm dm μ ρ → Q none ρ) : Call G Y_J19_clear [vP (13, 0, ds)] μ Q E := by
  have hK := h.1.2.1.2.2.2.1
  have hV := h.1.2.1.2.2.2.2.1
  obtain ⟨d1, d2, d3, ks, nd, kp, vl', d4, d5, d6, d7⟩ := h.2.2.2.1
  obtain ⟨g1, g2⟩ := sGone_at K hK r V hV
  refine C_lsClear d2 d4 fun ρ j1 j2 j3 => ?_
  obtain ⟨p1, p2, p3, p4, p5⟩ := h.reD (ρ := ρ) (r' := sGoneV K r V) hok hh hs d4 d6 j2 (fun a _ q => q) (fun j hj => g2 j fun v e hv he => hj v e (by omega) (by omega))
  have e107 : zfr ρ 107 dm = zfr μ 107 dm := j3 _ _ (by decide) (by decide)
  have hz := j2.1.1
  refine k ρ (p1 ⟨by omega, (p3.2.1 _).trans d2, d3.kp (j3 _ _ (by decide) (by decide)) (fun b hb => ?_), [], nd, kp, vl', j1 nd kp vl', fun x hx => (by cases hx), ⟨fun n t e => ?_, fun x hx => (by cases hx)⟩, fun x hx1 hx2 => ?_⟩ (fun n n' t e1 e2 => h.2.2.2.2.2 n n' t (e107.symm.trans e1) ((p4.2.1 _).symm.trans e2))) ⟨j2.mono (fun a ha q => p2 a ha q) (Nat.le_refl _) (Nat.zero_le _), ?_, ?_⟩
  · have hb2 := hok.ref hb (by decide) (by decide)
    have := p5 b hb2.1 (by rw [hb2.2])
    exact ⟨this.2.1 _, this.1 _⟩
  · have := d6.1 n t (e107.symm.trans e); have := j2.1.1; omega
  · have e0 := g1 (x / 12) (x % 12) hx1 hx2
    have : iP (x / 12) (x % 12) 1 = 339 + 3 * x + 1 := by unfold iP; omega
    rw [this] at e0
    rw [e0]
    exact ⟨fun q => (by cases q), fun q => absurd q (by decide)⟩
  · unfold tl; rw [p4.2.1]; exact Nat.le_refl _
  · unfold tl; rw [e107]; exact Nat.le_refl _
theorem C_sDesAdd (v e rp : Nat) (hv : v < V) (he : e < K) (h92 : zfi μ 92 rp = nI v) (h93 : zfi μ 93 rp = nI e) (hg : (zgS G 7).1 ≠ 0) (hok : zok μ) (hh : hi ≤ zsz μ) (hs : (ztg μ s).1 = 2) (hlo : lo ≤ zsz μ) (h : zSta μ lo hi s r K V F fg el ear vl var ds dm sm ea va ta sa)
    (k : ∀ ρ x, zSta ρ lo (zsz ρ) s (wU r (iP v e 1) 1) K V F fg el ear vl var ds dm sm ea va ta sa → zGt lo 3 6 sm dm μ ρ → Q (some (vI x)) ρ) : Call G Y_J19_add [vP (13, 0, ds), vP (9, 0, rp)] μ Q E := by
  have hK := h.1.2.1.2.2.2.1
  have hV := h.1.2.1.2.2.2.2.1
  obtain ⟨d1, d2, d3, ks, nd, kp, vl', d4, d5, d6, d7⟩ := h.2.2.2.1
  have htd := h.2.2.2.2.2
  have hx : (12 * v + e) / 12 = v ∧ (12 * v + e) % 12 = e := by omega
  have hdm : dm < zsz μ := by omega
  have hr : ∀ j, (∀ v e, v < 8 → e < 12 → j ≠ iP v e 1) → wU r (iP v e 1) 1 j = r j := fun j hj => wU_n (hj v e (by omega) (by omega))
  have hiff : ∀ y, y ≠ 12 * v + e → wU r (iP v e 1) 1 (339 + 3 * y + 1) = r (339 + 3 * y + 1) := fun y hy => wU_n (by unfold iP; omega)
  have hself : wU r (iP v e 1) 1 (339 + 3 * (12 * v + e) + 1) = 1 := wU_s
  refine Call.zq (C_lsAdd (k := 12 * v + e) d2 hdm d4 (by omega) (by rw [hx.1]; exact h92) (by rw [hx.2]; exact h93) (fun y hy => (d5 y hy).1) (fun hk j1 _ _ => ?_) (fun hk ρ b hb j1 j2 jc j3 j4 hokρ _ => ?_))
  · have g : zG (fun a => a = nd (12 * v + e)) 0 0 μ (zFr μ 119 (nd (12 * v + e)) (zgS G 7)) := zG.fr rfl
    obtain ⟨p1, p2, p3, p4, p5⟩ := h.reD (r' := wU r (iP v e 1) 1) hok hh hs d4 d6 g (fun a _ q => Or.inr (Or.inr ⟨_, hk, q⟩)) hr
    have r107 : ∀ f a, f ≠ 119 → zfr (zFr μ 119 (nd (12 * v + e)) (zgS G 7)) f a = zfr μ f a := fun f a hf => by rw [zfr_zFr, if_neg (fun e => hf e.1)]
    refine k _ _ (p1 ⟨by show _ ∧ _ < zsz μ ∧ _ ∧ _ < zsz μ; omega, (p3.2.1 _).trans d2, d3.kp (r107 _ _ (by decide)) (fun b hb => ⟨r107 _ _ (by decide), rfl⟩), ks, nd, kp, upd1 vl' (12 * v + e) (zgS G 7), j1, fun y hy => ?_, ⟨fun n t e => ?_, fun y hy => ⟨(d6.2 y hy).1, by have := (d6.2 y hy).2; show _ < zsz μ; omega⟩⟩, fun y hy1 hy2 => ?_⟩ (fun n n' t e1 e2 => htd n n' t ((r107 _ _ (by decide)).symm.trans e1) ((r107 _ _ (by decide)).symm.trans e2))) ⟨g.mono (fun a ha q => p2 a ha q) (by omega) (by omega), ?_, ?_⟩
    · by_cases q : y = 12 * v + e
      · subst q; rw [upd1_s, hx.1, hx.2]; exact ⟨hg, hv, he⟩
      · rw [upd1_n q]; exact d5 y hy
    · have := d6.1 n t ((r107 _ _ (by decide)).symm.trans e); exact ⟨this.1, by show _ < zsz μ; omega⟩
    · by_cases q : y = 12 * v + e
      · subst q; rw [hself]; exact ⟨fun _ => rfl, fun _ => hk⟩
      · rw [hiff y q]; exact d7 y hy1 hy2
    · unfold tl; rw [r107 _ _ (by decide)]; exact Nat.le_refl _
    · unfold tl; rw [r107 _ _ (by decide)]; exact Nat.le_refl _
  · obtain ⟨p1, p2, p3, p4, p5⟩ := h.reD (r' := wU r (iP v e 1) 1) hok hh hs d4 d6 j4 (fun a _ q => q) hr
    have hbz : b < zsz ρ := by have := (j1.nd.2 (12 * v + e) (List.mem_append_right _ (List.mem_singleton.mpr rfl))).2.1; rw [upd1_s] at this; exact this
    have hz := j4.1.1
    refine k _ _ (p1 ⟨by omega, (p3.2.1 _).trans d2, d3.kp jc.1 (fun b hb => ?_), _, _, _, _, j1, fun y hy => ?_, ⟨fun n t e => ?_, fun y hy => ?_⟩, fun y hy1 hy2 => ?_⟩ (fun n n' t e1 e2 => ?_)) ⟨j4.mono (fun a ha q => p2 a ha q) (by omega) ?_, ?_, j3⟩
    · have hb2 := hok.ref hb (by decide) (by decide)
      have := p5 b hb2.1 (by rw [hb2.2])
      exact ⟨this.2.1 _, this.1 _⟩
    · by_cases q : y = 12 * v + e
      · subst q; rw [upd1_s, hx.1, hx.2]; exact ⟨hg, hv, he⟩
      · rw [upd1_n q]
        rcases List.mem_append.mp hy with hy | hy
        · exact d5 y hy
        · exact absurd (List.mem_singleton.mp hy) q
    · rcases j2 n t e with ⟨n2, q⟩ | q
      · have := d6.1 n2 t q; exact ⟨this.1, by omega⟩
      · exact ⟨by omega, (hokρ.ref e (by decide) (by decide)).1⟩
    · by_cases q : y = 12 * v + e
      · subst q; rw [upd1_s]; exact ⟨by omega, hbz⟩
      · rw [upd1_n q]
        rcases List.mem_append.mp hy with hy | hy
        · exact ⟨(d6.2 y hy).1, by have := (d6.2 y hy).2; omega⟩
        · exact absurd (List.mem_singleton.mp hy) q
    · by_cases q : y = 12 * v + e
      · subst q; rw [hself]; exact ⟨fun _ => rfl, fun _ => List.mem_append_right _ (List.mem_singleton.mpr rfl)⟩
      · rw [hiff y q, ← d7 y hy1 hy2, List.mem_append, List.mem_singleton]
        exact ⟨fun q2 => q2.resolve_right q, Or.inl⟩
    · rw [p4.2.1] at e2
      rcases j2 n t e1 with ⟨n2, q⟩ | q
      · exact htd n2 n' t q e2
      · have := (hok.ref e2 (by decide) (by decide)).1; omega
    · omega
    · unfold tl; rw [p4.2.1]; exact Nat.le_refl _
end ZJ
