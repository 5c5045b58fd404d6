set_option maxRecDepth 100000
/-! THE COMPONENT, 42: undo, save, restore -/
section ZJ
variable {G : ZG} {μ ν : ZM} {Q : Option ZV → ZM → Prop} {E : ZP → ZM → Prop} {x d da bf sb sba n K V D : Nat} {po : Nat → Nat} {Z : Nat → Prop} {σ : ZS} {z z1 z2 : Int32}
theorem zHs.w {X : Nat → Prop} {s : Nat} {r : Nat → Int32} (h : zHs μ X s r) {w : Nat} (hw : w ∈ [2, 3, 5, 6, 7, 8, 9, 10]) : zfi μ (fS w) s = r w := by
  obtain ⟨lo, hi, K, V, F, fg, el, ear, vl, var, ds, dm, sm, ea, va, ta, sa, h1, -⟩ := h
  exact h1.1.2.2.1 w hw
/-- a held state's copy -/
theorem C_xCopy {X : Nat → Prop} {s : Nat} {r : Nat → Int32} (hg7 : (zgS G 7).1 ≠ 0) (hs : zHs μ X s r) (hX : ∀ a, X a → a < zsz μ) (k : ∀ ν, zHs ν X (zsz μ) r → zOld (fun _ => False) μ ν → zok ν → zsz μ < zsz ν → zsz ν ≤ zsz μ + 630 → zsl ν ≤ zsl μ + 2060 → Q (some (vP (2, 0, zsz μ))) ν) : Call G Y_X2_copy [vP (2, 0, s)] μ Q E := by
  refine Call.zo fun hok _ => ?_
  obtain ⟨lo, hi, K, V, F, fg, el, ear, vl, var, ds, dm, sm, ea, va, ta, sa, b1, b2, b3, b4⟩ := hs
  obtain ⟨t1, t2, t3, -⟩ := b1.tg hok
  have hdt : (ztg μ dm).1 = 15 := by rw [(hok.ref b1.2.2.2.1.2.1 (by decide) (by decide)).2]
  refine Call.zq (C_sCopy b2 hg7 b1 (fun e he => (b3.1 e he).1.1) (fun v hv => (b3.2 v hv).1.1) fun σ1 el' ear' vl' var' ds' dm' sm' eb vb tb sb' c1 c2 c3 c4 c5 okσ _ => ?_)
  have o1 : zOld (fun _ => False) μ σ1 := zOld.cp c4 c5 hok hdt t3
  have T1 := c1.tls
  refine k σ1 ⟨zsz μ, zsz σ1, K, V, F, fg, el', ear', vl', var', ds', dm', sm', eb, vb, tb, sb', c1, Nat.le_refl _, ⟨fun e he => ?_, fun v hv => ?_⟩, fun a ha => ⟨Or.inl (hX a ha), (b4 a ha).2⟩⟩ o1 okσ c1.1.1.2.1 c5.2.1 (by have := c5.2.2.1; omega)
  · have q := ((b3.1 e he).kp (ν := σ1) (fun a ha hx => o1.2.1 a (by omega) id)).up (C := zsz σ1) (by have := o1.1.1; omega)
    rw [c2 e he]; exact q
  · have q := ((b3.2 v hv).kp (ν := σ1) (fun a ha hx => o1.2.1 a (by omega) id)).up (C := zsz σ1) (by have := o1.1.1; omega)
    rw [c3 v hv]; exact q
/-- another state, another history -/
theorem zXs.put {c e s hh' : Nat} {r' : Nat → Int32} {ps' : List ZP} {pa' : List (Nat → Int32)} (h : zXs G μ x d da bf sb sba n Z σ) (hok : zok μ) (g : zG (fun a => a = x ∨ a = d ∨ a = da) c e μ ν) (hr : ∀ f, f ≠ 0 → zfr ν f x = zfr μ f x) (hi : ∀ f, zfi ν f x = zfi μ f x) (h0 : zfr ν 0 x = (2, 0, s)) (hq : zDq ν d da 10 hh' ps') (hp : zPs μ (zXo x d da bf sb sba Z) ps' pa') (hl : pa'.length ≤ 8) (hs : zHs μ (zXo x d da bf sb sba Z) s r') : zXs G ν x d da bf sb sba n Z (r', aSv σ, pa', σ.2.2.2) ∧ zOld (zXw x d da bf sb sba) μ ν := by
  have hxt := h.xt hok
  obtain ⟨t1, t2, t3, t4, t5⟩ := h.tg hok
  have hne := h.ne hok
  obtain ⟨⟨h1, h2, h3, h4, h5, h6, h7⟩, hI, ⟨s0, hs0, hs1⟩, hv, -, ⟨b1, b2, b3⟩, ⟨e1, e2⟩, ho⟩ := id h
  have kO : zOld (zXw x d da bf sb sba) μ ν := zOld.of g hok (fun a ha q => hxt a ha q.le) (fun a _ q => q.imp id (fun q => q.imp id Or.inl))
  have KH := h.hk hok kO
  have sbf : zsame μ ν bf := g.same t3.2 (by omega)
  have ssb : zsame μ ν sb := g.same t4.2 (by omega)
  have ssba : zsame μ ν sba := g.same t5.2 (by omega)
  exact ⟨h.go hok kO (fun f hf => hr f (by omega)) ⟨s, h0, KH s r' hs⟩ (hv.kp (hr 1 (by decide)) KH) ⟨⟨hh', ps', hq, hp.kp KH⟩, hl⟩ ⟨b1, (hi 4).trans b2, fun j hj => ⟨(sbf.2.2.1 j).trans (b3 j hj).1, (b3 j hj).2⟩⟩ ⟨(hi 5).trans e1, (hi 6).trans e2⟩ (ho.kp ssb.c ssba.c), kO⟩
/-- another saved state -/
theorem zXs.sav {s : Nat} {r' : Nat → Int32} (h : zXs G μ x d da bf sb sba n Z σ) (hok : zok μ) (hs : zHs μ (zXo x d da bf sb sba Z) s r') : zXs G (zFr μ 1 x (2, 0, s)) x d da bf sb sba n Z (aR σ, some r', σ.2.2) ∧ zOld (zXw x d da bf sb sba) μ (zFr μ 1 x (2, 0, s)) := by
  have hxt := h.xt hok
  obtain ⟨t1, t2, t3, t4, t5⟩ := h.tg hok
  have hne := h.ne hok
  obtain ⟨⟨h1, h2, h3, h4, h5, h6, h7⟩, hI, ⟨s0, hs0, hs1⟩, hv, ⟨⟨hh, ps, hq, hp⟩, hl⟩, hb, he, ho⟩ := id h
  have g : zG (fun a => a = x) 0 0 μ (zFr μ 1 x (2, 0, s)) := zG.fr rfl
  have kO : zOld (zXw x d da bf sb sba) μ (zFr μ 1 x (2, 0, s)) := zOld.of g hok (fun a ha q => hxt a ha q.le) (fun a _ q => Or.inl q)
  have KH := h.hk hok kO
  refine ⟨h.go hok kO (fun f hf => ?_) ⟨s0, ?_, KH _ _ hs1⟩ ⟨s, ?_, KH _ _ hs⟩ ⟨⟨hh, ps, hq.kp (zsame_zFr (by omega) _) (zsame_zFr (by omega) _), hp.kp KH⟩, hl⟩ hb he (ho.kp (zsame_zFr (by omega) _).c (zsame_zFr (by omega) _).c), kO⟩
  · rw [zfr_zFr, if_neg (by omega)]
  · rw [zfr_zFr, if_neg (by omega)]; exact hs0
  · rw [zfr_zFr, if_pos ⟨rfl, rfl⟩]
theorem C_xUndo (h : zXs G μ x d da bf sb sba n Z σ) (kt : ∀ l r, aPa σ = l ++ [r] → zXe G x d da bf sb Z σ μ Q (r, aSv σ, l, σ.2.2.2) (vI (nI l.length))) (k1 : aPa σ = [] → zXt G x d da bf sb Z σ μ E σ 25) : Call G Y_X1_undo [vP (1, 0, x)] μ Q E := by
  refine Call.zo fun hok _ => ?_
  obtain ⟨t1, t2, t3, t4, t5⟩ := h.tg hok
  have hne := h.ne hok
  obtain ⟨⟨h1, h2, h3, -⟩, -, -, -, ⟨⟨hh, ps, hq, hp⟩, hl⟩, -⟩ := id h
  have hpl := hp.len
  refine S_X1_undo ⟨d, h3, C_dqEmpty hq (fun q => ⟨_, rfl, fun _ => ?_, fun t => absurd t (by decide)⟩) (fun q => ⟨_, rfl, fun t => absurd rfl t, fun _ => ?_⟩)⟩
  · refine S_X1_checkState ⟨fun t => absurd rfl t, fun _ => ⟨rfl, (k1 ?_).nw h hok⟩⟩
    rw [q] at hpl; exact List.length_eq_zero_iff.mp hpl.symm
  · rcases List.eq_nil_or_concat (aPa σ) with hn | ⟨l, r, hl'⟩
    · rw [hn] at hpl; exact absurd (List.length_eq_zero_iff.mp hpl) q
    · rw [List.concat_eq_append] at hl'
      rw [hl'] at hp hl
      obtain ⟨ps', s, rfl, hs, hp'⟩ := hp.last
      refine S_X1_checkState ⟨fun _ => ⟨rfl, d, h3, C_dqLast hq fun ν g hq1 => ⟨_, rfl, s, rfl, d, ?_, C_dqSize (hq1.kp (zsame_zFr (by omega) _) (zsame_zFr (by omega) _)) ⟨_, rfl, ?_⟩⟩⟩, fun t => absurd t (by decide)⟩
      · exact ((g.same h2 (by omega)).2.1 2).trans h3
      · rw [hp'.len]
        have gT : zG (fun a => a = x ∨ a = d ∨ a = da) 0 0 μ (zFr ν 0 x (2, 0, s)) := (g.mono (fun a _ q => Or.inr q) (Nat.le_refl _) (Nat.le_refl _)).tr (zG.fr (W := fun a => a = x ∨ a = d ∨ a = da) (f := 0) (v := (2, 0, s)) (Or.inl rfl))
        have sx := g.same h2 (show ¬ (x = d ∨ x = da) by omega)
        obtain ⟨y1, y2⟩ := h.put hok gT (fun f hf => by rw [zfr_zFr, if_neg (by omega)]; exact sx.2.1 f) (fun f => sx.1 f) (by rw [zfr_zFr, if_pos ⟨rfl, rfl⟩]) (hq1.kp (zsame_zFr (by omega) _) (zsame_zFr (by omega) _)) hp' (by rw [List.length_append] at hl; omega) hs
        exact kt l r hl' _ (zXd.of h hok y1 y2 rfl (by have := gT.2.1; omega) (by have := gT.2.2.1; omega))
theorem C_xSave (hG : zGk G) (h : zXs G μ x d da bf sb sba n Z σ) (kt : zXe G x d da bf sb Z σ μ Q (aR σ, some (aR σ), σ.2.2) (vI (aR σ 2))) : Call G Y_X1_save [vP (1, 0, x)] μ Q E := by
  refine Call.zo fun hok _ => ?_
  obtain ⟨-, -, ⟨s0, hs0, hs1⟩, -⟩ := id h
  refine S_X1_save ⟨s0, hs0, C_xCopy hG.1 hs1 (h.lt hok) fun ν c1 o1 okν c2 c3 c4 => ⟨_, rfl, _, rfl, ?_⟩⟩
  have x1 := h.kp hok (o1.mono (Y := Z) (fun _ _ q => q.elim))
  obtain ⟨-, -, ⟨s2, hs2, hs3⟩, -⟩ := id x1
  obtain ⟨y1, y2⟩ := x1.sav okν c1
  refine ⟨s2, hs2, _, hs3.w (w := 2) (by decide), kt _ (zXd.of h hok y1 ((o1.mono (Y := zXw x d da bf sb sba) (fun _ _ q => q.elim)).trans y2 (fun _ _ q => q)) rfl ?_ ?_)⟩
  · show zsz ν ≤ _; omega
  · show zsl ν ≤ _; omega
theorem C_xRestore (hG : zGk G) (h : zXs G μ x d da bf sb sba n Z σ) (kt : ∀ r, aSv σ = some r → zXe G x d da bf sb Z σ μ Q (r, some r, [], σ.2.2.2) (vI (r 2))) (k1 : aSv σ = none → zXt G x d da bf sb Z σ μ E σ 25) : Call G Y_X1_restore [vP (1, 0, x)] μ Q E := by
  refine Call.zo fun hok _ => ?_
  obtain ⟨-, -, -, hv, -⟩ := id h
  cases hc : aSv σ with
  | none =>
    rw [hc] at hv
    exact S_X1_restore ⟨_, hv, Or.inl ⟨rfl, S_X1_checkState ⟨fun t => absurd rfl t, fun _ => ⟨rfl, (k1 hc).nw h hok⟩⟩⟩⟩
  | some r =>
    rw [hc] at hv
    obtain ⟨s1, q1, q2⟩ := hv
    refine S_X1_restore ⟨_, q1, Or.inr ⟨s1, rfl, S_X1_checkState ⟨fun _ => ⟨rfl, _, q1, s1, rfl, C_xCopy hG.1 q2 (h.lt hok) fun ν c1 o1 okν c2 c3 c4 => ⟨_, rfl, _, rfl, ?_⟩⟩, fun t => absurd t (by decide)⟩⟩⟩
    have x1 := h.kp hok (o1.mono (Y := Z) (fun _ _ q => q.elim))
    obtain ⟨t1, t2, t3, t4, t5⟩ := x1.tg okν
    have hne := x1.ne okν
    obtain ⟨⟨h1, h2, h3, h4, h5, h6, h7⟩, -, -, -, ⟨⟨hh, ps, hq, hp⟩, hl⟩, -⟩ := id x1
    refine ⟨d, h3, C_dqClear (hq.kp (zsame_zFr (by omega) _) (zsame_zFr (by omega) _)) (by omega) (fun τ g hq' => ⟨rfl, ?_⟩) t1.2⟩
    have gT : zG (fun a => a = x ∨ a = d ∨ a = da) 0 0 ν τ := (zG.fr (W := fun a => a = x ∨ a = d ∨ a = da) (f := 0) (v := (2, 0, zsz μ)) (Or.inl rfl)).tr (g.mono (fun a _ q => Or.inr q) (Nat.le_refl _) (Nat.le_refl _))
    have sx := g.same h2 (show ¬ (x = d ∨ x = da) by omega)
    obtain ⟨y1, y2⟩ := x1.put okν gT (fun f hf => by rw [sx.2.1 f, zfr_zFr, if_neg (by omega)]) (fun f => sx.1 f) (by rw [sx.2.1 0, zfr_zFr, if_pos ⟨rfl, rfl⟩]) hq' (pa' := []) trivial (by decide) c1
    obtain ⟨-, -, ⟨s2, hs2, hs3⟩, -⟩ := id y1
    have e : (r, some r, [], σ.2.2.2) = ((r, aSv σ, [], σ.2.2.2) : ZS) := by rw [hc]
    refine ⟨s2, hs2, _, hs3.w (w := 2) (by decide), kt r hc _ ?_⟩
    rw [e]
    exact zXd.of h hok y1 ((o1.mono (Y := zXw x d da bf sb sba) (fun _ _ q => q.elim)).trans y2 (fun _ _ q => q)) rfl (by have := gT.2.1; omega) (by have := gT.2.2.1; omega)
end ZJ
