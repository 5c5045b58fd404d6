set_option maxRecDepth 100000
/-! THE COMPONENT, 28: a contract ends, by the row; a season starts -/
theorem sRg.sm {r : Nat → Int32} {K V : Nat} (h : sRg r K V) : zSm K V r := by
  obtain ⟨h1, h2, -⟩ := h
  have cmp : ∀ a b : Nat, a ≤ 99 → b ≤ 99 → (0 < nI a - nI b ↔ nI b < nI a) := fun a b ha hb => by
    constructor
    · intro q
      apply Decidable.byContradiction
      intro hn
      have hle : a ≤ b := by
        apply Decidable.byContradiction
        intro h; exact hn (nI_lt (by omega) (by omega))
      rcases Nat.eq_or_lt_of_le hle with e | e
      · subst e; rw [Int32.sub_self] at q; exact absurd q (by decide)
      · have : nI b - nI a = nI (b - a) := pk_sub (by omega)
        have e2 : nI a - nI b = 0 - nI (b - a) := by rw [← this, Int32.zero_sub, Int32.neg_sub]
        rw [e2] at q
        have hd : ∀ n : Fin 100, ¬ 0 < 0 - nI n.val := by decide
        exact hd ⟨b - a, by omega⟩ q
    · intro q
      have hlt := (nI_ltI (by omega) (by omega)).mp q
      rw [pk_sub (by omega)]
      exact nI_lt (a := 0) (by omega) (by omega)
  refine ⟨fun v o hv ho => ?_, fun v e o hv he ho => ?_⟩
  · obtain ⟨-, ⟨x, e1, -, x2⟩, -⟩ := h2 v hv
    obtain ⟨-, ⟨y, e2, -, y2⟩, -⟩ := h2 o ho
    rw [e1, e2]; exact cmp x y x2 y2
  · -- scores are small
    have sc : ∀ e, e < K → ∃ m : Fin 200, sSeen r v e = nI m.val - 60 := fun e he => by
      obtain ⟨⟨x, e1, -, x2⟩, ⟨y, e2, -, y2⟩, -⟩ := h1 e he
      obtain ⟨⟨w, e3, -, w2⟩, -⟩ := h2 v hv
      unfold sSeen sTrue
      rw [e1, e2, e3]
      split
      · have ha : ∀ a b : Fin 10, ∃ d : Fin 10, sAbs (nI a.val - nI b.val) = nI d.val := by decide
        have hb : ∀ a d : Fin 10, ∃ m : Fin 200, 10 * nI a.val - 4 * nI d.val = nI m.val - 60 := by
          intro a d
          refine ⟨⟨10 * a.val + 60 - 4 * d.val, by omega⟩, ?_⟩
          have hd : ∀ a d : Fin 10, 10 * nI a.val - 4 * nI d.val = nI (10 * a.val + 60 - 4 * d.val) - 60 := by decide
          exact hd a d
        obtain ⟨d, ed⟩ := ha ⟨x, by omega⟩ ⟨w, by omega⟩
        dsimp only at ed
        rw [ed]
        exact hb ⟨y, by omega⟩ d
      · exact ⟨90, by decide⟩
    obtain ⟨a, ea⟩ := sc e he
    obtain ⟨b, eb⟩ := sc o ho
    rw [ea, eb]
    have t : ∀ m : Fin 200, (nI m.val - 60).toInt = (m.val : Int) - 60 := by decide
    have e0 : nI a.val - 60 - (nI b.val - 60) = nI a.val - nI b.val := by
      rw [Int32.sub_sub, Int32.add_comm, Int32.sub_add_cancel]
    rw [e0]
    have t2 : nI b.val - 60 < nI a.val - 60 ↔ b.val < a.val := by
      rw [Int32.lt_iff_toInt_lt, t, t]; omega
    rw [t2]
    constructor
    · intro q
      apply Decidable.byContradiction
      intro hn
      have hle : a.val ≤ b.val := by omega
      rcases Nat.eq_or_lt_of_le hle with e | e
      · rw [e, Int32.sub_self] at q; exact absurd q (by decide)
      · have h3 : nI b.val - nI a.val = nI (b.val - a.val) := pk_sub (by omega)
        have e2 : nI a.val - nI b.val = 0 - nI (b.val - a.val) := by rw [← h3, Int32.zero_sub, Int32.neg_sub]
        rw [e2] at q
        have hd : ∀ n : Fin 200, ¬ 0 < 0 - nI n.val := by decide
        exact hd ⟨b.val - a.val, by omega⟩ q
    · intro q
      rw [pk_sub (by omega)]
      exact nI_lt (a := 0) (by omega) (by omega)
section ZJ
variable {G : ZG} {μ : ZM} {Q : Option ZV → ZM → Prop} {E : ZP → ZM → Prop} {lo hi s K V F fg el ear vl var ds dm sm : Nat} {ea va ta sa : Nat → Nat} {r : Nat → Int32} {z1 z2 z3 : Int32}
theorem sW.mem {po : Nat → Nat} {B e : Nat} (hw : sW r K V po B) (he : e < K) : zMem r V e := by
  obtain ⟨sl, hs⟩ := hw.2.2.2.2.1
  have hK := hw.1.1
  rcases hs.emp (e := e) (by omega) with ⟨q, -⟩ | ⟨v, hv, hvV, hm, q⟩
  · exact Or.inl q
  · obtain ⟨b1, b2, b3, b4, -⟩ := hs.1 v hv
    exact Or.inr ⟨v, _, hvV, q, b1, by omega, (hs.place hK hv hm).2.2⟩
theorem C_sEndW (e : Nat) {po : Nat → Nat} {B : Nat} (h1 : z1 = nI e) (he : e < K) (hw : sW r K V po B) (hc : 0 < wE r e 13) (hh : hi ≤ zsz μ) (h : zSta μ lo hi s r K V F fg el ear vl var ds dm sm ea va ta sa)
    (k : ∀ ν, zSta ν lo hi s (sEnd r e) K V F fg el ear vl var ds dm sm ea va ta sa → zG (zWl lo μ) 0 0 μ ν → zsz ν = zsz μ → zfr ν = zfr μ → Q (some (vI (wE r e 13 - 1))) ν) : Call G Y_X2_end [vP (2, 0, s), vI z1] μ Q E := by
  obtain ⟨sl, hs⟩ := hw.2.2.2.2.1
  have hK := hw.1.1
  rcases hs.emp (e := e) (by omega) with ⟨q, -⟩ | ⟨v, hv, hvV, hm, q⟩
  · rw [q] at hc; exact absurd hc (by decide)
  · obtain ⟨b1, b2, b3, b4, -⟩ := hs.1 v hv
    rw [sEnd_eq hs hv hm] at k
    have e1 : wE r e 13 - 1 = nI v := by rw [q, nI_pred]
    rw [e1] at k
    exact C_sEnd v e (sl v).length h1 hvV he e1 b1 (by omega) (hs.place hK hv hm).2.2 hh h k
theorem C_sSeason {po : Nat → Nat} {B : Nat} (hw : sW r K V po B) (hsm : zSm K V r) (hh : hi ≤ zsz μ) (hI : zIc G μ) (h : zSta μ lo hi s r K V F fg el ear vl var ds dm sm ea va ta sa)
    (k : ∀ ρ, zSta ρ lo (zsz ρ) s (sSeason r K V) K V F fg el ear vl var ds dm sm ea va ta sa → zGt lo 10 374 sm dm μ ρ → zIc G ρ → Q none ρ) : Call G Y_X2_startSeason [vP (2, 0, s)] μ Q E := by
  have hK := h.1.2.1.2.2.2.1
  have hV := h.1.2.1.2.2.2.2.1
  refine Call.zo fun hok hargs => ?_
  obtain ⟨hs2, hsz⟩ := tg_arg hargs (by decide) (by decide)
  have loop : ∀ (d e : Nat) (ν : ZM), e + d = K → zSta ν lo hi s (sEndAll r e) K V F fg el ear vl var ds dm sm ea va ta sa → zG (zWl lo μ) 0 0 μ ν → zsz ν = zsz μ → zfr ν = zfr μ → zIc G ν → Wp G Y_X2_startSeason 2 [(0, vP (2, 0, s)), (1, vI (nI e))] [] ν Q E := by
    intro d
    induction d with
    | zero =>
      intro e ν hed hν hg hz hf hIν
      have : e = K := by omega
      subst this
      obtain ⟨w1, w2⟩ := sEndAll_ok hw e hK
      obtain ⟨w3, w4⟩ := sGoneV_ok (r := sEndAll r e) hK V hV
      have w5 := w2.lo w3 w4
      obtain ⟨g1, -⟩ := sGone_at e hK (sEndAll r e) V hV
      refine Wp.zo fun hokν => B_X2_startSeason_2 ⟨_, hν.1.2.2.2.1.2.1, C_alSize hν.2.1.2.1 ⟨_, rfl, fun _ => ⟨_, hν.1.2.2.2.1.2.2.2.1, ?_⟩, fun q => absurd q (nI_nlt (Nat.le_refl _) (by omega))⟩⟩
      refine Call.zq (C_sDesClear hokν (by omega) (by rw [hg.1.2.2 s hsz]; exact hs2) hν fun ρ hρ gρ hokρ _ => ⟨rfl, ?_⟩)
      have hIρ := hIν.wl hokν gρ.1
      refine C_sFair 0 (Or.inr ⟨rfl, fun v e' hv he' q => ?_⟩) w5 ((hsm.cg w1 hK hV).cg w3 hK hV) (Nat.le_refl _) hIρ hρ fun σ hσ gσ hIσ => ⟨_, rfl, k σ (hσ.up gσ.1.1.1) ((((zGt.of (sm := sm) (dm := dm) hg hf).tr gρ).tr gσ).mo (by omega) (by omega)) hIσ⟩
      have := g1 v e' hv he'
      unfold wP at q
      unfold iP at this
      rw [this] at q
      exact absurd q (by decide)
    | succ d ih =>
      intro e ν hed hν hg hz hf hIν
      have heK : e < K := by omega
      obtain ⟨w1, w2⟩ := sEndAll_ok hw e (by omega)
      have step : sEndAll r (e + 1) = if 0 < wE (sEndAll r e) e 13 then sEnd (sEndAll r e) e else sEndAll r e := rfl
      refine Wp.zo fun hokν => B_X2_startSeason_2 ⟨_, hν.1.2.2.2.1.2.1, C_alSize hν.2.1.2.1 ⟨_, rfl, fun q => absurd (nI_lt heK (by omega)) q, fun _ => C_sEcho e rfl heK hν ⟨_, rfl, _, rfl, _, hν.eE heK 13 (by decide), fun q => ?_, fun q => ?_⟩⟩⟩
      · have hpos : 0 < wE (sEndAll r e) e 13 := by
          rcases w2.mem heK with q2 | ⟨v, n, hv, q2, -⟩
          · exact absurd (by rw [q2]; rfl) q
          · rw [q2]; exact nI_lt (a := 0) (by omega) (by omega)
        refine C_sEndW e rfl heK w2 hpos (by omega) hν fun ρ k1 k2 k3 k4 => ⟨_, rfl, ?_⟩
        rw [if_pos hpos] at step
        rw [← step] at k1
        rw [nI_1]
        exact ih (e + 1) ρ (by omega) k1 (zG.wl hg k2) (k3.trans hz) (k4.trans hf) (hIν.wl hokν k2)
      · have hneg : ¬ 0 < wE (sEndAll r e) e 13 := by
          rcases w2.mem heK with q2 | ⟨v, n, hv, q2, -⟩
          · rw [q2]; decide
          · rw [q2, show oE 13 = 1 from rfl, nI_pred] at q
            exact absurd (by rw [q]; decide) (nI_pos (n := v) (by omega))
        rw [if_neg hneg] at step
        rw [nI_1]
        exact ih (e + 1) ν (by omega) (by rw [step]; exact hν) hg hz hf hIν
  exact S_X2_startSeason (loop K 0 μ (by omega) h ((zG.rf _ _).mono (fun _ _ q => q) (Nat.le_refl _) (Nat.le_refl _)) rfl rfl hI)
end ZJ
