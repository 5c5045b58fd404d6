set_option maxRecDepth 100000
/-! THE COMPONENT, 26: a Matching's result, the whole -/
section ZJ
variable {G : ZG} {μ : ZM} {Q : Option ZV → ZM → Prop} {E : ZP → ZM → Prop} {lo hi s K V F fg el ear vl var ds dm sm M as ab al aw ak ac : Nat} {ea va ta sa : Nat → Nat} {r rr : Nat → Int32}
theorem L_res120 {rz : Nat} (hi' : hi ≤ rz) (hrz : rz < zsz μ) (hrt : (ztg μ rz).1 = 200) (hMz : M < rz) (hK12 : K ≤ 12) (hm : zMt μ M s K V as ab al aw ak ac rr)
    (Kc : ∀ ρ, zSta ρ lo hi s r K V F fg el ear vl var ds dm sm ea va ta sa → (∀ e, e < K → zai ρ rz e = wE r e 13 - 1) → zG (fun a => a = rz) 0 0 μ ρ → Wp G Y_X8_result 150 [(0, vP (8, 0, M)), (2, vP (200, K, rz)), (3, vI 0)] [] ρ Q E) :
    ∀ (c e : Nat) (ν : ZM), e + c = K → zSta ν lo hi s r K V F fg el ear vl var ds dm sm ea va ta sa → (∀ e', e' < e → zai ν rz e' = wE r e' 13 - 1) → zG (fun a => a = rz) 0 0 μ ν → Wp G Y_X8_result 120 [(0, vP (8, 0, M)), (2, vP (200, K, rz)), (3, vI (nI e))] [] ν Q E := by
  intro c
  induction c with
  | zero =>
    intro e ν he h hr hg
    have : e = K := by omega
    subst this
    have kM := hg.same (a := M) (by omega) (by omega)
    exact B_X8_result_120 ⟨_, (kM.1 _).trans hm.1.2.1, fun _ => Kc ν h hr hg, fun q => absurd q (nI_nlt (Nat.le_refl _) (by omega))⟩
  | succ c ih =>
    intro e ν he h hr hg
    have heK : e < K := by omega
    have kM := hg.same (a := M) (by omega) (by omega)
    have hz := hg.1.1
    refine Wp.zo fun hok => B_X8_result_120 ⟨_, (kM.1 _).trans hm.1.2.1, fun q => absurd (nI_lt heK (by omega)) q, fun _ => ⟨_, (kM.2.1 _).trans hm.1.1, C_sEcho e rfl heK h ⟨_, rfl, _, rfl, _, h.eE heK 13 (by decide), e, zix.eq rfl heK (by omega), ?_⟩⟩⟩
    rw [nI_1]
    have g1 : zG (fun a => a = rz) 0 0 ν (zAi ν rz e (wE r e 13 - oE 13)) := zG.ai rfl
    refine ih (e + 1) _ (by omega) (h.far hok (by omega) g1 (fun a ha q => by rw [q, hg.1.2.2 rz hrz, hrt]; exact ⟨hi', by unfold zim; omega⟩)) (fun e' he' => ?_) (hg.tr g1)
    rw [zai_zAi]
    by_cases q : e' = e
    · rw [if_pos ⟨rfl, q⟩, q]; rfl
    · rw [if_neg (fun q2 => q q2.2)]; exact hr e' (by omega)
theorem C_mResult (hrr : ∀ j, (∀ v, v < 8 → j ≠ 203 + 17 * v + 9) → rr j = r j) (hsm : zSm K V rr) (hfr : ∀ v, v < V → wV r v 8 - wV r v 13 = nI (sPosts rr v) ∧ sPosts rr v ≤ 3) (hemp : ∀ e, e < K → wE r e 13 = 0 ∨ 0 < wE r e 13)
    (hdis : ∀ e v w, v < V → w < V → e ∈ sRun rr V 300 (sFree rr K) (fun _ _ => false) (fun _ => []) v → e ∈ sRun rr V 300 (sFree rr K) (fun _ _ => false) (fun _ => []) w → v = w)
    (hd : zAd as ab al aw ak ac) (hM : hi ≤ M) (hMa : M < as ∧ M < ab ∧ M < al ∧ M < aw ∧ M < ak ∧ M < ac) (haz : as < zsz μ ∧ ab < zsz μ ∧ al < zsz μ ∧ aw < zsz μ ∧ ak < zsz μ ∧ ac < zsz μ)
    (h : zSta μ lo hi s r K V F fg el ear vl var ds dm sm ea va ta sa) (hm : zMt μ M s K V as ab al aw ak ac rr) (hI : zIc G μ)
    (Kc : ∀ ρ rz, zSta ρ lo hi s r K V F fg el ear vl var ds dm sm ea va ta sa → zMt ρ M s K V as ab al aw ak ac rr → zIc G ρ → zRes ρ rz K V r (sRun rr V 300 (sFree rr K) (fun _ _ => false) (fun _ => [])) → zG (fun a => a = al ∨ a = ak ∨ a = ac) 3 29 μ ρ → zsz μ ≤ rz → rz < zsz ρ → (ztg ρ rz).1 = 200 → Q (some (vP (200, K, rz))) ρ) : Call G Y_X8_result [vP (8, 0, M)] μ Q E := by
  have hK := h.1.2.1.2.2.2.1
  have hV := h.1.2.1.2.2.2.2.1
  obtain ⟨⟨d1, d2, d3, d4, d5, d6⟩, ⟨e1, e2, e3, e4, e5⟩, ⟨e6, e7, e8, e9⟩⟩ := id hd
  refine S_X8_result (Call.zq (S_X8_open (L_open (μ := μ) hrr hd ⟨hM, hMa.2.2.1, hMa.2.2.2.2.2⟩ hK hV (fun ν1 h1 hm1 hI1 hc1 hk1 g1 => fun hok1 _ => ⟨rfl, ?_⟩) (by omega) V 0 μ (by omega) h hm hI (fun v' e' _ _ q => absurd q (Nat.not_lt_zero _)) (fun v' q => absurd q (Nat.not_lt_zero _)) (zG.rf _ _))))
  have hz1 := g1.1.1
  have zN0 := Nat.le_refl (zsz ν1)
  refine Call.zo fun hokN _ => Call.zq (C_dqInit (c := 13) rfl (by decide) (by decide) hokN (Nat.lt_succ_self _) ?_ ?_ fun ν2 g2 q2 z2 hok2 _ => ⟨rfl, ?_⟩)
  · show zfi ν1 102 (zsz ν1) = 0; exact hok1.1 _ _ zN0
  · show zfi ν1 103 (zsz ν1) = 0; exact hok1.1 _ _ zN0
  have gF : zG (fun _ => False) (1 + (1)) (3 + (13 + 1)) ν1 ν2 := zG.trN (W := fun _ => False) (zG.nw (t := 12) (n := 0) (k := 3)) (g2.mono (fun a _ q => Or.inr (by rw [q]; exact Nat.le_refl _)) (Nat.le_refl _) (Nat.le_refl _))
  have S2 : ∀ a, a < zsz ν1 → zsame ν1 ν2 a := fun a ha => gF.same ha id
  have eN : zsz (zNew ν1 12 0 3) = zsz ν1 + 1 := rfl
  have htd : (ztg ν2 (zsz ν1)).1 = 12 := by
    rw [g2.1.2.2 (zsz ν1) (by rw [eN]; omega), ztg_zNew, if_pos rfl]
  have ho : zAo hi M (zsz ν1) (zsz ν1 + 1) as ab al aw ak ac := ⟨hM, hMa, by omega, Nat.lt_succ_self _⟩
  have hI2 := hI1.nw hok1 gF
  have R0 : zRu G ν2 lo hi s r K V F fg el ear vl var ds dm sm ea va ta sa M as ab al aw ak ac (zsz ν1) (zsz ν1 + 1) rr (sFree rr 0) (fun _ _ => false) (fun _ => []) :=
    ⟨h1.nw hok1 (by omega) gF, hm1.kp (S2 M (by omega)) (S2 as (by omega)) (S2 ab (by omega)) (S2 aw (by omega)), hc1.kp (S2 al (by omega)), hk1.kp (S2 ak (by omega)) (S2 ac (by omega)), hI2, htd, 0, [], q2, trivial⟩
  refine L_fill (μ := ν2) hrr hemp ho (by omega) hV hK (fun ρ R gR => ?_) K 0 ν2 (by omega) R0 (zG.rf _ _)
  have hcl := sCnt_le (fun _ _ => false)
  have hfl := sFree_len rr K
  refine L_mRun (μ := ν2) hsm hfr hd ho (by omega) hV hK 300 (sFree rr K) (fun _ _ => false) (fun _ => []) ρ (by omega) (by omega) R gR fun τ ap' hokτ Rτ gτ => ?_
  obtain ⟨h3, hm3, hc3, hk3, hI3, htd3, h03, ps3, hq3, hqs3⟩ := Rτ
  have hzτ := gτ.1.1
  have gN : zG (fun _ => False) 1 K τ (zNew τ 200 K K) := zG.nw
  refine Wp.zo fun hok4' => ?_
  have S4 : ∀ a, a < zsz τ → zsame τ (zNew τ 200 K K) a := fun a ha => gN.same ha id
  have h4 := h3.nw hokτ (by omega) gN
  have hm4 := hm3.kp (S4 M (by omega)) (S4 as (by omega)) (S4 ab (by omega)) (S4 aw (by omega))
  have hk4 := hk3.kp (S4 ak (by omega)) (S4 ac (by omega))
  have hI4 := hI3.nw hokτ gN
  have eT : zsz (zNew τ 200 K K) = zsz τ + 1 := rfl
  have hrt : (ztg (zNew τ 200 K K) (zsz τ)).1 = 200 := by rw [ztg_zNew, if_pos rfl]
  refine L_res120 (μ := zNew τ 200 K K) (rz := zsz τ) (by omega) (by omega) hrt (by omega) hK hm4 (fun ρ5 h5 r5 g5 => ?_) K 0 _ (by omega) h4 (fun e' he' => absurd he' (Nat.not_lt_zero _)) (zG.rf _ _)
  have S5 : ∀ a, a < zsz τ → zsame (zNew τ 200 K K) ρ5 a := fun a ha => g5.same (by omega) (by omega)
  have hz5 := g5.1.1
  refine Wp.zo fun hok5 => L_res150 (μ := ρ5) (rz := zsz τ) hdis hV (fun v hv => (hfr v hv).2) (by omega) hK (by omega) (hm4.kp (S5 M (by omega)) (S5 as (by omega)) (S5 ab (by omega)) (S5 aw (by omega))) (hk4.kp (S5 ak (by omega)) (S5 ac (by omega))) (fun ρ6 r6 g6 => ?_) V 0 ρ5 (by omega) (zG.rf _ _) (fun e he => ⟨fun w hw => absurd hw (Nat.not_lt_zero _), fun _ => r5 e he⟩)
  have W6 : ∀ a, a < zsz ρ5 → a = zsz τ → hi ≤ a ∧ ¬ zim (ztg ρ5 a).1 := fun a _ q => by rw [q, g5.1.2.2 _ (by omega), hrt]; exact ⟨by omega, by unfold zim; omega⟩
  have W5 : ∀ a, a < zsz (zNew τ 200 K K) → a = zsz τ → ¬ zim (ztg (zNew τ 200 K K) a).1 := fun a _ q => by rw [q, hrt]; unfold zim; omega
  have S6 : ∀ a, a < zsz τ → zsame ρ5 ρ6 a := fun a ha => g6.same (by omega) (by omega)
  have hz6 := g6.1.1
  have hm5 := hm4.kp (S5 M (by omega)) (S5 as (by omega)) (S5 ab (by omega)) (S5 aw (by omega))
  refine Kc ρ6 (zsz τ) (h5.far hok5 (by omega) g6 W6) (hm5.kp (S6 M (by omega)) (S6 as (by omega)) (S6 ab (by omega)) (S6 aw (by omega))) ((hI4.kp hok4' g5 W5).kp hok5 g6 (fun a ha w => (W6 a ha w).2)) r6 ?_ (by omega) (by omega) (by rw [g6.1.2.2 _ (by omega), g5.1.2.2 _ (by omega)]; exact hrt)
  · have a1 := g1.mono (V := fun a => a = al ∨ a = ak ∨ a = ac) (fun a _ q => q.elim Or.inl (fun q => Or.inr (Or.inr q))) (Nat.le_refl _) (Nat.le_refl _)
    have a2 := a1.tr gF.no
    have a3 := a2.trans (V := zM5 al ak ac (zsz ν1) (zsz ν1 + 1)) gτ (fun a ha q => by
      rcases q with q | q | q | q | q
      · exact Or.inl q
      · exact Or.inr (Or.inl q)
      · exact Or.inr (Or.inr q)
      · omega
      · omega)
    have a4 := a3.tr gN.no
    have a5 := a4.trans (V := fun a => a = zsz τ) g5 (fun a ha q => by omega)
    have a6 := a5.trans (V := fun a => a = zsz τ) g6 (fun a ha q => by omega)
    exact a6.mono (fun _ _ q => q) (by omega) (by omega)
end ZJ
