/-! CONTRACTS, 11: the model's day, whole -/
section ZY4
variable {G : ZG} {μ : ZM} {Q : Option ZV → ZM → Prop} {E : ZP → ZM → Prop} {m a aq ak ac ab : Nat} {K V B : Nat} {po : Nat → Nat} {z1 z2 : Int32}
theorem zFo.fr {ν : ZM} (h : zFo μ m aq ak ac ab) (e : zfr ν = zfr μ) : zFo ν m aq ak ac ab := by
  unfold zFo; rw [e]; exact h
theorem zW.up1 {ν : ZM} (h : zW zF0 (zA1 a) μ ν) : zW (zFq m) (zA5 a aq ak ac ab) μ ν := h.mono (fun _ _ q => q.elim) (fun _ hb => Or.inl hb)
theorem C_end (e : Nat) (h1 : z1 = nI e) (he : e < 12) (h : zfr μ 40 m = (200, 627, a)) (hW : sW (zai μ a) K V po B) (hc : 0 < wE (zai μ a) e 13) (k : ∀ ν, zW zF0 (zA1 a) μ ν → zai ν a = sEnd (zai μ a) e → Q none ν) : Call G Y_X5_contractEnds [vP (5, 0, m), vI z1] μ Q E := by
  obtain ⟨sl, hs⟩ := hW.2.2.2.2.1
  rcases hs.emp he with ⟨q, -⟩ | ⟨v, hv, hvV, hm, hv1⟩
  · rw [q] at hc; exact absurd hc (by decide)
  · obtain ⟨p1, -, p3⟩ := hs.place hW.1.1 hv hm
    obtain ⟨b1, b2, b3, b4, -⟩ := hs.1 v hv
    rw [sEnd_eq hs hv hm] at k
    exact C_contractEnds e v (sl v).length h1 he hv h (by rw [hv1]; exact nI_pred v) b1 (by omega) p3 k
theorem C_beginsSeason (h : zfr μ 40 m = (200, 627, a)) (hD : zDa a aq ak ac ab) (hF : zFo μ m aq ak ac ab) (hW : sW (zai μ a) K V po B)
    (k : ∀ ν, zai ν a = sSeason (zai μ a) K V → zW (zFq m) (zA5 a aq ak ac ab) μ ν → Q none ν) : Call G Y_X5_beginsSeason [vP (5, 0, m)] μ Q E := by
  have hK := hW.1.1
  have hV := hW.1.2.1
  refine S_X5_beginsSeason ?_
  obtain ⟨-, w1⟩ := sEndAll_ok hW K hK
  have l2 : ∀ d v (ν : ZM), v + d = V → zW (zFq m) (zA5 a aq ak ac ab) μ ν → zai ν a = sGoneV K (sEndAll (zai μ a) K) v → Wp G Y_X5_beginsSeason 33 [(0, vP (5, 0, m)), (1, vI (nI v))] [] ν Q E := by
    intro d
    induction d with
    | zero =>
      intro v ν hv hν hs
      have hv' : v = V := by omega
      subst hv'
      obtain ⟨g1, g2⟩ := sGoneV_ok (r := sEndAll (zai μ a) K) hK v hV
      have w2 := w1.lo g1 g2
      rw [← hs] at w2
      obtain ⟨s0, okF⟩ := w2.okF
      refine B_X5_beginsSeason_33 ⟨_, _, by rw [hν.fr]; exact h, by omega, _, w2.2.1.2, fun _ => C_fairNow (by rw [hν.fr]; exact h) hD (hF.fr hν.fr) okF fun ρ hρ hWρ => ⟨rfl, k ρ (by rw [hρ, hs]; rfl) (hν.trans hWρ)⟩, fun hn => absurd hn (nI_nlt (by omega) (by omega))⟩
    | succ d ih =>
      intro v ν hv hν hs
      obtain ⟨g1, g2⟩ := sGoneV_ok (r := sEndAll (zai μ a) K) hK v (by omega)
      have w2 := w1.lo g1 g2
      refine B_X5_beginsSeason_33 ⟨_, _, by rw [hν.fr]; exact h, by omega, _, by rw [hs]; exact w2.2.1.2, fun hn => absurd (nI_lt (by omega) (by omega)) hn, fun _ => ?_⟩
      have le : ∀ dd i (τ : ZM), i + dd = K → zW (zFq m) (zA5 a aq ak ac ab) μ τ → zai τ a = sGoneE v (sGoneV K (sEndAll (zai μ a) K) v) i → Wp G Y_X5_beginsSeason 45 [(0, vP (5, 0, m)), (1, vI (nI v)), (2, vI (nI i))] [] τ Q E := by
        intro dd
        induction dd with
        | zero =>
          intro i τ hi hτ hsτ
          have hi' : i = K := by omega
          subst hi'
          obtain ⟨g3, g4⟩ := sGoneE_ok (r := sGoneV i (sEndAll (zai μ a) i) v) (show v < 8 by omega) i hK
          have w3 := w2.lo g3 g4
          refine B_X5_beginsSeason_45 ⟨_, _, by rw [hτ.fr]; exact h, by omega, _, by rw [hsτ]; exact w3.2.1.1, fun _ => ?_, fun hn => absurd hn (nI_nlt (by omega) (by omega))⟩
          rw [nI_1]
          exact ih (v + 1) τ (by omega) hτ hsτ
        | succ dd ih2 =>
          intro i τ hi hτ hsτ
          obtain ⟨g3, g4⟩ := sGoneE_ok (r := sGoneV K (sEndAll (zai μ a) K) v) (show v < 8 by omega) i (by omega)
          have w3 := w2.lo g3 g4
          refine B_X5_beginsSeason_45 ⟨_, _, by rw [hτ.fr]; exact h, by omega, _, by rw [hsτ]; exact w3.2.1.1, fun hn => absurd (nI_lt (by omega) (by omega)) hn, fun _ => C_pair v i 1 rfl rfl rfl ⟨_, rfl, iP v i 1, zix.eq rfl (by unfold iP; omega) (by unfold iP; omega), ?_⟩⟩
          rw [nI_1]
          refine ih2 (i + 1) _ (by omega) (hτ.trans (zW_Ai (Or.inl rfl) _ _ _)) ?_
          rw [zai_set, hsτ]
          rfl
      exact le K 0 ν (by omega) hν hs
  have l1 : ∀ d i (ν : ZM), i + d = K → zW (zFq m) (zA5 a aq ak ac ab) μ ν → zai ν a = sEndAll (zai μ a) i → Wp G Y_X5_beginsSeason 2 [(0, vP (5, 0, m)), (1, vI (nI i))] [] ν Q E := by
    intro d
    induction d with
    | zero =>
      intro i ν hi hν hs
      have hi' : i = K := by omega
      subst hi'
      refine B_X5_beginsSeason_2 ⟨_, _, by rw [hν.fr]; exact h, by omega, _, by rw [hs]; exact w1.2.1.1, fun _ => l2 V 0 ν (by omega) hν hs, fun hn => absurd hn (nI_nlt (by omega) (by omega))⟩
    | succ d ih =>
      intro i ν hi hν hs
      obtain ⟨-, w3⟩ := sEndAll_ok hW i (by omega)
      have hr : zfr ν 40 m = (200, 627, a) := by rw [hν.fr]; exact h
      have step : sEndAll (zai μ a) (i + 1) = if 0 < wE (sEndAll (zai μ a) i) i 13 then sEnd (sEndAll (zai μ a) i) i else sEndAll (zai μ a) i := rfl
      refine B_X5_beginsSeason_2 ⟨_, _, hr, by omega, _, by rw [hs]; exact w3.2.1.1, fun hn => absurd (nI_lt (by omega) (by omega)) hn, fun _ => C_hasContract i rfl (by omega) (zMo.self hr) (fun hy => ⟨_, rfl, fun hz => absurd hz (by decide), fun _ => C_end (K := K) (V := V) (po := po) (B := B) i rfl (by omega) hr (by rw [hs]; exact w3) hy fun ρ hρ hsρ => ⟨rfl, ?_⟩⟩) (fun hn => ⟨_, rfl, fun _ => ?_, fun hz => absurd rfl hz⟩)⟩
      · rw [nI_1]
        rw [hs] at hy hsρ
        exact ih (i + 1) ρ (by omega) (hν.trans hρ.up1) (by rw [step, if_pos hy]; exact hsρ)
      · rw [nI_1]
        rw [hs] at hn
        exact ih (i + 1) ν (by omega) hν (by rw [step, if_neg hn]; exact hs)
  exact l1 K 0 μ (by omega) (zW.rf _ _ _) rfl
theorem C_mayDesert (e d : Nat) (h1 : z1 = nI e) (he : e < 12) (h : zfr μ 40 m = (200, 627, a)) (hW : sW (zai μ a) K V po B) (hd : zai μ a 2 = nI d) (hd2 : d < 2147483648) (k : ∀ ν, zW zF0 (zA1 a) μ ν → zai ν a = sMay (zai μ a) e → Q none ν) : Call G Y_X5_mayDesert [vP (5, 0, m), vI z1] μ Q E := by
  have S := zMo.self h
  obtain ⟨f, f1, f2, f3⟩ := hW.2.2.2.1
  have hfog : sFogNow (zai μ a) (zai μ a 2).toNatClampNeg = zai μ a (11 + d % f) := by
    unfold sFogNow; rw [hd, f1, nI_clamp hd2, nI_clamp (by omega)]
  unfold sMay at k
  subst h1
  -- the echo leaves
  have leave : 0 < wE (zai μ a) e 13 → (∀ ν, zW zF0 (zA1 a) μ ν → zai ν a = sLeaves (zai μ a) e → Q none ν) → Wp G Y_X5_mayDesert 47 [(0, vP (5, 0, m)), (1, vI (nI e))] [] μ Q E := fun hc k2 => by
    obtain ⟨sl, hs⟩ := hW.2.2.2.2.1
    rcases hs.emp he with ⟨q, -⟩ | ⟨v, hv, hvV, hm, hv1⟩
    · rw [q] at hc; exact absurd hc (by decide)
    · have ev : (wE (zai μ a) e 13 - 1).toNatClampNeg = v := by rw [hv1, nI_pred]; exact nI_clamp (by omega)
      unfold sLeaves at k2
      rw [ev] at k2
      obtain ⟨-, p2, p3⟩ := sLeaves_pre hW he hv
      refine B_X5_mayDesert_47 ⟨_, _, h, C_employer e rfl he S ⟨_, rfl, ?_⟩⟩
      rw [hv1, nI_pred]
      refine C_pair v e 1 rfl rfl rfl ⟨_, rfl, iP v e 1, zix.eq rfl (by unfold iP; omega) (by unfold iP; omega), C_of e 14 rfl rfl (zMo.self (a := a) h) (by omega) ⟨_, rfl, C_puts e 14 rfl rfl h (by omega) ⟨rfl, ?_⟩⟩⟩
      rw [zai_set]
      have e14 : wE (wU (zai μ a) (iP v e 1) 1) e 14 = wE (zai μ a) e 14 := by unfold wE wU iP; rw [if_neg (by omega)]
      rw [e14]
      have er : zai (zAi (zAi μ a (iP v e 1) 1) a (23 + 15 * e + 14) (wE (zai μ a) e 14 + 1)) a = wU (wU (zai μ a) (iP v e 1) 1) (23 + 15 * e + 14) (wE (zai μ a) e 14 + 1) := by rw [zai_set, zai_set]
      refine C_end (K := K) (V := V) (po := po) (B := B) e rfl he h (by rw [er]; exact p2) (by rw [er, p3]; exact hc) fun ν hν hs => ⟨rfl, k2 ν (((zW_A1 μ a _ _).trans (zW_A1 _ a _ _)).trans hν) (by rw [hs, er])⟩
  refine S_X5_mayDesert (C_hasContract e rfl he S (fun hc => ⟨_, rfl, fun _ => C_of e 12 rfl rfl S (by omega) ⟨_, rfl, fun hge => ?_, fun hlt => ⟨fun h0 => ?_, fun hn0 => ⟨_, _, h, by omega, _, rfl, C_fogNow d f hd hd2 S f1 f2 f3 ⟨_, rfl, C_of e 10 rfl rfl S (by omega) ⟨_, rfl, fun hl => ?_, fun hnl => ?_⟩⟩⟩⟩⟩, fun hz => absurd hz (by decide)⟩) (fun hn => ⟨_, rfl, fun hz => absurd rfl hz, fun _ => ?_⟩))
  · rw [if_pos hc, if_neg (fun q => hge q.1)] at k
    exact leave hc k
  · rw [if_pos hc, if_pos ⟨hlt, Or.inl h0⟩] at k
    exact k μ (zW.rf _ _ _) rfl
  · rw [if_pos hc, if_neg (fun q => q.2.elim hn0 (fun t => t (by rw [hfog]; exact hl)))] at k
    exact leave hc k
  · rw [if_pos hc, if_pos ⟨hlt, Or.inr (by rw [hfog]; exact hnl)⟩] at k
    exact k μ (zW.rf _ _ _) rfl
  · rw [if_neg hn] at k
    exact k μ (zW.rf _ _ _) rfl
theorem C_dayOnce (d : Nat) (h : zfr μ 40 m = (200, 627, a)) (hD : zDa a aq ak ac ab) (hF : zFo μ m aq ak ac ab) (hW : sW (zai μ a) K V po B) (hB : B < 999999000) (hd : zai μ a 2 = nI d) (hd2 : d < 2147483648)
    (k : ∀ ν, zai ν a = sDay (zai μ a) K V → zW (zFq m) (zA5 a aq ak ac ab) μ ν → Q none ν) : Call G Y_X5_dayOnce [vP (5, 0, m)] μ Q E := by
  have hK := hW.1.1
  have hV := hW.1.2.1
  obtain ⟨S, s1, s2, s3⟩ := hW.2.2.1
  obtain ⟨kp1, w1⟩ := sDay1_ok hW
  have n2 : ¬ iDyn 2 := by unfold iDyn; omega
  have l3 : ∀ dd e (ν : ZM), e + dd = K → zW (zFq m) (zA5 a aq ak ac ab) μ ν → zai ν a = sMays (sShouts (sDay1 (zai μ a) K V) V) e → Wp G Y_X5_dayOnce 78 [(0, vP (5, 0, m)), (1, vI (nI e))] [] ν Q E := by
    intro dd
    induction dd with
    | zero =>
      intro e ν hv hν hs
      have he' : e = K := by omega
      subst he'
      obtain ⟨kp2, w2⟩ := sShouts_ok w1 hB V hV
      obtain ⟨kp3, w3⟩ := sMays_ok w2 e hK
      have hr : zfr ν 40 m = (200, 627, a) := by rw [hν.fr]; exact h
      refine B_X5_dayOnce_78 ⟨_, _, hr, by omega, _, by rw [hs]; exact w3.2.1.1, fun _ => ⟨by omega, _, rfl, k _ ?_ (hν.trans (zW_Ai (Or.inl rfl) _ _ _))⟩, fun hn => absurd hn (nI_nlt (by omega) (by omega))⟩
      rw [zai_set, hs]; rfl
    | succ dd ih =>
      intro e ν hv hν hs
      obtain ⟨kp2, w2⟩ := sShouts_ok w1 hB V hV
      obtain ⟨kp3, w3⟩ := sMays_ok w2 e (by omega)
      have hr : zfr ν 40 m = (200, 627, a) := by rw [hν.fr]; exact h
      refine B_X5_dayOnce_78 ⟨_, _, hr, by omega, _, by rw [hs]; exact w3.2.1.1, fun hn => absurd (nI_lt (by omega) (by omega)) hn, fun _ => C_mayDesert (K := K) (V := V) (po := po) e d rfl (by omega) hr (by rw [hs]; exact w3) (by rw [hs, kp3 2 n2, kp2 2 n2, kp1 2 n2]; exact hd) hd2 fun ρ hρ hsρ => ⟨rfl, ?_⟩⟩
      rw [nI_1]
      exact ih (e + 1) ρ (by omega) (hν.trans hρ.up1) (by rw [hsρ, hs]; rfl)
  have l2 : ∀ dd v (ν : ZM), v + dd = V → zW (zFq m) (zA5 a aq ak ac ab) μ ν → zai ν a = sShouts (sDay1 (zai μ a) K V) v → Wp G Y_X5_dayOnce 22 [(0, vP (5, 0, m)), (1, vI (nI v))] [] ν Q E := by
    intro dd
    induction dd with
    | zero =>
      intro v ν hv hν hs
      have hv' : v = V := by omega
      subst hv'
      obtain ⟨kp2, w2⟩ := sShouts_ok w1 hB v hV
      have hr : zfr ν 40 m = (200, 627, a) := by rw [hν.fr]; exact h
      exact B_X5_dayOnce_22 ⟨_, _, hr, by omega, _, by rw [hs]; exact w2.2.1.2, fun _ => l3 K 0 ν (by omega) hν hs, fun hn => absurd hn (nI_nlt (by omega) (by omega))⟩
    | succ dd ih =>
      intro v ν hv hν hs
      obtain ⟨kp2, w2⟩ := sShouts_ok w1 hB v (by omega)
      have hr : zfr ν 40 m = (200, 627, a) := by rw [hν.fr]; exact h
      obtain ⟨sl, hst⟩ := w2.2.2.2.2.1
      rw [← hs] at hst
      obtain ⟨t1, t2, t3⟩ := sSt_eq hst (show v < 8 by omega)
      have hm : ∀ k, k < sSt (zai ν a) v → wV (zai ν a) v (14 + k) = nI (sMem (zai ν a) v k) ∧ sMem (zai ν a) v k < 12 := fun k hk => by
        obtain ⟨-, m2, m3, -⟩ := sMem_eq hst hK (show v < 8 by omega) hk
        exact ⟨m2, by omega⟩
      refine B_X5_dayOnce_22 ⟨_, _, hr, by omega, _, by rw [hs]; exact w2.2.1.2, fun hn => absurd (nI_lt (by omega) (by omega)) hn, fun _ => C_earns v (sSt (zai ν a) v) (sMem (zai ν a) v) rfl (by omega) hr t2 t3 hm fun ρ hρ hsρ => ⟨rfl, ?_⟩⟩
      have le : ∀ e i (τ : ZM), i + e = sSt (zai ν a) v → zW (zFq m) (zA5 a aq ak ac ab) μ τ → zai τ a = sPayN v (sMem (zai ν a) v) (sEarns (sMem (zai ν a) v) v (zai ν a) (sSt (zai ν a) v)) i → Wp G Y_X5_dayOnce 39 [(0, vP (5, 0, m)), (1, vI (nI v)), (2, vI (nI i))] [] τ Q E := by
        intro e
        induction e with
        | zero =>
          intro i τ hi hτ hsτ
          have hi' : i = sSt (zai ν a) v := by omega
          have hrτ : zfr τ 40 m = (200, 627, a) := by rw [hτ.fr]; exact h
          have hu : sUn (sEarns (sMem (zai ν a) v) v (zai ν a) (sSt (zai ν a) v)) (B + 3 * v) := by rw [hs]; exact w2.2.2.2.2.2.same fun e he => sEarns_E (by omega) he
          obtain ⟨-, -, -, q4⟩ := sPayN_ok (mem := sMem (zai ν a) v) (sEarns_staff (mem := sMem (zai ν a) v) (v := v) (n := sSt (zai ν a) v) hst hK) hK (show v < 8 by omega) hu (by omega) i (by omega) (fun k hk => (hm k (by omega)).2)
          refine B_X5_dayOnce_39 (C_ofValley v 13 rfl rfl (zMo.self hrτ) (by omega) ⟨_, rfl, fun _ => ?_, fun hlt => absurd hlt ?_⟩)
          · rw [nI_1]
            refine ih (v + 1) τ (by omega) hτ ?_
            rw [hsτ, hi', hs]
            rfl
          · rw [hsτ, q4 v 13 (by omega) (by omega) (by omega), sEarns_V (by omega) (by omega) (by omega) (by omega), t2, hi']
            exact nI_nlt (Nat.le_refl _) (by omega)
        | succ e ih2 =>
          intro i τ hi hτ hsτ
          have hrτ : zfr τ 40 m = (200, 627, a) := by rw [hτ.fr]; exact h
          have hu : sUn (sEarns (sMem (zai ν a) v) v (zai ν a) (sSt (zai ν a) v)) (B + 3 * v) := by rw [hs]; exact w2.2.2.2.2.2.same fun e he => sEarns_E (by omega) he
          obtain ⟨-, -, -, q4⟩ := sPayN_ok (mem := sMem (zai ν a) v) (sEarns_staff (mem := sMem (zai ν a) v) (v := v) (n := sSt (zai ν a) v) hst hK) hK (show v < 8 by omega) hu (by omega) i (by omega) (fun k hk => (hm k (by omega)).2)
          obtain ⟨m1, m2⟩ := hm i (by omega)
          refine B_X5_dayOnce_39 (C_ofValley v 13 rfl rfl (zMo.self hrτ) (by omega) ⟨_, rfl, fun hge => absurd ?_ hge, fun _ => C_ofValley v (14 + i) rfl (nI_add 14 i) (zMo.self hrτ) (by omega) ⟨_, rfl, C_pays v (sMem (zai ν a) v i) rfl ?_ (by omega) m2 hrτ fun σ hσ hsσ => ⟨rfl, ?_⟩⟩⟩)
          · rw [hsτ, q4 v 13 (by omega) (by omega) (by omega), sEarns_V (by omega) (by omega) (by omega) (by omega), t2]
            exact nI_lt (by omega) (by omega)
          · rw [hsτ, q4 v (14 + i) (by omega) (by omega) (by omega), sEarns_V (by omega) (by omega) (by omega) (by omega)]; exact m1
          · rw [nI_1]
            exact ih2 (i + 1) σ (by omega) (hτ.trans hσ.up1) (by rw [hsσ, hsτ]; rfl)
      exact le (sSt (zai ν a) v) 0 ρ (by omega) (hν.trans hρ.up1) hsρ
  have hrem : (zai μ a 2 - zai μ a 2 / zai μ a 3 * zai μ a 3) = nI (d % S) := by rw [hd, s1]; exact pk_rem hd2 s2 (by omega)
  have hcond : (zai μ a 2).toNatClampNeg % (zai μ a 3).toNatClampNeg = d % S := by rw [hd, s1, nI_clamp hd2, nI_clamp (by omega)]
  have hlt : d % S < S := Nat.mod_lt _ s2
  refine S_X5_dayOnce ⟨_, _, h, by omega, _, rfl, by omega, _, rfl, by rw [s1]; exact nI_ne0 s2 (by omega), fun hn => l2 V 0 μ (by omega) (zW.rf _ _ _) ?_, fun hz => C_beginsSeason h hD hF hW fun ν hs hν => ⟨rfl, l2 V 0 ν (by omega) hν ?_⟩⟩
  · show zai μ a = sDay1 (zai μ a) K V
    unfold sDay1
    rw [hcond, if_neg]
    intro q
    rw [hrem, q] at hn
    exact hn rfl
  · show zai ν a = sDay1 (zai μ a) K V
    unfold sDay1
    rw [hrem] at hz
    rw [hcond, if_pos ((nI_eq (b := 0) (by omega) (by omega)).mp hz)]
    exact hs
theorem C_goBy (n d : Nat) (h1 : z1 = nI n) (hn : n ≤ 120) (h : zfr μ 40 m = (200, 627, a)) (hD : zDa a aq ak ac ab) (hF : zFo μ m aq ak ac ab) (hW : sW (zai μ a) K V po B) (hB : B < 900000000) (hd : zai μ a 2 = nI d) (hd2 : d < 2147483000)
    (k : ∀ ν, zai ν a = sDays (zai μ a) K V n → zW (zFq m) (zA5 a aq ak ac ab) μ ν → Q none ν) : Call G Y_X5_goBy [vP (5, 0, m), vI z1] μ Q E := by
  subst h1
  refine S_X5_goBy ?_
  have key : ∀ dd i (ν : ZM), i + dd = n → zW (zFq m) (zA5 a aq ak ac ab) μ ν → zai ν a = sDays (zai μ a) K V i → Wp G Y_X5_goBy 2 [(0, vP (5, 0, m)), (1, vI (nI n)), (2, vI (nI i))] [] ν Q E := by
    intro dd
    induction dd with
    | zero =>
      intro i ν hi hν hs
      have hi' : i = n := by omega
      subst hi'
      exact B_X5_goBy_2 ⟨fun _ => k ν hs hν, fun hlt => absurd hlt (nI_nlt (by omega) (by omega))⟩
    | succ dd ih =>
      intro i ν hi hν hs
      obtain ⟨-, w2, e2⟩ := sDays_ok hW hB i (by omega)
      refine B_X5_goBy_2 ⟨fun hge => absurd (nI_lt (by omega) (by omega)) hge, fun _ => C_dayOnce (K := K) (V := V) (po := po) (B := B + 24 * i) (d + i) (by rw [hν.fr]; exact h) hD (hF.fr hν.fr) (by rw [hs]; exact w2) (by omega) (by rw [hs, e2, hd, nI_add]) (by omega) fun ρ hsρ hρ => ⟨rfl, ?_⟩⟩
      rw [nI_1]
      exact ih (i + 1) ρ (by omega) (hν.trans hρ) (by rw [hsρ, hs]; rfl)
  exact key n 0 μ (by omega) (zW.rf _ _ _) rfl
theorem C_allLeft {r : Nat → Int32} (h : zMo μ m a r) (hK : r 0 = nI K) (hK12 : K ≤ 12) (k : Q (some (vI (sLeft r K))) μ) : Call G Y_X5_allLeft [vP (5, 0, m)] μ Q E := by
  refine S_X5_allLeft ?_
  have key : ∀ dd i, i + dd = K → Wp G Y_X5_allLeft 4 [(0, vP (5, 0, m)), (1, vI (sLeft r i)), (2, vI (nI i))] [] μ Q E := by
    intro dd
    induction dd with
    | zero =>
      intro i hi
      have hi' : i = K := by omega
      subst hi'
      exact B_X5_allLeft_4 ⟨_, _, h.1, by omega, _, (h.2 0 (by omega)).trans hK, fun _ => k, fun hlt => absurd hlt (nI_nlt (by omega) (by omega))⟩
    | succ dd ih =>
      intro i hi
      refine B_X5_allLeft_4 ⟨_, _, h.1, by omega, _, (h.2 0 (by omega)).trans hK, fun hge => absurd (nI_lt (by omega) (by omega)) hge, fun _ => C_of i 14 rfl rfl h (by omega) ⟨_, rfl, ?_⟩⟩
      rw [nI_1]
      exact ih (i + 1) (by omega)
  exact key K 0 (by omega)
end ZY4
