set_option maxRecDepth 100000
/-! THE COMPONENT, 44: ranks, blocking pairs -/
section ZJ
variable {G : ZG} {μ ν : ZM} {Q : Option ZV → ZM → Prop} {E : ZP → ZM → Prop} {x d da bf sb sba n K V D B : Nat} {po : Nat → Nat} {Z : Nat → Prop} {σ : ZS} {z z1 z2 z3 : Int32} {lo hi s F fg el ear vl var ds dm sm : Nat} {ea va ta sa : Nat → Nat} {r : Nat → Int32}
theorem C_sPrefV (v o : Nat) (h1 : z1 = nI v) (h2 : z2 = nI o) (hv : v < V) (ho : o < V) (hsm : zSm K V r) (h : zSta μ lo hi s r K V F fg el ear vl var ds dm sm ea va ta sa) (kt : sBV r v o = true → Q (some (vI 1)) μ) (kf : ¬ sBV r v o = true → Q (some (vI 0)) μ) : Call G Y_X2_prefersValley [vP (2, 0, s), vI z1, vI z2] μ Q E := by
  subst h1; subst h2
  have hV := h.1.2.1.2.2.2.2.1
  have hs := hsm.1 v o hv ho
  unfold sBV at kt kf
  simp only [decide_eq_true_eq] at kt kf
  refine S_X2_prefersValley (C_sValley v rfl hv h ⟨_, rfl, _, rfl, _, h.eV hv 9 (by decide), C_sValley o rfl ho h ⟨_, rfl, _, rfl, _, h.eV ho 9 (by decide), fun q => ⟨fun q2 => kf ?_, fun q2 => kt ?_⟩, fun q => ⟨fun q2 => kf ?_, fun q2 => kt ?_⟩⟩⟩)
  · rintro (q3 | ⟨-, q3⟩)
    · rw [q, Int32.sub_self] at q3; exact absurd q3 (by decide)
    · exact q2 (nI_lt q3 (by omega))
  · exact Or.inr ⟨i32_sub0.mpr q, (nI_ltI (by omega) (by omega)).mp q2⟩
  · rintro (q3 | ⟨q3, -⟩)
    · exact q2 (hs.mp q3)
    · exact q (i32_sub0.mp q3)
  · exact Or.inl (hs.mpr q2)
theorem C_sPrefE (v e o : Nat) (h1 : z1 = nI v) (h2 : z2 = nI e) (h3 : z3 = nI o) (hv : v < V) (he : e < K) (ho : o < K) (hsm : zSm K V r) (h : zSta μ lo hi s r K V F fg el ear vl var ds dm sm ea va ta sa) (kt : sBE r v e o = true → Q (some (vI 1)) μ) (kf : ¬ sBE r v e o = true → Q (some (vI 0)) μ) : Call G Y_X2_prefersEcho [vP (2, 0, s), vI z1, vI z2, vI z3] μ Q E := by
  subst h1; subst h2; subst h3
  have hK := h.1.2.1.2.2.2.1
  have hs := hsm.2 v e o hv he ho
  unfold sBE at kt kf
  simp only [decide_eq_true_eq] at kt kf
  refine S_X2_prefersEcho (C_sSeen v e rfl rfl hv he h ⟨_, rfl, C_sSeen v o rfl rfl hv ho h ⟨_, rfl, fun q => ⟨fun q2 => kf ?_, fun q2 => kt ?_⟩, fun q => ⟨fun q2 => kf ?_, fun q2 => kt ?_⟩⟩⟩)
  · rintro (q3 | ⟨-, q3⟩)
    · rw [q, Int32.sub_self] at q3; exact absurd q3 (by decide)
    · exact q2 (nI_lt q3 (by omega))
  · exact Or.inr ⟨i32_sub0.mpr q, (nI_ltI (by omega) (by omega)).mp q2⟩
  · rintro (q3 | ⟨q3, -⟩)
    · exact q2 (hs.mp q3)
    · exact q (i32_sub0.mp q3)
  · exact Or.inl (hs.mpr q2)
theorem nI_nm1 {n : Nat} (h : n < 2147483648) : ¬ nI n = -1 := fun q => by
  have := congrArg Int32.toInt q
  rw [nI_toInt h, show (-1 : Int32).toInt = -1 by decide] at this
  omega
theorem sBV_ir (r : Nat → Int32) (v : Nat) : ¬ sBV r v v = true := by
  unfold sBV
  rw [decide_eq_true_eq]
  rintro (q | ⟨-, q⟩)
  · rw [Int32.sub_self] at q; exact absurd q (by decide)
  · omega
theorem sBE_ir (r : Nat → Int32) (v e : Nat) : ¬ sBE r v e e = true := by
  unfold sBE
  rw [decide_eq_true_eq]
  rintro (q | ⟨-, q⟩)
  · rw [Int32.sub_self] at q; exact absurd q (by decide)
  · omega
/-- the held state, also behind new objects -/
theorem zXs.vw (h : zXs G μ x d da bf sb sba n Z σ) (hok : zok μ) (hg : sGd (aR σ) K V po D) : ∃ (s lo hi F fg el ear vl var ds dm sm : Nat) (ea va ta sa : Nat → Nat), ∀ (c e : Nat) (ν : ZM), zG (fun _ => False) c e μ ν → zfr ν 0 x = (2, 0, s) ∧ zSta ν lo hi s (aR σ) K V F fg el ear vl var ds dm sm ea va ta sa ∧ hi ≤ zsz ν := by
  obtain ⟨s, lo, hi, F, fg, el, ear, vl, var, ds, dm, sm, ea, va, ta, sa, hs0, b1, b2, b3, b4⟩ := h.st hg
  exact ⟨s, lo, hi, F, fg, el, ear, vl, var, ds, dm, sm, ea, va, ta, sa, fun c e ν g => ⟨((g.same h.1.2.1 id).2.1 _).trans hs0, b1.nw hok b2 g, Nat.le_trans b2 g.1.1⟩⟩
theorem C_xpreferredValley (h : zXs G μ x d da bf sb sba n Z σ) (hg : sGd (aR σ) K V po D) (kt : ∀ e, e < K → z1 = nI e → zXe G x d da bf sb Z σ μ Q σ (vI (sVAt (aR σ) V e z2 V 0))) (k1 : (∀ e, e < K → z1 ≠ nI e) → zXt G x d da bf sb Z σ μ E σ 27) : Call G Y_X1_preferredValley [vP (1, 0, x), vI z1, vI z2] μ Q E := by
  refine Call.zo fun hok _ => ?_
  obtain ⟨s, lo, hi, F, fg, el, ear, vl, var, ds, dm, sm, ea, va, ta, sa, vw⟩ := h.vw hok hg
  have gb := hg.1.1
  have hsm := hg.2.1.sm
  refine S_X1_preferredValley (C_xEchoAt h hg (fun e b he hz _ => ⟨_, rfl, _, rfl, ?_⟩) (fun q => ⟨rfl, (k1 q).nw h hok⟩))
  have key : ∀ d v ν, v + d = V → zG (fun _ => False) (10 * v) (20 * v) μ ν → (∀ τ, zG (fun _ => False) 100 200 μ τ → Q (some (vI (sVAt (aR σ) V e z2 d v))) τ) → Wp G Y_X1_preferredValley 9 [(0, vP (1, 0, x)), (1, vI z1), (2, vI z2), (4, vI (nI v))] [] ν Q E := by
    intro d
    induction d with
    | zero =>
      intro v ν hv g kk
      obtain ⟨w1, w2, w3⟩ := vw _ _ _ g
      exact B_X1_preferredValley_9 ⟨s, w1, vl, w2.1.2.2.2.1.2.2.1, C_alSize w2.2.2.1.2.1 ⟨_, rfl, fun _ => kk _ (g.mono (fun _ _ q => q) (by omega) (by omega)), fun q => absurd q (nI_nlt (by omega) (by omega))⟩⟩
    | succ d ih =>
      intro v ν hv g kk
      obtain ⟨w1, w2, w3⟩ := vw _ _ _ g
      have e1 : sVAt (aR σ) V e z2 (d + 1) v = if sReason (aR σ) v e = 0 ∧ nI (sAhV (aR σ) e v V) = z2 then nI v else sVAt (aR σ) V e z2 d (v + 1) := rfl
      rw [e1] at kk
      refine B_X1_preferredValley_9 ⟨s, w1, vl, w2.1.2.2.2.1.2.2.1, C_alSize w2.2.2.1.2.1 ⟨_, rfl, fun q => absurd (nI_lt (by omega) (by omega)) q, fun _ => ⟨s, w1, ?_⟩⟩⟩
      refine Call.zo fun okν _ => C_sReason v e rfl hz (by omega) he okν w3 w2 fun τ gτ => ⟨_, rfl, fun ha => ?_, fun ha => ?_⟩
      · have le : ∀ dd o ρ, o + dd = V → zG (fun _ => False) (10 * v + 1 + o) (20 * v + 2 + 2 * o) μ ρ → sAhV (aR σ) e v o ≤ o → Wp G Y_X1_preferredValley 48 [(0, vP (1, 0, x)), (1, vI z1), (2, vI z2), (4, vI (nI v)), (5, vI (nI (sAhV (aR σ) e v o))), (6, vI (nI o))] [] ρ Q E := by
          intro dd
          induction dd with
          | zero =>
            intro o ρ ho gρ hle
            have ho' : o = V := by omega
            subst ho'
            obtain ⟨u1, u2, u3⟩ := vw _ _ _ gρ
            refine B_X1_preferredValley_48 ⟨s, u1, vl, u2.1.2.2.2.1.2.2.1, C_alSize u2.2.2.1.2.1 ⟨_, rfl, fun _ => ⟨fun hn => ?_, fun hy => ?_⟩, fun q => absurd q (nI_nlt (by omega) (by omega))⟩⟩
            · rw [nI_1]
              rw [if_neg (fun q => hn q.2)] at kk
              exact ih (v + 1) ρ (by omega) (gρ.mono (fun _ _ q => q) (by omega) (by omega)) kk
            · rw [if_pos ⟨ha, hy⟩] at kk
              exact kk _ (gρ.mono (fun _ _ q => q) (by omega) (by omega))
          | succ dd ih2 =>
            intro o ρ ho gρ hle
            obtain ⟨u1, u2, u3⟩ := vw _ _ _ gρ
            have st : sAhV (aR σ) e v (o + 1) = sAhV (aR σ) e v o + if sReason (aR σ) o e = 0 ∧ sBV (aR σ) o v = true then 1 else 0 := rfl
            have no : ∀ τ, zG (fun _ => False) (10 * v + 1 + (o + 1)) (20 * v + 2 + 2 * (o + 1)) μ τ → ¬ (sReason (aR σ) o e = 0 ∧ sBV (aR σ) o v = true) → Wp G Y_X1_preferredValley 48 [(0, vP (1, 0, x)), (1, vI z1), (2, vI z2), (4, vI (nI v)), (5, vI (nI (sAhV (aR σ) e v o) + 0)), (6, vI (nI o + 1))] [] τ Q E := by
              intro τ gτ q
              rw [nI_1, Int32.add_zero]
              rw [if_neg q] at st
              have := ih2 (o + 1) τ (by omega) gτ (by omega)
              rw [st] at this
              exact this
            refine B_X1_preferredValley_48 ⟨s, u1, vl, u2.1.2.2.2.1.2.2.1, C_alSize u2.2.2.1.2.1 ⟨_, rfl, fun q => absurd (nI_lt (by omega) (by omega)) q, fun _ => ⟨fun heq => ?_, fun hne => ⟨s, u1, ?_⟩⟩⟩⟩
            · have : o = v := (nI_eq (by omega) (by omega)).mp heq
              subst this
              exact no ρ (gρ.mono (fun _ _ q => q) (by omega) (by omega)) (fun q => sBV_ir _ _ q.2)
            · refine Call.zo fun okρ _ => C_sReason o e rfl hz (by omega) he okρ u3 u2 fun τ2 gτ2 => ?_
              have g2 := (gρ.tr gτ2).mono (c' := 10 * v + 1 + (o + 1)) (d' := 20 * v + 2 + 2 * (o + 1)) (fun _ _ q => q) (by omega) (by omega)
              obtain ⟨p1, p2, p3⟩ := vw _ _ _ g2
              refine ⟨_, rfl, fun hr => no τ2 g2 (fun q => hr q.1), fun hr => ⟨s, p1, C_sPrefV o v rfl rfl (by omega) (by omega) hsm p2 (fun hb => ⟨_, rfl, fun q => absurd q (by decide), fun _ => ?_⟩) (fun hb => ⟨_, rfl, fun _ => no τ2 g2 (fun q => hb q.2), fun q => absurd rfl q⟩)⟩⟩
              rw [nI_1, nI_1]
              rw [if_pos ⟨hr, hb⟩] at st
              have := ih2 (o + 1) τ2 (by omega) g2 (by omega)
              rw [st] at this
              exact this
        exact le V 0 τ (by omega) ((g.tr gτ).mono (fun _ _ q => q) (by omega) (by omega)) (Nat.le_refl _)
      · rw [nI_1]
        rw [if_neg (fun q => ha q.1)] at kk
        exact ih (v + 1) τ (by omega) ((g.tr gτ).mono (fun _ _ q => q) (by omega) (by omega)) kk
  exact key V 0 μ (by omega) (zG.rf _ _) fun τ g => kt e he hz τ (zXd.nw h hok g (by decide) (by decide))
theorem C_xpreferredEcho (h : zXs G μ x d da bf sb sba n Z σ) (hg : sGd (aR σ) K V po D) (kt : ∀ v, v < V → z1 = nI v → zXe G x d da bf sb Z σ μ Q σ (vI (sEAt (aR σ) K v z2 K 0))) (k1 : (∀ v, v < V → z1 ≠ nI v) → zXt G x d da bf sb Z σ μ E σ 27) : Call G Y_X1_preferredEcho [vP (1, 0, x), vI z1, vI z2] μ Q E := by
  refine Call.zo fun hok _ => ?_
  obtain ⟨s, lo, hi, F, fg, el, ear, vl, var, ds, dm, sm, ea, va, ta, sa, vw⟩ := h.vw hok hg
  have gb := hg.1.1
  have hsm := hg.2.1.sm
  refine S_X1_preferredEcho (C_xValleyAt h hg (fun v b hv hz _ => ⟨_, rfl, _, rfl, ?_⟩) (fun q => ⟨rfl, (k1 q).nw h hok⟩))
  have key : ∀ d e ν, e + d = K → zG (fun _ => False) (14 * e) (28 * e) μ ν → (∀ τ, zG (fun _ => False) 200 400 μ τ → Q (some (vI (sEAt (aR σ) K v z2 d e))) τ) → Wp G Y_X1_preferredEcho 9 [(0, vP (1, 0, x)), (1, vI z1), (2, vI z2), (4, vI (nI e))] [] ν Q E := by
    intro d
    induction d with
    | zero =>
      intro e ν he g kk
      obtain ⟨w1, w2, w3⟩ := vw _ _ _ g
      exact B_X1_preferredEcho_9 ⟨s, w1, el, w2.1.2.2.2.1.2.1, C_alSize w2.2.1.2.1 ⟨_, rfl, fun _ => kk _ (g.mono (fun _ _ q => q) (by omega) (by omega)), fun q => absurd q (nI_nlt (by omega) (by omega))⟩⟩
    | succ d ih =>
      intro e ν he g kk
      obtain ⟨w1, w2, w3⟩ := vw _ _ _ g
      have e1 : sEAt (aR σ) K v z2 (d + 1) e = if sReason (aR σ) v e = 0 ∧ nI (sAhE (aR σ) v e K) = z2 then nI e else sEAt (aR σ) K v z2 d (e + 1) := rfl
      rw [e1] at kk
      refine B_X1_preferredEcho_9 ⟨s, w1, el, w2.1.2.2.2.1.2.1, C_alSize w2.2.1.2.1 ⟨_, rfl, fun q => absurd (nI_lt (by omega) (by omega)) q, fun _ => ⟨s, w1, ?_⟩⟩⟩
      refine Call.zo fun okν _ => C_sReason v e hz rfl hv (by omega) okν w3 w2 fun τ gτ => ⟨_, rfl, fun ha => ?_, fun ha => ?_⟩
      · have le : ∀ dd o ρ, o + dd = K → zG (fun _ => False) (14 * e + 1 + o) (28 * e + 2 + 2 * o) μ ρ → sAhE (aR σ) v e o ≤ o → Wp G Y_X1_preferredEcho 48 [(0, vP (1, 0, x)), (1, vI z1), (2, vI z2), (4, vI (nI e)), (5, vI (nI (sAhE (aR σ) v e o))), (6, vI (nI o))] [] ρ Q E := by
          intro dd
          induction dd with
          | zero =>
            intro o ρ ho gρ hle
            have ho' : o = K := by omega
            subst ho'
            obtain ⟨u1, u2, u3⟩ := vw _ _ _ gρ
            refine B_X1_preferredEcho_48 ⟨s, u1, el, u2.1.2.2.2.1.2.1, C_alSize u2.2.1.2.1 ⟨_, rfl, fun _ => ⟨fun hn => ?_, fun hy => ?_⟩, fun q => absurd q (nI_nlt (by omega) (by omega))⟩⟩
            · rw [nI_1]
              rw [if_neg (fun q => hn q.2)] at kk
              exact ih (e + 1) ρ (by omega) (gρ.mono (fun _ _ q => q) (by omega) (by omega)) kk
            · rw [if_pos ⟨ha, hy⟩] at kk
              exact kk _ (gρ.mono (fun _ _ q => q) (by omega) (by omega))
          | succ dd ih2 =>
            intro o ρ ho gρ hle
            obtain ⟨u1, u2, u3⟩ := vw _ _ _ gρ
            have st : sAhE (aR σ) v e (o + 1) = sAhE (aR σ) v e o + if sReason (aR σ) v o = 0 ∧ sBE (aR σ) v o e = true then 1 else 0 := rfl
            have no : ∀ τ, zG (fun _ => False) (14 * e + 1 + (o + 1)) (28 * e + 2 + 2 * (o + 1)) μ τ → ¬ (sReason (aR σ) v o = 0 ∧ sBE (aR σ) v o e = true) → Wp G Y_X1_preferredEcho 48 [(0, vP (1, 0, x)), (1, vI z1), (2, vI z2), (4, vI (nI e)), (5, vI (nI (sAhE (aR σ) v e o) + 0)), (6, vI (nI o + 1))] [] τ Q E := by
              intro τ gτ q
              rw [nI_1, Int32.add_zero]
              rw [if_neg q] at st
              have := ih2 (o + 1) τ (by omega) gτ (by omega)
              rw [st] at this
              exact this
            refine B_X1_preferredEcho_48 ⟨s, u1, el, u2.1.2.2.2.1.2.1, C_alSize u2.2.1.2.1 ⟨_, rfl, fun q => absurd (nI_lt (by omega) (by omega)) q, fun _ => ⟨fun heq => ?_, fun hne => ⟨s, u1, ?_⟩⟩⟩⟩
            · have : o = e := (nI_eq (by omega) (by omega)).mp heq
              subst this
              exact no ρ (gρ.mono (fun _ _ q => q) (by omega) (by omega)) (fun q => sBE_ir _ _ _ q.2)
            · refine Call.zo fun okρ _ => C_sReason v o hz rfl hv (by omega) okρ u3 u2 fun τ2 gτ2 => ?_
              have g2 := (gρ.tr gτ2).mono (c' := 14 * e + 1 + (o + 1)) (d' := 28 * e + 2 + 2 * (o + 1)) (fun _ _ q => q) (by omega) (by omega)
              obtain ⟨p1, p2, p3⟩ := vw _ _ _ g2
              refine ⟨_, rfl, fun hr => no τ2 g2 (fun q => hr q.1), fun hr => ⟨s, p1, C_sPrefE v o e hz rfl rfl hv (by omega) (by omega) hsm p2 (fun hb => ⟨_, rfl, fun q => absurd q (by decide), fun _ => ?_⟩) (fun hb => ⟨_, rfl, fun _ => no τ2 g2 (fun q => hb q.2), fun q => absurd rfl q⟩)⟩⟩
              rw [nI_1, nI_1]
              rw [if_pos ⟨hr, hb⟩] at st
              have := ih2 (o + 1) τ2 (by omega) g2 (by omega)
              rw [st] at this
              exact this
        exact le K 0 τ (by omega) ((g.tr gτ).mono (fun _ _ q => q) (by omega) (by omega)) (Nat.le_refl _)
      · rw [nI_1]
        rw [if_neg (fun q => ha q.1)] at kk
        exact ih (e + 1) τ (by omega) ((g.tr gτ).mono (fun _ _ q => q) (by omega) (by omega)) kk
  exact key K 0 μ (by omega) (zG.rf _ _) fun τ g => kt v hv hz τ (zXd.nw h hok g (by decide) (by decide))
theorem C_xLeave (e v : Nat) (h1 : z1 = nI e) (h2 : z2 = nI v) (he : e < K) (hv : v < V) (hw : sW r K V po B) (hsm : zSm K V r) (hh : hi ≤ zsz μ) (hx : x < zsz μ) (hs0 : zfr μ 0 x = (2, 0, s)) (h : zSta μ lo hi s r K V F fg el ear vl var ds dm sm ea va ta sa)
    (kt : sLv r e v → ∀ ν, zG (fun _ => False) 1 2 μ ν → Q (some (vI 1)) ν) (kf : ¬ sLv r e v → ∀ ν, zG (fun _ => False) 1 2 μ ν → Q (some (vI 0)) ν) : Call G Y_X1_wantsToLeave [vP (1, 0, x), vI z1, vI z2] μ Q E := by
  refine Call.zo fun hok _ => ?_
  have hK := h.1.2.1.2.2.2.1
  have hV := h.1.2.1.2.2.2.2.1
  have g0 : zG (fun _ => False) 1 2 μ μ := (zG.rf _ _).mono (fun _ _ q => q) (by decide) (by decide)
  refine S_X1_wantsToLeave ⟨s, hs0, C_sEcho e h1 he h ⟨_, rfl, _, rfl, _, h.eE he 13 (by decide), ?_⟩⟩
  show (wE r e 13 - 1 = -1 → _) ∧ (¬ wE r e 13 - 1 = -1 → _)
  rcases hw.mem he with q | ⟨w, m, w1, w2, -⟩
  · rw [q]
    exact ⟨fun _ => kt (Or.inl (by rw [q]; decide)) μ g0, fun t => absurd (by decide) t⟩
  · have ew : wE r e 13 - 1 = nI w := by rw [w2]; exact nI_pred w
    have ec : (wE r e 13 - 1).toNatClampNeg = w := by rw [ew]; exact nI_clamp (by omega)
    have hc : 0 < wE r e 13 := by rw [w2]; exact nI_lt (a := 0) (by omega) (by omega)
    unfold sLv at kt kf
    rw [ec] at kt kf
    rw [ew]
    refine ⟨fun q => absurd q (nI_nm1 (by omega)), fun _ => ⟨s, hs0, C_sReason w e ew h1 w1 he hok hh h fun ν g => ⟨_, rfl, fun ha => kt (Or.inr (Or.inl ha)) ν g, fun ha => ⟨s, ((g.same hx id).2.1 _).trans hs0, C_sPrefV v w h2 ew hv w1 hsm (h.nw hok hh g) (fun hb => ⟨_, rfl, fun q => absurd q (by decide), fun _ => kt (Or.inr (Or.inr hb)) ν g⟩) (fun hb => ⟨_, rfl, fun _ => kf ?_ ν g, fun q => absurd rfl q⟩)⟩⟩⟩⟩
    rintro (q | q | q)
    · exact q hc
    · exact q ha
    · exact hb q
theorem C_xHire (v e : Nat) (h1 : z1 = nI v) (h2 : z2 = nI e) (hv : v < V) (he : e < K) (hw : sW r K V po B) (hsm : zSm K V r) (hs0 : zfr μ 0 x = (2, 0, s)) (h : zSta μ lo hi s r K V F fg el ear vl var ds dm sm ea va ta sa) (kt : sTk r v e → Q (some (vI 1)) μ) (kf : ¬ sTk r v e → Q (some (vI 0)) μ) : Call G Y_X1_wantsToHire [vP (1, 0, x), vI z1, vI z2] μ Q E := by
  have hK := h.1.2.1.2.2.2.1
  have hV := h.1.2.1.2.2.2.2.1
  obtain ⟨sl, hs⟩ := hw.2.2.2.2.1
  obtain ⟨t1, t2, t3⟩ := sSt_eq hs (show v < 8 by omega)
  refine S_X1_wantsToHire ⟨s, hs0, C_sValley v h1 hv h ⟨_, rfl, _, rfl, S_X4_freePosts ⟨_, h.eV hv 8 (by decide), _, h.eV hv 13 (by decide), _, rfl, fun hn => ?_, fun hy => kt (Or.inl hy)⟩⟩⟩
  have key : ∀ d i, i + d = sSt r v → (∀ k, k < i → ¬ sBE r v e (sMem r v k) = true) → Wp G Y_X1_wantsToHire 21 [(0, vP (1, 0, x)), (1, vI z1), (2, vI z2), (3, vP (4, 0, va v)), (4, vI (nI i))] [] μ Q E := by
    intro d
    induction d with
    | zero =>
      intro i hi hb
      refine B_X1_wantsToHire_21 ⟨_, h.eV hv 13 (by decide), fun _ => kf ?_, fun q => absurd q (by rw [t2]; exact nI_nlt (by omega) (by omega))⟩
      rintro (q | ⟨k, k1, k2⟩)
      · exact hn q
      · exact hb k (by omega) k2
    | succ d ih =>
      intro i hi hb
      obtain ⟨-, m2, m3, -⟩ := sMem_eq hs hw.1.1 (show v < 8 by omega) (show i < sSt r v by omega)
      refine B_X1_wantsToHire_21 ⟨_, h.eV hv 13 (by decide), fun q => absurd (by rw [t2]; exact nI_lt (by omega) (by omega)) q, fun _ => ⟨s, hs0, 3, sa v, (h.2.2.1.2.2.2.2.2.1 v hv).2, i, zix.eq rfl (by omega) (by omega), _, h.2.2.1.2.2.2.2.2.2.2 v i hv (by omega) (by rw [t2]; exact nI_lt (by omega) (by omega)), C_sPrefE v e (sMem r v i) h1 h2 m2 hv he m3 hsm h (fun hy => ⟨_, rfl, fun q => absurd q (by decide), fun _ => kt (Or.inr ⟨i, by omega, hy⟩)⟩) (fun hno => ⟨_, rfl, fun _ => ?_, fun q => absurd rfl q⟩)⟩⟩
      rw [nI_1]
      refine ih (i + 1) (by omega) fun k hk => ?_
      by_cases q : k = i
      · rw [q]; exact hno
      · exact hb k (by omega)
  exact key (sSt r v) 0 (by omega) (fun k hk => by omega)
theorem C_xBlocking (v e : Nat) (h1 : z1 = nI v) (h2 : z2 = nI e) (hv : v < V) (he : e < K) (hw : sW r K V po B) (hsm : zSm K V r) (hh : hi ≤ zsz μ) (hx : x < zsz μ) (hs0 : zfr μ 0 x = (2, 0, s)) (h : zSta μ lo hi s r K V F fg el ear vl var ds dm sm ea va ta sa)
    (kt : sBlk r v e → ∀ ν, zG (fun _ => False) 2 4 μ ν → Q (some (vI 1)) ν) (kf : ¬ sBlk r v e → ∀ ν, zG (fun _ => False) 2 4 μ ν → Q (some (vI 0)) ν) : Call G Y_X1_isBlocking [vP (1, 0, x), vI z1, vI z2] μ Q E := by
  refine Call.zo fun hok _ => ?_
  have g0 : zG (fun _ => False) 2 4 μ μ := (zG.rf _ _).mono (fun _ _ q => q) (by decide) (by decide)
  refine S_X1_isBlocking ⟨s, hs0, C_sEcho e h2 he h ⟨_, rfl, _, rfl, _, h.eE he 13 (by decide), fun q => kf (fun t => t.1 (q.trans h1)) μ g0, fun hne => ⟨s, hs0, C_sReason v e h1 h2 hv he hok hh h fun ν g => ⟨_, rfl, fun ha => kf (fun t => ha t.2.1) ν (g.mono (fun _ _ q => q) (by decide) (by decide)), fun ha => ?_⟩⟩⟩⟩
  have hν := h.nw hok hh g
  have hsν : zfr ν 0 x = (2, 0, s) := ((g.same hx id).2.1 _).trans hs0
  refine C_xLeave e v h2 h1 he hv hw hsm (Nat.le_trans hh g.1.1) (Nat.lt_of_lt_of_le hx g.1.1) hsν hν (fun hl τ gτ => ⟨_, rfl, fun q => absurd q (by decide), fun _ => ?_⟩) (fun hl τ gτ => ⟨_, rfl, fun _ => kf (fun t => hl t.2.2.1) τ (g.tr gτ), fun q => absurd rfl q⟩)
  have g2 : zG (fun _ => False) 2 4 μ τ := g.tr gτ
  exact C_xHire v e h1 h2 hv he hw hsm (((g2.same hx id).2.1 _).trans hs0) (h.nw hok hh g2) (fun ht => ⟨_, rfl, fun q => absurd q (by decide), fun _ => kt ⟨fun q => hne (q.trans h1.symm), ha, hl, ht⟩ τ g2⟩) (fun ht => ⟨_, rfl, fun _ => kf (fun t => ht t.2.2.2) τ g2, fun q => absurd rfl q⟩)
theorem C_xblockingPairs (h : zXs G μ x d da bf sb sba n Z σ) (hg : sGd (aR σ) K V po D) (k : zXe G x d da bf sb Z σ μ Q σ (vI (nI (sBlkV (aR σ) K V)))) : Call G Y_X1_blockingPairs [vP (1, 0, x)] μ Q E := by
  refine Call.zo fun hok _ => ?_
  obtain ⟨s, lo, hi, F, fg, el, ear, vl, var, ds, dm, sm, ea, va, ta, sa, vw⟩ := h.vw hok hg
  have gb := hg.1.1
  have hsm := hg.2.1.sm
  have hx := h.1.2.1
  refine S_X1_blockingPairs ?_
  have key : ∀ d v ν, v + d = V → zG (fun _ => False) (24 * v) (48 * v) μ ν → Wp G Y_X1_blockingPairs 4 [(0, vP (1, 0, x)), (1, vI (nI (sBlkV (aR σ) K v))), (2, vI (nI v))] [] ν Q E := by
    intro d
    induction d with
    | zero =>
      intro v ν hv g
      have hv' : v = V := by omega
      subst hv'
      obtain ⟨w1, w2, w3⟩ := vw _ _ _ g
      exact B_X1_blockingPairs_4 ⟨s, w1, vl, w2.1.2.2.2.1.2.2.1, C_alSize w2.2.2.1.2.1 ⟨_, rfl, fun _ => k _ (zXd.nw h hok g (by omega) (by omega)), fun q => absurd q (nI_nlt (by omega) (by omega))⟩⟩
    | succ d ih =>
      intro v ν hv g
      obtain ⟨w1, w2, w3⟩ := vw _ _ _ g
      refine B_X1_blockingPairs_4 ⟨s, w1, vl, w2.1.2.2.2.1.2.2.1, C_alSize w2.2.2.1.2.1 ⟨_, rfl, fun q => absurd (nI_lt (by omega) (by omega)) q, fun _ => ?_⟩⟩
      have le : ∀ dd e ρ, e + dd = K → zG (fun _ => False) (24 * v + 2 * e) (48 * v + 4 * e) μ ρ → Wp G Y_X1_blockingPairs 22 [(0, vP (1, 0, x)), (1, vI (nI (sBlkV (aR σ) K v + sBlkE (aR σ) v e))), (2, vI (nI v)), (3, vI (nI e))] [] ρ Q E := by
        intro dd
        induction dd with
        | zero =>
          intro e ρ he gρ
          have he' : e = K := by omega
          subst he'
          obtain ⟨u1, u2, u3⟩ := vw _ _ _ gρ
          refine B_X1_blockingPairs_22 ⟨s, u1, el, u2.1.2.2.2.1.2.1, C_alSize u2.2.1.2.1 ⟨_, rfl, fun _ => ?_, fun q => absurd q (nI_nlt (by omega) (by omega))⟩⟩
          rw [nI_1]
          exact ih (v + 1) ρ (by omega) (gρ.mono (fun _ _ q => q) (by omega) (by omega))
        | succ dd ih2 =>
          intro e ρ he gρ
          obtain ⟨u1, u2, u3⟩ := vw _ _ _ gρ
          have st : sBlkE (aR σ) v (e + 1) = sBlkE (aR σ) v e + (@ite _ (sBlk (aR σ) v e) (Classical.propDecidable _) 1 0) := rfl
          refine B_X1_blockingPairs_22 ⟨s, u1, el, u2.1.2.2.2.1.2.1, C_alSize u2.2.1.2.1 ⟨_, rfl, fun q => absurd (nI_lt (by omega) (by omega)) q, fun _ => C_xBlocking v e rfl rfl (by omega) (by omega) hg.1 hsm u3 (Nat.lt_of_lt_of_le hx gρ.1.1) u1 u2 (fun hb τ gτ => ⟨_, rfl, fun q => absurd q (by decide), fun _ => ?_⟩) (fun hb τ gτ => ⟨_, rfl, fun _ => ?_, fun q => absurd rfl q⟩)⟩⟩
          · rw [nI_1, nI_1]
            rw [if_pos hb] at st
            have := ih2 (e + 1) τ (by omega) ((gρ.tr gτ).mono (fun _ _ q => q) (by omega) (by omega))
            rw [st] at this
            exact this
          · rw [nI_1, Int32.add_zero]
            rw [if_neg hb] at st
            have := ih2 (e + 1) τ (by omega) ((gρ.tr gτ).mono (fun _ _ q => q) (by omega) (by omega))
            rw [st] at this
            exact this
      exact le K 0 ν (by omega) (g.mono (fun _ _ q => q) (by omega) (by omega))
  exact key V 0 μ (by omega) (zG.rf _ _)
theorem C_xrichestEcho (h : zXs G μ x d da bf sb sba n Z σ) (hg : sGd (aR σ) K V po D) (k : zXe G x d da bf sb Z σ μ Q σ (vI (nI (sRich (aR σ) (K - 1))))) : Call G Y_X1_richestEcho [vP (1, 0, x)] μ Q E := by
  refine Call.zo fun hok _ => ?_
  obtain ⟨s, lo, hi, F, fg, el, ear, vl, var, ds, dm, sm, ea, va, ta, sa, hs0, b1, b2, b3, b4⟩ := h.st hg
  have gb := hg.1.1
  refine S_X1_richestEcho ?_
  have lt : ∀ i, sRich (aR σ) i ≤ i := by
    intro i
    induction i with
    | zero => exact Nat.le_refl _
    | succ i ih => unfold sRich; split <;> omega
  have e11 : ∀ e, e < K → zfi μ 26 (ea e) = wE (aR σ) e 11 := fun e he => by
    have := b1.eE he 11 (by decide)
    rw [show oE 11 = 0 from rfl, i32_s0] at this; exact this
  have key : ∀ d i, i + 1 + d = K → Wp G Y_X1_richestEcho 4 [(0, vP (1, 0, x)), (1, vI (nI (sRich (aR σ) i))), (2, vI (nI (i + 1)))] [] μ Q E := by
    intro d
    induction d with
    | zero =>
      intro i hi
      have hi' : i = K - 1 := by omega
      subst hi'
      exact B_X1_richestEcho_4 ⟨s, hs0, el, b1.1.2.2.2.1.2.1, C_alSize b1.2.1.2.1 ⟨_, rfl, fun _ => k.rf h hok, fun q => absurd q (nI_nlt (by omega) (by omega))⟩⟩
    | succ d ih =>
      intro i hi
      have := lt i
      have st : sRich (aR σ) (i + 1) = if wE (aR σ) (sRich (aR σ) i) 11 < wE (aR σ) (i + 1) 11 then i + 1 else sRich (aR σ) i := rfl
      have := ih (i + 1) (by omega)
      rw [st] at this
      refine B_X1_richestEcho_4 ⟨s, hs0, el, b1.1.2.2.2.1.2.1, C_alSize b1.2.1.2.1 ⟨_, rfl, fun q => absurd (nI_lt (by omega) (by omega)) q, fun _ => ⟨s, hs0, C_sEcho (i + 1) rfl (by omega) b1 ⟨_, rfl, _, rfl, _, e11 _ (by omega), s, hs0, C_sEcho (sRich (aR σ) i) rfl (by omega) b1 ⟨_, rfl, _, rfl, _, e11 _ (by omega), fun q => ?_, fun q => ?_⟩⟩⟩⟩⟩
      · rw [if_neg q] at this; rw [nI_1]; exact this
      · rw [if_pos q] at this; rw [nI_1]; exact this
  exact key (K - 1) 0 (by omega)
theorem C_xbestTest (h : zXs G μ x d da bf sb sba n Z σ) (hg : sGd (aR σ) K V po D) (kt : ∀ v, v < V → z1 = nI v → zXe G x d da bf sb Z σ μ Q σ (vI (o2i (sBT (aR σ) v K)))) (k1 : (∀ v, v < V → z1 ≠ nI v) → zXt G x d da bf sb Z σ μ E σ 27) : Call G Y_X1_bestTest [vP (1, 0, x), vI z1] μ Q E := by
  refine Call.zo fun hok _ => ?_
  obtain ⟨s, lo, hi, F, fg, el, ear, vl, var, ds, dm, sm, ea, va, ta, sa, hs0, b1, b2, b3, b4⟩ := h.st hg
  have gb := hg.1.1
  refine S_X1_bestTest (C_xValleyA hs0 b1 (by omega) (fun v hv hz => ⟨_, rfl, _, rfl, ?_⟩) (fun q => ⟨rfl, (k1 q).nw h hok⟩))
  have key : ∀ d i, i + d = K → Wp G Y_X1_bestTest 11 [(0, vP (1, 0, x)), (2, vP (4, 0, va v)), (3, vI (o2i (sBT (aR σ) v i))), (4, vI (nI i))] [] μ Q E := by
    intro d
    induction d with
    | zero =>
      intro i hi
      have hi' : i = K := by omega
      subst hi'
      exact B_X1_bestTest_11 ⟨s, hs0, el, b1.1.2.2.2.1.2.1, C_alSize b1.2.1.2.1 ⟨_, rfl, fun _ => (kt v hv hz).rf h hok, fun q => absurd q (nI_nlt (by omega) (by omega))⟩⟩
    | succ d ih =>
      intro i hi
      have st : sBT (aR σ) v (i + 1) = @ite _ (sTestOk (aR σ) v i) (Classical.propDecidable _) (match sBT (aR σ) v i with
        | none => some i
        | some b => if sTrue (aR σ) v b < sTrue (aR σ) v i then some i else some b) (sBT (aR σ) v i) := rfl
      have nx := ih (i + 1) (by omega)
      have tv := b1.2.2.1.2.2.2.2.2.2.1 v i hv (by omega)
      have no : ¬ sTestOk (aR σ) v i → Wp G Y_X1_bestTest 11 [(0, vP (1, 0, x)), (2, vP (4, 0, va v)), (3, vI (o2i (sBT (aR σ) v i))), (4, vI (nI i + 1))] [] μ Q E := fun q => by
        rw [st, if_neg q] at nx; rw [nI_1]; exact nx
      refine B_X1_bestTest_11 ⟨s, hs0, el, b1.1.2.2.2.1.2.1, C_alSize b1.2.1.2.1 ⟨_, rfl, fun q => absurd (nI_lt (by omega) (by omega)) q, fun _ => ⟨12, ta v, (b1.2.2.1.2.2.2.2.2.1 v hv).1, i, zix.eq rfl (by omega) (by omega), _, tv.1, fun q => no (fun t => q t.1), fun q0 => ⟨s, hs0, C_sEcho i rfl (by omega) b1 ⟨_, rfl, _, rfl, _, b1.eE (show i < K by omega) 13 (by decide), fun q => ?_, fun q => no (fun t => q ?_)⟩⟩⟩⟩⟩
      · have hn : ¬ 0 < wE (aR σ) i 13 := by
          have q' : wE (aR σ) i 13 - 1 = -1 := q
          rcases hg.1.mem (show i < K by omega) with t | ⟨w, m, w1, w2, -⟩
          · rw [t]; decide
          · rw [w2, nI_pred] at q'; exact absurd q' (nI_nm1 (by omega))
        rw [st, if_pos ⟨q0, hn⟩] at nx
        cases hb : sBT (aR σ) v i with
        | none =>
          rw [hb] at nx
          refine ⟨fun _ => by rw [nI_1]; exact nx, fun t => absurd rfl t⟩
        | some b =>
          rw [hb] at nx
          have hbi := sBT_lt hb
          refine ⟨fun t => absurd t (nI_nm1 (by omega)), fun _ => ⟨s, hs0, C_sEcho i rfl (by omega) b1 ⟨_, rfl, _, rfl, C_sTrue v i hv (by omega) b1 ⟨_, rfl, s, hs0, C_sEcho b rfl (by omega) b1 ⟨_, rfl, _, rfl, C_sTrue v b hv (by omega) b1 ⟨_, rfl, fun t => ?_, fun t => ?_⟩⟩⟩⟩⟩⟩
          · dsimp only at nx
            rw [if_neg t] at nx; rw [nI_1]; exact nx
          · dsimp only at nx
            rw [if_pos t] at nx; rw [nI_1]; exact nx
      · show wE (aR σ) i 13 - 1 = -1
        rcases hg.1.mem (show i < K by omega) with u | ⟨w, m, w1, w2, -⟩
        · rw [u]; decide
        · exact absurd (by rw [w2]; exact nI_lt (a := 0) (by omega) (by omega)) t.2
  exact key K 0 (by omega)
end ZJ
