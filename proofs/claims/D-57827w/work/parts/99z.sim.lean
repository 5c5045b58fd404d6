set_option maxRecDepth 100000
/-! THE COMPONENT, 45: simulations -/
/-- whom an echo serves after a fair -/
theorem sFair_emp {r : Nat → Int32} {K V : Nat} {po : Nat → Nat} {B : Nat} (h : sW r K V po B) {e : Nat} (he : e < K) : (∀ v, v < V → e ∈ sKept r K V v → wE (sFair r K V) e 13 = nI (v + 1)) ∧ ((∀ v, v < V → e ∉ sKept r K V v) → wE (sFair r K V) e 13 = wE r e 13) := by
  obtain ⟨-, -, sl, sl', h1, h2, h3⟩ := sFair_ok h
  have gb := h.1
  refine ⟨fun v hv hm => ((h2.1 v (by omega)).2.2.2.2.2.2.1 e ((h3 v e (by omega)).mpr (Or.inr hm))).2, fun hn => ?_⟩
  rcases h1.emp (e := e) (by omega) with ⟨q, q2⟩ | ⟨v, hv, hvV, hm, q⟩
  · rw [q]
    refine h2.2 e (by omega) fun v hv hm => ?_
    by_cases hvV : v < V
    · rcases (h3 v e hv).mp hm with t | t
      · exact q2 v hv t
      · exact hn v hvV t
    · have := (h2.1 v hv).2.2.2.2.2.2.2 (by omega)
      rw [this] at hm; cases hm
  · rw [q]
    exact ((h2.1 v hv).2.2.2.2.2.2.1 e ((h3 v e hv).mpr (Or.inl hm))).2
section ZJ
variable {G : ZG} {μ ν : ZM} {Q : Option ZV → ZM → Prop} {E : ZP → ZM → Prop} {x d da bf sb sba n K V D B : Nat} {po : Nat → Nat} {Z : Nat → Prop} {σ : ZS} {z z1 z2 z3 : Int32} {lo hi s F fg el ear vl var ds dm sm M as ab al aw ak ac : Nat} {ea va ta sa : Nat → Nat} {r rr : Nat → Int32}
/-- a fair's result, of a row with other wages -/
theorem C_xRes (hw : sW r K V po B) (hwr : sW rr K V po B) (hrr : ∀ j, (∀ v, v < 8 → j ≠ 203 + 17 * v + 9) → rr j = r j) (hsm : zSm K V rr) (hd : zAd as ab al aw ak ac) (hM : hi ≤ M) (hMa : M < as ∧ M < ab ∧ M < al ∧ M < aw ∧ M < ak ∧ M < ac) (haz : as < zsz μ ∧ ab < zsz μ ∧ al < zsz μ ∧ aw < zsz μ ∧ ak < zsz μ ∧ ac < zsz μ)
    (h : zSta μ lo hi s r K V F fg el ear vl var ds dm sm ea va ta sa) (hm : zMt μ M s K V as ab al aw ak ac rr) (hI : zIc G μ)
    (Kc : ∀ ρ rz, zSta ρ lo hi s r K V F fg el ear vl var ds dm sm ea va ta sa → zMt ρ M s K V as ab al aw ak ac rr → zIc G ρ → (∀ e, e < K → zai ρ rz e = wE (sFair rr K V) e 13 - 1) → zG (fun a => a = al ∨ a = ak ∨ a = ac) 3 29 μ ρ → Q (some (vP (200, K, rz))) ρ) : Call G Y_X8_result [vP (8, 0, M)] μ Q E := by
  have gb := hw.1
  obtain ⟨sl, hs⟩ := hw.2.2.2.2.1
  obtain ⟨c1, c2⟩ := sKept_in rr K gb.2.1
  have eE : ∀ e, e < 12 → wE rr e 13 = wE r e 13 := fun e he => hrr _ (fun v hv => by omega)
  refine C_mResult hrr hsm (fun v hv => ?_) (fun e he => ?_) (fun e v w hv hw q1 q2 => c2 v w e (by omega) (by omega) q1 q2) hd hM hMa haz h hm hI fun ρ rz y1 y2 y3 y4 y5 y6 y7 y8 => Kc ρ rz y1 y2 y3 (fun e he => ?_) y5
  · obtain ⟨b1, b2, b3, b4, -⟩ := hs.1 v (by omega)
    have e0 : wV r v 8 - wV r v 13 = nI (po v - (sl v).length) := by rw [b1, b2, pk_sub b3]
    have e8 : wV rr v 8 = wV r v 8 := hrr _ (fun w hw => by omega)
    have e13 : wV rr v 13 = wV r v 13 := hrr _ (fun w hw => by omega)
    have e1 : sPosts rr v = po v - (sl v).length := by unfold sPosts; rw [e8, e13, e0]; exact nI_clamp (by omega)
    rw [e1]
    exact ⟨e0, by omega⟩
  · rcases hs.emp (e := e) (by omega) with ⟨q, -⟩ | ⟨v, hv, -, -, q⟩
    · exact Or.inl q
    · exact Or.inr (by rw [q]; exact nI_lt (a := 0) (by omega) (by omega))
  · obtain ⟨f1, f2⟩ := sFair_emp hwr he
    by_cases hx : ∃ v, v < V ∧ e ∈ sKept rr K V v
    · obtain ⟨v, hv, hm⟩ := hx
      rw [f1 v hv hm, nI_pred]
      exact (y4 e he).1 v hv hm
    · have hn : ∀ v, v < V → e ∉ sKept rr K V v := fun v hv hm => hx ⟨v, hv, hm⟩
      rw [f2 hn, eE e (by omega)]
      exact (y4 e he).2 hn
theorem C_xfairResult (h : zXs G μ x d da bf sb sba n Z σ) (hg : sGd (aR σ) K V po D) (kt : ∀ e, e < K → z1 = nI e → zXe G x d da bf sb Z σ μ Q σ (vI (wE (sFair (aR σ) K V) e 13 - 1))) (k1 : (∀ e, e < K → z1 ≠ nI e) → zXt G x d da bf sb Z σ μ E σ 27) : Call G Y_X1_fairResult [vP (1, 0, x), vI z1] μ Q E := by
  refine Call.zo fun hok _ => ?_
  obtain ⟨s, lo, hi, F, fg, el, ear, vl, var, ds, dm, sm, ea, va, ta, sa, hs0, b1, b2, b3, b4⟩ := h.st hg
  have gb := hg.1.1
  refine S_X1_fairResult (C_xEchoA hs0 b1 (by omega) (fun e he hz => ⟨_, rfl, _, rfl, s, hs0, ?_⟩) (fun q => ⟨rfl, (k1 q).nw h hok⟩))
  have gM : zG (fun _ => False) 1 9 μ (zNew μ 8 0 9) := zG.nw
  refine Call.zo fun hokM _ => ?_
  refine Call.zq (C_mInit (M := zsz μ) (hi := hi) 1 (Or.inl rfl) rfl (by rw [ztg_zNew, if_pos rfl]) b2 hokM (b1.nw hok b2 gM) (h.2.1.nw hok gM) fun ν hν hmt hIν gν zν hokν _ => ⟨rfl, ?_⟩)
  have eM : zsz (zNew μ 8 0 9) = zsz μ + 1 := rfl
  have gA : zG (fun _ => False) (1 + (6 + 96 * 1)) (9 + (336 + 192 * 1)) μ ν := zG.trN (W := fun _ => False) gM (gν.mono (fun a _ q => Or.inr (by rw [q]; exact Nat.le_refl _)) (Nat.le_refl _) (Nat.le_refl _))
  refine C_xRes (rr := aR σ) hg.1 hg.1 (fun _ _ => rfl) hg.2.1.sm (by unfold zAd; omega) b2 (by omega) (by omega) hν hmt hIν fun ρ rz y1 y2 y3 y4 y5 => ⟨_, rfl, K, rz, rfl, e, zix.eq hz he (by omega), _, y4 e he, ?_⟩
  have gB : zG (fun _ => False) (1 + (6 + 96 * 1) + 3) (9 + (336 + 192 * 1) + 29) μ ρ := zG.trN (W := fun _ => False) gA (y5.mono (fun a _ q => Or.inr (by omega)) (Nat.le_refl _) (Nat.le_refl _))
  exact kt e he hz ρ (zXd.nw h hok gB (by decide) (by decide))
theorem C_xleastWage (h : zXs G μ x d da bf sb sba n Z σ) (hg : sGd (aR σ) K V po D) (kt : ∀ v e, v < V → e < K → z1 = nI v → z2 = nI e → zXe G x d da bf sb Z σ μ Q σ (vI (sLW (aR σ) K V v e 99 1))) (k1 : (∀ v e, v < V → e < K → z1 = nI v → z2 ≠ nI e) → zXt G x d da bf sb Z σ μ E σ 27) : Call G Y_X1_leastWage [vP (1, 0, x), vI z1, vI z2] μ Q E := by
  refine Call.zo fun hok _ => ?_
  obtain ⟨s, lo, hi, F, fg, el, ear, vl, var, ds, dm, sm, ea, va, ta, sa, hs0, b1, b2, b3, b4⟩ := h.st hg
  have gb := hg.1.1
  refine S_X1_leastWage (C_xPair h hg (fun v e hv he hz1 hz2 => ⟨rfl, s, hs0, ?_⟩) (fun q => ⟨rfl, (k1 q).nw h hok⟩))
  have gM : zG (fun _ => False) 1 9 μ (zNew μ 8 0 9) := zG.nw
  refine Call.zo fun hokM _ => ?_
  refine Call.zq (C_mInit (M := zsz μ) (hi := hi) 1 (Or.inl rfl) rfl (by rw [ztg_zNew, if_pos rfl]) b2 hokM (b1.nw hok b2 gM) (h.2.1.nw hok gM) fun ν hν hmt hIν gν zν hokν _ => ⟨rfl, ?_⟩)
  have eM : zsz (zNew μ 8 0 9) = zsz μ + 1 := rfl
  have gA : zG (fun _ => False) (1 + (6 + 96 * 1)) (9 + (336 + 192 * 1)) μ ν := zG.trN (W := fun _ => False) gM (gν.mono (fun a _ q => Or.inr (by rw [q]; exact Nat.le_refl _)) (Nat.le_refl _) (Nat.le_refl _))
  have key : ∀ (dd w : Nat) (τ : ZM) (rw' : Nat → Int32), w + dd = 100 → (∀ j, (∀ v, v < 8 → j ≠ 203 + 17 * v + 9) → rw' j = aR σ j) → (∀ v', v' < V → v' ≠ v → wV rw' v' 9 = wV (aR σ) v' 9) → zSta τ lo hi s (aR σ) K V F fg el ear vl var ds dm sm ea va ta sa → zMt τ (zsz μ) s K V (zsz (zNew μ 8 0 9)) (zsz (zNew μ 8 0 9) + 1) (zsz (zNew μ 8 0 9) + 1 + 1) (zsz (zNew μ 8 0 9) + 1 + 1 + 1) (zsz (zNew μ 8 0 9) + 1 + 1 + 1 + 1) (zsz (zNew μ 8 0 9) + 1 + 1 + 1 + 1 + 1) rw' → zIc G τ → zsz ν ≤ zsz τ → zG (fun _ => False) (103 + 3 * w) (537 + 29 * w) μ τ → sLW (aR σ) K V v e 99 1 = sLW (aR σ) K V v e dd w → 1 ≤ w → Wp G Y_X1_leastWage 21 [(1, vI z1), (2, vI z2), (3, vP (8, 0, zsz μ)), (4, vI (nI w))] [] τ Q E := by
    intro dd
    induction dd with
    | zero =>
      intro w τ rw' hwd hrw hrv hτ hm hIτ hz g hS h1w
      have hw' : w = 100 := by omega
      subst hw'
      refine B_X1_leastWage_21 ⟨fun _ => ?_, fun q => absurd (by decide) q⟩
      have := kt v e hv he hz1 hz2 τ (zXd.nw h hok g (by decide) (by decide))
      rw [hS] at this
      exact this
    | succ dd ih =>
      intro w τ rw' hwd hrw hrv hτ hm hIτ hz g hS h1w
      have hgw := hg.wage (v := v) (n := w) (by omega) h1w (by omega)
      have outw : ∀ j, j ≠ 203 + 17 * v + 9 → sWage (aR σ) v (nI w) j = aR σ j := fun j hj => by unfold sWage wU; rw [if_neg hj]
      have inw : wV (sWage (aR σ) v (nI w)) v 9 = nI w := by unfold wV sWage wU; rw [if_pos rfl]
      have e1 : sLW (aR σ) K V v e (dd + 1) w = if wE (sFair (sWage (aR σ) v (nI w)) K V) e 13 - 1 = nI v then nI w else sLW (aR σ) K V v e dd (w + 1) := rfl
      refine B_X1_leastWage_21 ⟨fun q => absurd q (nI_nlt (a := 99) (b := w) (by omega) (by omega)), fun _ => S_X8_resultWith ⟨V, _, hm.1.2.2.2.2.2.2.1, v, zix.eq hz1 hv (by omega), ?_⟩⟩
      have gw : zG (fun a => a = zsz (zNew μ 8 0 9) + 1 + 1 + 1) 0 0 τ (zAi τ (zsz (zNew μ 8 0 9) + 1 + 1 + 1) v (nI w)) := zG.ai rfl
      refine Call.zo fun okw _ => ?_
      have gT : zG (fun _ => False) (103 + 3 * w) (537 + 29 * w) μ (zAi τ (zsz (zNew μ 8 0 9) + 1 + 1 + 1) v (nI w)) := (zG.trN (W := fun _ => False) g (gw.mono (fun a _ q => Or.inr (by omega)) (Nat.le_refl _) (Nat.le_refl _))).mono (fun _ _ q => q) (by omega) (by omega)
      have hτw : zSta (zAi τ (zsz (zNew μ 8 0 9) + 1 + 1 + 1) v (nI w)) lo hi s (aR σ) K V F fg el ear vl var ds dm sm ea va ta sa := b1.nw hok b2 gT
      have hIw : zIc G (zAi τ (zsz (zNew μ 8 0 9) + 1 + 1 + 1) v (nI w)) := h.2.1.nw hok gT
      have hmw : zMt (zAi τ (zsz (zNew μ 8 0 9) + 1 + 1 + 1) v (nI w)) (zsz μ) s K V (zsz (zNew μ 8 0 9)) (zsz (zNew μ 8 0 9) + 1) (zsz (zNew μ 8 0 9) + 1 + 1) (zsz (zNew μ 8 0 9) + 1 + 1 + 1) (zsz (zNew μ 8 0 9) + 1 + 1 + 1 + 1) (zsz (zNew μ 8 0 9) + 1 + 1 + 1 + 1 + 1) (sWage (aR σ) v (nI w)) := by
        refine ⟨hm.1, fun v' e' hv' he' => ?_, fun v' hv' => ?_⟩
        · obtain ⟨m1, m2⟩ := hm.2.1 v' e' hv' he'
          have s1 : sSeen (sWage (aR σ) v (nI w)) v' e' = sSeen rw' v' e' := by
            have a1 : wP (sWage (aR σ) v (nI w)) v' e' 0 = wP rw' v' e' 0 := (outw _ (by omega)).trans (hrw _ (fun u hu => by omega)).symm
            have a2 : wE (sWage (aR σ) v (nI w)) e' 8 = wE rw' e' 8 := (outw _ (by omega)).trans (hrw _ (fun u hu => by omega)).symm
            have a3 : wE (sWage (aR σ) v (nI w)) e' 7 = wE rw' e' 7 := (outw _ (by omega)).trans (hrw _ (fun u hu => by omega)).symm
            have a4 : wV (sWage (aR σ) v (nI w)) v' 7 = wV rw' v' 7 := (outw _ (by omega)).trans (hrw _ (fun u hu => by omega)).symm
            unfold sSeen sTrue
            rw [a1, a2, a3, a4]
          have s2 : wP (sWage (aR σ) v (nI w)) v' e' 1 = wP rw' v' e' 1 := (outw _ (by omega)).trans (hrw _ (fun u hu => by omega)).symm
          rw [s1, s2]
          exact ⟨by rw [zai_zAi, if_neg (by omega)]; exact m1, by rw [zai_zAi, if_neg (by omega)]; exact m2⟩
        · rw [zai_zAi]
          by_cases hvv : v' = v
          · rw [if_pos ⟨rfl, hvv⟩, hvv, inw]
          · rw [if_neg (fun q => hvv q.2), hm.2.2 v' hv', hrv v' hv' hvv]
            exact (outw _ (by omega)).symm
      refine C_xRes (rr := sWage (aR σ) v (nI w)) hg.1 hgw.1 (fun j hj => outw j (hj v (by omega))) hgw.2.1.sm (by unfold zAd; omega) b2 (by omega) (by show _ < zsz τ ∧ _; have : zsz (zAi τ (zsz (zNew μ 8 0 9) + 1 + 1 + 1) v (nI w)) = zsz τ := rfl; omega) hτw hmw hIw fun ρ rz y1 y2 y3 y4 y5 => ⟨_, rfl, K, rz, rfl, ?_⟩
      have gB : zG (fun _ => False) (103 + 3 * (w + 1)) (537 + 29 * (w + 1)) μ ρ := (zG.trN (W := fun _ => False) gT (y5.mono (fun a _ q => Or.inr (by omega)) (Nat.le_refl _) (Nat.le_refl _))).mono (fun _ _ q => q) (by omega) (by omega)
      have hzρ := y5.1.1
      refine ⟨_, rfl, K, rz, rfl, e, zix.eq hz2 he (by omega), _, y4 e he, fun q => ?_, fun q => ?_⟩
      · rw [nI_1]
        refine ih (w + 1) ρ _ (by omega) (fun j hj => outw j (hj v (by omega))) (fun v' hv' hne => outw _ (by omega)) y1 y2 y3 ?_ gB ?_ (by omega)
        · have : zsz (zAi τ (zsz (zNew μ 8 0 9) + 1 + 1 + 1) v (nI w)) = zsz τ := rfl
          omega
        · rw [hS, e1, if_neg (by rw [← hz1]; exact q)]
      · have := kt v e hv he hz1 hz2 ρ (zXd.nw h hok gB (by omega) (by omega))
        rw [hS, e1, if_pos (by rw [← hz1]; exact q)] at this
        exact this
  exact key 99 1 ν (aR σ) (by omega) (fun _ _ => rfl) (fun _ _ _ => rfl) hν hmt hIν (Nat.le_refl _) (gA.mono (fun _ _ q => q) (by decide) (by decide)) rfl (Nat.le_refl _)
/-- a copy of the state held, on which days pass -/
theorem C_xCopyS (hG : zGk G) (h : zXs G μ x d da bf sb sba n Z σ) (hok : zok μ) (hg : sGd (aR σ) K V po D) {s : Nat} (hs0 : zfr μ 0 x = (2, 0, s))
    (k : ∀ (ν : ZM) (F fg el ear vl var ds dm sm : Nat) (ea va ta sa : Nat → Nat), zok ν → zSta ν (zsz μ) (zsz ν) (zsz μ) (aR σ) K V F fg el ear vl var ds dm sm ea va ta sa → zIc G ν → (∀ (ρ : ZM) (c e : Nat), zGt (zsz μ) c e sm dm ν ρ → tl ρ sm ≤ 128 → tl ρ dm ≤ 128 → c ≤ 49000 → e ≤ 220000 → zXd G x d da bf sb Z σ σ μ ρ) → Q (some (vP (2, 0, zsz μ))) ν) : Call G Y_X2_copy [vP (2, 0, s)] μ Q E := by
  obtain ⟨s0, lo, hi, F, fg, el, ear, vl, var, ds, dm, sm, ea, va, ta, sa, hs1, b1, b2, b3, b4⟩ := h.st hg
  rw [hs0] at hs1
  cases hs1
  obtain ⟨t1, t2, t3, -⟩ := b1.tg hok
  have hdt : (ztg μ dm).1 = 15 := by rw [(hok.ref b1.2.2.2.1.2.1 (by decide) (by decide)).2]
  refine Call.zq (C_sCopy b2 hG.1 b1 (fun e he => (b3.1 e he).1.1) (fun v hv => (b3.2 v hv).1.1) fun σ1 el' ear' vl' var' ds' dm' sm' eb vb tb sb' c1 c2 c3 c4 c5 okσ _ => ?_)
  have o1 : zOld (fun _ => False) μ σ1 := zOld.cp c4 c5 hok hdt t3
  have T1 := c1.tls
  refine k σ1 F fg el' ear' vl' var' ds' dm' sm' eb vb tb sb' okσ c1 (h.2.1.old hok (X := fun _ => False) (fun _ _ q => q.elim) o1) fun ρ c e g u1 u2 hc he => ?_
  have o2 : zOld (fun _ => False) μ ρ := o1.op okσ (Nat.le_refl _) g.1
  refine zXd.of h hok (h.kp hok (o2.mono (fun _ _ q => q.elim))) (o2.mono (fun _ _ q => q.elim)) rfl ?_ ?_
  · have := g.1.2.1; have := c5.2.1; omega
  · have := g.1.2.2.1; have := c5.2.2.1; omega
theorem C_xSim (hG : zGk G) (h : zXs G μ x d da bf sb sba n Z σ) (hg : sGd (aR σ) K V po D) (hD : D < 10000000)
    (kt : ∀ m, m ≤ 120 → z = nI m → ∀ (ρ : ZM) (s lo hi F fg el ear vl var ds dm sm : Nat) (ea va ta sa : Nat → Nat), zSta ρ lo hi s (sDays (aR σ) K V m) K V F fg el ear vl var ds dm sm ea va ta sa → zXd G x d da bf sb Z σ σ μ ρ → Q (some (vP (2, 0, s))) ρ) (kf : (∀ m, m ≤ 120 → z ≠ nI m) → E (26, 0, zsz μ) (zNew μ 26 0 6)) : Call G Y_X1_simulate [vP (1, 0, x), vI z] μ Q E := by
  refine Call.zo fun hok _ => ?_
  obtain ⟨-, -, ⟨s0, hs0, hs1⟩, -⟩ := id h
  obtain ⟨g1, g2, -, D', g4, g5⟩ := id hg
  refine S_X1_simulate (C_xIn 0 121 (by decide) (by decide) (fun m _ m2 hz => ⟨_, rfl, S_X1_checkArgument ⟨fun _ => ⟨rfl, s0, hs0, C_xCopyS hG h hok hg hs0 fun ν F fg el ear vl var ds dm sm ea va ta sa okν st I zd => ⟨_, rfl, _, rfl, ?_⟩⟩, fun q => absurd q (by decide)⟩⟩) (fun q => ⟨_, rfl, S_X1_checkArgument ⟨fun t => absurd rfl t, fun _ => ⟨rfl, kf fun m m1 => q m (by omega) (by omega) (by omega)⟩⟩⟩))
  exact C_sAfter m D' hz (by omega) g1 (by omega) g4 (by omega) g2.sm hG.1 (Nat.le_refl _) I st fun ρ q1 q2 q3 => ⟨_, rfl, _, rfl, kt m (by omega) hz ρ _ _ _ _ _ _ _ _ _ _ _ _ _ _ _ _ q1 (zd ρ _ _ q2 q1.tls.1 q1.tls.2 (by omega) (by omega))⟩
theorem C_xsavingsAfter (hG : zGk G) (h : zXs G μ x d da bf sb sba n Z σ) (hg : sGd (aR σ) K V po D) (hD : D < 10000000) (kt : ∀ e m, e < K → z1 = nI e → m ≤ 120 → z2 = nI m → zXe G x d da bf sb Z σ μ Q σ (vI (wE (sDays (aR σ) K V m) e 11))) (k2 : ∀ e, e < K → z1 = nI e → (∀ m, m ≤ 120 → z2 ≠ nI m) → zXt G x d da bf sb Z σ μ E σ 26) (k1 : (∀ e, e < K → z1 ≠ nI e) → zXt G x d da bf sb Z σ μ E σ 27) : Call G Y_X1_savingsAfter [vP (1, 0, x), vI z1, vI z2] μ Q E := by
  refine Call.zo fun hok _ => ?_
  refine S_X1_savingsAfter (C_xEchoAt h hg (fun e b he hz _ => ⟨_, rfl, _, rfl, C_xSim hG h hg hD (fun m hm hz2 ρ s lo hi F fg el ear vl var ds dm sm ea va ta sa st zd => ⟨_, rfl, _, rfl, C_sEcho e hz he st ⟨_, rfl, _, rfl, _, st.eE he 11 (by decide), ?_⟩⟩) (fun q => ⟨rfl, (k2 e he hz q).nw h hok⟩)⟩) (fun q => ⟨rfl, (k1 q).nw h hok⟩))
  rw [show oE 11 = 0 from rfl, i32_s0]
  exact kt e m he hz hm hz2 ρ zd
theorem C_xpurseAfter (hG : zGk G) (h : zXs G μ x d da bf sb sba n Z σ) (hg : sGd (aR σ) K V po D) (hD : D < 10000000) (kt : ∀ v m, v < V → z1 = nI v → m ≤ 120 → z2 = nI m → zXe G x d da bf sb Z σ μ Q σ (vI (wV (sDays (aR σ) K V m) v 10))) (k2 : ∀ v, v < V → z1 = nI v → (∀ m, m ≤ 120 → z2 ≠ nI m) → zXt G x d da bf sb Z σ μ E σ 26) (k1 : (∀ v, v < V → z1 ≠ nI v) → zXt G x d da bf sb Z σ μ E σ 27) : Call G Y_X1_purseAfter [vP (1, 0, x), vI z1, vI z2] μ Q E := by
  refine Call.zo fun hok _ => ?_
  exact S_X1_purseAfter (C_xValleyAt h hg (fun v b hv hz _ => ⟨_, rfl, _, rfl, C_xSim hG h hg hD (fun m hm hz2 ρ s lo hi F fg el ear vl var ds dm sm ea va ta sa st zd => ⟨_, rfl, _, rfl, C_sValley v hz hv st ⟨_, rfl, _, rfl, _, st.eV hv 10 (by decide), kt v m hv hz hm hz2 ρ zd⟩⟩) (fun q => ⟨rfl, (k2 v hv hz q).nw h hok⟩)⟩) (fun q => ⟨rfl, (k1 q).nw h hok⟩))
theorem C_xdesertsIn (hG : zGk G) (h : zXs G μ x d da bf sb sba n Z σ) (hg : sGd (aR σ) K V po D) (hD : D < 10000000) (kt : ∀ e, e < K → z1 = nI e → zXe G x d da bf sb Z σ μ Q σ (vI (sDes (aR σ) K V e 120 1))) (k1 : (∀ e, e < K → z1 ≠ nI e) → zXt G x d da bf sb Z σ μ E σ 27) : Call G Y_X1_desertsIn [vP (1, 0, x), vI z1] μ Q E := by
  refine Call.zo fun hok _ => ?_
  obtain ⟨-, -, ⟨s0, hs0, hs1⟩, -⟩ := id h
  obtain ⟨g1, g2, -, D', g4, g5⟩ := id hg
  have gb := g1.1
  refine S_X1_desertsIn (C_xEchoAt h hg (fun e b he hz hw => ⟨_, rfl, _, rfl, _, hw 14 (by decide), s0, hs0, C_xCopyS hG h hok hg hs0 fun ν F fg el ear vl var ds dm sm ea va ta sa okν st I zd => ⟨_, rfl, _, rfl, ?_⟩⟩) (fun q => ⟨rfl, (k1 q).nw h hok⟩))
  rw [show oE 14 = 0 from rfl, i32_s0]
  have key : ∀ (dd m : Nat) (τ : ZM), m + dd = 120 → zSta τ (zsz μ) (zsz τ) (zsz μ) (sDays (aR σ) K V m) K V F fg el ear vl var ds dm sm ea va ta sa → zGt (zsz μ) (178 * m) (686 * m) sm dm ν τ → zIc G τ → sDes (aR σ) K V e 120 1 = sDes (aR σ) K V e dd (m + 1) → Wp G Y_X1_desertsIn 20 [(1, vI z1), (2, vI (wE (aR σ) e 14)), (3, vP (2, 0, zsz μ)), (4, vI (nI (m + 1)))] [] τ Q E := by
    intro dd
    induction dd with
    | zero =>
      intro m τ hm hτ gτ hIτ hS
      have hm' : m = 120 := by omega
      subst hm'
      refine B_X1_desertsIn_20 ⟨fun _ => ?_, fun q => absurd (by decide) q⟩
      have := kt e he hz τ (zd τ _ _ gτ hτ.tls.1 hτ.tls.2 (by decide) (by decide))
      rw [hS] at this
      exact this
    | succ dd ih =>
      intro m τ hm hτ gτ hIτ hS
      obtain ⟨k1, k2, k3⟩ := sDays_ok g1 (by omega) m (by omega)
      have e1 : sDes (aR σ) K V e (dd + 1) (m + 1) = if wE (aR σ) e 14 < wE (sDays (aR σ) K V (m + 1)) e 14 then nI (m + 1) else sDes (aR σ) K V e dd (m + 1 + 1) := rfl
      refine B_X1_desertsIn_20 ⟨fun q => absurd q (nI_nlt (a := 120) (b := m + 1) (by omega) (by omega)), fun _ => C_sDay (D' + m) k2 (by omega) (by rw [k3, g4, nI_add]) (by omega) (g2.sm.kd k1 gb.1 gb.2.1) hG.1 (Nat.le_refl _) hIτ hτ fun ρ j1 j2 j3 => ⟨rfl, C_sEcho e hz he j1 ⟨_, rfl, _, rfl, _, j1.eE he 14 (by decide), ?_⟩⟩⟩
      rw [show oE 14 = 0 from rfl, i32_s0]
      have gρ : zGt (zsz μ) (178 * (m + 1)) (686 * (m + 1)) sm dm ν ρ := (gτ.tr j2).mo (by omega) (by omega)
      refine ⟨fun q => ?_, fun q => ?_⟩
      · rw [nI_1]
        exact ih (m + 1) ρ (by omega) j1 gρ j3 (by rw [hS, e1]; exact if_neg q)
      · have := kt e he hz ρ (zd ρ _ _ gρ j1.tls.1 j1.tls.2 (by omega) (by omega))
        rw [hS, e1, if_pos (show wE (aR σ) e 14 < wE (sDays (aR σ) K V (m + 1)) e 14 from q)] at this
        exact this
  exact key 120 0 ν (by omega) st (zGt.rf _ _ _ _) I rfl
end ZJ
