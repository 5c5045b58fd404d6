set_option maxRecDepth 100000
/-! THE COMPONENT, 41: the public operations -/
/-- the kinds of tokens are four -/
def zKd (G : ZG) : Prop := ((zgS G 2).1 ≠ 251 ∧ (zgS G 3).1 ≠ 251 ∧ (zgS G 4).1 ≠ 251 ∧ (zgS G 5).1 ≠ 251) ∧ zgS G 2 ≠ zgS G 3 ∧ zgS G 2 ≠ zgS G 4 ∧ zgS G 2 ≠ zgS G 5 ∧ zgS G 3 ≠ zgS G 4 ∧ zgS G 3 ≠ zgS G 5 ∧ zgS G 4 ≠ zgS G 5
/-- what the start must know -/
def zGk (G : ZG) : Prop := (zgS G 7).1 ≠ 0 ∧ (∃ a, zgS G 200 = (300, 0, a)) ∧ (∃ a, zgS G 202 = (302, 0, a)) ∧ zKd G
/-- tags of the component's own objects -/
def zxo (t : Nat) : Prop := t = 1 ∨ t = 12 ∨ t = 204 ∨ t = 202 ∨ t = 22
/-- what a call of the component leaves: the state, its frame, its room -/
def zXd (G : ZG) (x d da bf sb : Nat) (Z : Nat → Prop) (σ σ' : ZS) (μ ν : ZM) : Prop := (∃ sba n, zXs G ν x d da bf sb sba n Z σ') ∧ zext μ ν ∧ (∀ a, a < zsz μ → ¬ zxo (ztg μ a).1 → zsmC μ ν a) ∧ zsz ν + 2200 * (aBu σ').length ≤ zsz μ + 2200 * (aBu σ).length + 50000 ∧ zsl ν + 8400 * (aBu σ').length ≤ zsl μ + 8400 * (aBu σ).length + 228500
/-- a call ends with a value; with an exception -/
def zXe (G : ZG) (x d da bf sb : Nat) (Z : Nat → Prop) (σ : ZS) (μ : ZM) (Q : Option ZV → ZM → Prop) (σ' : ZS) (v : ZV) : Prop := ∀ ν, zXd G x d da bf sb Z σ σ' μ ν → Q (some v) ν
def zXt (G : ZG) (x d da bf sb : Nat) (Z : Nat → Prop) (σ : ZS) (μ : ZM) (E : ZP → ZM → Prop) (σ' : ZS) (t : Nat) : Prop := ∀ ν a, zXd G x d da bf sb Z σ σ' μ ν → E (t, 0, a) ν
section ZJ
variable {G : ZG} {μ ν : ZM} {Q : Option ZV → ZM → Prop} {E : ZP → ZM → Prop} {x d da bf sb sba n K V D : Nat} {po : Nat → Nat} {Z : Nat → Prop} {σ : ZS} {z z1 z2 : Int32}
theorem zXs.own (h : zXs G μ x d da bf sb sba n Z σ) (hok : zok μ) (k : zOld (zXw x d da bf sb sba) μ ν) : ∀ a, a < zsz μ → ¬ zxo (ztg μ a).1 → zsmC μ ν a := fun a ha hn => k.2.1 a ha (fun q => by
  obtain ⟨t1, t2, t3, t4, t5⟩ := h.tg hok
  have h1 := h.1.1
  unfold zxo at hn
  rcases q with q | q | q | q | q | q | q
  · rw [q] at hn; omega
  · rw [q] at hn; omega
  · rw [q] at hn; omega
  · rw [q] at hn; omega
  · rw [q] at hn; omega
  · rw [q] at hn; omega
  · exact q)
theorem zXd.of {σ' : ZS} {sba' n' : Nat} (h : zXs G μ x d da bf sb sba n Z σ) (hok : zok μ) (hν : zXs G ν x d da bf sb sba' n' Z σ') (k : zOld (zXw x d da bf sb sba) μ ν) (hb : aBu σ' = aBu σ) (hc : zsz ν ≤ zsz μ + 50000) (hd : zsl ν ≤ zsl μ + 228500) : zXd G x d da bf sb Z σ σ' μ ν := by
  refine ⟨⟨_, _, hν⟩, k.1, h.own hok k, by rw [hb]; omega, by rw [hb]; omega⟩
/-- nothing has changed; only new objects -/
theorem zXd.nw {c e : Nat} (h : zXs G μ x d da bf sb sba n Z σ) (hok : zok μ) (g : zG (fun _ => False) c e μ ν) (hc : c ≤ 50000) (he : e ≤ 228500) : zXd G x d da bf sb Z σ σ μ ν :=
  zXd.of h hok (h.kp hok (zOld.nw g hok)) (zOld.nw g hok) rfl (by have := g.2.1; omega) (by have := g.2.2.1; omega)
theorem zXe.rf {v : ZV} (k : zXe G x d da bf sb Z σ μ Q σ v) (h : zXs G μ x d da bf sb sba n Z σ) (hok : zok μ) : Q (some v) μ := k μ (zXd.nw h hok (zG.rf _ _) (by decide) (by decide))
theorem zXt.nw {t : Nat} (k : zXt G x d da bf sb Z σ μ E σ t) (h : zXs G μ x d da bf sb sba n Z σ) (hok : zok μ) : E (t, 0, zsz μ) (zNew μ t 0 6) := k _ _ (zXd.nw h hok (zG.nw (k := 6)) (by decide) (by decide))
theorem C_xIn {y2 y4 : Int64} (a n : Nat) (h2 : y2.toInt = a) (h4 : y4.toInt = (n : Int) - 1) (kt : ∀ e, a ≤ e → e < n → z = nI e → Q (some (vI 1)) μ) (kf : (∀ e, a ≤ e → e < n → e < 2147483648 → z ≠ nI e) → Q (some (vI 0)) μ) : Call G Y_X1_inRange [vL z.toInt64, vL y2, vL y4] μ Q E := by
  refine S_X1_inRange ⟨fun h => kf fun e e1 e2 e3 q => ?_, fun h => ⟨fun k => kf fun e e1 e2 e3 q => ?_, fun k => ?_⟩⟩
  · rw [lg_cmp_neg, h2, Int32.toInt_toInt64, q, nI_toInt e3] at h; omega
  · rw [lg_cmp_pos, h4, Int32.toInt_toInt64, q, nI_toInt e3] at k; omega
  · rw [lg_cmp_neg, h2, Int32.toInt_toInt64] at h
    rw [lg_cmp_pos, h4, Int32.toInt_toInt64] at k
    obtain ⟨e, e1, e2⟩ := nI_all z (by omega)
    exact kt e (by omega) (by omega) e1
theorem nI_m1L {n : Nat} (h : 0 < n) (h2 : n < 2147483648) : (nI n - 1).toInt64.toInt = (n : Int) - 1 := by
  obtain ⟨n, rfl⟩ : ∃ j, n = j + 1 := ⟨n - 1, by omega⟩
  rw [nI_pred, Int32.toInt_toInt64, nI_toInt (by omega)]; omega
theorem C_xEchoA {s lo hi F fg el ear vl var ds dm sm : Nat} {ea va ta sa : Nat → Nat} (hs0 : zfr μ 0 x = (2, 0, s)) (b1 : zSta μ lo hi s (aR σ) K V F fg el ear vl var ds dm sm ea va ta sa) (h0 : 0 < K) (kt : ∀ e, e < K → z1 = nI e → Q (some (vP (3, 0, ea e))) μ) (kf : (∀ e, e < K → z1 ≠ nI e) → E (27, 0, zsz μ) (zNew μ 27 0 6)) : Call G Y_X1_echoAt [vP (1, 0, x), vI z1] μ Q E := by
  have hK := b1.1.2.1.2.2.2.1
  refine S_X1_echoAt ⟨s, hs0, el, b1.1.2.2.2.1.2.1, C_alSize b1.2.1.2.1 ⟨_, rfl, C_xIn 0 K (by decide) (nI_m1L h0 (by omega)) (fun e _ he hz => ⟨_, rfl, S_X1_checkIndex ⟨fun _ => ⟨rfl, s, hs0, C_sEcho e hz he b1 ⟨_, rfl, _, rfl, kt e he hz⟩⟩, fun q => absurd q (by decide)⟩⟩) (fun q => ⟨_, rfl, S_X1_checkIndex ⟨fun t => absurd rfl t, fun _ => ⟨rfl, kf fun e he => q e (by omega) he (by omega)⟩⟩⟩)⟩⟩
theorem C_xValleyA {s lo hi F fg el ear vl var ds dm sm : Nat} {ea va ta sa : Nat → Nat} (hs0 : zfr μ 0 x = (2, 0, s)) (b1 : zSta μ lo hi s (aR σ) K V F fg el ear vl var ds dm sm ea va ta sa) (h0 : 0 < V) (kt : ∀ v, v < V → z1 = nI v → Q (some (vP (4, 0, va v))) μ) (kf : (∀ v, v < V → z1 ≠ nI v) → E (27, 0, zsz μ) (zNew μ 27 0 6)) : Call G Y_X1_valleyAt [vP (1, 0, x), vI z1] μ Q E := by
  have hV := b1.1.2.1.2.2.2.2.1
  refine S_X1_valleyAt ⟨s, hs0, vl, b1.1.2.2.2.1.2.2.1, C_alSize b1.2.2.1.2.1 ⟨_, rfl, C_xIn 0 V (by decide) (nI_m1L h0 (by omega)) (fun v _ hv hz => ⟨_, rfl, S_X1_checkIndex ⟨fun _ => ⟨rfl, s, hs0, C_sValley v hz hv b1 ⟨_, rfl, _, rfl, kt v hv hz⟩⟩, fun q => absurd q (by decide)⟩⟩) (fun q => ⟨_, rfl, S_X1_checkIndex ⟨fun t => absurd rfl t, fun _ => ⟨rfl, kf fun e he => q e (by omega) he (by omega)⟩⟩⟩)⟩⟩
theorem C_xEchoAt (h : zXs G μ x d da bf sb sba n Z σ) (hg : sGd (aR σ) K V po D) (kt : ∀ e b, e < K → z1 = nI e → (∀ w, 7 ≤ w ∧ w < 15 → zfi μ (fE w) b = wE (aR σ) e w - oE w) → Q (some (vP (3, 0, b))) μ) (kf : (∀ e, e < K → z1 ≠ nI e) → E (27, 0, zsz μ) (zNew μ 27 0 6)) : Call G Y_X1_echoAt [vP (1, 0, x), vI z1] μ Q E := by
  obtain ⟨s, lo, hi, F, fg, el, ear, vl, var, ds, dm, sm, ea, va, ta, sa, hs0, b1, b2, b3, b4⟩ := h.st hg
  obtain ⟨gb, -⟩ := id hg.1
  exact C_xEchoA hs0 b1 (by omega) (fun e he hz => kt e _ he hz fun w hw => b1.eE he w hw) kf
theorem C_xValleyAt (h : zXs G μ x d da bf sb sba n Z σ) (hg : sGd (aR σ) K V po D) (kt : ∀ v b, v < V → z1 = nI v → (∀ w, 7 ≤ w ∧ w < 14 → zfi μ (fV w) b = wV (aR σ) v w) → Q (some (vP (4, 0, b))) μ) (kf : (∀ v, v < V → z1 ≠ nI v) → E (27, 0, zsz μ) (zNew μ 27 0 6)) : Call G Y_X1_valleyAt [vP (1, 0, x), vI z1] μ Q E := by
  obtain ⟨s, lo, hi, F, fg, el, ear, vl, var, ds, dm, sm, ea, va, ta, sa, hs0, b1, b2, b3, b4⟩ := h.st hg
  obtain ⟨gb, -⟩ := id hg.1
  exact C_xValleyA hs0 b1 (by omega) (fun v hv hz => kt v _ hv hz fun w hw => b1.eV hv w hw) kf
theorem C_xPair (h : zXs G μ x d da bf sb sba n Z σ) (hg : sGd (aR σ) K V po D) (kt : ∀ v e, v < V → e < K → z1 = nI v → z2 = nI e → Q none μ) (kf : (∀ v e, v < V → e < K → z1 = nI v → z2 ≠ nI e) → E (27, 0, zsz μ) (zNew μ 27 0 6)) : Call G Y_X1_checkPair [vP (1, 0, x), vI z1, vI z2] μ Q E := by
  obtain ⟨s, lo, hi, F, fg, el, ear, vl, var, ds, dm, sm, ea, va, ta, sa, hs0, b1, b2, b3, b4⟩ := h.st hg
  obtain ⟨gb, -⟩ := id hg.1
  refine S_X1_checkPair ⟨s, hs0, vl, b1.1.2.2.2.1.2.2.1, C_alSize b1.2.2.1.2.1 ⟨_, rfl, C_xIn 0 V (by decide) (nI_m1L (by omega) (by omega)) (fun v _ hv hz => ⟨_, rfl, fun t => absurd t (by decide), fun _ => ⟨s, hs0, el, b1.1.2.2.2.1.2.1, C_alSize b1.2.1.2.1 ⟨_, rfl, C_xIn 0 K (by decide) (nI_m1L (by omega) (by omega)) (fun e _ he hz2 => ⟨_, rfl, fun t => absurd t (by decide), fun _ => S_X1_checkIndex ⟨fun _ => ⟨rfl, kt v e hv he hz hz2⟩, fun q => absurd q (by decide)⟩⟩) (fun q => ⟨_, rfl, fun _ => S_X1_checkIndex ⟨fun t => absurd rfl t, fun _ => ⟨rfl, kf fun v e _ he _ => q e (by omega) he (by omega)⟩⟩, fun t => absurd rfl t⟩)⟩⟩⟩) (fun q => ⟨_, rfl, fun _ => S_X1_checkIndex ⟨fun t => absurd rfl t, fun _ => ⟨rfl, kf fun v e hv _ hz => absurd hz (q v (by omega) hv (by omega))⟩⟩, fun t => absurd rfl t⟩)⟩⟩
/-- made objects -/
theorem gLam1 (μ : ZM) (t n k : Nat) (z : Int32) : zG (fun _ => False) 1 k μ (zAi (zNew μ t n k) (zsz μ) 0 z) := zG.trN (W := fun _ => False) zG.nw (zG.ai (Or.inr (Nat.le_refl _)))
theorem gLam2 (μ : ZM) (t n k : Nat) (z z' : Int32) : zG (fun _ => False) 1 k μ (zAi (zAi (zNew μ t n k) (zsz μ) 0 z) (zsz μ) 1 z') := zG.trN (W := fun _ => False) (gLam1 μ t n k z) (zG.ai (Or.inr (Nat.le_refl _)))
/-- a made object ahead of perform -/
theorem C_xPer1 {p : ZP} {ok : Prop} {r' : Nat → Int32} {v : Int32} {c e c0 e0 : Nat} {μ1 : ZM} (hG : zGk G) (h : zXs G μ x d da bf sb sba n Z σ) (hok : zok μ) (g : zG (fun _ => False) c0 e0 μ μ1) (hg : sGd (aR σ) K V po D) (hn : ok → nmK (aR σ) r') (hc : c0 + c + 631 ≤ 50000) (he : e0 + e + 2066 ≤ 228500)
    (hop : ∀ (ν : ZM) (s F fg el ear vl var ds dm sm : Nat) (ea va ta sa : Nat → Nat) (Q' : Option ZV → ZM → Prop) (E' : ZP → ZM → Prop), zok ν → zext μ1 ν → (∀ a, a < zsz μ1 → zsmC μ1 ν a) → zIc G ν → zSta ν (zsz μ1) (zsz ν) s (aR σ) K V F fg el ear vl var ds dm sm ea va ta sa →
      (ok → ∀ ρ, zSta ρ (zsz μ1) (zsz ρ) s r' K V F fg el ear vl var ds dm sm ea va ta sa → zGt (zsz μ1) c e sm dm ν ρ → zIc G ρ → Q' (some (vI v)) ρ) → (¬ ok → zIse ν E') → CallLam G p (2, 0, s) 15 ν Q' E')
    (k : ok → zXe G x d da bf sb Z σ μ Q (aOp σ r') (vI v)) (kx : ¬ ok → zXt G x d da bf sb Z σ μ E σ 25) : Call G Y_X1_perform [vP (1, 0, x), vP p] μ1 Q E := by
  have o1 : zOld (zXw x d da bf sb sba) μ μ1 := zOld.nw g hok
  have g1 := g.2.1
  have g2 := g.2.2.1
  refine C_xPerform hG.1 (h.kp hok (zOld.nw g hok)) hg hn hop (fun q ν y1 y2 y3 y4 => k q ν (zXd.of h hok y1 (o1.trans y2 (fun _ _ q => q)) rfl (by omega) (by omega))) (fun q ν a y1 y2 y3 y4 => kx q ν a (zXd.of h hok y1 (o1.trans y2 (fun _ _ q => q)) rfl (by omega) (by omega)))
theorem C_xPassDays (hG : zGk G) (h : zXs G μ x d da bf sb sba n Z σ) (hg : sGd (aR σ) K V po D) (hD : D < 10000000) (kt : ∀ n, 1 ≤ n → n ≤ 60 → z = nI n → zXe G x d da bf sb Z σ μ Q (aOp σ (sDays (aR σ) K V n)) (vI (sLeft (sDays (aR σ) K V n) K - sLeft (aR σ) K))) (kf : (∀ n, 1 ≤ n → n ≤ 60 → z ≠ nI n) → zXt G x d da bf sb Z σ μ E σ 26) : Call G Y_X1_passDays [vP (1, 0, x), vI z] μ Q E := by
  refine Call.zo fun hok _ => ?_
  obtain ⟨g1, g2, -, D', g4, g5⟩ := id hg
  refine nS_X1_passDays (C_xIn 1 61 (by decide) (by decide) (fun m m1 m2 hz => ⟨_, rfl, S_X1_checkArgument ⟨fun _ => ⟨rfl, ?_⟩, fun q => absurd q (by decide)⟩⟩) (fun hne => ⟨_, rfl, S_X1_checkArgument ⟨fun t => absurd rfl t, fun _ => ⟨rfl, (kf fun m m1 m2 => hne m m1 (by omega) (by omega)).nw h hok⟩⟩⟩))
  refine C_xPer1 (ok := True) (r' := sDays (aR σ) K V m) (v := sLeft (sDays (aR σ) K V m) K - sLeft (aR σ) K) (c := 178 * m + 2) (e := 686 * m + 8) hG h hok (gLam1 _ _ _ _ _) hg (fun _ => (sDays_ok g1 (by omega) m (by omega)).1.nm) (by omega) (by omega) (fun ν s F fg el ear vl var ds dm sm ea va ta sa Q' E' okν xt ks I st kk _ => ⟨8, _, 1, zsz μ, rfl, rfl, by show (2 : Nat) ≠ 0; decide, by decide, by decide, ?_⟩) (fun _ ν y => ⟨_, rfl, kt m m1 (by omega) hz ν y⟩) (fun q => absurd trivial q)
  have e : zai ν (zsz μ) 0 = z := by rw [(ks (zsz μ) (Nat.lt_succ_self _)).2.2.1, zai_zAi, if_pos ⟨rfl, rfl⟩]
  show Call G _ [vI (zai ν (zsz μ) 0), vP (2, 0, s)] ν Q' E'
  rw [e]
  exact S_X1_lambda_passDays_0 (C_sPassDays m D' hz (by omega) g1 (by omega) g4 (by omega) g2.sm hG.1 (Nat.le_refl _) I st fun ρ q1 q2 q3 => ⟨_, rfl, kk trivial ρ q1 q2 q3⟩)
theorem C_xHoldFair (hG : zGk G) (h : zXs G μ x d da bf sb sba n Z σ) (hg : sGd (aR σ) K V po D) (kt : zXe G x d da bf sb Z σ μ Q (aOp σ (sFair (aR σ) K V)) (vI (sFair (aR σ) K V 5 - aR σ 5))) : Call G Y_X1_holdFair [vP (1, 0, x)] μ Q E := by
  refine Call.zo fun hok _ => ?_
  obtain ⟨g1, g2, -⟩ := id hg
  obtain ⟨a1, hF⟩ := hG.2.1
  refine nS_X1_holdFair ⟨a1, hF, C_xPer1 (ok := True) (r' := sFair (aR σ) K V) (v := sFair (aR σ) K V 5 - aR σ 5) (c := 10 + 96 * 1) (e := 374 + 192 * 1) hG h hok (zG.rf _ _) hg (fun _ => (sFair_ok g1).1.kd.nm) (by omega) (by omega) (fun ν s F fg el ear vl var ds dm sm ea va ta sa Q' E' okν xt ks I st kk _ => ⟨0, _, 0, a1, rfl, rfl, by show (2 : Nat) ≠ 0; decide, by decide, by decide, ?_⟩) (fun _ ν y => ⟨_, rfl, kt ν y⟩) (fun q => absurd trivial q)⟩
  exact S_X1_lambda_holdFair_1 (C_sFair 1 (Or.inl rfl) g1 g2.sm (Nat.le_refl _) I st fun ρ q1 q2 q3 => ⟨_, rfl, kk trivial ρ (q1.up q2.1.1.1) q2 q3⟩)
theorem C_xTest (hG : zGk G) (h : zXs G μ x d da bf sb sba n Z σ) (hg : sGd (aR σ) K V po D) (kt : ∀ v e, v < V → e < K → z1 = nI v → z2 = nI e → sTestOk (aR σ) v e → zXe G x d da bf sb Z σ μ Q (aOp σ (sTest (aR σ) v e)) (vI (sTrue (aR σ) v e))) (k2 : ∀ v e, v < V → e < K → z1 = nI v → z2 = nI e → ¬ sTestOk (aR σ) v e → zXt G x d da bf sb Z σ μ E σ 25) (k1 : (∀ v e, v < V → e < K → z1 = nI v → z2 ≠ nI e) → zXt G x d da bf sb Z σ μ E σ 27) : Call G Y_X1_test [vP (1, 0, x), vI z1, vI z2] μ Q E := by
  refine Call.zo fun hok _ => ?_
  obtain ⟨g1, g2, -⟩ := id hg
  have gb := g1.1
  refine nS_X1_test (C_xPair h hg (fun v e hv he hz1 hz2 => ⟨rfl, ?_⟩) (fun q => ⟨rfl, (k1 q).nw h hok⟩))
  refine C_xPer1 (ok := sTestOk (aR σ) v e) (r' := sTest (aR σ) v e) (v := sTrue (aR σ) v e) (c := 0) (e := 0) hG h hok (gLam2 _ _ _ _ _ _) hg (fun _ => ⟨fun y u hy hu => ?_, fun y u hy hu => ?_⟩) (by omega) (by omega) (fun ν s F fg el ear vl var ds dm sm ea va ta sa Q' E' okν xt ks I st kk kkx => ⟨9, _, 2, zsz μ, rfl, rfl, by show (2 : Nat) ≠ 0; decide, by decide, by decide, ?_⟩) (fun q ν y => ⟨_, rfl, kt v e hv he hz1 hz2 q ν y⟩) (fun q ν a y => ⟨rfl, k2 v e hv he hz1 hz2 q ν a y⟩)
  · unfold sTest wU iP; rw [if_neg (by omega)]
  · unfold sTest wU iP; rw [if_neg (by omega)]
  · have e0 : zai ν (zsz μ) 0 = z1 := by rw [(ks (zsz μ) (Nat.lt_succ_self _)).2.2.1, zai_zAi, if_neg (by omega), zai_zAi, if_pos ⟨rfl, rfl⟩]
    have e1 : zai ν (zsz μ) 1 = z2 := by rw [(ks (zsz μ) (Nat.lt_succ_self _)).2.2.1, zai_zAi, if_pos ⟨rfl, rfl⟩]
    show Call G _ [vI (zai ν (zsz μ) 0), vI (zai ν (zsz μ) 1), vP (2, 0, s)] ν Q' E'
    rw [e0, e1]
    exact S_X1_lambda_test_2 (C_sTest v e hz1 hz2 hv he (Nat.le_refl _) (g1.mem he) st (fun q ρ q1 q2 q3 => ⟨_, rfl, kk q ρ (q1.up q2.1.1) (zGt.of q2 q3) (I.wl okν q2)⟩) (fun q => ⟨rfl, kkx q⟩))
theorem C_xDismiss (hG : zGk G) (h : zXs G μ x d da bf sb sba n Z σ) (hg : sGd (aR σ) K V po D) (kt : ∀ e, e < K → z = nI e → 0 < wE (aR σ) e 13 → zXe G x d da bf sb Z σ μ Q (aOp σ (sEnd (aR σ) e)) (vI (wE (aR σ) e 13 - 1))) (k2 : ∀ e, e < K → z = nI e → ¬ 0 < wE (aR σ) e 13 → zXt G x d da bf sb Z σ μ E σ 25) (k1 : (∀ e, e < K → z ≠ nI e) → zXt G x d da bf sb Z σ μ E σ 27) : Call G Y_X1_dismiss [vP (1, 0, x), vI z] μ Q E := by
  refine Call.zo fun hok _ => ?_
  obtain ⟨g1, g2, -⟩ := id hg
  have gb := g1.1
  refine nS_X1_dismiss (C_xEchoAt h hg (fun e b he hz1 _ => ⟨_, rfl, _, rfl, ?_⟩) (fun q => ⟨rfl, (k1 q).nw h hok⟩))
  refine C_xPer1 (ok := 0 < wE (aR σ) e 13) (r' := sEnd (aR σ) e) (v := wE (aR σ) e 13 - 1) (c := 0) (e := 0) hG h hok (gLam1 _ _ _ _ _) hg (fun q => (sEnd_ok g1 (by omega) q).1.kd.nm) (by omega) (by omega) (fun ν s F fg el ear vl var ds dm sm ea va ta sa Q' E' okν xt ks I st kk kkx => ⟨10, _, 1, zsz μ, rfl, rfl, by show (2 : Nat) ≠ 0; decide, by decide, by decide, ?_⟩) (fun q ν y => ⟨_, rfl, kt e he hz1 q ν y⟩) (fun q ν a y => ⟨rfl, k2 e he hz1 q ν a y⟩)
  have e0 : zai ν (zsz μ) 0 = z := by rw [(ks (zsz μ) (Nat.lt_succ_self _)).2.2.1, zai_zAi, if_pos ⟨rfl, rfl⟩]
  show Call G _ [vI (zai ν (zsz μ) 0), vP (2, 0, s)] ν Q' E'
  rw [e0]
  exact S_X1_lambda_dismiss_3 (C_sDismiss e hz1 he g1 (Nat.le_refl _) st (fun q ρ q1 q2 q3 => ⟨_, rfl, kk q ρ (q1.up q2.1.1) (zGt.of q2 q3) (I.wl okν q2)⟩) (fun q => ⟨rfl, kkx q⟩))
theorem C_xTrain (hG : zGk G) (h : zXs G μ x d da bf sb sba n Z σ) (hg : sGd (aR σ) K V po D) (kt : ∀ e, e < K → z = nI e → sTrainOk (aR σ) e → zXe G x d da bf sb Z σ μ Q (aOp σ (sTrain (aR σ) e)) (vI (wE (aR σ) e 8 + 1))) (k2 : ∀ e, e < K → z = nI e → ¬ sTrainOk (aR σ) e → zXt G x d da bf sb Z σ μ E σ 25) (k1 : (∀ e, e < K → z ≠ nI e) → zXt G x d da bf sb Z σ μ E σ 27) : Call G Y_X1_train [vP (1, 0, x), vI z] μ Q E := by
  refine Call.zo fun hok _ => ?_
  obtain ⟨g1, g2, -⟩ := id hg
  have gb := g1.1
  refine nS_X1_train (C_xEchoAt h hg (fun e b he hz1 _ => ⟨_, rfl, _, rfl, ?_⟩) (fun q => ⟨rfl, (k1 q).nw h hok⟩))
  refine C_xPer1 (ok := sTrainOk (aR σ) e) (r' := sTrain (aR σ) e) (v := wE (aR σ) e 8 + 1) (c := 0) (e := 0) hG h hok (gLam1 _ _ _ _ _) hg (fun _ => ⟨fun y u hy hu => ?_, fun y u hy hu => ?_⟩) (by omega) (by omega) (fun ν s F fg el ear vl var ds dm sm ea va ta sa Q' E' okν xt ks I st kk kkx => ⟨13, _, 1, zsz μ, rfl, rfl, by show (2 : Nat) ≠ 0; decide, by decide, by decide, ?_⟩) (fun q ν y => ⟨_, rfl, kt e he hz1 q ν y⟩) (fun q ν a y => ⟨rfl, k2 e he hz1 q ν a y⟩)
  · unfold sTrain wU; rw [if_neg (by omega), if_neg (by omega), if_neg (by omega)]
  · unfold sTrain wU; rw [if_neg (by omega), if_neg (by omega), if_neg (by omega)]
  · have e0 : zai ν (zsz μ) 0 = z := by rw [(ks (zsz μ) (Nat.lt_succ_self _)).2.2.1, zai_zAi, if_pos ⟨rfl, rfl⟩]
    show Call G _ [vI (zai ν (zsz μ) 0), vP (2, 0, s)] ν Q' E'
    rw [e0]
    exact S_X1_lambda_train_6 (C_sTrain e hz1 he (Nat.le_refl _) st (fun q ρ q1 q2 q3 => ⟨_, rfl, kk q ρ (q1.up q2.1.1) (zGt.of q2 q3) (I.wl okν q2)⟩) (fun q => ⟨rfl, kkx q⟩))
theorem C_xSetWage (hG : zGk G) (h : zXs G μ x d da bf sb sba n Z σ) (hg : sGd (aR σ) K V po D) (kt : ∀ v m, v < V → z1 = nI v → 1 ≤ m → m ≤ 99 → z2 = nI m → zXe G x d da bf sb Z σ μ Q (aOp σ (sWage (aR σ) v z2)) (vI (wV (aR σ) v 9))) (k2 : ∀ v, v < V → z1 = nI v → (∀ m, 1 ≤ m → m ≤ 99 → z2 ≠ nI m) → zXt G x d da bf sb Z σ μ E σ 26) (k1 : (∀ v, v < V → z1 ≠ nI v) → zXt G x d da bf sb Z σ μ E σ 27) : Call G Y_X1_setWage [vP (1, 0, x), vI z1, vI z2] μ Q E := by
  refine Call.zo fun hok _ => ?_
  obtain ⟨g1, g2, -⟩ := id hg
  have gb := g1.1
  refine nS_X1_setWage (C_xValleyAt h hg (fun v b hv hz1 _ => ⟨_, rfl, _, rfl, C_xIn 1 100 (by decide) (by decide) (fun m m1 m2 hz => ⟨_, rfl, S_X1_checkArgument ⟨fun _ => ⟨rfl, ?_⟩, fun q => absurd q (by decide)⟩⟩) (fun hne => ⟨_, rfl, S_X1_checkArgument ⟨fun t => absurd rfl t, fun _ => ⟨rfl, (k2 v hv hz1 fun m m1 m2 => hne m m1 (by omega) (by omega)).nw h hok⟩⟩⟩)⟩) (fun q => ⟨rfl, (k1 q).nw h hok⟩))
  refine C_xPer1 (ok := True) (r' := sWage (aR σ) v z2) (v := wV (aR σ) v 9) (c := 0) (e := 0) hG h hok (gLam2 _ _ _ _ _ _) hg (fun _ => ⟨fun y u hy hu => ?_, fun y u hy hu => ?_⟩) (by omega) (by omega) (fun ν s F fg el ear vl var ds dm sm ea va ta sa Q' E' okν xt ks I st kk kkx => ⟨11, _, 2, zsz μ, rfl, rfl, by show (2 : Nat) ≠ 0; decide, by decide, by decide, ?_⟩) (fun q ν y => ⟨_, rfl, kt v m hv hz1 m1 (by omega) hz ν y⟩) (fun q => absurd trivial q)
  · unfold sWage wU; rw [if_neg (by omega)]
  · unfold sWage wU; rw [if_neg (by omega)]
  · have e0 : zai ν (zsz μ) 0 = z1 := by rw [(ks (zsz μ) (Nat.lt_succ_self _)).2.2.1, zai_zAi, if_neg (by omega), zai_zAi, if_pos ⟨rfl, rfl⟩]
    have e1 : zai ν (zsz μ) 1 = z2 := by rw [(ks (zsz μ) (Nat.lt_succ_self _)).2.2.1, zai_zAi, if_pos ⟨rfl, rfl⟩]
    show Call G _ [vI (zai ν (zsz μ) 0), vI (zai ν (zsz μ) 1), vP (2, 0, s)] ν Q' E'
    rw [e0, e1]
    exact S_X1_lambda_setWage_4 (C_sSetWage v hz1 hv (Nat.le_refl _) st (fun ρ q1 q2 q3 => ⟨_, rfl, kk trivial ρ (q1.up q2.1.1) (zGt.of q2 q3) (I.wl okν q2)⟩))
theorem C_xFund (hG : zGk G) (h : zXs G μ x d da bf sb sba n Z σ) (hg : sGd (aR σ) K V po D) (kt : ∀ v m, v < V → z1 = nI v → 1 ≤ m → m ≤ 999 → z2 = nI m → zXe G x d da bf sb Z σ μ Q (aOp σ (sFund (aR σ) v z2)) (vI (wV (aR σ) v 10 + z2))) (k2 : ∀ v, v < V → z1 = nI v → (∀ m, 1 ≤ m → m ≤ 999 → z2 ≠ nI m) → zXt G x d da bf sb Z σ μ E σ 26) (k1 : (∀ v, v < V → z1 ≠ nI v) → zXt G x d da bf sb Z σ μ E σ 27) : Call G Y_X1_fund [vP (1, 0, x), vI z1, vI z2] μ Q E := by
  refine Call.zo fun hok _ => ?_
  obtain ⟨g1, g2, -⟩ := id hg
  have gb := g1.1
  refine nS_X1_fund (C_xValleyAt h hg (fun v b hv hz1 _ => ⟨_, rfl, _, rfl, C_xIn 1 1000 (by decide) (by decide) (fun m m1 m2 hz => ⟨_, rfl, S_X1_checkArgument ⟨fun _ => ⟨rfl, ?_⟩, fun q => absurd q (by decide)⟩⟩) (fun hne => ⟨_, rfl, S_X1_checkArgument ⟨fun t => absurd rfl t, fun _ => ⟨rfl, (k2 v hv hz1 fun m m1 m2 => hne m m1 (by omega) (by omega)).nw h hok⟩⟩⟩)⟩) (fun q => ⟨rfl, (k1 q).nw h hok⟩))
  refine C_xPer1 (ok := True) (r' := sFund (aR σ) v z2) (v := wV (aR σ) v 10 + z2) (c := 0) (e := 0) hG h hok (gLam2 _ _ _ _ _ _) hg (fun _ => ⟨fun y u hy hu => ?_, fun y u hy hu => ?_⟩) (by omega) (by omega) (fun ν s F fg el ear vl var ds dm sm ea va ta sa Q' E' okν xt ks I st kk kkx => ⟨12, _, 2, zsz μ, rfl, rfl, by show (2 : Nat) ≠ 0; decide, by decide, by decide, ?_⟩) (fun q ν y => ⟨_, rfl, kt v m hv hz1 m1 (by omega) hz ν y⟩) (fun q => absurd trivial q)
  · unfold sFund wU; rw [if_neg (by omega), if_neg (by omega)]
  · unfold sFund wU; rw [if_neg (by omega), if_neg (by omega)]
  · have e0 : zai ν (zsz μ) 0 = z1 := by rw [(ks (zsz μ) (Nat.lt_succ_self _)).2.2.1, zai_zAi, if_neg (by omega), zai_zAi, if_pos ⟨rfl, rfl⟩]
    have e1 : zai ν (zsz μ) 1 = z2 := by rw [(ks (zsz μ) (Nat.lt_succ_self _)).2.2.1, zai_zAi, if_pos ⟨rfl, rfl⟩]
    show Call G _ [vI (zai ν (zsz μ) 0), vI (zai ν (zsz μ) 1), vP (2, 0, s)] ν Q' E'
    rw [e0, e1]
    exact S_X1_lambda_fund_5 (C_sFund v hz1 hv (Nat.le_refl _) st (fun ρ q1 q2 q3 => ⟨_, rfl, kk trivial ρ (q1.up q2.1.1) (zGt.of q2 q3) (I.wl okν q2)⟩))
end ZJ
