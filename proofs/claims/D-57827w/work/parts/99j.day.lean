set_option maxRecDepth 100000
/-! THE COMPONENT, 29: a day; days -/
section ZJ
variable {G : ZG} {μ : ZM} {Q : Option ZV → ZM → Prop} {E : ZP → ZM → Prop} {lo hi s K V F fg el ear vl var ds dm sm : Nat} {ea va ta sa : Nat → Nat} {r : Nat → Int32} {z1 z2 z3 : Int32}
/-- a State's memory has gone on by c cells, d slots and its maps' tables -/
theorem C_sDay (D : Nat) {po : Nat → Nat} {B : Nat} (hw : sW r K V po B) (hB : B < 999999000) (hD : r 2 = nI D) (hD2 : D < 2 ^ 31) (hsm : zSm K V r) (hg : (zgS G 7).1 ≠ 0) (hh : hi ≤ zsz μ) (hI : zIc G μ) (h : zSta μ lo hi s r K V F fg el ear vl var ds dm sm ea va ta sa)
    (k : ∀ ρ, zSta ρ lo (zsz ρ) s (sDay r K V) K V F fg el ear vl var ds dm sm ea va ta sa → zGt lo 178 686 sm dm μ ρ → zIc G ρ → Q none ρ) : Call G Y_X2_passDay [vP (2, 0, s)] μ Q E := by
  have hK := h.1.2.1.2.2.2.1
  have hV := h.1.2.1.2.2.2.2.1
  obtain ⟨S, s1, s2, s3⟩ := hw.2.2.1
  refine Call.zo fun hok hargs => ?_
  obtain ⟨hs2, hsz⟩ := tg_arg hargs (by decide) (by decide)
  obtain ⟨kp1, w1⟩ := sDay1_ok hw
  have n2 : ¬ iDyn 2 := by unfold iDyn; omega
  have l3 : ∀ (dd e : Nat) (ν : ZM), e + dd = K → zSta ν lo (zsz ν) s (sMays (sShouts (sDay1 r K V) V) e) K V F fg el ear vl var ds dm sm ea va ta sa → zGt lo (130 + 4 * e) (590 + 8 * e) sm dm μ ν → zIc G ν → Wp G Y_X2_passDay 44 [(0, vP (2, 0, s)), (1, vI (nI e))] [] ν Q E := by
    intro dd
    induction dd with
    | zero =>
      intro e ν hed hν hgt hIν
      have : e = K := by omega
      subst this
      refine Wp.zo fun hokν => B_X2_passDay_44 ⟨_, hν.1.2.2.2.1.2.1, C_alSize hν.2.1.2.1 ⟨_, rfl, fun _ => ⟨_, hν.1.2.2.1 2 (by decide), ?_⟩, fun q => absurd q (nI_nlt (Nat.le_refl _) (by omega))⟩⟩
      have hsν : (ztg ν s).1 = 2 := by rw [hgt.1.1.2.2 s hsz]; exact hs2
      have a := hν.stS hokν (Nat.le_refl _) hsν 2 (by decide) (x := sMays (sShouts (sDay1 r e V) V) e 2 + 1)
      have hwS : zWl lo ν s := ⟨h.1.1.1, by rw [hsν]; unfold zim; omega⟩
      have g : zG (zWl lo ν) 0 0 ν (zFi ν 14 s (sMays (sShouts (sDay1 r e V) V) e 2 + 1)) := zG.fi hwS
      exact k _ a ((hgt.tr (zGt.of g rfl)).mo (by omega) (by omega)) (hIν.wl hokν g)
    | succ dd ih =>
      intro e ν hed hν hgt hIν
      have heK : e < K := by omega
      obtain ⟨kp2, w2⟩ := sShouts_ok w1 hB V hV
      obtain ⟨kp3, w3⟩ := sMays_ok w2 e (by omega)
      obtain ⟨u, hu, hu2⟩ := w3.2.2.2.2.2 e (by omega)
      refine B_X2_passDay_44 ⟨_, hν.1.2.2.2.1.2.1, C_alSize hν.2.1.2.1 ⟨_, rfl, fun q => absurd (nI_lt heK (by omega)) q, fun _ => C_sDesert e D u rfl heK (by rw [kp3 2 n2, kp2 2 n2, kp1 2 n2]; exact hD) hD2 hu (by omega) (w3.mem heK) hg (Nat.le_refl _) hIν hν fun ρ j1 j2 j3 => ⟨rfl, ?_⟩⟩⟩
      rw [nI_1]
      exact ih (e + 1) ρ (by omega) j1 ((hgt.tr j2).mo (by omega) (by omega)) j3
  have l2 : ∀ (dd v : Nat) (ν : ZM), v + dd = V → zSta ν lo (zsz ν) s (sShouts (sDay1 r K V) v) K V F fg el ear vl var ds dm sm ea va ta sa → zGt lo (10 + 15 * v) (374 + 27 * v) sm dm μ ν → zIc G ν → Wp G Y_X2_passDay 18 [(0, vP (2, 0, s)), (1, vI (nI v))] [] ν Q E := by
    intro dd
    induction dd with
    | zero =>
      intro v ν hvd hν hgt hIν
      have : v = V := by omega
      subst this
      exact B_X2_passDay_18 ⟨_, hν.1.2.2.2.1.2.2.1, C_alSize hν.2.2.1.2.1 ⟨_, rfl, fun _ => l3 K 0 ν (by omega) hν (hgt.mo (by omega) (by omega)) hIν, fun q => absurd q (nI_nlt (Nat.le_refl _) (by omega))⟩⟩
    | succ dd ih =>
      intro v ν hvd hν hgt hIν
      have hvV : v < V := by omega
      obtain ⟨kp2, w2⟩ := sShouts_ok w1 hB v (by omega)
      obtain ⟨sl, hst⟩ := w2.2.2.2.2.1
      obtain ⟨t1, t2, t3⟩ := sSt_eq hst (show v < 8 by omega)
      refine B_X2_passDay_18 ⟨_, hν.1.2.2.2.1.2.2.1, C_alSize hν.2.2.1.2.1 ⟨_, rfl, fun q => absurd (nI_lt hvV (by omega)) q, fun _ => C_sShout v _ rfl hvV t3 t2 (fun i hi => ?_) (Nat.le_refl _) hIν hν fun ρ j1 j2 j3 => ⟨rfl, ?_⟩⟩⟩
      · obtain ⟨-, m2, m3, -⟩ := sMem_eq hst hK (show v < 8 by omega) hi
        exact ⟨_, m3, m2⟩
      · rw [nI_1]
        exact ih (v + 1) ρ (by omega) j1 ((hgt.tr j2).mo (by omega) (by omega)) j3
  have hrem : (r 2 - r 2 / r 3 * r 3) = nI (D % S) := by rw [hD, s1]; exact pk_rem hD2 s2 (by omega)
  have hcond : (r 2).toNatClampNeg % (r 3).toNatClampNeg = D % S := by rw [hD, s1, nI_clamp hD2, nI_clamp (by omega)]
  have hlt : D % S < S := Nat.mod_lt _ s2
  have d1 : sDay1 r K V = if D % S = 0 then sSeason r K V else r := by unfold sDay1; rw [hcond]
  refine S_X2_passDay ⟨_, h.1.2.2.1 2 (by decide), _, h.1.2.2.1 3 (by decide), by rw [s1]; exact nI_ne0 s2 (by omega), fun q => ?_, fun q => ?_⟩
  · have hne : ¬ D % S = 0 := fun q2 => q (by rw [hrem, q2]; rfl)
    rw [if_neg hne] at d1
    exact l2 V 0 μ (by omega) (by show zSta μ lo (zsz μ) s (sDay1 r K V) K V F fg el ear vl var ds dm sm ea va ta sa; rw [d1]; exact h.up hh) ((zGt.rf lo sm dm μ).mo (by omega) (by omega)) hI
  · have he : D % S = 0 := by
      rw [hrem] at q
      exact (nI_eq (a := D % S) (b := 0) (by omega) (by omega)).mp q
    rw [if_pos he] at d1
    refine C_sSeason hw hsm hh hI h fun ρ j1 j2 j3 => ⟨rfl, l2 V 0 ρ (by omega) (by show zSta ρ lo (zsz ρ) s (sDay1 r K V) K V F fg el ear vl var ds dm sm ea va ta sa; rw [d1]; exact j1) (j2.mo (by omega) (by omega)) j3⟩
theorem zSm.kd {r r' : Nat → Int32} {K V : Nat} (h : zSm K V r) (k : sKd r r') (hK : K ≤ 12) (hV : V ≤ 8) : zSm K V r' := by
  obtain ⟨h1, h2⟩ := h
  have sE : ∀ v e, v < V → e < K → sSeen r' v e = sSeen r v e := fun v e hv he => by
    have e1 : wP r' v e 0 = wP r v e 0 := k _ (by unfold iDyn; omega) (by omega)
    have e2 : wE r' e 8 = wE r e 8 := k _ (by unfold iDyn; omega) (by omega)
    have e3 : wE r' e 7 = wE r e 7 := k _ (by unfold iDyn; omega) (by omega)
    have e4 : wV r' v 7 = wV r v 7 := k _ (by unfold iDyn; omega) (by omega)
    unfold sSeen sTrue
    rw [e1, e2, e3, e4]
  have sV : ∀ v, v < V → wV r' v 9 = wV r v 9 := fun v hv => k _ (by unfold iDyn; omega) (by omega)
  refine ⟨fun v o hv ho => ?_, fun v e o hv he ho => ?_⟩
  · rw [sV v hv, sV o ho]; exact h1 v o hv ho
  · rw [sE v e hv he, sE v o hv ho]; exact h2 v e o hv he ho
theorem C_sAfter (n D : Nat) {po : Nat → Nat} {B : Nat} (h1 : z1 = nI n) (hn : n ≤ 120) (hw : sW r K V po B) (hB : B < 900000000) (hD : r 2 = nI D) (hD2 : D < 2000000000) (hsm : zSm K V r) (hg : (zgS G 7).1 ≠ 0) (hh : hi ≤ zsz μ) (hI : zIc G μ) (h : zSta μ lo hi s r K V F fg el ear vl var ds dm sm ea va ta sa)
    (k : ∀ ρ, zSta ρ lo (zsz ρ) s (sDays r K V n) K V F fg el ear vl var ds dm sm ea va ta sa → zGt lo (178 * n) (686 * n) sm dm μ ρ → zIc G ρ → Q (some (vP (2, 0, s))) ρ) : Call G Y_X2_after [vP (2, 0, s), vI z1] μ Q E := by
  subst h1
  have hK := h.1.2.1.2.2.2.1
  have hV := h.1.2.1.2.2.2.2.1
  have loop : ∀ (d i : Nat) (ν : ZM), i + d = n → zSta ν lo (zsz ν) s (sDays r K V i) K V F fg el ear vl var ds dm sm ea va ta sa → zGt lo (178 * i) (686 * i) sm dm μ ν → zIc G ν → Wp G Y_X2_after 2 [(0, vP (2, 0, s)), (1, vI (nI n)), (2, vI (nI i))] [] ν Q E := by
    intro d
    induction d with
    | zero =>
      intro i ν hid hν hgt hIν
      have : i = n := by omega
      subst this
      exact B_X2_after_2 ⟨fun _ => k ν hν hgt hIν, fun q => absurd q (nI_nlt (Nat.le_refl _) (by omega))⟩
    | succ d ih =>
      intro i ν hid hν hgt hIν
      obtain ⟨k1, k2, k3⟩ := sDays_ok hw hB i (by omega)
      refine B_X2_after_2 ⟨fun q => absurd (nI_lt (by omega) (by omega)) q, fun _ => C_sDay (D + i) k2 (by omega) (by rw [k3, hD, nI_add]) (by omega) (hsm.kd k1 hK hV) hg (Nat.le_refl _) hIν hν fun ρ j1 j2 j3 => ⟨rfl, ?_⟩⟩
      rw [nI_1]
      exact ih (i + 1) ρ (by omega) j1 ((hgt.tr j2).mo (by omega) (by omega)) j3
  exact S_X2_after (loop n 0 μ (by omega) (h.up hh) (zGt.rf _ _ _ _) hI)
/-- how often echoes have left -/
theorem C_sLeft (hok : zok μ) (hh : hi ≤ zsz μ) (h : zSta μ lo hi s r K V F fg el ear vl var ds dm sm ea va ta sa)
    (k : ∀ ρ, zSta ρ lo hi s r K V F fg el ear vl var ds dm sm ea va ta sa → zG (fun _ => False) 1 4 μ ρ → Q (some (vI (sLeft r K))) ρ) : Call G Y_X2_desertions [vP (2, 0, s)] μ Q E := by
  have hK := h.1.2.1.2.2.2.1
  obtain ⟨t1, t2, t3, t4, t5, t6, t7, t8, t9⟩ := h.tg hok
  have hel : el < zsz μ := by have := h.2.1.1; omega
  have loop : ∀ (d i : Nat) (ν : ZM), i + d = K → zSta ν lo hi s r K V F fg el ear vl var ds dm sm ea va ta sa → zG (fun _ => False) 1 4 μ ν → zIt ν (zsz μ) el i → Wp G Y_X2_desertions 12 [(1, vI (sLeft r i)), (2, vP (11, 0, zsz μ))] [] ν Q E := by
    intro d
    induction d with
    | zero =>
      intro i ν hid hν hgt hit
      have : i = K := by omega
      subst this
      exact B_X2_desertions_12 (C_itHas hν.2.1.2.1 hit (Nat.le_refl _) (fun q => absurd q (Nat.lt_irrefl _)) (fun _ => ⟨_, rfl, fun _ => k ν hν hgt, fun q => absurd rfl q⟩))
    | succ d ih =>
      intro i ν hid hν hgt hit
      have hiK : i < K := by omega
      refine Wp.zo fun hokν => B_X2_desertions_12 (C_itHas hν.2.1.2.1 hit (by omega) (fun _ => ⟨_, rfl, fun q => absurd q (by decide), fun _ => Call.zo fun _ hargs => C_itNext hν.2.1.2.1 hit hiK (by omega) fun ρ g1 g2 => ⟨_, rfl, _, rfl, ?_⟩⟩) (fun q => absurd q (by omega)))
      have hzt : (ztg ν (zsz μ)).1 = 11 := (tg_arg hargs (by decide) (by decide)).1
      have hρ := hν.far hokν (by have := hgt.1.1; omega) g1 (fun a _ q => by rw [q, hzt]; exact ⟨hh, by unfold zim; omega⟩)
      have e14 := hρ.eE hiK 14 (by decide)
      rw [show oE 14 = 0 from rfl, i32_s0] at e14
      refine ⟨_, e14, ih (i + 1) ρ (by omega) hρ (zG.trN (W := fun _ => False) hgt (g1.mono (fun a _ q => Or.inr (by rw [q]; exact Nat.le_refl _)) (Nat.le_refl _) (Nat.le_refl _))) g2⟩
  exact S_X2_desertions ⟨_, h.1.2.2.2.1.2.1, C_alIter hok hel fun ν g1 g2 => ⟨_, rfl, _, rfl, loop K 0 ν (by omega) (h.nw hok hh g1) g1 g2⟩⟩
theorem C_sPassDays (n D : Nat) {po : Nat → Nat} {B : Nat} (h1 : z1 = nI n) (hn : n ≤ 120) (hw : sW r K V po B) (hB : B < 900000000) (hD : r 2 = nI D) (hD2 : D < 2000000000) (hsm : zSm K V r) (hg : (zgS G 7).1 ≠ 0) (hh : hi ≤ zsz μ) (hI : zIc G μ) (h : zSta μ lo hi s r K V F fg el ear vl var ds dm sm ea va ta sa)
    (k : ∀ ρ, zSta ρ lo (zsz ρ) s (sDays r K V n) K V F fg el ear vl var ds dm sm ea va ta sa → zGt lo (178 * n + 2) (686 * n + 8) sm dm μ ρ → zIc G ρ → Q (some (vI (sLeft (sDays r K V n) K - sLeft r K))) ρ) : Call G Y_X2_passDays [vP (2, 0, s), vI z1] μ Q E := by
  refine Call.zo fun hok _ => S_X2_passDays (C_sLeft hok hh h fun ν j1 j2 => ⟨_, rfl, ?_⟩)
  have hIν := hI.nw hok j2
  have hhν : hi ≤ zsz ν := by have := j2.1.1; omega
  refine C_sAfter n D h1 hn hw hB hD hD2 hsm hg hhν hIν j1 fun ρ q1 q2 q3 => ⟨_, rfl, _, rfl, ?_⟩
  refine Call.zo fun hokρ _ => C_sLeft hokρ (Nat.le_refl _) q1 fun σ p1 p2 => ⟨_, rfl, k σ (p1.up p2.1.1) ?_ (q3.nw hokρ p2)⟩
  have d1 := h.dsm hh
  have d2 := q1.dsm (Nat.le_refl _)
  exact (((zGt.no (lo := lo) j2 d1.1 d1.2).tr q2).tr (zGt.no (lo := lo) p2 d2.1 d2.2)).mo (by omega) (by omega)
end ZJ
