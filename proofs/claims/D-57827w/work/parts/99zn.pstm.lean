set_option maxRecDepth 100000
/-! THE COMPONENT, 59: a statement, whole -/
theorem wU_cmm {r : Nat → Int32} {i j : Nat} {y z : Int32} (h : i ≠ j) : wU (wU r i y) j z = wU (wU r j z) i y := by
  funext k
  unfold wU
  by_cases h1 : k = i
  · by_cases h2 : k = j
    · exact absurd (h1.symm.trans h2) h
    · rw [if_neg h2, if_pos h1, if_pos h1]
  · by_cases h2 : k = j
    · rw [if_pos h2, if_neg h1, if_pos h2]
    · rw [if_neg h2, if_neg h1, if_neg h1, if_neg h2]
section ZJ
variable {G : ZG} {μ ν τ μ0 : ZM} {Q : Option ZV → ZM → Prop} {E : ZP → ZM → Prop} {P x bf B c e a M K V s lo hi F fg el ear vl var ds dm sm c' e' h n C f c0 e0 : Nat} {ea va ta sa : Nat → Nat} {r : Nat → Int32} {po : Nat → Nat} {b w : List Nat} {y z z1 z2 : Int32} {q : ZP}
theorem C_pTested (hc : zPc G μ0 x bf B b) (h : zPq G μ0 ν P x b c e a M) (hB : zBd ν P r K V s lo hi F fg el ear vl var ds dm sm ea va ta sa) (hld : sLd r K V po) (hz : zPz r V) (hw : pWd b (pSk b a) = tTested)
    (kok : ∀ r' a', pTested b r (pSk b a) = .ok (r', a') → ∀ τ, zPq G μ0 τ P x b c e a' (P + 1) → zBd τ P r' K V s lo hi F fg el ear vl var ds dm sm ea va ta sa → zPz r' V → Q none τ) (ker : ∀ er, pTested b r (pSk b a) = .error er → zPx E μ0 b c e er) : Call G Y_X6_tested [vP (6, 0, P), vP (2, 0, s)] ν Q E := by
  obtain ⟨a1, a2, a3, a4⟩ := hld.1
  refine Call.zo fun hok hargs => ?_
  obtain ⟨hPt, hPz⟩ := tg_arg hargs (by decide) (by decide)
  have ep : pEd b (pSk b a) = pSk b a + 6 := by rw [pEd_3 (by rw [hw]; decide), hw]; rfl
  refine S_X6_tested (C_pNext hc h fun ν1 c1 e1 q1 f1 g1 => ⟨rfl, ?_⟩)
  rw [ep] at q1
  have B1 := hB.kp hok hPt g1 (fun a _ t => Or.inl t)
  refine C_pMustV (r := r) (V := V) hc q1 (fun q w Q' E' ⟨C, hs⟩ kt kf => C_pValleyN hs B1 hld kt kf) a4 (fun v a1' m1 hv ν2 c2 e2 q2 f2 g2 => ⟨_, rfl, ?_⟩) (fun er he => (ker er (by unfold pTested; simp only [he])).zk)
  have B2 := hB.kp hok hPt (g1.tr g2) (fun a _ t => Or.inl t)
  refine C_sValley v rfl hv B2.1 ⟨_, rfl, _, rfl, 12, ta v, (B2.1.2.2.1.2.2.2.2.2.1 v hv).1, ?_⟩
  refine Call.zq <| C_pMustE (r := r) (K := K) hc q2 (fun q w Q' E' ⟨C, hs⟩ kt kf => C_pEchoN hs B2 hld kt kf) a3 (fun e' a2' m2 he ν3 c3 e3 q3 f3 g3 ok3 _ => ⟨_, rfl, ?_⟩) (fun er he => (ker er (by unfold pTested; simp only [m1, he])).zk)
  have B3 := hB.kp hok hPt ((g1.tr g2).tr g3) (fun a _ t => Or.inl t)
  obtain ⟨S3, ⟨h1, h2, h3, h4, h5, h6⟩, N3⟩ := id B3
  obtain ⟨y1, y2, y3, y4, y5, y6, y7, y8, y9⟩ := S3.tg ok3
  have hta := (S3.2.2.1.2.2.1 v hv).2.1
  have htz : ta v < zsz ν2 := by have := (B2.1.2.2.1.2.2.1 v hv).2.1; have := B2.2.1.1; omega
  have hPo := q3.2.1.1
  refine ⟨e', zix.eq rfl (by omega) (by omega), kok (wU r (iP v e' 0) 1) a2' (by unfold pTested; simp only [m1, m2]) _ ?_ ⟨?_, ⟨h1, h2, h3, h4, h5, h6⟩, fun i hi' => ?_, fun u hu => ?_⟩ (rT_z hv (by omega) a4 hz)⟩
  · exact (q3.kp (W := fun h => h = ta v) (zext_zAi _ _ _ _) (fun a _ hn => zsame_zAi hn _) (fun h t => by omega) ((zG.trN (W := fun _ => False) q3.2.2.2 (zG.ai (a := ta v) (i := e') (v := 1) (Or.inr (by omega)))).mono (fun _ _ q => q) (by omega) (by omega))).le (by have := q2.2.1.2.1; omega)
  · have := S3.stT ok3 h1 hv (show e' < 12 by omega) (x := 1) (Or.inr rfl)
    rw [wU_cmm (by unfold iP; omega)]
    exact this
  · show zNa _ _ _ (zfr ν3 21 (ea i)) _
    rw [sName_cg (r := r) (fun u hu => wU_n (by unfold iP; omega)) (hld.2.2.2.2.1 i hi').2.2]
    exact (N3.1 i hi').kpT ok3 (ok3.2.2.2.2.2.1 21 (ea i)) fun a ha _ ht => (zsame_zAi (fun t => by rw [t, (y5 v hv).2.1] at ht; omega) _).c
  · show zNa _ _ _ (zfr ν3 30 (va u)) _
    rw [sName_cg (r := r) (fun u hu => wU_n (by unfold iP; omega)) (hld.2.2.2.2.2.1 u hu).2.2]
    exact (N3.2 u hu).kpT ok3 (ok3.2.2.2.2.2.1 30 (va u)) fun a ha _ ht => (zsame_zAi (fun t => by rw [t, (y5 v hv).2.1] at ht; omega) _).c
theorem C_pStm (hc : zPc G μ0 x bf B b) (h : zPq G μ0 ν P x b (c0 + K + 3 * V) (e0 + 9 * K + 25 * V) a M) (hf : zFh G ν (zfr ν 72 P)) (hPM : P < M) (hB : zBd ν P r K V s lo hi F fg el ear vl var ds dm sm ea va ta sa) (hld : sLd r K V po) (hz : zPz r V)
    (kok : ∀ r' a' K' V' po', pStm b r a = .ok (r', a') → ∀ τ hi' ea' va' ta' sa', zPq G μ0 τ P x b (c0 + K' + 3 * V') (e0 + 9 * K' + 25 * V') a' (P + 1) → zFh G τ (zfr τ 72 P) → zBd τ P r' K' V' s lo hi' F fg el ear vl var ds dm sm ea' va' ta' sa' → sLd r' K' V' po' → zPz r' V' → Q none τ) (ker : ∀ er, pStm b r a = .error er → zPx E μ0 b (c0 + 50) (e0 + 400) er) : Call G Y_X6_statement [vP (6, 0, P), vP (2, 0, s)] ν Q E := by
  obtain ⟨a1, a2, a3, a4⟩ := hld.1
  have hPo := h.2.1
  refine Call.zo fun hok hargs => ?_
  obtain ⟨hPt, hPz⟩ := tg_arg hargs (by decide) (by decide)
  obtain ⟨C0, hs0⟩ := zWd.str hc h.2.2.2 h.2.2.1.2.2.2.2
  -- behind a line: the semicolon
  have semi : ∀ r1 a1 K1 V1 po1 (τ : ZM) (hi1 : Nat) (ea1 va1 ta1 sa1 : Nat → Nat), pLine b r a = .ok (r1, a1) → zPq G μ0 τ P x b (c0 + K1 + 3 * V1) (e0 + 9 * K1 + 25 * V1) a1 (P + 1) → zBd τ P r1 K1 V1 s lo hi1 F fg el ear vl var ds dm sm ea1 va1 ta1 sa1 → sLd r1 K1 V1 po1 → zPz r1 V1 → Call G Y_X6_semicolon [vP (6, 0, P)] τ (rV fun ν2 => Q none ν2) (fun q ν => zkc q.1 = true ∧ E q ν) := by
    intro r1 a1 K1 V1 po1 τ hi1 ea1 va1 ta1 sa1 hL q1 B1 l1 z1
    obtain ⟨-, -, k3, k4⟩ := l1.1
    refine Call.zo fun okτ hargs => ?_
    obtain ⟨hPt1, hPz1⟩ := tg_arg hargs (by decide) (by decide)
    refine C_pSemi hc q1 (fun a2 hs τ2 c2 e2 q2 f2 g2 => ⟨rfl, kok r1 a2 K1 V1 po1 (by unfold pStm; simp only [hL, hs]) τ2 hi1 ea1 va1 ta1 sa1 (q2.le (by omega)) f2 (B1.kp okτ hPt1 g2 (fun a _ t => Or.inl t)) l1 z1⟩) (fun er he => ((ker er (by unfold pStm; simp only [hL, he])).le (by omega) (by omega)).zk)
  have lerr : ∀ er, pLine b r a = .error er → zPx E μ0 b (c0 + 50) (e0 + 400) er := fun er he => ker er (by unfold pStm; simp only [he])
  refine S_X6_statement ⟨_, rfl, hs0.1, C_hashW hc h.2.2.2 h.2.2.1.2.2.2.2 hf (by have := hPo.1; omega) fun τ ht => ⟨_, rfl, ?_⟩⟩
  -- the same state behind the hash
  have st : zPq G μ0 τ P x b (c0 + K + 3 * V) (e0 + 9 * K + 25 * V) a M ∧ zBd τ P r K V s lo hi F fg el ear vl var ds dm sm ea va ta sa ∧ zfr τ 72 P = zfr ν 72 P := by
    rcases ht with ⟨h0, f0, y0, k1, k2, k3, k4, rfl, k6, k7⟩ | ⟨rfl, k2⟩
    · exact ⟨h.hs (by have := hPo.1; omega) k4, hB.hs hok k3 k4, rfl⟩
    · exact ⟨h, hB, rfl⟩
  obtain ⟨q0, B0, e72⟩ := st
  obtain ⟨C1, hs1⟩ := zWd.str hc q0.2.2.2 q0.2.2.1.2.2.2.2
  rw [e72] at hs1
  have bad : pWd b (pSk b a) ≠ tEcho → pWd b (pSk b a) ≠ tValley → pWd b (pSk b a) ≠ tTested → Wp G Y_X6_statement 83 [(0, vP (6, 0, P)), (1, vP (2, 0, s)), (3, vI (-1))] [] τ Q E := fun n1 n2 n3 => by
    refine B_X6_statement_83 ⟨fun t => absurd t (by decide), fun t => absurd t (by decide), fun t => absurd t (by decide), fun _ => q0.req rfl ((lerr (1, pSk b a) ?_).le (by omega) (by omega)).zk⟩
    unfold pLine; rw [if_neg n1, if_neg n2, if_neg n3]
  refine ⟨fun hx => ?_, fun hx => ?_, fun hx => ?_, fun n1 n2 n3 => bad (fun t => n3 (by rw [t]; decide)) (fun t => n2 (by rw [t]; decide)) (fun t => n1 (by rw [t]; decide))⟩
  · refine C_strEq hs1 (hc.str q0.2.2.2 (y := (112, tTested)) (by unfold kTx; simp)) (fun t => ⟨_, rfl, fun t => absurd t (by decide), fun _ => ?_⟩) (fun t => ⟨_, rfl, fun _ => bad (fun u => by rw [u] at hx; exact absurd hx (by decide)) (fun u => by rw [u] at hx; exact absurd hx (by decide)) t, fun t => absurd rfl t⟩)
    have n1 : pWd b (pSk b a) ≠ tEcho := by rw [t]; decide
    have n2 : pWd b (pSk b a) ≠ tValley := by rw [t]; decide
    have eL : pLine b r a = pTested b r (pSk b a) := by unfold pLine; rw [if_neg n1, if_neg n2, if_pos t]
    refine B_X6_statement_83 ⟨fun t => absurd t (by decide), fun t => absurd t (by decide), fun _ => C_pTested hc q0 B0 hld hz t (fun r' a' hr τ1 q1 B1 z1 => ⟨rfl, ?_⟩) (fun er he => ((lerr er (eL.trans he)).le (by omega) (by omega)).zk), fun t => absurd t (by decide)⟩
    exact semi r' a' K V po τ1 hi ea va ta sa (eL.trans hr) q1 B1 (pTested_ok hld hr).1 z1
  · refine C_strEq hs1 (hc.str q0.2.2.2 (y := (111, tValley)) (by unfold kTx; simp)) (fun t => ⟨_, rfl, fun t => absurd t (by decide), fun _ => ?_⟩) (fun t => ⟨_, rfl, fun _ => bad (fun u => by rw [u] at hx; exact absurd hx (by decide)) t (fun u => by rw [u] at hx; exact absurd hx (by decide)), fun t => absurd rfl t⟩)
    have n1 : pWd b (pSk b a) ≠ tEcho := by rw [t]; decide
    have eL : pLine b r a = pValley b r (pSk b a) := by unfold pLine; rw [if_neg n1, if_pos t]
    refine B_X6_statement_83 ⟨fun t => absurd t (by decide), fun _ => C_pNewValley hc q0 B0 hld hz t (fun r' a' hr τ1 hi1 va1 ta1 sa1 q1 B1 z1 => ⟨rfl, ?_⟩) (fun er he => ((lerr er (eL.trans he)).le (by omega) (by omega)).zk), fun t => absurd t (by decide), fun t => absurd t (by decide)⟩
    obtain ⟨⟨po1, l1⟩, -⟩ := pValley_ok hld hr
    exact semi r' a' K (V + 1) po1 τ1 hi1 ea va1 ta1 sa1 (eL.trans hr) (by rw [show c0 + K + 3 * (V + 1) = c0 + K + 3 * V + 3 by omega, show e0 + 9 * K + 25 * (V + 1) = e0 + 9 * K + 25 * V + 25 by omega]; exact q1) B1 l1 z1
  · refine C_strEq hs1 (hc.str q0.2.2.2 (y := (110, tEcho)) (by unfold kTx; simp)) (fun t => ⟨_, rfl, fun t => absurd t (by decide), fun _ => ?_⟩) (fun t => ⟨_, rfl, fun _ => bad t (fun u => by rw [u] at hx; exact absurd hx (by decide)) (fun u => by rw [u] at hx; exact absurd hx (by decide)), fun t => absurd rfl t⟩)
    have eL : pLine b r a = pEcho b r (pSk b a) := by unfold pLine; rw [if_pos t]
    refine B_X6_statement_83 ⟨fun _ => C_pNewEcho hc q0 B0 hld hz t (fun r' a' hr τ1 hi1 ea1 q1 B1 z1 => ⟨rfl, ?_⟩) (fun er he => ((lerr er (eL.trans he)).le (by omega) (by omega)).zk), fun t => absurd t (by decide), fun t => absurd t (by decide), fun t => absurd t (by decide)⟩
    exact semi r' a' (K + 1) V po τ1 hi1 ea1 va ta sa (eL.trans hr) (by rw [show c0 + (K + 1) + 3 * V = c0 + K + 3 * V + 1 by omega, show e0 + 9 * (K + 1) + 25 * V = e0 + 9 * K + 25 * V + 9 by omega]; exact q1) B1 (pEcho_ok hld hr).1 z1
end ZJ
