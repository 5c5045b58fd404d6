set_option maxRecDepth 100000
/-! THE COMPONENT, 61: a configuration -/
section ZJ
variable {G : ZG} {μ ν τ μ0 : ZM} {Q : Option ZV → ZM → Prop} {E : ZP → ZM → Prop} {P x bf B c e a M K V s lo hi F fg el ear vl var ds dm sm c' e' h n C f c0 e0 : Nat} {ea va ta sa : Nat → Nat} {r : Nat → Int32} {po : Nat → Nat} {b w : List Nat} {y z1 z2 : Int32} {q : ZP} {z : Nat}
/-- a State without echoes and valleys -/
theorem zSta.ini {x : Int32} (h : zSi ν s z x F fg) (hs : s < z ∧ z + 7 ≤ zsz ν ∧ fg < zsz ν) (hF : r 4 = nI F ∧ 0 < F ∧ F ≤ 12) (h0 : r 0 = nI 0 ∧ r 1 = nI 0) (hx : r 3 = x) (hz : ∀ j, j ∈ [2, 5, 6, 7, 8, 9, 10] → r j = 0 ∧ zfi ν (fS j) s = 0) (hf : ∀ i, i < F → zai ν fg i = r (11 + i)) (ea va ta sa : Nat → Nat) : zSta ν s (zsz ν) s r 0 0 F fg z (z + 1) (z + 2) (z + 3) (z + 4) (z + 5) (z + 6) ea va ta sa := by
  obtain ⟨⟨r1, r2, r3, r4⟩, ⟨f8, f9⟩, l1, l2, d1, ⟨⟨m1, m2, m3⟩, m4, m5, m6, m7, m8⟩⟩ := h
  refine ⟨⟨by omega, ⟨h0.1, h0.2, hF.1, by omega, by omega, hF.2.1, hF.2.2⟩, fun w hw => ?_, ⟨f9, r1, r2, r3, r4⟩, hf⟩, ⟨by omega, l1.z0, fun i hi => absurd hi (Nat.not_lt_zero _), fun i j hi => absurd hi (Nat.not_lt_zero _), fun i w hi => absurd hi (Nat.not_lt_zero _)⟩, ⟨by omega, l2.z0, fun i hi => absurd hi (Nat.not_lt_zero _), fun i j hi => absurd hi (Nat.not_lt_zero _), fun i w hi => absurd hi (Nat.not_lt_zero _), fun i hi => absurd hi (Nat.not_lt_zero _), fun i j hi => absurd hi (Nat.not_lt_zero _), fun i j hi => absurd hi (Nat.not_lt_zero _)⟩, ⟨by omega, d1, Or.inl m3, [], fun _ => 0, fun _ => 0, fun _ => zN, m1 _ _ _, fun x hx => (by cases hx), ⟨fun n t e => (by rw [m2] at e; cases e), fun x hx => (by cases hx)⟩, fun x hx => absurd hx (Nat.not_lt_zero _)⟩, ⟨by omega, Or.inl m6, [], fun _ => 0, fun _ => 0, fun _ => zN, m4 _ _ _, fun x hx => (by cases hx), ⟨fun n t e => (by rw [m5] at e; cases e), fun x hx => (by cases hx)⟩, fun x hx => absurd hx (Nat.not_lt_zero _)⟩, fun n n' t e => (by rw [m2] at e; cases e)⟩
  have : w = 3 ∨ w ∈ [2, 5, 6, 7, 8, 9, 10] := by
    simp at hw ⊢; omega
  rcases this with rfl | hw'
  · exact f8.trans hx.symm
  · rw [(hz w hw').1]; exact (hz w hw').2
/-- a configuration read: the State -/
def zCf (G : ZG) (μ0 τ : ZM) (P s c e : Nat) (r : Nat → Int32) : Prop := ∃ (K V lo hi F fg el ear vl var ds dm sm : Nat) (ea va ta sa : Nat → Nat), zSta τ lo hi s r K V F fg el ear vl var ds dm sm ea va ta sa ∧ hi ≤ zsz τ ∧ P < lo ∧ P ≠ fg ∧ zsz μ0 ≤ P ∧ zsz μ0 ≤ fg ∧ zNs τ (fun a => a ≤ P) hi K V ea va r ∧ zG (fun _ => False) c e μ0 τ
theorem C_pStms (hc : zPc G μ0 x bf B b) : ∀ (n : Nat) (r : Nat → Int32) (a K V : Nat) (po : Nat → Nat) (hi : Nat) (ea va ta sa : Nat → Nat) (ν : ZM) (M : Nat), b.length < a + n → zPq G μ0 ν P x b (c0 + K + 3 * V) (e0 + 9 * K + 25 * V) a M → zFh G ν (zfr ν 72 P) → P < M → zsz μ0 ≤ fg → zBd ν P r K V s lo hi F fg el ear vl var ds dm sm ea va ta sa → sLd r K V po → zPz r V → (∀ r', pStms b n r a = .ok r' → ∀ τ, zCf G μ0 τ P s (c0 + 50 + 5 * b.length) (e0 + 400 + 33 * b.length) r' → Q (some (vP (2, 0, s))) τ) → (∀ er, pStms b n r a = .error er → zPx E μ0 b (c0 + 50) (e0 + 400) er) → Wp G Y_X6_configuration 31 [(0, vP (6, 0, P)), (2, vP (2, 0, s))] [] ν Q E := by
  have hK := hc.2.2.2
  intro n
  induction n with
  | zero => intro r a K V po hi ea va ta sa ν M hn h; have := h.1; omega
  | succ n ih =>
    intro r a K V po hi ea va ta sa ν M hn h hf hPM hfg hB hld hz kok ker
    obtain ⟨a1, a2, a3, a4⟩ := hld.1
    have hPo := h.2.1
    obtain ⟨h1, h2, ⟨t1, t2, t3, t4, t5⟩, h4⟩ := id h
    have e1 : pStms b (n + 1) r a = if ¬ r 0 = 0 ∧ ¬ r 1 = 0 ∧ b.length ≤ pSk b a then .ok r else match pStm b r a with
      | .error e => .error e
      | .ok (r1, a1) => pStms b n r1 a1 := rfl
    refine Wp.zo fun okν => B_X6_configuration_31 ⟨_, t3, hK.no (pKd_in _ _), hK.no (by omega), fun heq => ?_, fun hne => ?_⟩
    · -- the end of the text
      have hk2 := hK.eq (pKd_in b (pSk b a)) (by omega) heq
      have hend : b.length ≤ pSk b a := by
        apply Decidable.byContradiction
        intro t
        unfold pKd at hk2
        rw [if_pos (by omega)] at hk2
        split at hk2
        · cases hk2
        · split at hk2 <;> cases hk2
      have hw0 : pWd b (pSk b a) = [] := pTw_stop (fun q => absurd q (by omega))
      have hbad : (r 0 = 0 ∨ r 1 = 0) → pStms b (n + 1) r a = .error (1, pSk b a) := fun q => by
        rw [e1, if_neg (fun t => q.elim t.1 t.2.1)]
        have : pStm b r a = .error (1, pSk b a) := by
          unfold pStm pLine
          rw [hw0, if_neg (by decide), if_neg (by decide), if_neg (by decide)]
        rw [this]
      have bad : (r 0 = 0 ∨ r 1 = 0) → ∀ Q', Call G Y_X6_require [vP (6, 0, P), vI 0, vI 1] ν Q' (fun q ν => zkc q.1 = true ∧ E q ν) := fun q Q' => h.req rfl ((ker _ (hbad q)).le (by omega) (by omega)).zk
      refine ⟨el, hB.1.1.2.2.2.1.2.1, C_alEmpty hB.1.2.1.2.1 (fun q => ⟨_, rfl, fun _ => bad (Or.inl (by rw [a1, q]; rfl)) _, fun t => absurd t (by decide)⟩) (fun hK0 => ⟨_, rfl, fun t => absurd rfl t, fun _ => ⟨vl, hB.1.1.2.2.2.1.2.2.1, C_alEmpty hB.1.2.2.1.2.1 (fun q => ⟨_, rfl, fun _ => bad (Or.inr (by rw [a2, q]; rfl)) _, fun t => absurd t (by decide)⟩) (fun hV0 => ⟨_, rfl, fun t => absurd rfl t, fun _ => C_pReq1 (by decide) ⟨rfl, ?_⟩⟩)⟩⟩)⟩
      have hok' : pStms b (n + 1) r a = .ok r := by
        rw [e1, if_pos ⟨by rw [a1]; exact nI_ne0 (by omega) (by omega), by rw [a2]; exact nI_ne0 (by omega) (by omega), hend⟩]
      obtain ⟨S, ⟨b2, b3, b4, b5, b6, b7⟩, N⟩ := hB
      have hE := pEd_le (pSk_le h1)
      -- the money at the start
      have loop : ∀ d i (τ : ZM), i + d = V → zSta τ lo hi s (wU r 7 (sPur r i)) K V F fg el ear vl var ds dm sm ea va ta sa → (hi ≤ zsz τ ∧ (ztg τ s).1 = 2 ∧ (∀ f, zfr τ f = zfr ν f) ∧ zsz τ = zsz ν ∧ ∀ a, a ≠ s → zsame ν τ a) → zG (fun _ => False) (c0 + 50 + 5 * b.length) (e0 + 400 + 33 * b.length) μ0 τ → Wp G Y_X6_configuration 85 [(2, vP (2, 0, s)), (3, vI (nI i))] [] τ Q E := by
        intro d
        induction d with
        | zero =>
          intro i τ hi' St ⟨u1, u2, u3, u4, u5⟩ gτ
          have hi0 : i = V := by omega
          subst hi0
          have e7 : wU r 7 (sPur r i) = r := by
            funext j
            unfold wU
            by_cases t : j = 7
            · rw [if_pos t, t, hz.2.2]
            · rw [if_neg t]
          rw [e7] at St
          refine B_X6_configuration_85 ⟨vl, St.1.2.2.2.1.2.2.1, C_alSize St.2.2.1.2.1 ⟨_, rfl, fun _ => kok r hok' τ ⟨K, i, lo, hi, F, fg, el, ear, vl, var, ds, dm, sm, ea, va, ta, sa, St, u1, b3, b7, hPo.1, hfg, ⟨fun j hj => ?_, fun v hv => ?_⟩, gτ⟩, fun q => absurd q (nI_nlt (by omega) (by omega))⟩⟩
          · rw [u3 21]
            exact (N.1 j hj).kpT (τ := τ) okν (okν.2.2.2.2.2.1 21 _) (fun a ha _ ht => (u5 a (fun t => by rw [t, b4] at ht; omega)).c)
          · rw [u3 30]
            exact (N.2 v hv).kpT (τ := τ) okν (okν.2.2.2.2.2.1 30 _) (fun a ha _ ht => (u5 a (fun t => by rw [t, b4] at ht; omega)).c)
        | succ d ihd =>
          intro i τ hi' St hfr gτ
          obtain ⟨u1, u2, u3, u4, u5⟩ := hfr
          have hiV : i < V := by omega
          refine Wp.zo fun okτ => B_X6_configuration_85 ⟨vl, St.1.2.2.2.1.2.2.1, C_alSize St.2.2.1.2.1 ⟨_, rfl, fun q => absurd (nI_lt (by omega) (by omega)) q, fun _ => ⟨sPur r i, ?_, C_sValley i rfl hiV St ⟨_, rfl, _, rfl, _, St.eV hiV 10 (by decide), ?_⟩⟩⟩⟩
          · have := St.1.2.2.1 7 (by decide)
            rw [wU_s] at this; exact this
          · have e10 : wV (wU r 7 (sPur r i)) i 10 = wV r i 10 := wU_n (by omega)
            have st : sPur r (i + 1) = sPur r i + wV r i 10 := rfl
            rw [nI_1, e10, ← st]
            have S' := St.stS okτ u1 u2 7 (by decide) (x := sPur r (i + 1))
            have ew : wU (wU r 7 (sPur r i)) 7 (sPur r (i + 1)) = wU r 7 (sPur r (i + 1)) := by
              funext j
              unfold wU
              by_cases t : j = 7
              · rw [if_pos t, if_pos t]
              · rw [if_neg t, if_neg t, if_neg t]
            rw [ew] at S'
            exact ihd (i + 1) _ (by omega) S' ⟨u1, u2, fun f => u3 f, u4, fun a ha => (u5 a ha).trans (zsame_zFi ha _)⟩ (zG.nfi gτ (by have := hPo.1; have := St.1.1.1; omega))
      have e0' : wU r 7 (sPur r 0) = wU r 7 0 := rfl
      exact loop V 0 ν (by omega) S ⟨b2, b4, fun _ => rfl, rfl, fun a _ => zsame.rf ν a⟩ (zG.mono h4 (fun _ _ q => q) (by omega) (by omega))
    · -- a statement
      have hno : ¬ b.length ≤ pSk b a := fun t => hne (by unfold pKd; rw [if_neg (by omega)])
      rw [e1, if_neg (fun t => hno t.2.2)] at kok ker
      refine C_pStm hc h hf hPM hB hld hz (fun r' a' K' V' po' hs τ hi' ea' va' ta' sa' q1 f1 B1 l1 z1 => ⟨rfl, ?_⟩) (fun er he => (ker er (by simp only [he])).zk)
      have := (pStm_ok hld hs).2
      simp only [hs] at kok ker
      exact ih r' a' K' V' po' hi' ea' va' ta' sa' τ (P + 1) (by omega) q1 f1 (Nat.lt_succ_self _) hfg B1 l1 z1 kok ker
end ZJ
