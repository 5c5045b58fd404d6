/-! CONTRACTS, 24: the model executes commands -/
/-- the commands that were read, in the model's array -/
def zTl (μ : ZM) (m : Nat) (l : List (Nat × Nat × Nat)) : Prop := ∀ i, i < l.length → zai μ (m + 11) (3 * i) = nI (l.getD i (0, 0, 0)).1 ∧ ((l.getD i (0, 0, 0)).1 ≠ 1 → zai μ (m + 11) (3 * i + 1) = nI (l.getD i (0, 0, 0)).2.1) ∧ ((l.getD i (0, 0, 0)).1 = 2 ∨ (l.getD i (0, 0, 0)).1 = 4 ∨ (l.getD i (0, 0, 0)).1 = 5 → zai μ (m + 11) (3 * i + 2) = nI (l.getD i (0, 0, 0)).2.2)
def zFc (m f b : Nat) : Prop := b = m ∧ ((57 ≤ f ∧ f ≤ 61) ∨ f = 65)
def zA2 (m b : Nat) : Prop := b = m + 1 ∨ b = m + 11
theorem pParts_0 (b : List Nat) (r : Nat → Int32) (a : Nat) : pParts b r 0 a = match pNum b 1 60 a with
    | .error e => .error e
    | .ok (x, a1) => .ok ((x, 0), a1) := rfl
theorem pParts_2 (b : List Nat) (r : Nat → Int32) (a : Nat) : pParts b r 2 a = match pMust b r true a with
    | .error e => .error e
    | .ok (x, a1) => match pMust b r false a1 with
      | .error e => .error e
      | .ok (y, a2) => .ok ((x, y), a2) := rfl
theorem pParts_3 (b : List Nat) (r : Nat → Int32) (a : Nat) : pParts b r 3 a = match pMust b r false a with
    | .error e => .error e
    | .ok (x, a1) => .ok ((x, 0), a1) := rfl
theorem pParts_4 (b : List Nat) (r : Nat → Int32) (a : Nat) : pParts b r 4 a = match pMust b r true a with
    | .error e => .error e
    | .ok (x, a1) => match pNum b 1 99 a1 with
      | .error e => .error e
      | .ok (y, a2) => .ok ((x, y), a2) := rfl
theorem pParts_5 (b : List Nat) (r : Nat → Int32) (a : Nat) : pParts b r 5 a = match pMust b r true a with
    | .error e => .error e
    | .ok (x, a1) => match pNum b 1 999 a1 with
      | .error e => .error e
      | .ok (y, a2) => .ok ((x, y), a2) := rfl
theorem pParts_6 (b : List Nat) (r : Nat → Int32) (a : Nat) : pParts b r 6 a = match pMust b r false a with
    | .error e => .error e
    | .ok (x, a1) => .ok ((x, 0), a1) := rfl
section ZCM
variable {G : ZG} {μ ν : ZM} {Q : Option ZV → ZM → Prop} {E : ZP → ZM → Prop} {m a p q K V D : Nat} {z z1 z2 : Int32} {b w : List Nat} {r : Nat → Int32} {e : Int32 × Nat} {po : Nat → Nat} {σ : ZS}
theorem zW.kc (h : zW (zFk m) (zA1 (m + 1)) μ ν) : zW (zFc m) (zA2 m) μ ν := h.mono (fun f c t => ⟨t.1, Or.inl t.2⟩) (fun c t => Or.inl t)
theorem zW.ct (h : zW (zFc m) (zA2 m) μ ν) : zW (zFt m) (zAt m) μ ν := h.mono (fun f c t => by unfold zFc at t; unfold zFt; omega) (fun c t => by unfold zA2 at t; unfold zAt; omega)
theorem pOk.told (h : pOk G μ m b a r) (j : Nat) (x : Int32) : pOk G (zAi μ (m + 11) j x) m b a r := by
  obtain ⟨h1, h2, h3, h4, h5⟩ := h
  exact ⟨h1.same2 (zW.ct (zW_Ai (F := zFc m) (A := zA2 m) (Or.inr rfl) μ j x)), h2, h3, h4, (zai_oth (by omega) _ _).trans h5⟩
theorem pEr.told (h : pEr G μ m b e) (j : Nat) (x : Int32) : pEr G (zAi μ (m + 11) j x) m b e := by
  obtain ⟨h1, h2, h3, h4, h5⟩ := h
  exact ⟨h1.same2 (zW.ct (zW_Ai (F := zFc m) (A := zA2 m) (Or.inr rfl) μ j x)), h2, h3, h4, fun i hi => by rw [zai_oth (by omega)]; exact h5 i hi⟩
theorem zW_told (μ : ZM) (j : Nat) (x : Int32) : zW (zFc m) (zA2 m) μ (zAi μ (m + 11) j x) := zW_Ai (Or.inr rfl) μ j x
theorem zW_65 (μ : ZM) (x : Int32) : zW (zFc m) (zA2 m) μ (zFi μ 65 m x) := zW_Fi ⟨rfl, Or.inr rfl⟩ μ x
theorem pOk.s65 (h : pOk G μ m b a r) (x : Int32) : pOk G (zFi μ 65 m x) m b a r := by
  obtain ⟨h1, h2, h3, ⟨h4, h5⟩, h6⟩ := h
  exact ⟨h1.same2 (zW_65 μ x).ct, by rw [zfi_zFi, if_neg (by omega)]; exact h2, h3, ⟨by rw [zfi_zFi, if_neg (by omega)]; exact h4, by rw [zfi_zFi, if_neg (by omega)]; exact h5⟩, h6⟩
theorem pEr.s65 (h : pEr G μ m b e) (x : Int32) : pEr G (zFi μ 65 m x) m b e := by
  obtain ⟨h1, h2, h3, h4, h5⟩ := h
  exact ⟨h1.same2 (zW_65 μ x).ct, by rw [zfi_zFi, if_neg (by omega)]; exact h2, h3, by rw [zfi_zFi, if_neg (by omega)]; exact h4, h5⟩
theorem C_commandHere (h : pOk G μ m b a r) (k : ∀ ν, pTk G ν m b (pSk b a) r → zW (zFk m) (zA1 (m + 1)) μ ν → Q (some (vI (o2i (pKind (pWd b (pSk b a)))))) ν) : Call G Y_X5_commandHere [vP (5, 0, m)] μ Q E := by
  unfold pKind at k
  refine S_X5_commandHere (C_sees (w := tPass) 113 (by simp [kTx]) h (fun hw ν hν hW => ⟨_, rfl, fun t => absurd t (by decide), fun _ => ?_⟩) (fun hw ν hν hW => ⟨_, rfl, fun _ => ?_, fun t => absurd rfl t⟩))
  · have := k ν hν hW; rw [if_pos hw] at this; exact this
  refine C_sees (w := tFair) 108 (by simp [kTx]) hν.1 (fun hw2 ν2 hν2 hW2 => ⟨_, rfl, fun t => absurd t (by decide), fun _ => ?_⟩) (fun hw2 ν2 hν2 hW2 => ⟨_, rfl, fun _ => ?_, fun t => absurd rfl t⟩)
  · rw [pSk_sk] at hν2 hw2
    have := k ν2 hν2 (hW.trans hW2); rw [if_neg hw, if_pos hw2] at this; exact this
  rw [pSk_sk] at hν2 hw2
  refine C_sees (w := tTest) 114 (by simp [kTx]) hν2.1 (fun hw3 ν3 hν3 hW3 => ⟨_, rfl, fun t => absurd t (by decide), fun _ => ?_⟩) (fun hw3 ν3 hν3 hW3 => ⟨_, rfl, fun _ => ?_, fun t => absurd rfl t⟩)
  · rw [pSk_sk] at hν3 hw3
    have := k ν3 hν3 ((hW.trans hW2).trans hW3); rw [if_neg hw, if_neg hw2, if_pos hw3] at this; exact this
  rw [pSk_sk] at hν3 hw3
  have hV := (hW.trans hW2).trans hW3
  refine S_X5_otherCommand (C_sees (w := tDismiss) 115 (by simp [kTx]) hν3.1 (fun hw4 ν4 hν4 hW4 => ⟨_, rfl, fun t => absurd t (by decide), fun _ => ⟨_, rfl, ?_⟩⟩) (fun hw4 ν4 hν4 hW4 => ⟨_, rfl, fun _ => ?_, fun t => absurd rfl t⟩))
  · rw [pSk_sk] at hν4 hw4
    have := k ν4 hν4 (hV.trans hW4); rw [if_neg hw, if_neg hw2, if_neg hw3, if_pos hw4] at this; exact this
  rw [pSk_sk] at hν4 hw4
  refine C_sees (w := tWage) 116 (by simp [kTx]) hν4.1 (fun hw5 ν5 hν5 hW5 => ⟨_, rfl, fun t => absurd t (by decide), fun _ => ⟨_, rfl, ?_⟩⟩) (fun hw5 ν5 hν5 hW5 => ⟨_, rfl, fun _ => ?_, fun t => absurd rfl t⟩)
  · rw [pSk_sk] at hν5 hw5
    have := k ν5 hν5 ((hV.trans hW4).trans hW5); rw [if_neg hw, if_neg hw2, if_neg hw3, if_neg hw4, if_pos hw5] at this; exact this
  rw [pSk_sk] at hν5 hw5
  refine C_sees (w := tFund) 117 (by simp [kTx]) hν5.1 (fun hw6 ν6 hν6 hW6 => ⟨_, rfl, fun t => absurd t (by decide), fun _ => ⟨_, rfl, ?_⟩⟩) (fun hw6 ν6 hν6 hW6 => ⟨_, rfl, fun _ => ?_, fun t => absurd rfl t⟩)
  · rw [pSk_sk] at hν6 hw6
    have := k ν6 hν6 (((hV.trans hW4).trans hW5).trans hW6); rw [if_neg hw, if_neg hw2, if_neg hw3, if_neg hw4, if_neg hw5, if_pos hw6] at this; exact this
  rw [pSk_sk] at hν6 hw6
  refine C_sees (w := tTrain) 118 (by simp [kTx]) hν6.1 (fun hw7 ν7 hν7 hW7 => ⟨_, rfl, fun t => absurd t (by decide), fun _ => ⟨_, rfl, ?_⟩⟩) (fun hw7 ν7 hν7 hW7 => ⟨_, rfl, fun _ => ⟨_, rfl, ?_⟩, fun t => absurd rfl t⟩)
  · rw [pSk_sk] at hν7 hw7
    have := k ν7 hν7 ((((hV.trans hW4).trans hW5).trans hW6).trans hW7); rw [if_neg hw, if_neg hw2, if_neg hw3, if_neg hw4, if_neg hw5, if_neg hw6, if_pos hw7] at this; exact this
  · rw [pSk_sk] at hν7 hw7
    have := k ν7 hν7 ((((hV.trans hW4).trans hW5).trans hW6).trans hW7); rw [if_neg hw, if_neg hw2, if_neg hw3, if_neg hw4, if_neg hw5, if_neg hw6, if_neg hw7] at this; exact this
theorem told_same (h : zW (zFk m) (zA1 (m + 1)) μ ν) : zai ν (m + 11) = zai μ (m + 11) := h.ai (by unfold zA1; omega)
/-- the numbers of a command are read to place t -/
theorem C_partsOf {k t : Nat} (hk : k < 7) (h1 : z1 = nI k) (h2 : z2 = nI t) (ht : t + 1 < 90) (h : pOk G μ m b a r) (hz : sZ r) (hr : sKV r K V)
    (kok : ∀ x y a', pParts b r k a = .ok ((x, y), a') → ∀ ν, pOk G ν m b a' r → zW (zFc m) (zA2 m) μ ν → zfi ν 65 m = zfi μ 65 m → (∀ j, j ≠ t → j ≠ t + 1 → zai ν (m + 11) j = zai μ (m + 11) j) → (k ≠ 1 → zai ν (m + 11) t = nI x) → (k = 2 ∨ k = 4 ∨ k = 5 → zai ν (m + 11) (t + 1) = nI y) → Q none ν)
    (ker : ∀ e, pParts b r k a = .error e → ∀ ν, pEr G ν m b e → zai ν (m + 1) = r → zW (zFc m) (zA2 m) μ ν → Q none ν) : Call G Y_X5_partsOf [vP (5, 0, m), vI z1, vI z2] μ Q E := by
  subst h1 h2
  have two : nI t + 1 = nI (t + 1) := nI_1 t
  have s65 : ∀ {ν ρ : ZM}, zW (zFk m) (zA1 (m + 1)) ν ρ → zfi ρ 65 m = zfi ν 65 m := fun h => h.2.2.2.2.2.2.1 65 m (by unfold zFk; omega)
  -- one number at t
  have one : ∀ (x a' : Nat) (ν : ZM), pParts b r k a = .ok ((x, 0), a') → k ≠ 2 → k ≠ 4 → k ≠ 5 → pOk G ν m b a' r → zW (zFk m) (zA1 (m + 1)) μ ν → Q none (zAi ν (m + 11) t (nI x)) := by
    intro x a' ν hp k2 k4 k5 hν hW
    refine kok x 0 a' hp _ (hν.told t _) (hW.kc.trans (zW_told _ _ _)) (s65 (ν := μ) (ρ := ν) hW) (fun j j1 _ => ?_) (fun _ => ?_) (fun u => by omega)
    · rw [zai_zAi, if_neg (by omega), told_same hW]
    · rw [zai_zAi, if_pos ⟨rfl, rfl⟩]
  -- two numbers
  have both : ∀ (x y a' : Nat) (ν ρ : ZM), pParts b r k a = .ok ((x, y), a') → zW (zFk m) (zA1 (m + 1)) μ ν → zW (zFk m) (zA1 (m + 1)) (zAi ν (m + 11) t (nI x)) ρ → pOk G ρ m b a' r → Q none (zAi ρ (m + 11) (t + 1) (nI y)) := by
    intro x y a' ν ρ hp hW hW2 hρ
    refine kok x y a' hp _ (hρ.told (t + 1) _) (((hW.kc.trans (zW_told _ _ _)).trans hW2.kc).trans (zW_told _ _ _)) ((s65 hW2).trans (s65 (ν := μ) (ρ := ν) hW)) (fun j j1 j2 => ?_) (fun _ => ?_) (fun _ => ?_)
    · rw [zai_zAi, if_neg (by omega), told_same hW2, zai_zAi, if_neg (by omega), told_same hW]
    · rw [zai_zAi, if_neg (by omega), told_same hW2, zai_zAi, if_pos ⟨rfl, rfl⟩]
    · rw [zai_zAi, if_pos ⟨rfl, rfl⟩]
  have h64 : ∀ {ν}, pOk G ν m b a r → zfr ν 64 m = (200, 90, m + 11) := fun h => h.1.2.1.2.2.2.2.2.2.2.2.2.2.1
  have tix : zix (nI t) t 90 := zix.eq rfl (by omega) (by omega)
  have tix2 : zix (nI t + 1) (t + 1) 90 := zix.eq two (by omega) (by omega)
  have cases7 : k = 0 ∨ k = 1 ∨ k = 2 ∨ k = 3 ∨ k = 4 ∨ k = 5 ∨ k = 6 := by omega
  rcases cases7 with rfl | rfl | rfl | rfl | rfl | rfl | rfl
  · refine S_X5_partsOf ⟨fun _ => ⟨_, _, h.1.2.1.2.2.2.2.2.2.2.2.2.2.1, C_number (lo := 1) (hi := 60) rfl rfl (by omega) (by omega) h hz (fun x a' hx ν hν _ hW => ⟨_, rfl, t, tix, one x a' ν (by rw [pParts_0, hx]) (by omega) (by omega) (by omega) hν hW⟩) (fun e he ν hν hrow hW => ⟨_, rfl, t, tix, ker e (by rw [pParts_0, he]) _ (hν.told _ _) ((zai_oth (by omega) _ _).trans hrow) (hW.kc.trans (zW_told _ _ _))⟩)⟩, fun u => absurd u (by decide), fun u => absurd u (by decide), fun u => absurd u (by decide), fun u => absurd u (by decide), fun u => absurd u (by decide), fun u => absurd u (by decide)⟩
  · refine S_X5_partsOf ⟨fun u => absurd u (by decide), fun _ => kok 0 0 a rfl μ h (zW.rf _ _ _) rfl (fun _ _ _ => rfl) (fun u => absurd rfl u) (fun u => by omega), fun u => absurd u (by decide), fun u => absurd u (by decide), fun u => absurd u (by decide), fun u => absurd u (by decide), fun u => absurd u (by decide)⟩
  · refine S_X5_partsOf ⟨fun u => absurd u (by decide), fun u => absurd u (by decide), fun _ => ⟨_, _, h.1.2.1.2.2.2.2.2.2.2.2.2.2.1, C_mustBe (K := K) (V := V) true rfl h hz hr (fun x a1 hx _ ν hν hW => ⟨_, rfl, t, tix, _, _, hν.1.2.1.2.2.2.2.2.2.2.2.2.2.1, C_mustBe (K := K) (V := V) false rfl (hν.told t _) hz hr (fun y a2 hy _ ρ hρ hW2 => ⟨_, rfl, t + 1, tix2, both x y a2 ν ρ (by rw [pParts_2, hx]; dsimp only; rw [hy]) hW hW2 hρ⟩) (fun e he ρ hρ hrow hW2 => ⟨_, rfl, t + 1, tix2, ker e (by rw [pParts_2, hx]; dsimp only; rw [he]) _ (hρ.told _ _) ((zai_oth (by omega) _ _).trans hrow) (((hW.kc.trans (zW_told _ _ _)).trans hW2.kc).trans (zW_told _ _ _))⟩)⟩) (fun e he ν hν hrow hW => ⟨_, rfl, t, tix, _, _, hν.1.2.1.2.2.2.2.2.2.2.2.2.2.1, C_mustBe_e (hν.told t _) ⟨_, rfl, t + 1, tix2, ker e (by rw [pParts_2, he]) _ ((hν.told _ _).told _ _) ((zai_oth (by omega) _ _).trans ((zai_oth (by omega) _ _).trans hrow)) ((hW.kc.trans (zW_told _ _ _)).trans (zW_told _ _ _))⟩⟩)⟩, fun u => absurd u (by decide), fun u => absurd u (by decide), fun u => absurd u (by decide), fun u => absurd u (by decide)⟩
  · refine S_X5_partsOf ⟨fun u => absurd u (by decide), fun u => absurd u (by decide), fun u => absurd u (by decide), fun _ => ⟨_, _, h.1.2.1.2.2.2.2.2.2.2.2.2.2.1, C_mustBe (K := K) (V := V) false rfl h hz hr (fun x a' hx _ ν hν hW => ⟨_, rfl, t, tix, one x a' ν (by rw [pParts_3, hx]) (by omega) (by omega) (by omega) hν hW⟩) (fun e he ν hν hrow hW => ⟨_, rfl, t, tix, ker e (by rw [pParts_3, he]) _ (hν.told _ _) ((zai_oth (by omega) _ _).trans hrow) (hW.kc.trans (zW_told _ _ _))⟩)⟩, fun u => absurd u (by decide), fun u => absurd u (by decide), fun u => absurd u (by decide)⟩
  · refine S_X5_partsOf ⟨fun u => absurd u (by decide), fun u => absurd u (by decide), fun u => absurd u (by decide), fun u => absurd u (by decide), fun _ => ⟨_, _, h.1.2.1.2.2.2.2.2.2.2.2.2.2.1, C_mustBe (K := K) (V := V) true rfl h hz hr (fun x a1 hx _ ν hν hW => ⟨_, rfl, t, tix, _, _, hν.1.2.1.2.2.2.2.2.2.2.2.2.2.1, C_number (lo := 1) (hi := 99) rfl rfl (by omega) (by omega) (hν.told t _) hz (fun y a2 hy ρ hρ _ hW2 => ⟨_, rfl, t + 1, tix2, both x y a2 ν ρ (by rw [pParts_4, hx]; dsimp only; rw [hy]) hW hW2 hρ⟩) (fun e he ρ hρ hrow hW2 => ⟨_, rfl, t + 1, tix2, ker e (by rw [pParts_4, hx]; dsimp only; rw [he]) _ (hρ.told _ _) ((zai_oth (by omega) _ _).trans hrow) (((hW.kc.trans (zW_told _ _ _)).trans hW2.kc).trans (zW_told _ _ _))⟩)⟩) (fun e he ν hν hrow hW => ⟨_, rfl, t, tix, _, _, hν.1.2.1.2.2.2.2.2.2.2.2.2.2.1, C_number_e (hν.told t _) ⟨_, rfl, t + 1, tix2, ker e (by rw [pParts_4, he]) _ ((hν.told _ _).told _ _) ((zai_oth (by omega) _ _).trans ((zai_oth (by omega) _ _).trans hrow)) ((hW.kc.trans (zW_told _ _ _)).trans (zW_told _ _ _))⟩⟩)⟩, fun u => absurd u (by decide), fun u => absurd u (by decide)⟩
  · refine S_X5_partsOf ⟨fun u => absurd u (by decide), fun u => absurd u (by decide), fun u => absurd u (by decide), fun u => absurd u (by decide), fun u => absurd u (by decide), fun _ => ⟨_, _, h.1.2.1.2.2.2.2.2.2.2.2.2.2.1, C_mustBe (K := K) (V := V) true rfl h hz hr (fun x a1 hx _ ν hν hW => ⟨_, rfl, t, tix, _, _, hν.1.2.1.2.2.2.2.2.2.2.2.2.2.1, C_number (lo := 1) (hi := 999) rfl rfl (by omega) (by omega) (hν.told t _) hz (fun y a2 hy ρ hρ _ hW2 => ⟨_, rfl, t + 1, tix2, both x y a2 ν ρ (by rw [pParts_5, hx]; dsimp only; rw [hy]) hW hW2 hρ⟩) (fun e he ρ hρ hrow hW2 => ⟨_, rfl, t + 1, tix2, ker e (by rw [pParts_5, hx]; dsimp only; rw [he]) _ (hρ.told _ _) ((zai_oth (by omega) _ _).trans hrow) (((hW.kc.trans (zW_told _ _ _)).trans hW2.kc).trans (zW_told _ _ _))⟩)⟩) (fun e he ν hν hrow hW => ⟨_, rfl, t, tix, _, _, hν.1.2.1.2.2.2.2.2.2.2.2.2.2.1, C_number_e (hν.told t _) ⟨_, rfl, t + 1, tix2, ker e (by rw [pParts_5, he]) _ ((hν.told _ _).told _ _) ((zai_oth (by omega) _ _).trans ((zai_oth (by omega) _ _).trans hrow)) ((hW.kc.trans (zW_told _ _ _)).trans (zW_told _ _ _))⟩⟩)⟩, fun u => absurd u (by decide)⟩
  · refine S_X5_partsOf ⟨fun u => absurd u (by decide), fun u => absurd u (by decide), fun u => absurd u (by decide), fun u => absurd u (by decide), fun u => absurd u (by decide), fun u => absurd u (by decide), fun _ => ⟨_, _, h.1.2.1.2.2.2.2.2.2.2.2.2.2.1, C_mustBe (K := K) (V := V) false rfl h hz hr (fun x a' hx _ ν hν hW => ⟨_, rfl, t, tix, one x a' ν (by rw [pParts_6, hx]) (by omega) (by omega) (by omega) hν hW⟩) (fun e he ν hν hrow hW => ⟨_, rfl, t, tix, ker e (by rw [pParts_6, he]) _ (hν.told _ _) ((zai_oth (by omega) _ _).trans hrow) (hW.kc.trans (zW_told _ _ _))⟩)⟩⟩
/-- one more command is read -/
theorem C_readsOne {l : List (Nat × Nat × Nat)} (hl : l.length ≤ 30) (h : pOk G μ m b a r) (hz : sZ r) (hr : sKV r K V) (h65 : zfi μ 65 m = nI l.length) (ht : zTl μ m l)
    (kok : ∀ c a', pCmd b r l.length a = .ok (c, a') → ∀ ν, pOk G ν m b a' r → zW (zFc m) (zA2 m) μ ν → zfi ν 65 m = nI (l ++ [c]).length → zTl ν m (l ++ [c]) → Q none ν)
    (ker : ∀ e, pCmd b r l.length a = .error e → ∀ ν, pEr G ν m b e → zai ν (m + 1) = r → zW (zFc m) (zA2 m) μ ν → Q none ν) : Call G Y_X5_readsOne [vP (5, 0, m)] μ Q E := by
  have hlen := h.len
  have bad : ∀ (c : Int32) (zs : Int32) (ν : ZM), pCmd b r l.length a = .error (c, pSk b a) → pEr G ν m b (c, pSk b a) → zai ν (m + 1) = r → zW (zFc m) (zA2 m) μ ν → Wp G Y_X5_readsOne 35 [(0, vP (5, 0, m)), (1, vI (o2i (pKind (pWd b (pSk b a)))))] [vI zs, vP (5, 0, m)] ν Q E := by
    intro c zs ν hs hν hrow hW
    have h60 : ¬ zfi ν 60 m = 0 := by rw [hν.2.1]; exact hν.2.2.1
    exact B_X5_readsOne_35 (C_muste h60 ⟨rfl, _, rfl, fun t => absurd t h60, fun _ => ker _ hs ν hν hrow hW⟩)
  refine S_X5_readsOne (C_commandHere h fun ν hν hW => ⟨_, rfl, fun hm => ?_, fun hm => ?_⟩)
  · cases hk : pKind (pWd b (pSk b a)) with
    | some k => rw [hk] at hm; exact absurd hm (o2i_neg (by have := (pKind_lt hk).1; omega))
    | none =>
      have hs : pCmd b r l.length a = .error (1, pSk b a) := by unfold pCmd; rw [hk]
      obtain ⟨he, hW2⟩ := hν.err hz 1 (by decide)
      refine C_must0 hν.1.2.2.2.1.1 ⟨rfl, _, rfl, fun _ => ?_, fun _ => ?_⟩
      · have := bad 1 0 _ hs he hν.1.2.2.2.2 (hW.trans hW2).kc; rw [hk] at this; exact this
      · have := bad 1 1 _ hs he hν.1.2.2.2.2 (hW.trans hW2).kc; rw [hk] at this; exact this
  · cases hk : pKind (pWd b (pSk b a)) with
    | none => rw [hk] at hm; exact absurd rfl hm
    | some k =>
      obtain ⟨k7, w1⟩ := pKind_lt hk
      have e65 : zfi ν 65 m = nI l.length := by rw [hW.2.2.2.2.2.2.1 65 m (by unfold zFk; omega)]; exact h65
      refine C_must1 ⟨rfl, _, e65, fun hge => ?_, fun hlt => ?_⟩
      · have h30 : 30 ≤ l.length := by
          apply Decidable.byContradiction
          intro t
          exact hge (show nI l.length < nI 30 from nI_lt (by omega) (by omega))
        have hs : pCmd b r l.length a = .error (4, pSk b a) := by unfold pCmd; rw [hk]; dsimp only; rw [if_pos h30]
        obtain ⟨he, hW2⟩ := hν.err hz 4 (by decide)
        exact B_X5_readsOne_35 (C_must0 hν.1.2.2.2.1.1 ⟨rfl, _, he.2.1, fun t => absurd t he.2.2.1, fun _ => ker _ hs _ he hν.1.2.2.2.2 (hW.trans hW2).kc⟩)
      · have h30 : l.length < 30 := (nI_ltI (b := 30) (by omega) (by omega)).mp hlt
        refine B_X5_readsOne_35 (C_must1 ⟨rfl, _, hν.1.2.2.2.1.1, fun _ => hν.past fun ho hW0 => ⟨rfl, _, _, ho.1.2.1.2.2.2.2.2.2.2.2.2.2.1, _, (by rw [zfi_zFi, if_neg (by omega)]; exact e65), 3 * l.length, zix.eq (pk_mul 3 _) (by omega) (by omega), ?_⟩, fun t => absurd rfl t⟩)
        obtain ⟨ρ, hρ⟩ : ∃ x, x = zFi ν 57 m (nI (pSk b a + (pWd b (pSk b a)).length)) := ⟨_, rfl⟩
        rw [← hρ] at ho hW0 ⊢
        have hWρ := hW.trans hW0
        have e65ρ : zfi ρ 65 m = nI l.length := by rw [hρ, zfi_zFi, if_neg (by omega)]; exact e65
        have tix : (3 * nI l.length + 1 : Int32) = nI (3 * l.length + 1) := by show nI 3 * nI _ + 1 = _; rw [pk_mul, nI_1]
        refine C_partsOf (K := K) (V := V) (k := k) (t := 3 * l.length + 1) k7 rfl tix (by omega) (ho.told _ _) hz hr (fun x y a' hp τ hτ hW2 s65 g1 g2 g3 => ⟨rfl, _, s65.trans e65ρ, ?_⟩) (fun e he τ hτ hrow hW2 => ⟨rfl, _, rfl, C_semicolon_e (hτ.s65 _) ⟨rfl, ker e ?_ _ (hτ.s65 _) hrow (((hWρ.kc.trans (zW_told _ _ _)).trans hW2).trans (zW_65 _ _))⟩⟩)
        · rw [nI_1]
          have htold : zTl τ m (l ++ [(k, x, y)]) := by
            intro i hi
            rw [List.length_append] at hi
            simp only [List.length_cons, List.length_nil] at hi
            by_cases hil : i = l.length
            · subst hil
              have hg : (l ++ [(k, x, y)]).getD l.length (0, 0, 0) = (k, x, y) := by simp
              rw [hg]
              refine ⟨?_, fun q1 => g2 q1, fun q2 => g3 q2⟩
              rw [g1 _ (by omega) (by omega), zai_zAi, if_pos ⟨rfl, rfl⟩]
              rfl
            · have hg : (l ++ [(k, x, y)]).getD i (0, 0, 0) = l.getD i (0, 0, 0) := by simp [List.getElem?_append_left (show i < l.length by omega)]
              rw [hg]
              have o : ∀ j, j < 3 * l.length → zai τ (m + 11) j = zai μ (m + 11) j := fun j hj => by
                rw [g1 _ (by omega) (by omega), zai_zAi, if_neg (by omega), told_same hWρ]
              obtain ⟨t1, t2, t3⟩ := ht i (by omega)
              exact ⟨by rw [o _ (by omega)]; exact t1, fun q1 => by rw [o _ (by omega)]; exact t2 q1, fun q2 => by rw [o _ (by omega)]; exact t3 q2⟩
          have hV := ((hWρ.kc.trans (zW_told _ _ _)).trans hW2).trans (zW_65 _ (nI (l.length + 1)))
          refine C_semicolon (hτ.s65 _) hz (fun a2 h2 π hπ hW3 => ⟨rfl, kok (k, x, y) a2 ?_ π hπ (hV.trans hW3.kc) ?_ ?_⟩) (fun e h2 π hπ hrow hW3 => ⟨rfl, ker e ?_ π hπ hrow (hV.trans hW3.kc)⟩)
          · unfold pCmd; rw [hk]; dsimp only; rw [if_neg (by omega), hp]; dsimp only; rw [h2]
          · rw [hW3.2.2.2.2.2.2.1 65 m (by unfold zFk; omega), zfi_zFi, if_pos ⟨rfl, rfl⟩, List.length_append]; rfl
          · intro i hi
            rw [told_same hW3]
            exact htold i hi
          · unfold pCmd; rw [hk]; dsimp only; rw [if_neg (by omega), hp]; dsimp only; rw [h2]
        · unfold pCmd; rw [hk]; dsimp only; rw [if_neg (by omega), he]
end ZCM
