/-! CONTRACTS, 23: the model loads -/
section ZLD
variable {G : ZG} {μ ν : ZM} {Q : Option ZV → ZM → Prop} {E : ZP → ZM → Prop} {m a p q K V D : Nat} {z z1 z2 : Int32} {b w : List Nat} {r : Nat → Int32} {e : Int32 × Nat} {po : Nat → Nat} {σ : ZS}
theorem C_statement (h : pOk G μ m b a r) (hl : sLd r K V po) (kok : ∀ r' a', pStm b r a = .ok (r', a') → ∀ ν, pOk G ν m b a' r' → zW (zFk m) (zA1 (m + 1)) μ ν → Q none ν) (ker : ∀ e, pStm b r a = .error e → ∀ ν, pEr G ν m b e → zW (zFk m) (zA1 (m + 1)) μ ν → Q none ν) : Call G Y_X5_statement [vP (5, 0, m)] μ Q E := by
  have hz := hl.2.1
  have hr := hl.1
  -- behind a line: its semicolon
  have fin : ∀ (E1 : ZP → ZM → Prop) (r1 : Nat → Int32) (a1 : Nat) (ν : ZM), pLine b r a = .ok (r1, a1) → pOk G ν m b a1 r1 → zW (zFk m) (zA1 (m + 1)) μ ν → Call G Y_X5_semicolon [vP (5, 0, m)] ν (rV fun ν8 => Q none ν8) E1 := by
    intro E1 r1 a1 ν hs hν hW
    obtain ⟨⟨K', V', po', g⟩, -⟩ := pLine_ok hl hs
    refine C_semicolon hν g.2.1 (fun a2 h2 ρ hρ hW2 => ⟨rfl, kok r1 a2 ?_ ρ hρ (hW.trans hW2)⟩) (fun e h2 ρ hρ _ hW2 => ⟨rfl, ker e ?_ ρ hρ (hW.trans hW2)⟩)
    · unfold pStm; rw [hs]; dsimp only; rw [h2]
    · unfold pStm; rw [hs]; dsimp only; rw [h2]
  have bad : ∀ (E1 : ZP → ZM → Prop) (e : Int32 × Nat) (ν : ZM), pLine b r a = .error e → pEr G ν m b e → zW (zFk m) (zA1 (m + 1)) μ ν → Call G Y_X5_semicolon [vP (5, 0, m)] ν (rV fun ν8 => Q none ν8) E1 := by
    intro E1 e ν hs hν hW
    refine C_semicolon_e hν ⟨rfl, ker e ?_ ν hν hW⟩
    unfold pStm; rw [hs]
  refine S_X5_statement (C_sees (w := tEcho) 110 (by simp [kTx]) h (fun hw ν hν hW => ⟨_, rfl, fun t => absurd t (by decide), fun _ => C_echoLine (K := K) (V := V) hν hw hz hr (fun r1 a1 h1 ρ hρ hW1 => ⟨rfl, fin _ r1 a1 ρ ?_ hρ (hW.trans hW1)⟩) (fun e h1 ρ hρ hW1 => ⟨rfl, bad _ e ρ ?_ hρ (hW.trans hW1)⟩)⟩) (fun hw ν hν hW => ⟨_, rfl, fun _ => ?_, fun t => absurd rfl t⟩))
  · unfold pLine; rw [if_pos hw]; exact h1
  · unfold pLine; rw [if_pos hw]; exact h1
  · refine C_sees (w := tValley) 111 (by simp [kTx]) hν.1 (fun hw2 ν2 hν2 hW2 => ⟨_, rfl, fun t => absurd t (by decide), fun _ => ?_⟩) (fun hw2 ν2 hν2 hW2 => ⟨_, rfl, fun _ => ?_, fun t => absurd rfl t⟩)
    · rw [pSk_sk] at hν2 hw2
      refine C_valleyLine (K := K) (V := V) hν2 hw2 hz hr (fun r1 a1 h1 ρ hρ hW1 => ⟨rfl, fin _ r1 a1 ρ ?_ hρ ((hW.trans hW2).trans hW1)⟩) (fun e h1 ρ hρ hW1 => ⟨rfl, bad _ e ρ ?_ hρ ((hW.trans hW2).trans hW1)⟩)
      · unfold pLine; rw [if_neg hw, if_pos hw2]; exact h1
      · unfold pLine; rw [if_neg hw, if_pos hw2]; exact h1
    · rw [pSk_sk] at hν2 hw2
      refine C_sees (w := tTested) 112 (by simp [kTx]) hν2.1 (fun hw3 ν3 hν3 hW3 => ⟨_, rfl, fun t => absurd t (by decide), fun _ => ?_⟩) (fun hw3 ν3 hν3 hW3 => ⟨_, rfl, fun _ => ?_, fun t => absurd rfl t⟩)
      · rw [pSk_sk] at hν3 hw3
        refine C_testedLine (K := K) (V := V) hν3 hw3 hz hr (fun r1 a1 h1 ρ hρ hW1 => ⟨rfl, fin _ r1 a1 ρ ?_ hρ (((hW.trans hW2).trans hW3).trans hW1)⟩) (fun e h1 ρ hρ hW1 => ⟨rfl, bad _ e ρ ?_ hρ (((hW.trans hW2).trans hW3).trans hW1)⟩)
        · unfold pLine; rw [if_neg hw, if_neg hw2, if_pos hw3]; exact h1
        · unfold pLine; rw [if_neg hw, if_neg hw2, if_pos hw3]; exact h1
      · rw [pSk_sk] at hν3 hw3
        refine C_nextOk hν3.1 fun ν4 hν4 hW4 => ⟨_, rfl, ?_⟩
        rw [pSk_sk] at hν4
        obtain ⟨he, hW5⟩ := hν4.err hz 1 (by decide)
        refine C_must0 hν4.1.2.2.2.1.1 ⟨rfl, bad _ _ _ ?_ he ((((hW.trans hW2).trans hW3).trans hW4).trans hW5)⟩
        unfold pLine; rw [if_neg hw, if_neg hw2, if_neg hw3]
theorem pEr.row {j : Nat} (h : pEr G μ m b e) (hj : j < 627) (x : Int32) : pEr G (zAi μ (m + 1) j x) m b e := by
  obtain ⟨h1, h2, h3, h4, h5⟩ := h
  refine ⟨h1.same (zW_A1 μ (m + 1) j x : zW (zFk m) (zA1 (m + 1)) μ _).kk, h2, h3, h4, fun i hi => ?_⟩
  rw [zai_zAi, if_neg (by omega)]; exact h5 i hi
/-- the statements, until the text ends -/
theorem C_stms : ∀ (n : Nat) (r : Nat → Int32) (a K V : Nat) (po : Nat → Nat) (μ : ZM), b.length < a + n → a ≤ b.length → sLd r K V po → pOk G μ m b a r → (∀ r', pStms b n r a = .ok r' → ∀ ν a', pOk G ν m b a' r' → zW (zFk m) (zA1 (m + 1)) μ ν → Wp G Y_X5_load 114 [(0, vP (5, 0, m))] [] ν Q E) → (∀ e, pStms b n r a = .error e → ∀ ν, pEr G ν m b e → zW (zFk m) (zA1 (m + 1)) μ ν → Wp G Y_X5_load 114 [(0, vP (5, 0, m))] [] ν Q E) → Wp G Y_X5_load 74 [(0, vP (5, 0, m))] [] μ Q E := by
  intro n
  induction n with
  | zero => intro r a K V po μ hn ha; omega
  | succ n ih =>
    intro r a K V po μ hn ha hl h kok ker
    -- a statement
    have stm : ∀ (E1 : ZP → ZM → Prop) (ν : ZM) (a1 : Nat), pSk b a1 = pSk b a → pOk G ν m b a1 r → zW (zFk m) (zA1 (m + 1)) μ ν → ¬ (¬ r 0 = 0 ∧ ¬ r 1 = 0 ∧ b.length ≤ pSk b a) → Call G Y_X5_statement [vP (5, 0, m)] ν (rV fun ν4 => Wp G Y_X5_load 74 [(0, vP (5, 0, m))] [] ν4 Q E) E1 := by
      intro E1 ν a1 hsk hν hW hc
      have hs : pStm b r a1 = pStm b r a := by rw [← pStm_sk b r a1, hsk, pStm_sk]
      refine C_statement hν hl (fun r2 a2 h2 ρ hρ hW2 => ⟨rfl, ?_⟩) (fun e h2 ρ hρ hW2 => ⟨rfl, ?_⟩)
      · rw [hs] at h2
        obtain ⟨⟨K', V', po', g⟩, hgt⟩ := pStm_ok hl h2
        refine ih r2 a2 K' V' po' ρ (by omega) hρ.2.2.1 g hρ (fun r' hr' τ a' hτ hW3 => kok r' ?_ τ a' hτ ((hW.trans hW2).trans hW3)) (fun e he τ hτ hW3 => ker e ?_ τ hτ ((hW.trans hW2).trans hW3))
        · unfold pStms; rw [if_neg hc, h2]; exact hr'
        · unfold pStms; rw [if_neg hc, h2]; exact he
      · rw [hs] at h2
        refine B_X5_load_74 ⟨_, hρ.2.1, fun _ => ker e ?_ ρ hρ (hW.trans hW2), fun t => absurd t hρ.2.2.1⟩
        unfold pStms; rw [if_neg hc, h2]
    refine B_X5_load_74 ⟨_, h.2.2.2.1.1, fun t => absurd rfl t, fun _ => ⟨_, _, h.1.2.1.1, by omega, r 0, congrFun h.2.2.2.2 0, fun h0 => ?_, fun h0 => ⟨by omega, r 1, congrFun h.2.2.2.2 1, fun h1 => ?_, fun h1 => C_nextOk h fun ν hν hW => ⟨_, rfl, fun hm => ?_, fun hm => ?_⟩⟩⟩⟩
    · exact stm _ μ a rfl h (zW.rf _ _ _) (fun t => t.1 h0)
    · exact stm _ μ a rfl h (zW.rf _ _ _) (fun t => t.2.1 h1)
    · have hlen : b.length ≤ pSk b a := by
        apply Decidable.byContradiction
        intro t
        rw [bAt_lt (by omega)] at hm
        exact o2i_neg (by have := h.1.by (pSk b a) (by omega); omega) hm
      refine kok r ?_ ν _ hν.1 hW
      unfold pStms; rw [if_pos ⟨h0, h1, hlen⟩]
    · refine stm _ ν (pSk b a) (pSk_sk b a) hν.1 hW fun t => hm ?_
      unfold bAt; rw [if_neg (by omega)]
/-- a configuration that is loaded; one that is not -/
def aLoad (σ : ZS) (r : Nat → Int32) : ZS := (r, aSv σ, [], [], 0, -1, aOu σ)
def aBad (σ : ZS) (c e : Int32) : ZS := (aR σ, aSv σ, aPa σ, [], c, e, aOu σ)
/-- the end of a text -/
theorem C_endsText {c e : Int32} (h60 : zfi μ 60 m = c) (h61 : zfi μ 61 m = e) (k1 : c = 0 → Q (some (vI 1)) (zFi (zFi (zFi μ 56 m 0) 62 m c) 63 m e)) (k0 : ¬ c = 0 → Q (some (vI 0)) (zFi (zFi (zFi μ 56 m 0) 62 m c) 63 m e)) : Call G Y_X5_endsText [vP (5, 0, m)] μ Q E := S_X5_endsText ⟨_, h60, _, h61, k0, k1⟩
theorem C_load (hk : zKs G μ m) (h : zMs μ m σ) (hg : sZ (aR σ)) (kt : ∀ r, pLoad (aBu σ) = .ok r → zEd μ m Q (aLoad σ r) 0 (r 0)) (k1 : ∀ e, pLoad (aBu σ) = .error e → zEd μ m Q (aBad σ e.1 (nI e.2)) 1 0) : Call G Y_X5_load [vP (5, 0, m)] μ Q E := by
  obtain ⟨h1, h2, h3, h4, h5, ⟨h6, h7⟩, h8⟩ := id h
  have hl : (aBu σ).length ≤ 900 := h5.1
  refine S_X5_load ⟨_, _, h1.1, _, _, h1.2.2.1, C_copies 0 0 rfl rfl (by omega) (by omega) (by omega) (by omega) (by omega) fun ν0 hν0 hs0 => ⟨rfl, ?_⟩⟩
  have held : ∀ j, j < 627 → zai ν0 (m + 3) j = aR σ j := fun j hj => by rw [hs0, sCopy_00 _ _ hj]; exact congrFun h2 j
  have hW0 : zW (zFt m) (zAt m) μ ν0 := zW.t1 hν0 (by unfold zAt; omega)
  -- the frame of the work behind: all but state, held
  have good : ∀ (ν : ZM) (c e : Int32) (r : Nat → Int32), zW (zFk m) (zA1 (m + 1)) ν0 ν → zfi ν 60 m = c → zfi ν 61 m = e → zai ν (m + 1) = r → (c = 0 → e = -1 ∧ pLoad (aBu σ) = .ok r) → (¬ c = 0 → (∃ n, e = nI n ∧ pLoad (aBu σ) = .error (c, n)) ∧ ∀ j, 627 ≤ j → r j = 0) → Wp G Y_X5_load 114 [(0, vP (5, 0, m))] [] ν Q E := by
    intro ν c e r hW e60 e61 er hc0 hc1
    have hWm : zW (zFm m) (zAm m) μ ν := hW0.tm.trans hW.kk.m
    have oth : ∀ f, f ≠ 57 → f ≠ 58 → f ≠ 59 → f ≠ 60 → f ≠ 61 → zfi ν f m = zfi μ f m := fun f q1 q2 q3 q4 q5 => by rw [hW.2.2.2.2.2.2.1 f m (by unfold zFk; omega), hν0.2.2.2.2.2.2.1 f m (fun t => t)]
    have oa : ∀ c, c ≠ m + 1 → c ≠ m + 3 → zai ν c = zai μ c := fun c q1 q2 => by rw [hW.ai q1, hν0.ai q2]
    have hm := h1.fr hWm.fr
    refine B_X5_load_114 (C_endsText e60 e61 (fun hc => ⟨_, rfl, C_passes1 ⟨_, rfl, fun _ => ⟨_, _, hm.1, by omega, r 0, congrFun er 0, ?_⟩, fun t => absurd t (by decide)⟩⟩) (fun hc => ⟨_, rfl, C_passes0 ⟨_, rfl, fun t => absurd rfl t, fun _ => ⟨_, _, hm.2.2.1, _, _, hm.1, C_copies 0 0 rfl rfl (by omega) (by omega) (by omega) (by omega) (by omega) fun ρ hρ hsρ => ⟨rfl, ?_⟩⟩⟩⟩))
    · obtain ⟨he, hp⟩ := hc0 hc
      subst hc he
      refine kt r hp _ ⟨hm, er, h3.same ?_ (oa _ (by omega) (by omega)), ⟨by show ([] : List (Nat → Int32)).length ≤ 8; simp, ?_, fun i hi => absurd hi (Nat.not_lt_zero _)⟩, ⟨by show ([] : List Nat).length ≤ 900; simp, ?_, fun i hi => absurd hi (Nat.not_lt_zero _)⟩, ⟨?_, ?_⟩, h8.same ?_ (oa _ (by omega) (by omega))⟩ ?_ ?_
      · rw [zfi_zFi, if_neg (by omega), zfi_zFi, if_neg (by omega), zfi_zFi, if_neg (by omega), zfi_zFi, if_neg (by omega), zfi_zFi, if_neg (by omega)]; exact oth 47 (by omega) (by omega) (by omega) (by omega) (by omega)
      · rw [zfi_zFi, if_pos ⟨rfl, rfl⟩]; rfl
      · rw [zfi_zFi, if_neg (by omega), zfi_zFi, if_neg (by omega), zfi_zFi, if_neg (by omega), zfi_zFi, if_neg (by omega), zfi_zFi, if_pos ⟨rfl, rfl⟩]; rfl
      · rw [zfi_zFi, if_neg (by omega), zfi_zFi, if_neg (by omega), zfi_zFi, if_neg (by omega), zfi_zFi, if_pos ⟨rfl, rfl⟩]; rfl
      · rw [zfi_zFi, if_neg (by omega), zfi_zFi, if_neg (by omega), zfi_zFi, if_pos ⟨rfl, rfl⟩]; rfl
      · rw [zfi_zFi, if_neg (by omega), zfi_zFi, if_neg (by omega), zfi_zFi, if_neg (by omega), zfi_zFi, if_neg (by omega), zfi_zFi, if_neg (by omega)]; exact oth 67 (by omega) (by omega) (by omega) (by omega) (by omega)
      · rw [zfi_zFi, if_neg (by omega), zfi_zFi, if_pos ⟨rfl, rfl⟩]
      · exact ((((hWm.trans (zW_Fi (F := zFm m) rfl _ _)).trans (zW_Fi (F := zFm m) rfl _ _)).trans (zW_Fi (F := zFm m) rfl _ _)).trans (zW_Fi (F := zFm m) rfl _ _)).trans (zW_Fi (F := zFm m) rfl _ _)
    · obtain ⟨⟨n, he, hp⟩, hr0⟩ := hc1 hc
      have of2 : ∀ f, zfi ρ f m = zfi (zFi (zFi (zFi (zFi ν 56 m 0) 62 m c) 63 m e) 46 m 1) f m := fun f => hρ.2.2.2.2.2.2.1 f m (fun t => t)
      have oa2 : ∀ c, c ≠ m + 1 → c ≠ m + 3 → zai ρ c = zai μ c := fun x q1 q2 => by rw [hρ.ai q1]; exact oa x q1 q2
      have hrow : zai ρ (m + 1) = aR σ := by
        rw [hsρ]
        funext y
        by_cases hy : y < 627
        · rw [sCopy_00 _ _ hy]
          show zai ν (m + 3) y = _
          rw [hW.ai (show ¬ zA1 (m + 1) (m + 3) by unfold zA1; omega)]
          exact held y hy
        · unfold sCopy; rw [if_neg (by omega)]
          show zai ν (m + 1) y = _
          rw [er, hr0 y (by omega), hg y (by omega)]
      refine k1 _ hp ρ ⟨hm.fr hρ.fr, hrow, h3.same ?_ (oa2 _ (by omega) (by omega)), h4.same ?_ (oa2 _ (by omega) (by omega)), ⟨by show ([] : List Nat).length ≤ 900; simp, ?_, fun i hi => absurd hi (Nat.not_lt_zero _)⟩, ⟨?_, ?_⟩, h8.same ?_ (oa2 _ (by omega) (by omega))⟩ ?_ ?_
      · rw [of2, zfi_zFi, if_neg (by omega), zfi_zFi, if_neg (by omega), zfi_zFi, if_neg (by omega), zfi_zFi, if_neg (by omega)]; exact oth 47 (by omega) (by omega) (by omega) (by omega) (by omega)
      · rw [of2, zfi_zFi, if_neg (by omega), zfi_zFi, if_neg (by omega), zfi_zFi, if_neg (by omega), zfi_zFi, if_neg (by omega)]; exact oth 45 (by omega) (by omega) (by omega) (by omega) (by omega)
      · rw [of2, zfi_zFi, if_neg (by omega), zfi_zFi, if_neg (by omega), zfi_zFi, if_neg (by omega), zfi_zFi, if_pos ⟨rfl, rfl⟩]; rfl
      · rw [of2, zfi_zFi, if_neg (by omega), zfi_zFi, if_neg (by omega), zfi_zFi, if_pos ⟨rfl, rfl⟩]; rfl
      · rw [of2, zfi_zFi, if_neg (by omega), zfi_zFi, if_pos ⟨rfl, rfl⟩]; exact he
      · rw [of2, zfi_zFi, if_neg (by omega), zfi_zFi, if_neg (by omega), zfi_zFi, if_neg (by omega), zfi_zFi, if_neg (by omega)]; exact oth 67 (by omega) (by omega) (by omega) (by omega) (by omega)
      · rw [of2, zfi_zFi, if_pos ⟨rfl, rfl⟩]
      · exact ((((hWm.trans (zW_Fi (F := zFm m) rfl _ _)).trans (zW_Fi (F := zFm m) rfl _ _)).trans (zW_Fi (F := zFm m) rfl _ _)).trans (zW_Fi (F := zFm m) rfl _ _)).trans (hρ.m1 (by unfold zAm; omega))
  have hbad : ∀ (ν : ZM) (e : Int32 × Nat), pLoad (aBu σ) = .error e → pEr G ν m (aBu σ) e → zW (zFk m) (zA1 (m + 1)) ν0 ν → Wp G Y_X5_load 114 [(0, vP (5, 0, m))] [] ν Q E := fun ν e hp hν hW => good ν e.1 (nI e.2) _ hW hν.2.1 hν.2.2.2.1 rfl (fun t => absurd t hν.2.2.1) (fun _ => ⟨⟨e.2, rfl, hp⟩, hν.2.2.2.2⟩)
  have hbad74 : ∀ (ν : ZM) (e : Int32 × Nat), pLoad (aBu σ) = .error e → pEr G ν m (aBu σ) e → zW (zFk m) (zA1 (m + 1)) ν0 ν → Wp G Y_X5_load 74 [(0, vP (5, 0, m))] [] ν Q E := fun ν e hp hν hW => B_X5_load_74 ⟨_, hν.2.1, fun _ => hbad ν e hp hν hW, fun t => absurd t hν.2.2.1⟩
  have z0 : sZ (fun _ => 0) := fun _ _ => rfl
  -- the row is cleared; the text begins
  have clear : ∀ d i (ν : ZM), i + d = 627 → zW (zFk m) (zA1 (m + 1)) ν0 ν → (∀ j, zai ν (m + 1) j = if j < i then 0 else zai ν0 (m + 1) j) → Wp G Y_X5_load 15 [(0, vP (5, 0, m)), (1, vI (nI i))] [] ν Q E := by
    intro d
    induction d with
    | succ d ih =>
      intro i ν hi hW hs
      refine B_X5_load_15 ⟨fun t => absurd (show nI i < nI 627 from nI_lt (by omega) (by omega)) t, fun _ => ⟨_, _, (h1.fr (hW0.tm.trans hW.kk.m).fr).1, i, zix.eq rfl (by omega) (by omega), ?_⟩⟩
      rw [nI_1]
      refine ih (i + 1) _ (by omega) (hW.trans (zW_row _ _ _)) fun j => ?_
      rw [zai_zAi, hs j]
      by_cases hj : j = i
      · rw [if_pos ⟨rfl, hj⟩, if_pos (by omega)]
      · rw [if_neg (fun t => hj t.2)]
        by_cases hj2 : j < i
        · rw [if_pos hj2, if_pos (by omega)]
        · rw [if_neg hj2, if_neg (by omega)]
    | zero =>
      intro i ν hi hW hs
      have hi' : i = 627 := by omega
      subst hi'
      refine B_X5_load_15 ⟨fun _ => S_X5_startsText ⟨rfl, ?_⟩, fun t => absurd t (by decide)⟩
      obtain ⟨μ1, hμ1⟩ : ∃ x, x = zFi (zFi (zFi (zFi ν 57 m 0) 58 m 0) 60 m 0) 61 m (-1) := ⟨_, rfl⟩
      rw [← hμ1]
      have hW1 : zW (zFk m) (zA1 (m + 1)) ν0 μ1 := by
        rw [hμ1]
        exact (((hW.trans (zFk_set (by omega) _ _)).trans (zFk_set (by omega) _ _)).trans (zFk_set (by omega) _ _)).trans (zFk_set (by omega) _ _)
      have hok : pOk G μ1 m (aBu σ) 0 (fun _ => 0) := by
        have hWa : zW (zFm m) (zAm m) μ μ1 := hW0.tm.trans hW1.kk.m
        refine ⟨⟨hk.same hWa, h1.fr hWa.fr, h5.same ?_ ?_⟩, by rw [hμ1, zfi_zFi, if_neg (by omega), zfi_zFi, if_neg (by omega), zfi_zFi, if_neg (by omega), zfi_zFi, if_pos ⟨rfl, rfl⟩]; rfl, Nat.zero_le _, ⟨by rw [hμ1, zfi_zFi, if_neg (by omega), zfi_zFi, if_pos ⟨rfl, rfl⟩], by rw [hμ1, zfi_zFi, if_pos ⟨rfl, rfl⟩]⟩, ?_⟩
        · rw [hW1.2.2.2.2.2.2.1 56 m (by unfold zFk; omega), hν0.2.2.2.2.2.2.1 56 m (fun t => t)]
        · rw [hW1.ai (by unfold zA1; omega), hν0.ai (by unfold zA1; omega)]
        · funext j
          rw [hμ1]
          show zai ν (m + 1) j = 0
          rw [hs j]
          by_cases hj : j < 627
          · rw [if_pos hj]
          · rw [if_neg hj, hν0.ai (by unfold zA1; omega), h2]; exact hg j (by omega)
      refine C_keyword (w := tFair) 108 (by simp [kTx]) hok z0 (fun a1 k1' ν1 hν1 hV1 => ⟨rfl, _, _, hν1.1.2.1.1, C_number (lo := 1) (hi := 30) rfl rfl (by omega) (by omega) hν1 z0 (fun s a2 k2 ν2 hν2 _ hV2 => ⟨_, rfl, by omega, ?_⟩) (fun e k2 ν2 hν2 _ hV2 => ⟨_, rfl, by omega, ?_⟩)⟩) (fun e k1' ν1 hν1 hV1 => ⟨rfl, _, _, hν1.1.2.1.1, C_number_e hν1 ⟨_, rfl, by omega, ?_⟩⟩)
      · have z1 : sZ (wU (fun _ => 0) 3 (nI s)) := z0.up (by omega) _
        refine C_semicolon (hν2.row (j := 3) (nI s)) z1 (fun a3 k3 ν3 hν3 hV3 => ⟨rfl, _, hν3.2.2.2.1.1, fun t => absurd rfl t, fun _ => S_X5_fogLine (C_keyword (w := tFog) 109 (by simp [kTx]) hν3 z1 (fun a4 k4 ν4 hν4 hV4 => ⟨rfl, C_fogs 13 0 _ a4 ν4 (by omega) (by omega) (by unfold wU; rw [if_neg (by omega)]; rfl) z1 hν4 (fun r5 a5 k5 ν5 hν5 hV5 => ⟨rfl, ?_⟩) (fun e k5 ν5 hν5 hV5 => ⟨rfl, hbad74 ν5 e ?_ hν5 ?_⟩)⟩) (fun e k4 ν4 hν4 hV4 => ⟨rfl, ?_⟩))⟩) (fun e k3 ν3 hν3 _ hV3 => ⟨rfl, _, hν3.2.1, fun _ => hbad74 ν3 e ?_ hν3 ?_, fun t => absurd t hν3.2.2.1⟩)
        · have g2 := pNum_ge k2
          have hV : zW (zFk m) (zA1 (m + 1)) ν0 ν5 := ((((((hW1.trans hV1).trans hV2).trans (zW_row _ _ _)).trans hV3).trans hV4).trans hV5)
          refine C_stms 1000 r5 a5 0 0 (fun _ => 0) ν5 (by omega) hν5.2.2.1 (pFogs_ld g2.2.1 g2.2.2 k5).1 hν5 (fun r6 k6 ν6 a6 hν6 hV6 => good ν6 0 (-1) r6 (hV.trans hV6) hν6.2.2.2.1.1 hν6.2.2.2.1.2 hν6.2.2.2.2 (fun _ => ⟨rfl, ?_⟩) (fun t => absurd rfl t)) (fun e k6 ν6 hν6 hV6 => hbad ν6 e ?_ hν6 (hV.trans hV6))
          · unfold pLoad; rw [k1']; dsimp only; rw [k2]; dsimp only; rw [k3]; dsimp only; rw [k4]; dsimp only; rw [k5]; exact k6
          · unfold pLoad; rw [k1']; dsimp only; rw [k2]; dsimp only; rw [k3]; dsimp only; rw [k4]; dsimp only; rw [k5]; exact k6
        · unfold pLoad; rw [k1']; dsimp only; rw [k2]; dsimp only; rw [k3]; dsimp only; rw [k4]; dsimp only; rw [k5]
        · exact ((((((hW1.trans hV1).trans hV2).trans (zW_row _ _ _)).trans hV3).trans hV4).trans hV5)
        · -- the fog's keyword is missing
          have hV : zW (zFk m) (zA1 (m + 1)) ν0 ν4 := (((((hW1.trans hV1).trans hV2).trans (zW_row _ _ _)).trans hV3).trans hV4)
          have hp : pLoad (aBu σ) = .error e := by unfold pLoad; rw [k1']; dsimp only; rw [k2]; dsimp only; rw [k3]; dsimp only; rw [k4]
          have h60 : ¬ zfi ν4 60 m = 0 := by rw [hν4.2.1]; exact hν4.2.2.1
          exact B_X5_fogLine_7 (C_number_e hν4 ⟨_, rfl, _, _, hν4.1.2.1.1, by omega, _, rfl, fun _ => B_X5_fogLine_32 (C_muste h60 ⟨rfl, _, rfl, fun t => absurd t h60, fun _ => ⟨rfl, hbad74 ν4 e hp hν4 hV⟩⟩), fun _ => B_X5_fogLine_32 (C_muste h60 ⟨rfl, _, rfl, fun t => absurd t h60, fun _ => ⟨rfl, hbad74 ν4 e hp hν4 hV⟩⟩)⟩)
        · unfold pLoad; rw [k1']; dsimp only; rw [k2]; dsimp only; rw [k3]
        · exact ((((hW1.trans hV1).trans hV2).trans (zW_row _ _ _)).trans hV3)
      · have hp : pLoad (aBu σ) = .error e := by unfold pLoad; rw [k1']; dsimp only; rw [k2]
        have he := hν2.row (j := 3) (by omega) (nI 1)
        exact C_semicolon_e he ⟨rfl, _, he.2.1, fun _ => hbad74 _ e hp he (((hW1.trans hV1).trans hV2).trans (zW_row _ _ _)), fun t => absurd t he.2.2.1⟩
      · have hp : pLoad (aBu σ) = .error e := by unfold pLoad; rw [k1']
        have he := hν1.row (j := 3) (by omega) 1
        exact C_semicolon_e he ⟨rfl, _, he.2.1, fun _ => hbad74 _ e hp he ((hW1.trans hV1).trans (zW_row _ _ _)), fun t => absurd t he.2.2.1⟩
  exact clear 627 0 ν0 (by omega) (zW.rf _ _ _) (fun j => by rw [if_neg (by omega)])
end ZLD
