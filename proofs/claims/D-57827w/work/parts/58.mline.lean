/-! CONTRACTS, 22: the lines of a configuration in the model -/
theorem pNum_sk (b : List Nat) (lo hi a : Nat) : pNum b lo hi (pSk b a) = pNum b lo hi a := by unfold pNum; rw [pSk_sk]
theorem pSemi_sk (b : List Nat) (a : Nat) : pSemi b (pSk b a) = pSemi b a := by unfold pSemi; rw [pSk_sk]
theorem pLine_sk (b : List Nat) (r : Nat → Int32) (a : Nat) : pLine b r (pSk b a) = pLine b r a := by unfold pLine; rw [pSk_sk]
theorem pStm_sk (b : List Nat) (r : Nat → Int32) (a : Nat) : pStm b r (pSk b a) = pStm b r a := by unfold pStm; rw [pLine_sk]
theorem pFogs_sk (b : List Nat) (n : Nat) (r : Nat → Int32) (a : Nat) : pFogs b n r (pSk b a) = pFogs b n r a := by
  cases n with
  | zero => rfl
  | succ n => unfold pFogs; rw [pNum_sk, pSk_sk]
theorem pNum_ge {b : List Nat} {lo hi a v a' : Nat} (h : pNum b lo hi a = .ok (v, a')) : a ≤ a' ∧ lo ≤ v ∧ v ≤ hi := by
  unfold pNum at h
  split at h
  · cases h
  · split at h
    · cases h; have := pSk_ge b a; exact ⟨by omega, by omega, by omega⟩
    · cases h
theorem pSemi_gt {b : List Nat} {a a' : Nat} (h : pSemi b a = .ok a') : a < a' := by
  unfold pSemi at h
  split at h
  · cases h; have := pSk_ge b a; omega
  · cases h
theorem pName_ok {b w : List Nat} {a p : Nat} (h : pName b a = .ok (w, p)) : w = pWd b (pSk b a) ∧ p = pSk b a ∧ 1 ≤ w.length ∧ w.length ≤ 6 ∧ ∀ k, k < w.length → 97 ≤ w.getD k 0 ∧ w.getD k 0 ≤ 122 := by
  unfold pName at h
  split at h
  · rename_i h16
    cases h
    refine ⟨rfl, rfl, h16.1, h16.2, fun k hk => ?_⟩
    obtain ⟨g1, g2, -⟩ := pTw_get (f := pLet) (b := b) (a := pSk b a) (k := k) rfl hk
    unfold pLet at g2
    have g1' : (pWd b (pSk b a)).getD k 0 = b.getD (pSk b a + k) 0 := g1
    rw [g1']
    exact of_decide_eq_true g2
  · cases h
theorem pMust_ok {b : List Nat} {r : Nat → Int32} {v : Bool} {a x a' : Nat} (h : pMust b r v a = .ok (x, a')) : a ≤ a' ∧ sThing r v (pWd b (pSk b a)) = some x := by
  unfold pMust at h
  split at h
  · cases h
  · rename_i w p hn
    obtain ⟨h1, h2, -⟩ := pName_ok hn
    subst h1 h2
    split at h
    · cases h
    · rename_i k hk
      cases h
      have := pSk_ge b a
      exact ⟨by omega, hk⟩
theorem pNew_ok {b : List Nat} {r r' : Nat → Int32} {v : Bool} {q a a' : Nat} (h : pNew b r v q a = .ok (r', a')) : a ≤ a' ∧ ∃ w : List Nat, r' = sNamed r q w ∧ 1 ≤ w.length ∧ w.length ≤ 6 ∧ ∀ k, k < w.length → 97 ≤ w.getD k 0 ∧ w.getD k 0 ≤ 122 := by
  unfold pNew at h
  split at h
  · cases h
  · rename_i w p hn
    obtain ⟨h1, h2, h3, h4, h5⟩ := pName_ok hn
    split at h
    · cases h
      have := pSk_ge b a
      exact ⟨by rw [h2]; omega, w, rfl, h3, h4, h5⟩
    · cases h
theorem sNamed_out {r : Nat → Int32} {q : Nat} {w : List Nat} {j : Nat} (hw : w.length ≤ 6) (hj : j < q ∨ q + 7 ≤ j) : sNamed r q w j = r j := by
  unfold sNamed; rw [if_neg (by omega), if_neg (by omega)]
theorem sZ.up {r : Nat → Int32} (h : sZ r) {j : Nat} (hj : j < 627) (x : Int32) : sZ (wU r j x) := fun i hi => by unfold wU; rw [if_neg (by omega)]; exact h i hi
section ZLN
variable {G : ZG} {μ ν : ZM} {Q : Option ZV → ZM → Prop} {E : ZP → ZM → Prop} {m a p q K V : Nat} {z z1 z2 : Int32} {b w : List Nat} {r : Nat → Int32} {e : Int32 × Nat}
/-- the row is written, nothing else -/
theorem pOk.row {j : Nat} (h : pOk G μ m b a r) (x : Int32) : pOk G (zAi μ (m + 1) j x) m b a (wU r j x) := by
  obtain ⟨h1, h2, h3, h4, h5⟩ := h
  refine ⟨h1.same (zW_A1 μ (m + 1) j x : zW (zFk m) (zA1 (m + 1)) μ _).kk, h2, h3, h4, ?_⟩
  rw [zai_set, h5]
theorem zW_row (μ : ZM) (j : Nat) (x : Int32) : zW (zFk m) (zA1 (m + 1)) μ (zAi μ (m + 1) j x) := zW_A1 μ (m + 1) j x
theorem C_fogs : ∀ (n f : Nat) (r : Nat → Int32) (a : Nat) (μ : ZM), n + f = 13 → f ≤ 12 → r 4 = nI f → sZ r → pOk G μ m b a r → (∀ r' a', pFogs b n r a = .ok (r', a') → ∀ ν, pOk G ν m b a' r' → zW (zFk m) (zA1 (m + 1)) μ ν → Q none ν) → (∀ e, pFogs b n r a = .error e → ∀ ν, pEr G ν m b e → zW (zFk m) (zA1 (m + 1)) μ ν → Q none ν) → Wp G Y_X5_fogLine 7 [(0, vP (5, 0, m))] [] μ Q E := by
  intro n
  induction n with
  | zero => intro f r a μ hn hf; omega
  | succ n ih =>
    intro f r a μ hn hf h4 hz h kok ker
    have hf4 : (r 4).toNatClampNeg = f := by rw [h4]; exact nI_clamp (by omega)
    refine B_X5_fogLine_7 (C_number (lo := 0) (hi := 9) rfl rfl (by omega) (by omega) h hz (fun v a' hnum ν ho h58 hW => ⟨_, rfl, _, _, ho.1.2.1.1, by omega, _, (congrFun ho.2.2.2.2 4).trans h4, fun hge => ?_, fun hlt => ?_⟩) (fun e he ν hν _ hW => ⟨_, rfl, _, _, hν.1.2.1.1, by omega, _, rfl, fun _ => B_X5_fogLine_32 (C_muste (by rw [hν.2.1]; exact hν.2.2.1) ⟨rfl, _, hν.2.1, fun t => absurd t hν.2.2.1, fun _ => ker e ?_ ν hν hW⟩), fun _ => B_X5_fogLine_32 (C_muste (by rw [hν.2.1]; exact hν.2.2.1) ⟨rfl, _, hν.2.1, fun t => absurd t hν.2.2.1, fun _ => ker e ?_ ν hν hW⟩)⟩))
    · -- too many
      have hf12 : f = 12 := by
        apply Decidable.byContradiction
        intro t
        exact hge (show nI f < nI 12 from nI_lt (by omega) (by omega))
      have hsp : pFogs b (n + 1) r a = .error (4, pSk b a) := by unfold pFogs; rw [hnum]; dsimp only; rw [hf4, if_pos (by omega)]
      have hW2 := (zFk_set (m := m) (f := 60) (by omega) ν 4).trans (zFk_set (m := m) (f := 61) (by omega) _ (zfi ν 58 m))
      refine B_X5_fogLine_32 (C_must0 ho.2.2.2.1.1 ⟨rfl, 4, by rw [zfi_zFi, if_neg (by omega), zfi_zFi, if_pos ⟨rfl, rfl⟩], fun t => absurd t (by decide), fun _ => ker _ hsp _ ⟨ho.1.same hW2.kk, by rw [zfi_zFi, if_neg (by omega), zfi_zFi, if_pos ⟨rfl, rfl⟩], by show (4 : Int32) ≠ 0; decide, by rw [zfi_zFi, if_pos ⟨rfl, rfl⟩]; exact h58, fun j hj => ?_⟩ (hW.trans hW2)⟩)
      show zai ν (m + 1) j = 0
      rw [ho.2.2.2.2]; exact hz j hj
    · have hf12 : f < 12 := (nI_ltI (b := 12) (by omega) (by omega)).mp hlt
      have hr1 := ho.row (j := 11 + f) (nI v)
      have hr2 := hr1.row (j := 4) (nI (f + 1))
      have h4' : wU r (11 + f) (nI v) 4 = nI f := by unfold wU; rw [if_neg (by omega)]; exact h4
      have hW2 := (hW.trans (zW_row (m := m) ν (11 + f) (nI v))).trans (zW_row (m := m) _ 4 (nI (f + 1)))
      have hz2 : sZ (wU (wU r (11 + f) (nI v)) 4 (nI (f + 1))) := (hz.up (by omega) _).up (by omega) _
      have e5 : wU (wU r (11 + f) (nI v)) 4 (nI (f + 1)) 4 = nI (f + 1) := by unfold wU; rw [if_pos rfl]
      refine B_X5_fogLine_32 (C_must1 ⟨rfl, _, ho.2.2.2.1.1, fun _ => ⟨_, _, ho.1.2.1.1, by omega, _, (congrFun ho.2.2.2.2 4).trans h4, 11 + f, zix.eq (nI_add 11 f) (by omega) (by omega), _, (congrFun hr1.2.2.2.2 4).trans h4', ?_⟩, fun t => absurd rfl t⟩)
      rw [nI_1]
      refine C_isNumberNext hr2 (fun hne ρ hρ hWρ => ⟨_, rfl, fun _ => ?_, fun t => absurd t (by decide)⟩) (fun he ρ hρ hWρ => ⟨_, rfl, fun t => absurd rfl t, fun _ => ?_⟩)
      · refine ih (f + 1) _ (pSk b a') ρ (by omega) (by omega) e5 hz2 hρ (fun r' a'' hs ν' hν' hW' => kok r' a'' ?_ ν' hν' ((hW2.trans hWρ).trans hW')) (fun e hs ν' hν' hW' => ker e ?_ ν' hν' ((hW2.trans hWρ).trans hW'))
        · rw [pFogs_sk] at hs
          unfold pFogs; rw [hnum]; dsimp only; rw [hf4, if_neg (by omega), if_neg hne]; exact hs
        · rw [pFogs_sk] at hs
          unfold pFogs; rw [hnum]; dsimp only; rw [hf4, if_neg (by omega), if_neg hne]; exact hs
      · refine C_semicolon hρ hz2 (fun a'' hs ν' hν' hW' => ⟨rfl, kok _ a'' ?_ ν' hν' ((hW2.trans hWρ).trans hW')⟩) (fun e hs ν' hν' _ hW' => ⟨rfl, ker e ?_ ν' hν' ((hW2.trans hWρ).trans hW')⟩)
        · rw [pSemi_sk] at hs
          unfold pFogs; rw [hnum]; dsimp only; rw [hf4, if_neg (by omega), if_pos he, hs]
        · rw [pSemi_sk] at hs
          unfold pFogs; rw [hnum]; dsimp only; rw [hf4, if_neg (by omega), if_pos he, hs]
    · unfold pFogs; rw [he]
    · unfold pFogs; rw [he]
theorem C_echoLine (h : pTk G μ m b p r) (hw : pWd b p = tEcho) (hz : sZ r) (hr : sKV r K V) (kok : ∀ r' a', pEcho b r p = .ok (r', a') → ∀ ν, pOk G ν m b a' r' → zW (zFk m) (zA1 (m + 1)) μ ν → Q none ν) (ker : ∀ e, pEcho b r p = .error e → ∀ ν, pEr G ν m b e → zW (zFk m) (zA1 (m + 1)) μ ν → Q none ν) : Call G Y_X5_echoLine [vP (5, 0, m)] μ Q E := by
  obtain ⟨r0, r1, bK, bV⟩ := id hr
  have hK : (r 0).toNatClampNeg = K := by rw [r0]; exact nI_clamp (by omega)
  refine S_X5_echoLine ⟨_, _, h.1.1.2.1.1, by omega, _, (congrFun h.1.2.2.2.2 0).trans r0, fun hge => ?_, fun hlt => ?_⟩
  · obtain ⟨he, hW2⟩ := h.err hz 4 (by decide)
    have hK12 : 12 ≤ K := by
      apply Decidable.byContradiction
      intro t
      exact hge (show nI K < nI 12 from nI_lt (by omega) (by omega))
    refine B_X5_echoLine_17 (C_must0 h.1.2.2.2.1.1 ⟨rfl, _, he.2.1, fun t => absurd t he.2.2.1, fun _ => ker _ ?_ _ he hW2⟩)
    unfold pEcho; rw [hK, if_pos hK12]
  · have hK12 : K < 12 := (nI_ltI (b := 12) (by omega) (by omega)).mp hlt
    refine B_X5_echoLine_17 (C_must1 ⟨rfl, _, h.1.2.2.2.1.1, fun _ => h.past fun ho hW0 => ⟨rfl, _, _, ho.1.2.1.1, by omega, _, (congrFun ho.2.2.2.2 0).trans r0, C_placeOf K rfl (fun t => absurd t (by decide)) (fun _ => ⟨_, rfl, ?_⟩) (Or.inl rfl)⟩, fun t => absurd rfl t⟩)
    rw [hw] at ho hW0 ⊢
    have hun : ∀ x, pEcho b r p = x ↔ (match pNew b r false (23 + 15 * K) (p + 4) with
        | .error e => .error e
        | .ok (r1, a1) => match pNum b 1 9 a1 with
          | .error e => .error e
          | .ok (x7, a2) => match pNum b 1 9 a2 with
            | .error e => .error e
            | .ok (x8, a3) => match pNum b 1 99 a3 with
              | .error e => .error e
              | .ok (x9, a4) => match pNum b 0 9 a4 with
                | .error e => .error e
                | .ok (x10, a5) => .ok (wU (wU (wU (wU (wU r1 (23 + 15 * K + 7) (nI x7)) (23 + 15 * K + 8) (nI x8)) (23 + 15 * K + 9) (nI x9)) (23 + 15 * K + 10) (nI x10)) 0 (nI (K + 1)), a5)) = x := fun x => by unfold pEcho; rw [hK, if_neg (by omega)]; exact Iff.rfl
    have errs : ∀ (ρ : ZM) (x4 x5 x6 x7 : Int32) (e : Int32 × Nat), pEr G ρ m b e → zW (zFk m) (zA1 (m + 1)) μ ρ → pEcho b r p = .error e → (∃ x8, zfi ρ 60 m = x8 ∧ (x8 = 0 → (Call G Y_X5_puts [vP (5, 0, m), vI (nI K), vI 7, vI x4] ρ (rV fun ν9 => Call G Y_X5_puts [vP (5, 0, m), vI (nI K), vI 8, vI x5] ν9 (rV fun ν10 => Call G Y_X5_puts [vP (5, 0, m), vI (nI K), vI 9, vI x6] ν10 (rV fun ν11 => Call G Y_X5_puts [vP (5, 0, m), vI (nI K), vI 10, vI x7] ν11 (rV fun ν12 => ∃ n2 a2, zfr ν12 40 m = (200, n2, a2) ∧ 0 < n2 ∧ ∃ x9, zai ν12 a2 0 = x9 ∧ Q none (zAi ν12 a2 0 (x9 + 1))) (fun q ν => zkc q.1 = true ∧ E q ν)) (fun q ν => zkc q.1 = true ∧ E q ν)) (fun q ν => zkc q.1 = true ∧ E q ν)) (fun q ν => zkc q.1 = true ∧ E q ν))) ∧ (¬ x8 = 0 → Q none ρ)) := fun ρ x4 x5 x6 x7 e he hW hs => ⟨_, he.2.1, fun t => absurd t he.2.2.1, fun _ => ker e hs ρ he hW⟩
    refine C_newName (q := 23 + 15 * K) false rfl rfl (by omega) ho hz hr (fun rr a1 hn ν hν hW1 => ⟨rfl, ?_⟩) (fun e he ν hν hW1 => ⟨rfl, C_number_e hν ⟨_, rfl, C_number_e hν ⟨_, rfl, C_number_e hν ⟨_, rfl, C_number_e hν ⟨_, rfl, errs ν _ _ _ _ e hν (hW0.trans hW1) ((hun _).mpr (by rw [show p + 4 = p + tEcho.length from rfl, he]))⟩⟩⟩⟩⟩)
    obtain ⟨-, w, hrr, w1, w6, -⟩ := pNew_ok hn
    have hzr : sZ rr := fun j hj => by rw [hrr, sNamed_out w6 (by omega)]; exact hz j hj
    have hn' : pNew b r false (23 + 15 * K) (p + 4) = .ok (rr, a1) := hn
    refine C_number (lo := 1) (hi := 9) rfl rfl (by omega) (by omega) hν hzr (fun x7 a2 h7 ν2 hν2 _ hW2 => ⟨_, rfl, ?_⟩) (fun e he ν hν _ hW2 => ⟨_, rfl, C_number_e hν ⟨_, rfl, C_number_e hν ⟨_, rfl, C_number_e hν ⟨_, rfl, errs ν _ _ _ _ e hν ((hW0.trans hW1).trans hW2) ((hun _).mpr (by rw [hn']; dsimp only; rw [he]))⟩⟩⟩⟩)
    refine C_number (lo := 1) (hi := 9) rfl rfl (by omega) (by omega) hν2 hzr (fun x8 a3 h8 ν3 hν3 _ hW3 => ⟨_, rfl, ?_⟩) (fun e he ν hν _ hW3 => ⟨_, rfl, C_number_e hν ⟨_, rfl, C_number_e hν ⟨_, rfl, errs ν _ _ _ _ e hν (((hW0.trans hW1).trans hW2).trans hW3) ((hun _).mpr (by rw [hn']; dsimp only; rw [h7]; dsimp only; rw [he]))⟩⟩⟩)
    refine C_number (lo := 1) (hi := 99) rfl rfl (by omega) (by omega) hν3 hzr (fun x9 a4 h9 ν4 hν4 _ hW4 => ⟨_, rfl, ?_⟩) (fun e he ν hν _ hW4 => ⟨_, rfl, C_number_e hν ⟨_, rfl, errs ν _ _ _ _ e hν ((((hW0.trans hW1).trans hW2).trans hW3).trans hW4) ((hun _).mpr (by rw [hn']; dsimp only; rw [h7]; dsimp only; rw [h8]; dsimp only; rw [he]))⟩⟩)
    refine C_number (lo := 0) (hi := 9) rfl rfl (by omega) (by omega) hν4 hzr (fun x10 a5 h10 ν5 hν5 _ hW5 => ⟨_, rfl, _, hν5.2.2.2.1.1, fun _ => ?_, fun t => absurd rfl t⟩) (fun e he ν hν _ hW5 => ⟨_, rfl, errs ν _ _ _ _ e hν (((((hW0.trans hW1).trans hW2).trans hW3).trans hW4).trans hW5) ((hun _).mpr (by rw [hn']; dsimp only; rw [h7]; dsimp only; rw [h8]; dsimp only; rw [h9]; dsimp only; rw [he]))⟩)
    have g1 := hν5.row (j := 23 + 15 * K + 7) (nI x7)
    have g2 := g1.row (j := 23 + 15 * K + 8) (nI x8)
    have g3 := g2.row (j := 23 + 15 * K + 9) (nI x9)
    have g4 := g3.row (j := 23 + 15 * K + 10) (nI x10)
    have g5 := g4.row (j := 0) (nI (K + 1))
    have e0 : wU (wU (wU (wU rr (23 + 15 * K + 7) (nI x7)) (23 + 15 * K + 8) (nI x8)) (23 + 15 * K + 9) (nI x9)) (23 + 15 * K + 10) (nI x10) 0 = nI K := by
      unfold wU
      rw [if_neg (by omega), if_neg (by omega), if_neg (by omega), if_neg (by omega), hrr, sNamed_out w6 (by omega)]
      exact r0
    refine C_puts (a := m + 1) K 7 rfl rfl hν5.1.2.1.1 (by omega) ⟨rfl, C_puts (a := m + 1) K 8 rfl rfl g1.1.2.1.1 (by omega) ⟨rfl, C_puts (a := m + 1) K 9 rfl rfl g2.1.2.1.1 (by omega) ⟨rfl, C_puts (a := m + 1) K 10 rfl rfl g3.1.2.1.1 (by omega) ⟨rfl, _, _, g4.1.2.1.1, by omega, _, (congrFun g4.2.2.2.2 0).trans e0, ?_⟩⟩⟩⟩
    rw [nI_1]
    exact kok _ a5 ((hun _).mpr (by rw [hn']; dsimp only; rw [h7]; dsimp only; rw [h8]; dsimp only; rw [h9]; dsimp only; rw [h10])) _ g5 (((((((((((hW0.trans hW1).trans hW2).trans hW3).trans hW4).trans hW5).trans (zW_row _ _ _)).trans (zW_row _ _ _)).trans (zW_row _ _ _)).trans (zW_row _ _ _)).trans (zW_row _ _ _)))
theorem C_valleyLine (h : pTk G μ m b p r) (hw : pWd b p = tValley) (hz : sZ r) (hr : sKV r K V) (kok : ∀ r' a', pValley b r p = .ok (r', a') → ∀ ν, pOk G ν m b a' r' → zW (zFk m) (zA1 (m + 1)) μ ν → Q none ν) (ker : ∀ e, pValley b r p = .error e → ∀ ν, pEr G ν m b e → zW (zFk m) (zA1 (m + 1)) μ ν → Q none ν) : Call G Y_X5_valleyLine [vP (5, 0, m)] μ Q E := by
  obtain ⟨r0, r1, bK, bV⟩ := id hr
  have hV : (r 1).toNatClampNeg = V := by rw [r1]; exact nI_clamp (by omega)
  refine S_X5_valleyLine ⟨_, _, h.1.1.2.1.1, by omega, _, (congrFun h.1.2.2.2.2 1).trans r1, fun hge => ?_, fun hlt => ?_⟩
  · obtain ⟨he, hW2⟩ := h.err hz 4 (by decide)
    have hV8 : 8 ≤ V := by
      apply Decidable.byContradiction
      intro t
      exact hge (show nI V < nI 8 from nI_lt (by omega) (by omega))
    refine B_X5_valleyLine_17 (C_must0 h.1.2.2.2.1.1 ⟨rfl, _, he.2.1, fun t => absurd t he.2.2.1, fun _ => ker _ ?_ _ he hW2⟩)
    unfold pValley; rw [hV, if_pos hV8]
  · have hV8 : V < 8 := (nI_ltI (b := 8) (by omega) (by omega)).mp hlt
    refine B_X5_valleyLine_17 (C_must1 ⟨rfl, _, h.1.2.2.2.1.1, fun _ => h.past fun ho hW0 => ⟨rfl, _, _, ho.1.2.1.1, by omega, _, (congrFun ho.2.2.2.2 1).trans r1, C_placeOf V rfl (fun _ => ⟨_, rfl, ?_⟩) (fun t => absurd t (by decide)) (Or.inr rfl)⟩, fun t => absurd rfl t⟩)
    rw [hw] at ho hW0 ⊢
    have hun : ∀ x, pValley b r p = x ↔ (match pNew b r true (203 + 17 * V) (p + 6) with
        | .error e => .error e
        | .ok (r1, a1) => match pNum b 1 9 a1 with
          | .error e => .error e
          | .ok (x7, a2) => match pNum b 1 3 a2 with
            | .error e => .error e
            | .ok (x8, a3) => match pNum b 1 99 a3 with
              | .error e => .error e
              | .ok (x9, a4) => match pNum b 0 9999 a4 with
                | .error e => .error e
                | .ok (x10, a5) => .ok (wU (wU (wU (wU (wU (wU r1 (203 + 17 * V + 7) (nI x7)) (203 + 17 * V + 8) (nI x8)) (203 + 17 * V + 9) (nI x9)) (203 + 17 * V + 10) (nI x10)) 7 (r 7 + nI x10)) 1 (nI (V + 1)), a5)) = x := fun x => by unfold pValley; rw [hV, if_neg (by omega)]; exact Iff.rfl
    refine C_newName (q := 203 + 17 * V) true rfl rfl (by omega) ho hz hr (fun rr a1 hn ν hν hW1 => ⟨rfl, ?_⟩) (fun e he ν hν hW1 => ⟨rfl, C_number_e hν ⟨_, rfl, C_number_e hν ⟨_, rfl, C_number_e hν ⟨_, rfl, C_number_e hν ⟨_, rfl, _, hν.2.1, fun t => absurd t hν.2.2.1, fun _ => ker e ((hun _).mpr (by rw [show p + 6 = p + tValley.length from rfl, he])) ν hν (hW0.trans hW1)⟩⟩⟩⟩⟩)
    obtain ⟨-, w, hrr, w1, w6, -⟩ := pNew_ok hn
    have hzr : sZ rr := fun j hj => by rw [hrr, sNamed_out w6 (by omega)]; exact hz j hj
    have hn' : pNew b r true (203 + 17 * V) (p + 6) = .ok (rr, a1) := hn
    refine C_number (lo := 1) (hi := 9) rfl rfl (by omega) (by omega) hν hzr (fun x7 a2 h7 ν2 hν2 _ hW2 => ⟨_, rfl, ?_⟩) (fun e he ν hν _ hW2 => ⟨_, rfl, C_number_e hν ⟨_, rfl, C_number_e hν ⟨_, rfl, C_number_e hν ⟨_, rfl, _, hν.2.1, fun t => absurd t hν.2.2.1, fun _ => ker e ((hun _).mpr (by rw [hn']; dsimp only; rw [he])) ν hν ((hW0.trans hW1).trans hW2)⟩⟩⟩⟩)
    refine C_number (lo := 1) (hi := 3) rfl rfl (by omega) (by omega) hν2 hzr (fun x8 a3 h8 ν3 hν3 _ hW3 => ⟨_, rfl, ?_⟩) (fun e he ν hν _ hW3 => ⟨_, rfl, C_number_e hν ⟨_, rfl, C_number_e hν ⟨_, rfl, _, hν.2.1, fun t => absurd t hν.2.2.1, fun _ => ker e ((hun _).mpr (by rw [hn']; dsimp only; rw [h7]; dsimp only; rw [he])) ν hν (((hW0.trans hW1).trans hW2).trans hW3)⟩⟩⟩)
    refine C_number (lo := 1) (hi := 99) rfl rfl (by omega) (by omega) hν3 hzr (fun x9 a4 h9 ν4 hν4 _ hW4 => ⟨_, rfl, ?_⟩) (fun e he ν hν _ hW4 => ⟨_, rfl, C_number_e hν ⟨_, rfl, _, hν.2.1, fun t => absurd t hν.2.2.1, fun _ => ker e ((hun _).mpr (by rw [hn']; dsimp only; rw [h7]; dsimp only; rw [h8]; dsimp only; rw [he])) ν hν ((((hW0.trans hW1).trans hW2).trans hW3).trans hW4)⟩⟩)
    refine C_number (lo := 0) (hi := 9999) rfl rfl (by omega) (by omega) hν4 hzr (fun x10 a5 h10 ν5 hν5 _ hW5 => ⟨_, rfl, _, hν5.2.2.2.1.1, fun _ => ?_, fun t => absurd rfl t⟩) (fun e he ν hν _ hW5 => ⟨_, rfl, _, hν.2.1, fun t => absurd t hν.2.2.1, fun _ => ker e ((hun _).mpr (by rw [hn']; dsimp only; rw [h7]; dsimp only; rw [h8]; dsimp only; rw [h9]; dsimp only; rw [he])) ν hν (((((hW0.trans hW1).trans hW2).trans hW3).trans hW4).trans hW5)⟩)
    have g1 := hν5.row (j := 203 + 17 * V + 7) (nI x7)
    have g2 := g1.row (j := 203 + 17 * V + 8) (nI x8)
    have g3 := g2.row (j := 203 + 17 * V + 9) (nI x9)
    have g4 := g3.row (j := 203 + 17 * V + 10) (nI x10)
    have g5 := g4.row (j := 7) (r 7 + nI x10)
    have g6 := g5.row (j := 1) (nI (V + 1))
    have lo : ∀ j, j < 203 → wU (wU (wU (wU rr (203 + 17 * V + 7) (nI x7)) (203 + 17 * V + 8) (nI x8)) (203 + 17 * V + 9) (nI x9)) (203 + 17 * V + 10) (nI x10) j = r j := fun j hj => by
      unfold wU
      rw [if_neg (by omega), if_neg (by omega), if_neg (by omega), if_neg (by omega), hrr, sNamed_out w6 (by omega)]
    have e1 : wU (wU (wU (wU (wU rr (203 + 17 * V + 7) (nI x7)) (203 + 17 * V + 8) (nI x8)) (203 + 17 * V + 9) (nI x9)) (203 + 17 * V + 10) (nI x10)) 7 (r 7 + nI x10) 1 = nI V := by
      rw [show wU (wU (wU (wU (wU rr (203 + 17 * V + 7) (nI x7)) (203 + 17 * V + 8) (nI x8)) (203 + 17 * V + 9) (nI x9)) (203 + 17 * V + 10) (nI x10)) 7 (r 7 + nI x10) 1 = wU (wU (wU (wU rr (203 + 17 * V + 7) (nI x7)) (203 + 17 * V + 8) (nI x8)) (203 + 17 * V + 9) (nI x9)) (203 + 17 * V + 10) (nI x10) 1 from by unfold wU; rw [if_neg (by omega)], lo 1 (by omega)]
      exact r1
    refine C_putsValley (a := m + 1) V 7 rfl rfl hν5.1.2.1.1 (by omega) ⟨rfl, C_putsValley (a := m + 1) V 8 rfl rfl g1.1.2.1.1 (by omega) ⟨rfl, C_putsValley (a := m + 1) V 9 rfl rfl g2.1.2.1.1 (by omega) ⟨rfl, C_putsValley (a := m + 1) V 10 rfl rfl g3.1.2.1.1 (by omega) ⟨rfl, _, _, g4.1.2.1.1, by omega, _, (congrFun g4.2.2.2.2 7).trans (lo 7 (by omega)), by omega, _, (congrFun g5.2.2.2.2 1).trans e1, ?_⟩⟩⟩⟩
    rw [nI_1]
    exact kok _ a5 ((hun _).mpr (by rw [hn']; dsimp only; rw [h7]; dsimp only; rw [h8]; dsimp only; rw [h9]; dsimp only; rw [h10])) _ g6 ((((((((((((hW0.trans hW1).trans hW2).trans hW3).trans hW4).trans hW5).trans (zW_row _ _ _)).trans (zW_row _ _ _)).trans (zW_row _ _ _)).trans (zW_row _ _ _)).trans (zW_row _ _ _)).trans (zW_row _ _ _)))
theorem C_testedLine (h : pTk G μ m b p r) (hw : pWd b p = tTested) (hz : sZ r) (hr : sKV r K V) (kok : ∀ r' a', pTested b r p = .ok (r', a') → ∀ ν, pOk G ν m b a' r' → zW (zFk m) (zA1 (m + 1)) μ ν → Q none ν) (ker : ∀ e, pTested b r p = .error e → ∀ ν, pEr G ν m b e → zW (zFk m) (zA1 (m + 1)) μ ν → Q none ν) : Call G Y_X5_testedLine [vP (5, 0, m)] μ Q E := by
  have hKV := hr.2.2
  refine S_X5_testedLine (h.past fun ho hW0 => ⟨rfl, ?_⟩)
  rw [hw] at ho hW0 ⊢
  refine C_mustBe true rfl ho hz hr (fun x a1 hx hxV ν hν hW1 => ⟨_, rfl, ?_⟩) (fun e he ν hν _ hW1 => ⟨_, rfl, C_mustBe_e hν ⟨_, rfl, _, hν.2.1, fun _ => ker e ?_ ν hν (hW0.trans hW1), fun t => absurd t hν.2.2.1⟩⟩)
  · rw [if_pos rfl] at hxV
    have hx' : pMust b r true (p + 6) = .ok (x, a1) := hx
    refine C_mustBe false rfl hν hz hr (fun y a2 hy hyK ν2 hν2 hW2 => ⟨_, rfl, _, hν2.2.2.2.1.1, fun t => absurd rfl t, fun _ => ⟨_, _, hν2.1.2.1.1, C_pair x y 0 rfl rfl rfl ⟨_, rfl, iP x y 0, ?_, kok _ a2 ?_ _ (hν2.row 1) (((hW0.trans hW1).trans hW2).trans (zW_row _ _ _))⟩⟩⟩) (fun e he ν hν _ hW2 => ⟨_, rfl, _, hν.2.1, fun _ => ker e ?_ ν hν ((hW0.trans hW1).trans hW2), fun t => absurd t hν.2.2.1⟩)
    · rw [if_neg (by decide)] at hyK
      exact zix.eq rfl (by unfold iP; omega) (by unfold iP; omega)
    · unfold pTested; rw [hx']; dsimp only; rw [hy]
    · unfold pTested; rw [hx']; dsimp only; rw [he]
  · have he' : pMust b r true (p + 6) = .error e := he
    unfold pTested; rw [he']
end ZLN
