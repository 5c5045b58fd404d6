/-! CONTRACTS, 27: the model's output -/
section ZFM
variable {G : ZG} {μ ν : ZM} {Q : Option ZV → ZM → Prop} {E : ZP → ZM → Prop} {m a p q K V D : Nat} {z z1 z2 z3 z4 z5 : Int32} {b l w : List Nat} {r : Nat → Int32} {e : Int32 × Nat} {po : Nat → Nat} {σ : ZS}
theorem fStf_len {sl : Nat → List Nat} (hg : sGd r K V po D) (hs : sStaff r K V sl po) {v : Nat} (hv : v < 8) : ∀ k, k ≤ sSt r v → (fStf r v k).length ≤ 7 * k := by
  intro k
  induction k with
  | zero => intro _; exact Nat.le_refl _
  | succ k ih =>
    intro hk
    have := ih (by omega)
    have hm := (sMem_eq hs hg.1.1.1 hv (show k < sSt r v by omega)).2.2.1
    have h6 := (sName_ok (hg.2.1.1 _ hm).2.2).2.1
    unfold fStf
    rw [List.length_append, List.length_append]
    have : (if k = 0 then ([] : List Nat) else [43]).length ≤ 1 := by split <;> simp
    omega
theorem fAll_len {sl : Nat → List Nat} (hg : sGd r K V po D) (hs : sStaff r K V sl po) : ∀ v, v ≤ V → (fAll r v).length ≤ 29 * v := by
  intro v
  induction v with
  | zero => intro _; exact Nat.le_refl _
  | succ v ih =>
    intro hv
    have hV := hg.1.1.2.1
    have := ih (by omega)
    have h3 := (sSt_eq hs (show v < 8 by omega)).2.2
    have h7 := fStf_len hg hs (show v < 8 by omega) (sSt r v) (Nat.le_refl _)
    have h6 := (sName_ok (hg.2.1.2.1 v (by omega)).2.2).2.1
    unfold fAll
    rw [List.length_append, List.length_append, List.length_append, List.length_append]
    have : (if v = 0 then ([] : List Nat) else [32]).length ≤ 1 := by split <;> simp
    simp only [List.length_cons, List.length_nil]
    omega
theorem zMs.out (h : zMs μ m σ) (ho : zOu ν m l) (hW : zW (zFu m) (zA1 (m + 12)) μ ν) : zMs ν m (aOut σ l) := by
  obtain ⟨h1, h2, h3, h4, h5, ⟨h6, h7⟩, h8⟩ := h
  have hf : ∀ f, f ≠ 67 → zfi ν f m = zfi μ f m := fun f q => hW.2.2.2.2.2.2.1 f m (by unfold zFu; omega)
  have ha : ∀ c, c ≠ m + 12 → zai ν c = zai μ c := fun c q => hW.ai q
  exact ⟨h1.fr hW.fr, (ha _ (by omega)).trans h2, h3.same (hf 47 (by omega)) (ha _ (by omega)), h4.same (hf 45 (by omega)) (ha _ (by omega)), h5.same (hf 56 (by omega)) (ha _ (by omega)), ⟨(hf 62 (by omega)).trans h6, (hf 63 (by omega)).trans h7⟩, ho⟩
theorem C_formatContracts (h : zMs μ m σ) (hg : sGd (aR σ) K V po D) (k : zEd μ m Q (aOut σ (fAll (aR σ) V)) 0 (nI (fAll (aR σ) V).length)) : Call G Y_X5_formatContracts [vP (5, 0, m)] μ Q E := by
  obtain ⟨hw, ⟨e1, e2, -⟩, -, -⟩ := id hg
  obtain ⟨sl, hs⟩ := hw.2.2.2.2.1
  have hK := hw.1.1
  have hV := hw.1.2.1
  have h0 := h.thr 0
  have fl := fAll_len hg hs
  have W0 : zW (zFu m) (zA1 (m + 12)) (zFi μ 46 m 0) (zFi (zFi μ 46 m 0) 67 m 0) := zW_Fi ⟨rfl, rfl⟩ _ _
  have row : ∀ {ν : ZM}, zW (zFu m) (zA1 (m + 12)) (zFi μ 46 m 0) ν → zai ν (m + 1) = aR σ := fun hW => (hW.ai (by unfold zA1; omega)).trans h.2.1
  -- those who serve valley v
  have staff : ∀ (v : Nat) (hv : v < V) (base : List Nat), base.length ≤ 29 * v + 8 → (∀ ν, zOu ν m (base ++ fStf (aR σ) v (sSt (aR σ) v)) → zW (zFu m) (zA1 (m + 12)) (zFi μ 46 m 0) ν → Wp G Y_X5_formatContracts 12 [(0, vP (5, 0, m)), (1, vI (nI (v + 1)))] [] ν Q E) → ∀ d i (ν : ZM), i + d = sSt (aR σ) v → zOu ν m (base ++ fStf (aR σ) v i) → zW (zFu m) (zA1 (m + 12)) (zFi μ 46 m 0) ν → Wp G Y_X5_formatContracts 49 [(0, vP (5, 0, m)), (1, vI (nI v)), (2, vI (nI i))] [] ν Q E := by
    intro v hv base hbl kk d
    obtain ⟨t1, t2, t3⟩ := sSt_eq hs (show v < 8 by omega)
    induction d with
    | zero =>
      intro i ν hi ho hW
      have hi' : i = sSt (aR σ) v := by omega
      subst hi'
      have hm := h0.1.fr hW.fr
      refine B_X5_formatContracts_49 (C_ofValley v 13 rfl rfl (zMo.self hm.1) (by omega) ⟨_, rfl, fun _ => ?_, fun t => absurd t ?_⟩)
      · rw [nI_1]; exact kk ν ho hW
      · rw [row hW, t2]; exact nI_nlt (Nat.le_refl _) (by omega)
    | succ d ih =>
      intro i ν hi ho hW
      have hm := h0.1.fr hW.fr
      obtain ⟨-, m2, m3, -⟩ := sMem_eq hs hK (show v < 8 by omega) (show i < sSt (aR σ) v by omega)
      have hfl := fStf_len hg hs (show v < 8 by omega) i (by omega)
      have hnm := (e1 _ m3).2.2
      have hn6 := (sName_ok hnm).2.1
      have em : ∀ {ρ : ZM}, zW (zFu m) (zA1 (m + 12)) (zFi μ 46 m 0) ρ → wV (zai ρ (m + 1)) v (14 + i) = nI (sMem (aR σ) v i) := fun hWρ => by rw [row hWρ]; exact m2
      -- the name
      have nm : ∀ (E1 : ZP → ZM → Prop) (ρ : ZM) (pre : List Nat), pre.length ≤ 1 → pre = (if i = 0 then [] else [43]) → zOu ρ m (base ++ fStf (aR σ) v i ++ pre) → zW (zFu m) (zA1 (m + 12)) (zFi μ 46 m 0) ρ → Call G Y_X5_writesName [vP (5, 0, m), vI (nI (23 + 15 * sMem (aR σ) v i))] ρ (rV fun ν4 => Wp G Y_X5_formatContracts 49 [(0, vP (5, 0, m)), (1, vI (nI v)), (2, vI (nI i + 1))] [] ν4 Q E) E1 := by
        intro E1 ρ pre hp1 hp ho' hWρ
        refine C_writesName _ rfl (by omega) (h0.1.fr hWρ.fr) (row hWρ) hnm ho' (by rw [List.length_append, List.length_append]; omega) fun τ hτ hWτ => ⟨rfl, ?_⟩
        rw [nI_1]
        refine ih (i + 1) τ (by omega) ?_ (hWρ.trans hWτ)
        unfold fStf
        rw [← hp]
        simp only [List.append_assoc] at hτ ⊢
        exact hτ
      refine B_X5_formatContracts_49 (C_ofValley v 13 rfl rfl (zMo.self hm.1) (by omega) ⟨_, rfl, fun t => absurd ?_ t, fun _ => ⟨fun h00 => ?_, fun hpos => ?_⟩⟩)
      · rw [row hW, t2]; exact nI_lt (by omega) (by omega)
      · have hi0 : i = 0 := by
          apply Decidable.byContradiction
          intro t
          exact h00 (show nI 0 < nI i from nI_lt (by omega) (by omega))
        refine C_ofValley v (14 + i) rfl (nI_add 14 i) (zMo.self hm.1) (by omega) ⟨_, rfl, C_placeOf (sMem (aR σ) v i) (em hW) (fun t => absurd t (by decide)) (fun _ => ⟨_, rfl, nm _ ν [] (by simp) (by rw [if_pos hi0]) (by rw [List.append_nil]; exact ho) hW⟩) (Or.inl rfl)⟩
      · have hi0 : ¬ i = 0 := by
          intro t
          rw [t] at hpos
          exact absurd hpos (by decide)
        refine C_writes 43 rfl (by omega) hm ho (by rw [List.length_append]; omega) fun ρ hρ hWρ => ⟨rfl, ?_⟩
        have hW2 := hW.trans hWρ
        exact C_ofValley v (14 + i) rfl (nI_add 14 i) (zMo.self (h0.1.fr hW2.fr).1) (by omega) ⟨_, rfl, C_placeOf (sMem (aR σ) v i) (em hW2) (fun t => absurd t (by decide)) (fun _ => ⟨_, rfl, nm _ ρ [43] (by simp) (by rw [if_neg hi0]) hρ hW2⟩) (Or.inl rfl)⟩
  have key : ∀ d v (ν : ZM), v + d = V → zOu ν m (fAll (aR σ) v) → zW (zFu m) (zA1 (m + 12)) (zFi μ 46 m 0) ν → Wp G Y_X5_formatContracts 12 [(0, vP (5, 0, m)), (1, vI (nI v))] [] ν Q E := by
    intro d
    induction d with
    | zero =>
      intro v ν hv ho hW
      have hv' : v = V := by omega
      subst hv'
      refine B_X5_formatContracts_12 ⟨_, _, (h0.1.fr hW.fr).1, by omega, _, (congrFun (row hW) 1).trans hw.2.1.2, fun _ => ⟨_, ho.2.1, ?_⟩, fun t => absurd t (nI_nlt (by omega) (by omega))⟩
      exact k ν (h0.out ho hW) (by rw [hW.2.2.2.2.2.2.1 46 m (by unfold zFu; omega), zfi_zFi, if_pos ⟨rfl, rfl⟩]) ((zW_m46 μ m 0).trans (hW.mono (fun f b q => q.1) (fun b q => by unfold zA1 at q; unfold zAm; omega)))
    | succ d ih =>
      intro v ν hv ho hW
      have hnm := (e2 v (by omega)).2.2
      have hn6 := (sName_ok hnm).2.1
      have hfl := fl v (by omega)
      have nm : ∀ (E1 E2 : ZP → ZM → Prop) (ρ : ZM) (pre : List Nat), pre.length ≤ 1 → pre = (if v = 0 then [] else [32]) → zOu ρ m (fAll (aR σ) v ++ pre) → zW (zFu m) (zA1 (m + 12)) (zFi μ 46 m 0) ρ → Call G Y_X5_writesName [vP (5, 0, m), vI (nI (203 + 17 * v))] ρ (rV fun ν2 => Call G Y_X5_writes [vP (5, 0, m), vI 61] ν2 (rV fun ν3 => Wp G Y_X5_formatContracts 49 [(0, vP (5, 0, m)), (1, vI (nI v)), (2, vI 0)] [] ν3 Q E) E1) E2 := by
        intro E1 E2 ρ pre hp1 hp ho' hWρ
        refine C_writesName _ rfl (by omega) (h0.1.fr hWρ.fr) (row hWρ) hnm ho' (by rw [List.length_append]; omega) fun τ hτ hWτ => ⟨rfl, ?_⟩
        refine C_writes 61 rfl (by omega) (h0.1.fr (hWρ.trans hWτ).fr) hτ (by rw [List.length_append, List.length_append]; omega) fun π hπ hWπ => ⟨rfl, ?_⟩
        refine staff v (by omega) (fAll (aR σ) v ++ pre ++ sName (aR σ) (203 + 17 * v) ++ [61]) (by rw [List.length_append, List.length_append, List.length_append]; simp only [List.length_cons, List.length_nil]; omega) (fun χ hχ hWχ => ih (v + 1) χ (by omega) ?_ hWχ) (sSt (aR σ) v) 0 π (by omega) ?_ ((hWρ.trans hWτ).trans hWπ)
        · unfold fAll
          rw [← hp]
          exact hχ
        · show zOu π m (_ ++ [])
          rw [List.append_nil]
          exact hπ
      refine B_X5_formatContracts_12 ⟨_, _, (h0.1.fr hW.fr).1, by omega, _, (congrFun (row hW) 1).trans hw.2.1.2, fun t => absurd (nI_lt (by omega) (by omega)) t, fun _ => ⟨fun h00 => ?_, fun hpos => ?_⟩⟩
      · have hv0 : v = 0 := by
          apply Decidable.byContradiction
          intro t
          exact h00 (show nI 0 < nI v from nI_lt (by omega) (by omega))
        exact C_placeOf v rfl (fun _ => ⟨_, rfl, nm _ _ ν [] (by simp) (by rw [if_pos hv0]) (by rw [List.append_nil]; exact ho) hW⟩) (fun t => absurd t (by decide)) (Or.inr rfl)
      · have hv0 : ¬ v = 0 := by
          intro t
          rw [t] at hpos
          exact absurd hpos (by decide)
        refine C_writes 32 rfl (by omega) (h0.1.fr hW.fr) ho (by omega) fun ρ hρ hWρ => ⟨rfl, ?_⟩
        exact C_placeOf v rfl (fun _ => ⟨_, rfl, nm _ _ ρ [32] (by simp) (by rw [if_neg hv0]) hρ (hW.trans hWρ)⟩) (fun t => absurd t (by decide)) (Or.inr rfl)
  refine S_X5_formatContracts (key V 0 _ (by omega) ⟨by show ([] : List Nat).length ≤ 256; simp, by rw [zfi_zFi, if_pos ⟨rfl, rfl⟩]; rfl, fun i hi => absurd hi (Nat.not_lt_zero _)⟩ W0)
theorem C_outputByte (h : zMs μ m σ) (kt : ∀ k, k < (aOu σ).length → z = nI k → zEd μ m Q σ 0 (nI ((aOu σ).getD k 0))) (k1 : (∀ k, k < (aOu σ).length → z ≠ nI k) → zEd μ m Q σ 0 (-1)) : Call G Y_X5_outputByte [vP (5, 0, m), vI z] μ Q E := by
  obtain ⟨h1, h2, h3⟩ := h.2.2.2.2.2.2
  refine S_X5_outputByte ⟨_, h2, C_in 0 (aOu σ).length (by decide) ?_ (fun n _ n2 hz => ⟨_, rfl, fun t => absurd t (by decide), fun _ => ⟨_, _, h.1.2.2.2.2.2.2.2.2.2.2.2, n, zix.eq hz (by omega) (by omega), _, (h3 n n2).1, (kt n n2 hz).yes h⟩⟩) (fun hne => ⟨_, rfl, fun _ => (k1 fun n n1 => hne n (by omega) n1 (by omega)).yes h, fun t => absurd rfl t⟩)⟩
  rcases Nat.eq_zero_or_pos (aOu σ).length with t | t
  · rw [t]; decide
  · obtain ⟨n, hn⟩ : ∃ n, (aOu σ).length = n + 1 := ⟨(aOu σ).length - 1, by omega⟩
    rw [hn, nI_pred, Int32.toInt_toInt64, nI_toInt (by omega)]; omega
end ZFM
