/-! CONTRACTS, 9: the model's fair, whole -/
theorem sComes_lo {r : Nat → Int32} {v e n j : Nat} (hj : j < 23) (h5 : j ≠ 5) : sComes r v e n j = r j := by
  unfold sComes wU
  rw [if_neg h5, if_neg (by omega), if_neg (by omega), if_neg (by omega)]
theorem sComes_st {r : Nat → Int32} {v e n : Nat} (hv : v < 8) (he : e < 12) : wV (sComes r v e n) v 13 = nI (n + 1) := by
  unfold wV sComes wU
  rw [if_neg (by omega), if_neg (by omega), if_pos rfl]
theorem sComes_ot {r : Nat → Int32} {v e n w : Nat} (hv : v < 8) (he : e < 12) (hn : n < 3) (hw : w ≠ v) : wV (sComes r v e n) w 13 = wV r w 13 := by
  unfold wV sComes wU
  rw [if_neg (by omega), if_neg (by omega), if_neg (by omega), if_neg (by omega)]
theorem sSignE_succ (kl : Nat → List Nat) (v n : Nat) (r : Nat → Int32) : sSignE kl v (n + 1) r = if n ∈ kl v then sComes (sSignE kl v n r) v n (wV (sSignE kl v n r) v 13).toNatClampNeg else sSignE kl v n r := rfl
theorem sSignE_ok {r : Nat → Int32} {kl : Nat → List Nat} {v s0 : Nat} (hv : v < 8) (hs : wV r v 13 = nI s0) (h3 : s0 + (kl v).length ≤ 3) : ∀ i, i ≤ 12 → (∀ j, j < 23 → j ≠ 5 → sSignE kl v i r j = r j) ∧ wV (sSignE kl v i r) v 13 = nI (s0 + sHas (kl v) i) ∧ ∀ w, w ≠ v → wV (sSignE kl v i r) w 13 = wV r w 13 := by
  intro i
  induction i with
  | zero => intro _; exact ⟨fun _ _ _ => rfl, (by show wV r v 13 = _; rw [show sHas (kl v) 0 = 0 from rfl, Nat.add_zero]; exact hs), fun _ _ => rfl⟩
  | succ i ih =>
    intro hi
    obtain ⟨h1, h2, h4⟩ := ih (by omega)
    have hle := sHas_le (kl v) (i + 1)
    rw [sHas_succ] at hle ⊢
    unfold sSignE
    by_cases hm : i ∈ kl v
    · rw [if_pos hm] at hle
      rw [if_pos hm, if_pos hm]
      have e1 : (wV (sSignE kl v i r) v 13).toNatClampNeg = s0 + sHas (kl v) i := by rw [h2]; exact nI_clamp (by omega)
      rw [e1]
      exact ⟨fun j hj h5 => by rw [sComes_lo hj h5]; exact h1 j hj h5, sComes_st hv (by omega), fun w hw => by rw [sComes_ot hv (by omega) (by omega) hw]; exact h4 w hw⟩
    · rw [if_neg hm, if_neg hm]
      exact ⟨h1, h2, h4⟩
theorem sSignV_ok {r : Nat → Int32} {kl : Nat → List Nat} {K : Nat} (hK : K ≤ 12) {s0 : Nat → Nat} (hs : ∀ v, v < 8 → wV r v 13 = nI (s0 v)) (h3 : ∀ v, v < 8 → s0 v + (kl v).length ≤ 3) : ∀ v, v ≤ 8 → (∀ j, j < 23 → j ≠ 5 → sSignV kl K v r j = r j) ∧ ∀ w, v ≤ w → w < 8 → wV (sSignV kl K v r) w 13 = nI (s0 w) := by
  intro v
  induction v with
  | zero => intro _; exact ⟨fun _ _ _ => rfl, fun w _ hw => hs w hw⟩
  | succ v ih =>
    intro hv
    obtain ⟨h1, h2⟩ := ih (by omega)
    obtain ⟨g1, g2, g3⟩ := sSignE_ok (r := sSignV kl K v r) (by omega : v < 8) (h2 v (Nat.le_refl _) (by omega)) (h3 v (by omega)) K hK
    exact ⟨fun j hj h5 => (g1 j hj h5).trans (h1 j hj h5), fun w hw hw8 => (g3 w (by omega)).trans (h2 w (by omega) hw8)⟩
section ZV2
variable {G : ZG} {μ : ZM} {Q : Option ZV → ZM → Prop} {E : ZP → ZM → Prop} {m a aq ak ac ab : Nat}
/-- what the row of a fair must be -/
def sOkF (r : Nat → Int32) (K V : Nat) (s0 p0 : Nat → Nat) : Prop := r 0 = nI K ∧ r 1 = nI V ∧ K ≤ 12 ∧ V ≤ 8 ∧ ∀ v, v < 8 → wV r v 13 = nI (s0 v) ∧ wV r v 8 = nI (p0 v) ∧ s0 v ≤ p0 v ∧ p0 v ≤ 3
def zA5 (a aq ak ac ab : Nat) : Nat → Prop := fun b => b = a ∨ b = aq ∨ b = ak ∨ b = ac ∨ b = ab
theorem C_fairNow {K V : Nat} {s0 p0 : Nat → Nat} (h : zfr μ 40 m = (200, 627, a)) (hD : zDa a aq ak ac ab) (hF : zFo μ m aq ak ac ab) (ho : sOkF (zai μ a) K V s0 p0)
    (k : ∀ ν, zai ν a = sFair (zai μ a) K V → zW (zFq m) (zA5 a aq ak ac ab) μ ν → Q none ν) : Call G Y_X5_fairNow [vP (5, 0, m)] μ Q E := by
  obtain ⟨o1, o2, o3, o4, o5⟩ := ho
  have hD' := hD
  obtain ⟨⟨d1, d2, d3, d4⟩, ⟨d5, d6, d7⟩, ⟨d8, d9⟩, d10⟩ := hD'
  have hpost : ∀ v, v < 8 → wV (zai μ a) v 8 - wV (zai μ a) v 13 = nI (p0 v - s0 v) := fun v hv => by
    obtain ⟨q1, q2, q3, q4⟩ := o5 v hv
    rw [q1, q2]; exact pk_sub q3
  refine S_X5_fairNow (C_startsFair h o1 o3 hD hF fun ν hν hW => ⟨rfl, ?_⟩)
  have ea : zai ν a = zai μ a := hW.ai (fun q => by rcases q with q | q | q | q <;> omega)
  have hr : zfr ν 40 m = (200, 627, a) := by rw [hW.fr]; exact h
  refine C_fairQueue hr (by rw [ea]; exact o2) o4 hD (fun v hv => ⟨p0 v - s0 v, by have := o5 v (by omega); omega, by rw [ea]; exact hpost v (by omega)⟩) 300 _ _ _ ν (by have := sCnt_le (fun _ _ => false); have := sFree_len (zai μ a) K; omega) hν (zW.rf _ _ _) fun ρ ap' hρ hWρ => ?_
  rw [ea] at hρ
  obtain ⟨kl, hkl⟩ : ∃ x, x = sRun (zai μ a) V 300 (sFree (zai μ a) K) (fun _ _ => false) (fun _ => []) := ⟨_, rfl⟩
  rw [← hkl] at hρ
  have hfair : sFair (zai μ a) K V = sSignV kl K V (zai μ a) := by unfold sFair; rw [← hkl]
  have W0 : zW (zFq m) (zA5 a aq ak ac ab) μ ρ := (hW.trans hWρ).mono (fun _ _ q => q) (fun b hb => Or.inr hb)
  have ea2 : zai ρ a = zai μ a := (hW.trans hWρ).ai (fun q => by rcases q with q | q | q | q <;> omega)
  obtain ⟨-, f2, f3, -, -, f6, -⟩ := hρ
  obtain ⟨n1, n2⟩ := sRun_len (zai μ a) V 300 (sFree (zai μ a) K) (fun _ _ => false) (fun _ => []) (fun v _ => by simp) (fun v _ => rfl)
  rw [← hkl] at n1 n2
  have h3 : ∀ v, v < 8 → s0 v + (kl v).length ≤ 3 := fun v hv => by
    obtain ⟨q1, q2, q3, q4⟩ := o5 v hv
    by_cases hvV : v < V
    · have := n1 v hvV
      have e1 : sPosts (zai μ a) v = p0 v - s0 v := by unfold sPosts; rw [hpost v hv]; exact nI_clamp (by omega)
      omega
    · rw [n2 v hvV]; simp; omega
  have hso := sSignV_ok (r := zai μ a) (kl := kl) o3 (fun v hv => (o5 v hv).1) h3
  have lv : ∀ d v (σ : ZM), v + d = V → zW (zFq m) (zA5 a aq ak ac ab) μ σ → zKl σ ak ac kl → zai σ a = sSignV kl K v (zai μ a) → Wp G Y_X5_fairNow 38 [(0, vP (5, 0, m)), (1, vI (nI v))] [] σ Q E := by
    intro d
    induction d with
    | zero =>
      intro v σ hv hWσ hK hs
      have hv' : v = V := by omega
      subst hv'
      refine B_X5_fairNow_38 ⟨_, _, by rw [hWσ.fr]; exact h, by omega, _, by rw [hs, (hso v o4).1 1 (by omega) (by omega)]; exact o2, fun _ => k σ (by rw [hs, hfair]) hWσ, fun hn => absurd hn (nI_nlt (by omega) (by omega))⟩
    | succ d ih =>
      intro v σ hv hWσ hK hs
      obtain ⟨t1, t2⟩ := hso v (by omega)
      refine B_X5_fairNow_38 ⟨_, _, by rw [hWσ.fr]; exact h, by omega, _, by rw [hs, t1 1 (by omega) (by omega)]; exact o2, fun hn => absurd (nI_lt (by omega) (by omega)) hn, fun _ => ?_⟩
      have le : ∀ dd i (τ : ZM), i + dd = K → zW (zFq m) (zA5 a aq ak ac ab) μ τ → zKl τ ak ac kl → zai τ a = sSignE kl v i (sSignV kl K v (zai μ a)) → Wp G Y_X5_fairNow 50 [(0, vP (5, 0, m)), (1, vI (nI v)), (2, vI (nI i))] [] τ Q E := by
        intro dd
        induction dd with
        | zero =>
          intro i τ hi hWτ hKτ hsτ
          have hi' : i = K := by omega
          subst hi'
          obtain ⟨u1, u2, u3⟩ := sSignE_ok (r := sSignV kl i v (zai μ a)) (by omega : v < 8) (t2 v (Nat.le_refl _) (by omega)) (h3 v (by omega)) i o3
          refine B_X5_fairNow_50 ⟨_, _, by rw [hWτ.fr]; exact h, by omega, _, by rw [hsτ, u1 0 (by omega) (by omega), t1 0 (by omega) (by omega)]; exact o1, fun _ => ?_, fun hn => absurd hn (nI_nlt (by omega) (by omega))⟩
          rw [nI_1]
          exact ih (v + 1) τ (by omega) hWτ hKτ hsτ
        | succ dd ih2 =>
          intro i τ hi hWτ hKτ hsτ
          obtain ⟨u1, u2, u3⟩ := sSignE_ok (r := sSignV kl K v (zai μ a)) (by omega : v < 8) (t2 v (Nat.le_refl _) (by omega)) (h3 v (by omega)) i (by omega)
          have hle := sHas_le (kl v) (i + 1)
          rw [sHas_succ] at hle
          have h3v := h3 v (by omega)
          refine B_X5_fairNow_50 ⟨_, _, by rw [hWτ.fr]; exact h, by omega, _, by rw [hsτ, u1 0 (by omega) (by omega), t1 0 (by omega) (by omega)]; exact o1, fun hn => absurd (nI_lt (by omega) (by omega)) hn, fun _ => C_isKept v i rfl rfl (by omega) (by omega) (by rw [hWτ.fr]; exact hF.2.1) (by rw [hWτ.fr]; exact hF.2.2.1) hKτ (fun hm => ⟨_, rfl, fun hz => absurd hz (by decide), fun _ => ?_⟩) (fun hm => ⟨_, rfl, fun _ => ?_, fun hz => absurd rfl hz⟩)⟩
          · rw [if_pos hm] at hle
            refine C_contractComes v i (s0 v + sHas (kl v) i) rfl rfl (by omega) (by omega) (by rw [hWτ.fr]; exact h) (by rw [hsτ]; exact u2) (by omega) fun π hWπ hsπ => ⟨rfl, ?_⟩
            rw [nI_1]
            refine ih2 (i + 1) π (by omega) (hWτ.trans (hWπ.mono (fun _ _ q => q.elim) (fun b hb => Or.inl hb))) (hKτ.same (hWπ.ai (Ne.symm d2)) (hWπ.ai (Ne.symm d3))) ?_
            rw [hsπ, hsτ]
            rw [sSignE_succ, if_pos hm, show (wV (sSignE kl v i (sSignV kl K v (zai μ a))) v 13).toNatClampNeg = s0 v + sHas (kl v) i by rw [u2]; exact nI_clamp (by omega)]
          · rw [nI_1]
            refine ih2 (i + 1) τ (by omega) hWτ hKτ ?_
            rw [hsτ]
            rw [sSignE_succ, if_neg hm]
      exact le K 0 σ (by omega) hWσ hK hs
  exact lv V 0 ρ (by omega) W0 f6 ea2
end ZV2
