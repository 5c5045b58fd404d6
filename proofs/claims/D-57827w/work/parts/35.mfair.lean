/-! CONTRACTS, 6: the model's fair begins -/
/-- the echoes without a contract among the first n -/
def sFree (r : Nat → Int32) : Nat → List Nat
  | 0 => []
  | n + 1 => if 0 < wE r n 13 then sFree r n else sFree r n ++ [n]
theorem sFree_len (r : Nat → Int32) : ∀ n, (sFree r n).length ≤ n := by
  intro n
  induction n with
  | zero => exact Nat.le_refl _
  | succ n ih =>
    unfold sFree
    split
    · omega
    · rw [List.length_append]; simp; omega
section ZU
variable {G : ZG} {μ : ZM} {Q : Option ZV → ZM → Prop} {E : ZP → ZM → Prop} {m a aq ak ac ab : Nat}
/-- the model's arrays of a fair, whatever they hold -/
def zFo (μ : ZM) (m aq ak ac ab : Nat) : Prop := zfr μ 48 m = (200, 16, aq) ∧ zfr μ 49 m = (200, 24, ak) ∧ zfr μ 50 m = (200, 8, ac) ∧ zfr μ 51 m = (201, 96, ab)
theorem C_startsFair {K : Nat} (h : zfr μ 40 m = (200, 627, a)) (hK : zai μ a 0 = nI K) (hK12 : K ≤ 12) (hD : zDa a aq ak ac ab) (hF : zFo μ m aq ak ac ab)
    (k : ∀ ν, zFa ν m aq ak ac ab (sFree (zai μ a) K) (fun _ _ => false) (fun _ => []) → zW (zFq m) (zA4 aq ak ac ab) μ ν → Q none ν) : Call G Y_X5_startsFair [vP (5, 0, m)] μ Q E := by
  obtain ⟨⟨d1, d2, d3, d4⟩, ⟨d5, d6, d7⟩, ⟨d8, d9⟩, d10⟩ := hD
  obtain ⟨g1, g2, g3, g4⟩ := hF
  refine S_X5_startsFair ?_
  have W0 : zW (zFq m) (zA4 aq ak ac ab) μ (zFi (zFi μ 52 m 0) 53 m 0) := zW.trans (zW_Fi ⟨rfl, Or.inl rfl⟩ μ _) (zW_Fi ⟨rfl, Or.inr rfl⟩ _ _)
  have l3 : ∀ d i (ν : ZM), i + d = K → zW (zFq m) (zA4 aq ak ac ab) μ ν → zRi ν m aq (sFree (zai μ a) i) → (∀ v, v < 8 → zai ν ac v = 0) → (∀ j, j < 96 → zai ν ab j = 0) → Wp G Y_X5_startsFair 54 [(0, vP (5, 0, m)), (1, vI (nI i))] [] ν Q E := by
    intro d
    induction d with
    | zero =>
      intro i ν hi hW hR hc hb
      have hi' : i = K := by omega
      subst hi'
      have ea : zai ν a = zai μ a := hW.ai (fun q => by rcases q with q | q | q | q <;> omega)
      refine B_X5_startsFair_54 ⟨_, _, by rw [hW.fr]; exact h, by omega, _, by rw [ea]; exact hK, fun _ => k ν ⟨by rw [hW.fr]; exact g1, by rw [hW.fr]; exact g2, by rw [hW.fr]; exact g3, by rw [hW.fr]; exact g4, hR, fun v hv => ⟨by simp, by rw [hc v hv]; rfl, fun k hk => by simp at hk⟩, fun v e hv he => by rw [hb _ (by omega)]; rfl⟩ hW, fun hn => absurd hn (nI_nlt (by omega) (by omega))⟩
    | succ d ih =>
      intro i ν hi hW hR hc hb
      have ea : zai ν a = zai μ a := hW.ai (fun q => by rcases q with q | q | q | q <;> omega)
      have hrow : zMo ν m a (zai μ a) := ⟨by rw [hW.fr]; exact h, fun j _ => by rw [ea]⟩
      refine B_X5_startsFair_54 ⟨_, _, by rw [hW.fr]; exact h, by omega, _, by rw [ea]; exact hK, fun hn => absurd (nI_lt (by omega) (by omega)) hn, fun _ => C_hasContract i rfl (by omega) hrow (fun hy => ⟨_, rfl, fun _ => ?_, fun hz => absurd hz (by decide)⟩) (fun hn => ⟨_, rfl, fun hz => absurd rfl hz, fun _ => ?_⟩)⟩
      · rw [nI_1]
        refine ih (i + 1) ν (by omega) hW ?_ hc hb
        unfold sFree; rw [if_pos hy]; exact hR
      · have hl := sFree_len (zai μ a) i
        refine C_enqueues i rfl (by omega) (by rw [hW.fr]; exact g1) hR (by omega) fun ρ hρ hWρ => ⟨rfl, ?_⟩
        rw [nI_1]
        refine ih (i + 1) ρ (by omega) (hW.trans (hWρ.mono (fun _ _ q => q) (fun b hb => Or.inl hb))) ?_ (fun v hv => ?_) (fun j hj => ?_)
        · unfold sFree; rw [if_neg hn]; exact hρ
        · rw [hWρ.ai (Ne.symm d6)]; exact hc v hv
        · rw [hWρ.ai (Ne.symm d7)]; exact hb j hj
  have l2 : ∀ d i (ν : ZM), i + d = 8 → zW (zFq m) (zA4 aq ak ac ab) μ ν → zRi ν m aq [] → (∀ v, v < i → zai ν ac v = 0) → (∀ j, j < 96 → zai ν ab j = 0) → Wp G Y_X5_startsFair 33 [(0, vP (5, 0, m)), (1, vI (nI i))] [] ν Q E := by
    intro d
    induction d with
    | zero =>
      intro i ν hi hW hR hc hb
      have hi' : i = 8 := by omega
      subst hi'
      exact B_X5_startsFair_33 ⟨fun _ => l3 K 0 ν (by omega) hW hR hc hb, fun hn => absurd hn (by decide)⟩
    | succ d ih =>
      intro i ν hi hW hR hc hb
      refine B_X5_startsFair_33 ⟨fun hn => absurd (show nI i < nI 8 from nI_lt (by omega) (by omega)) hn, fun _ => ⟨_, _, by rw [hW.fr]; exact g3, i, zix.eq rfl (by omega) (by omega), ?_⟩⟩
      rw [nI_1]
      refine ih (i + 1) _ (by omega) (hW.trans (zW_Ai (Or.inr (Or.inr (Or.inl rfl))) _ _ _)) (hR.same rfl rfl (zai_oth d6 _ _)) (fun v hv => ?_) (fun j hj => ?_)
      · rw [zai_zAi]
        split
        · rfl
        · exact hc v (by rename_i hh; have : v ≠ i := fun q => hh ⟨rfl, q⟩; omega)
      · rw [zai_oth (Ne.symm d10)]; exact hb j hj
  have l1 : ∀ d i (ν : ZM), i + d = 96 → zW (zFq m) (zA4 aq ak ac ab) μ ν → zRi ν m aq [] → (∀ j, j < i → zai ν ab j = 0) → Wp G Y_X5_startsFair 12 [(0, vP (5, 0, m)), (1, vI (nI i))] [] ν Q E := by
    intro d
    induction d with
    | zero =>
      intro i ν hi hW hR hb
      have hi' : i = 96 := by omega
      subst hi'
      exact B_X5_startsFair_12 ⟨fun _ => l2 8 0 ν (by omega) hW hR (fun v hv => by omega) hb, fun hn => absurd hn (by decide)⟩
    | succ d ih =>
      intro i ν hi hW hR hb
      refine B_X5_startsFair_12 ⟨fun hn => absurd (show nI i < nI 96 from nI_lt (by omega) (by omega)) hn, fun _ => ⟨_, _, by rw [hW.fr]; exact g4, i, zix.eq rfl (by omega) (by omega), ?_⟩⟩
      rw [nI_1]
      refine ih (i + 1) _ (by omega) (hW.trans (zW_Ai (Or.inr (Or.inr (Or.inr rfl))) _ _ _)) (hR.same rfl rfl (zai_oth d7 _ _)) (fun j hj => ?_)
      rw [zai_zAi]
      split
      · rfl
      · exact hb j (by rename_i hh; have : j ≠ i := fun q => hh ⟨rfl, q⟩; omega)
  refine l1 96 0 _ (by omega) W0 ⟨0, by omega, by simp, by rw [zfi_zFi, if_neg (by simp), zfi_zFi, if_pos ⟨rfl, rfl⟩]; rfl, by rw [zfi_zFi, if_pos ⟨rfl, rfl⟩]; rfl, fun k hk => by simp at hk⟩ (fun j hj => by omega)
end ZU
