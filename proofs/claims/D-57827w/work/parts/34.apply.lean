/-! CONTRACTS, 5: an application in the model's fair -/
/-- one place of a table of lists -/
def kU (f : Nat → List Nat) (v : Nat) (x : List Nat) : Nat → List Nat := fun i => if i = v then x else f i
def aU (f : Nat → Nat → Bool) (v e : Nat) : Nat → Nat → Bool := fun i j => if i = v ∧ j = e then true else f i j
/-- echo e applies to valley v that has fr free posts: the queue, the kept -/
def sApply (r : Nat → Int32) (fr : Nat) (q : List Nat) (kl : Nat → List Nat) (e v : Nat) : List Nat × (Nat → List Nat) :=
  if (kl v).length < fr then (q, kU kl v (kl v ++ [e]))
  else if (kl v).length = 0 then (q ++ [e], kl)
  else if sBE r v e ((kl v).getD (sLeast r v (kl v) (kl v).length) 0) = true then (q ++ [(kl v).getD (sLeast r v (kl v) (kl v).length) 0], kU kl v ((kl v).set (sLeast r v (kl v) (kl v).length) e))
  else (q ++ [e], kl)
/-- the model's arrays of a fair: queue, kept, their numbers, applied -/
def zFa (μ : ZM) (m aq ak ac ab : Nat) (q : List Nat) (ap : Nat → Nat → Bool) (kl : Nat → List Nat) : Prop :=
  zfr μ 48 m = (200, 16, aq) ∧ zfr μ 49 m = (200, 24, ak) ∧ zfr μ 50 m = (200, 8, ac) ∧ zfr μ 51 m = (201, 96, ab) ∧ zRi μ m aq q ∧ zKl μ ak ac kl ∧ ∀ v e, v < 8 → e < 12 → zai μ ab (12 * v + e) = if ap v e = true then 1 else 0
/-- different arrays -/
def zDa (a aq ak ac ab : Nat) : Prop := (a ≠ aq ∧ a ≠ ak ∧ a ≠ ac ∧ a ≠ ab) ∧ (aq ≠ ak ∧ aq ≠ ac ∧ aq ≠ ab) ∧ (ak ≠ ac ∧ ak ≠ ab) ∧ ac ≠ ab
def zA4 (aq ak ac ab : Nat) : Nat → Prop := fun b => b = aq ∨ b = ak ∨ b = ac ∨ b = ab
section ZT
variable {G : ZG} {μ : ZM} {Q : Option ZV → ZM → Prop} {E : ZP → ZM → Prop} {m a aq ak ac ab : Nat} {z1 z2 z3 : Int32} {q : List Nat} {ap : Nat → Nat → Bool} {kl : Nat → List Nat}
theorem zRi.same {ν : ZM} (h : zRi μ m aq q) (h1 : zfi ν 52 m = zfi μ 52 m) (h2 : zfi ν 53 m = zfi μ 53 m) (h3 : zai ν aq = zai μ aq) : zRi ν m aq q := by
  obtain ⟨f, f1, f2, f3, f4, f5⟩ := h
  exact ⟨f, f1, f2, h1.trans f3, h2.trans f4, fun k hk => by rw [h3]; exact f5 k hk⟩
theorem zKl.same {ν : ZM} (h : zKl μ ak ac kl) (h1 : zai ν ak = zai μ ak) (h2 : zai ν ac = zai μ ac) : zKl ν ak ac kl := fun v hv => by
  obtain ⟨k1, k2, k3⟩ := h v hv
  exact ⟨k1, by rw [h2]; exact k2, fun k hk => by rw [h1]; exact k3 k hk⟩
theorem zW.ai {F : Nat → Nat → Prop} {A : Nat → Prop} {μ ν : ZM} (h : zW F A μ ν) {b : Nat} (hb : ¬ A b) : zai ν b = zai μ b := funext fun j => h.2.2.2.2.2.2.2 b j hb
theorem zW.fr {F : Nat → Nat → Prop} {A : Nat → Prop} {μ ν : ZM} (h : zW F A μ ν) : zfr ν = zfr μ := h.2.2.2.1
theorem zKl_set {v p e : Nat} (h : zKl μ ak ac kl) (hv : v < 8) (hp : p < (kl v).length) (he : e < 12) (hne : ac ≠ ak) : zKl (zAi μ ak (3 * v + p) (nI e)) ak ac (kU kl v ((kl v).set p e)) := by
  intro v' hv'
  obtain ⟨k1, k2, k3⟩ := h v' hv'
  unfold kU
  by_cases hh : v' = v
  · subst hh
    rw [if_pos rfl, List.length_set]
    refine ⟨k1, by rw [zai_oth hne]; exact k2, fun k hk => ?_⟩
    obtain ⟨k4, k5⟩ := k3 k hk
    rw [zai_zAi]
    by_cases hkp : k = p
    · subst hkp
      rw [if_pos ⟨rfl, rfl⟩]
      have : ((kl v').set k e).getD k 0 = e := by simp [List.getD_eq_getElem?_getD, hk]
      rw [this]; exact ⟨rfl, he⟩
    · rw [if_neg (by omega)]
      have : ((kl v').set p e).getD k 0 = (kl v').getD k 0 := by simp [List.getD_eq_getElem?_getD, List.getElem?_set, Ne.symm hkp]
      rw [this]; exact ⟨k4, k5⟩
  · rw [if_neg hh]
    refine ⟨k1, by rw [zai_oth hne]; exact k2, fun k hk => ?_⟩
    obtain ⟨k4, k5⟩ := k3 k hk
    obtain ⟨k6, -, -⟩ := h v hv
    rw [zai_zAi, if_neg (by omega)]
    exact ⟨k4, k5⟩
theorem zKl_add {v e : Nat} (h : zKl μ ak ac kl) (hv : v < 8) (hp : (kl v).length < 3) (he : e < 12) (hne : ac ≠ ak) : zKl (zAi (zAi μ ak (3 * v + (kl v).length) (nI e)) ac v (nI (kl v).length + 1)) ak ac (kU kl v (kl v ++ [e])) := by
  intro v' hv'
  obtain ⟨k1, k2, k3⟩ := h v' hv'
  unfold kU
  by_cases hh : v' = v
  · subst hh
    rw [if_pos rfl, List.length_append]
    refine ⟨by simp; omega, by rw [zai_zAi, if_pos ⟨rfl, rfl⟩]; exact nI_1 _, fun k hk => ?_⟩
    simp only [List.length_cons, List.length_nil] at hk
    rw [zai_zAi, if_neg (fun q => hne q.1.symm), zai_zAi]
    by_cases hkp : k = (kl v').length
    · subst hkp
      rw [if_pos ⟨rfl, rfl⟩]
      have : (kl v' ++ [e]).getD (kl v').length 0 = e := by simp
      rw [this]; exact ⟨rfl, he⟩
    · obtain ⟨k4, k5⟩ := k3 k (by omega)
      rw [if_neg (by omega)]
      have : (kl v' ++ [e]).getD k 0 = (kl v').getD k 0 := by simp [List.getElem?_append_left (show k < (kl v').length by omega)]
      rw [this]; exact ⟨k4, k5⟩
  · rw [if_neg hh]
    refine ⟨k1, by rw [zai_zAi, if_neg (fun q => hh q.2), zai_oth hne]; exact k2, fun k hk => ?_⟩
    obtain ⟨k4, k5⟩ := k3 k hk
    rw [zai_zAi, if_neg (fun q => hne q.1.symm), zai_zAi, if_neg (by omega)]
    exact ⟨k4, k5⟩
theorem C_applies (e v fr : Nat) (h1 : z1 = nI e) (h2 : z2 = nI v) (he : e < 12) (hv : v < 8) (h : zfr μ 40 m = (200, 627, a)) (hD : zDa a aq ak ac ab) (hF : zFa μ m aq ak ac ab q ap kl) (hq : q.length < 12) (hfr : wV (zai μ a) v 8 - wV (zai μ a) v 13 = nI fr) (hfr3 : fr ≤ 3)
    (k : ∀ ν, zFa ν m aq ak ac ab (sApply (zai μ a) fr q kl e v).1 (aU ap v e) (sApply (zai μ a) fr q kl e v).2 → zW (zFq m) (zA4 aq ak ac ab) μ ν → Q none ν) : Call G Y_X5_applies [vP (5, 0, m), vI z1, vI z2] μ Q E := by
  subst h1 h2
  obtain ⟨⟨d1, d2, d3, d4⟩, ⟨d5, d6, d7⟩, ⟨d8, d9⟩, d10⟩ := hD
  obtain ⟨g1, g2, g3, g4, g5, g6, g7⟩ := hF
  obtain ⟨k1, k2, k3⟩ := g6 v hv
  have W1 : zW (zFq m) (zA4 aq ak ac ab) μ (zAi μ ab (12 * v + e) 1) := zW_Ai (Or.inr (Or.inr (Or.inr rfl))) μ _ _
  obtain ⟨μ1, hμ1⟩ : ∃ x, x = zAi μ ab (12 * v + e) 1 := ⟨_, rfl⟩
  have ea : zai μ1 a = zai μ a := by rw [hμ1]; exact zai_oth d4 _ _
  have eq9 : zai μ1 aq = zai μ aq := by rw [hμ1]; exact zai_oth d7 _ _
  have ek : zai μ1 ak = zai μ ak := by rw [hμ1]; exact zai_oth d9 _ _
  have ec : zai μ1 ac = zai μ ac := by rw [hμ1]; exact zai_oth d10 _ _
  have R1 : zRi μ1 m aq q := g5.same (by rw [hμ1]; rfl) (by rw [hμ1]; rfl) eq9
  have K1 : zKl μ1 ak ac kl := g6.same ek ec
  have fr1 : zfr μ1 = zfr μ := by rw [hμ1]; rfl
  have hrow : zMo μ1 m a (zai μ a) := ⟨by rw [fr1]; exact h, fun j _ => by rw [ea]⟩
  have B1 : ∀ v' e', v' < 8 → e' < 12 → zai μ1 ab (12 * v' + e') = if aU ap v e v' e' = true then 1 else 0 := by
    intro v' e' hv' he'
    rw [hμ1, zai_zAi]
    unfold aU
    by_cases hh : v' = v ∧ e' = e
    · rw [if_pos ⟨rfl, by omega⟩, if_pos hh]; rfl
    · rw [if_neg (by omega), if_neg hh]; exact g7 v' e' hv' he'
  have fin : ∀ (ν : ZM) (q' : List Nat) (kl' : Nat → List Nat), sApply (zai μ a) fr q kl e v = (q', kl') → zW (zFq m) (zA4 aq ak ac ab) μ1 ν → zRi ν m aq q' → zKl ν ak ac kl' → zai ν ab = zai μ1 ab → Q none ν := by
    intro ν q' kl' hs hW hR hK hb
    refine k ν ?_ (by rw [← hμ1] at W1; exact W1.trans hW)
    rw [hs]
    refine ⟨by rw [hW.fr, fr1]; exact g1, by rw [hW.fr, fr1]; exact g2, by rw [hW.fr, fr1]; exact g3, by rw [hW.fr, fr1]; exact g4, hR, hK, fun v' e' hv' he' => by rw [hb]; exact B1 v' e' hv' he'⟩
  have enq : ∀ (E' : ZP → ZM → Prop) (ν : ZM) (x : Nat) (z : Int32) (kl' : Nat → List Nat), z = nI x → x < 12 → sApply (zai μ a) fr q kl e v = (q ++ [x], kl') → zW (zFq m) (zA4 aq ak ac ab) μ1 ν → zRi ν m aq q → zKl ν ak ac kl' → zai ν ab = zai μ1 ab → Call G Y_X5_enqueues [vP (5, 0, m), vI z] ν (rV fun ρ => Q none ρ) E' := by
    intro E' ν x z kl' hz hx hs hW hR hK hb
    refine C_enqueues x hz hx (by rw [hW.fr, fr1]; exact g1) hR hq fun ρ hρ hWρ => ⟨rfl, fin ρ _ _ hs (hW.trans (hWρ.mono (fun _ _ q => q) (fun b hb => Or.inl hb))) hρ (hK.same ?_ ?_) ?_⟩
    · exact hWρ.ai (Ne.symm d5)
    · exact hWρ.ai (Ne.symm d6)
    · rw [hWρ.ai (Ne.symm d7)]; exact hb
  refine S_X5_applies ⟨_, _, g4, 12 * v + e, zix.eq ?_ (by omega) (by omega), _, _, g3, v, zix.eq rfl hv (by omega), nI (kl v).length, ?_, ?_⟩
  · show nI 12 * nI v + nI e = _
    rw [pk_mul, nI_add]
  · rw [← hμ1, ec]; exact k2
  · rw [← hμ1]
    refine C_freePosts v rfl hv hrow ⟨_, rfl, fun hge => ?_, fun hlt => ?_⟩
    · -- no free post
      rw [hfr] at hge
      have hge' : ¬ (kl v).length < fr := fun q => hge (nI_lt q (by omega))
      refine ⟨_, _, by rw [fr1]; exact g3, v, zix.eq rfl hv (by omega), nI (kl v).length, by rw [ec]; exact k2, fun hne => ?_, fun h0 => ?_⟩
      · have hpos : 0 < (kl v).length := by
          rcases Nat.eq_zero_or_pos (kl v).length with q | q
          · rw [q] at hne; exact absurd rfl hne
          · exact q
        have hle := sLeast_lt (r := zai μ a) (v := v) (l := kl v) (kl v).length hpos
        obtain ⟨k4, k5⟩ := k3 _ hle
        refine C_leastKept v rfl hv hrow (by rw [fr1]; exact g2) (by rw [fr1]; exact g3) K1 hpos ⟨_, rfl, _, _, by rw [fr1]; exact g2, 3 * v + sLeast (zai μ a) v (kl v) (kl v).length, zix.eq ?_ (by omega) (by omega), _, by rw [ek]; exact k4, C_isBetterEcho v e _ rfl rfl rfl hv he k5 hrow (fun hy => ⟨_, rfl, fun hz => absurd hz (by decide), fun _ => ?_⟩) (fun hn => ⟨_, rfl, fun _ => ?_, fun hz => absurd rfl hz⟩)⟩
        · show nI 3 * nI v + nI _ = _
          rw [pk_mul, nI_add]
        · refine ⟨_, _, by rw [fr1]; exact g2, 3 * v + sLeast (zai μ a) v (kl v) (kl v).length, zix.eq ?_ (by omega) (by omega), ?_⟩
          · show nI 3 * nI v + nI _ = _
            rw [pk_mul, nI_add]
          · refine enq _ _ _ _ (kU kl v ((kl v).set (sLeast (zai μ a) v (kl v) (kl v).length) e)) rfl k5 ?_ (zW_Ai (Or.inr (Or.inl rfl)) μ1 _ _) (R1.same rfl rfl (zai_oth d5 _ _)) (zKl_set K1 hv hle he (Ne.symm d8)) (zai_oth (Ne.symm d9) _ _)
            unfold sApply
            rw [if_neg hge', if_neg (by omega), if_pos hy]
        · refine enq _ _ e _ kl rfl he ?_ (zW.rf _ _ _) R1 K1 rfl
          unfold sApply
          rw [if_neg hge', if_neg (by omega), if_neg hn]
      · refine enq _ _ e _ kl rfl he ?_ (zW.rf _ _ _) R1 K1 rfl
        have h00 : (kl v).length = 0 := (nI_eq (by omega) (by omega)).mp h0
        unfold sApply
        rw [if_neg hge', if_pos h00]
    · rw [hfr] at hlt
      have hlt' : (kl v).length < fr := (nI_ltI (by omega) (by omega)).mp hlt
      refine ⟨_, _, by rw [fr1]; exact g2, _, _, by rw [fr1]; exact g3, v, zix.eq rfl hv (by omega), nI (kl v).length, by rw [ec]; exact k2, 3 * v + (kl v).length, zix.eq ?_ (by omega) (by omega), nI (kl v).length, ?_, ?_⟩
      · show nI 3 * nI v + nI _ = _
        rw [pk_mul, nI_add]
      · rw [zai_oth (Ne.symm d8), ec]; exact k2
      · refine fin _ q (kU kl v (kl v ++ [e])) ?_ ((zW_Ai (Or.inr (Or.inl rfl)) μ1 _ _).trans (zW_Ai (Or.inr (Or.inr (Or.inl rfl))) _ _ _)) (R1.same rfl rfl ?_) (zKl_add K1 hv (by omega) he (Ne.symm d8)) ?_
        · unfold sApply; rw [if_pos hlt']
        · rw [zai_oth d6, zai_oth d5]
        · rw [zai_oth (Ne.symm d10), zai_oth (Ne.symm d9)]
end ZT
