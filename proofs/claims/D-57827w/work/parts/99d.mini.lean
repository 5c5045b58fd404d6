set_option maxRecDepth 100000
/-! THE COMPONENT, 23: new Matching(state) -/
/-- a Matching under way: scores and bars up to (v, e), wages up to w -/
def zMi (μ : ZM) (M s K V as ab al aw ak ac : Nat) (rr : Nat → Int32) (v e w : Nat) : Prop := (zfr μ 83 M = (2, 0, s) ∧ zfi μ 84 M = nI K ∧ zfi μ 85 M = nI V ∧ zfr μ 86 M = (200, K * V, as) ∧ zfr μ 90 M = (201, K * V, ab) ∧ zfr μ 91 M = (201, K * V, al) ∧ zfr μ 87 M = (200, V, aw) ∧ zfr μ 88 M = (200, 3 * V, ak) ∧ zfr μ 89 M = (200, V, ac)) ∧ (∀ v' e', v' < V → e' < K → (v' < v ∨ (v' = v ∧ e' < e)) → zai μ as (K * v' + e') = sSeen rr v' e' ∧ zai μ ab (K * v' + e') = if wP rr v' e' 1 = 1 then 1 else 0) ∧ ∀ v', v' < V → v' < w → zai μ aw v' = wV rr v' 9
theorem zMi.kp {μ ν : ZM} {M s K V as ab al aw ak ac v e w : Nat} {rr : Nat → Int32} (h : zMi μ M s K V as ab al aw ak ac rr v e w) (k1 : zsame μ ν M) (k2 : zsame μ ν as) (k3 : zsame μ ν ab) (k4 : zsame μ ν aw) : zMi ν M s K V as ab al aw ak ac rr v e w := by
  obtain ⟨⟨a1, a2, a3, a4, a5, a6, a7, a8, a9⟩, b, c⟩ := h
  exact ⟨⟨(k1.2.1 _).trans a1, (k1.1 _).trans a2, (k1.1 _).trans a3, (k1.2.1 _).trans a4, (k1.2.1 _).trans a5, (k1.2.1 _).trans a6, (k1.2.1 _).trans a7, (k1.2.1 _).trans a8, (k1.2.1 _).trans a9⟩, fun v e hv he q => ⟨(k2.2.2.1 _).trans (b v e hv he q).1, (k3.2.2.1 _).trans (b v e hv he q).2⟩, fun v hv q => (k4.2.2.1 _).trans (c v hv q)⟩
section ZJ
variable {G : ZG} {μ : ZM} {Q : Option ZV → ZM → Prop} {E : ZP → ZM → Prop} {lo hi s K V F fg el ear vl var ds dm sm M as ab al aw ak ac : Nat} {ea va ta sa : Nat → Nat} {r : Nat → Int32}
/-- the state and the rest, kept by what is written here -/
theorem L_mInit (p : Nat) (hp : p = 1 ∨ (p = 0 ∧ ∀ v e, v < V → e < K → ¬ wP r v e 1 = 1)) (hd : zAd as ab al aw ak ac) (hhi : hi ≤ M ∧ M < as ∧ M < ab ∧ M < aw) (hK : K ≤ 12) (hV : V ≤ 8)
    (Kc : ∀ ρ, zSta ρ lo hi s r K V F fg el ear vl var ds dm sm ea va ta sa → zMt ρ M s K V as ab al aw ak ac r → zIc G ρ → zG (fun a => a = as ∨ a = ab ∨ a = aw) (K * V * p) (2 * (K * V * p)) μ ρ → Q none ρ) :
    ∀ (d v : Nat) (ν : ZM), v + d = V → zSta ν lo hi s r K V F fg el ear vl var ds dm sm ea va ta sa → zMi ν M s K V as ab al aw ak ac r v 0 v → zIc G ν → zG (fun a => a = as ∨ a = ab ∨ a = aw) (K * v * p) (2 * (K * v * p)) μ ν → (M < zsz μ) →
    Wp G Y_X8_init 114 [(0, vP (8, 0, M)), (1, vP (2, 0, s)), (2, vI (nI v))] [] ν Q E := by
  have h96 := kv_96 hK hV
  obtain ⟨⟨d1, d2, d3, d4, d5, d6⟩, ⟨e1, e2, e3, e4, e5⟩, ⟨e6, e7, e8, e9⟩⟩ := id hd
  intro d
  induction d with
  | zero =>
    intro v ν hv h hm hI hg hMz
    have : v = V := by omega
    subst this
    exact B_X8_init_114 ⟨_, hm.1.2.2.1, fun _ => Kc ν h ⟨hm.1, fun v' e' q1 q2 => hm.2.1 v' e' q1 q2 (Or.inl q1), fun v' q1 => hm.2.2 v' q1 q1⟩ hI hg, fun e => absurd e (nI_nlt (Nat.le_refl _) (by omega))⟩
  | succ d ih =>
    intro v ν hv h hm hI hg hMz
    have hvV : v < V := by omega
    -- the inner loop
    have inner : ∀ (c e : Nat) (σ : ZM), e + c = K → zSta σ lo hi s r K V F fg el ear vl var ds dm sm ea va ta sa → zMi σ M s K V as ab al aw ak ac r v e (v + 1) → zIc G σ → zG (fun a => a = as ∨ a = ab ∨ a = aw) ((K * v + e) * p) (2 * ((K * v + e) * p)) μ σ → Wp G Y_X8_init 138 [(0, vP (8, 0, M)), (1, vP (2, 0, s)), (2, vI (nI v)), (3, vI (nI e))] [] σ Q E := by
      intro c
      induction c with
      | zero =>
        intro e σ he h hm hI hg
        have : e = K := by omega
        subst this
        refine B_X8_init_138 ⟨_, hm.1.2.1, fun _ => ?_, fun e => absurd e (nI_nlt (Nat.le_refl _) (by omega))⟩
        rw [nI_1]
        refine ih (v + 1) σ (by omega) h ⟨hm.1, fun v' e' q1 q2 q3 => hm.2.1 v' e' q1 q2 (by omega), hm.2.2⟩ hI ?_ hMz
        rw [Nat.mul_add, Nat.mul_one]; exact hg
      | succ c ihc =>
        intro e σ he h hm hI hg
        have heK : e < K := by omega
        have hix := ixKV hK hV hvV heK
        refine Wp.zo fun hok => ?_
        have hMσ : M < zsz σ := Nat.lt_of_lt_of_le hMz hg.1.1
        have tas := hok.ref hm.1.2.2.2.1 (by decide) (by decide)
        have tab := hok.ref hm.1.2.2.2.2.1 (by decide) (by decide)
        have taw := hok.ref hm.1.2.2.2.2.2.2.1 (by decide) (by decide)
        have g1 : zG (fun a => a = as) 0 0 σ (zAi σ as (K * v + e) (sSeen r v e)) := zG.ai rfl
        have S1 : ∀ a, a < zsz σ → a ≠ as → zsame σ (zAi σ as (K * v + e) (sSeen r v e)) a := fun a ha hne => g1.same ha hne
        have hW1 : ∀ a, a < zsz σ → a = as → hi ≤ a ∧ ¬ zim (ztg σ a).1 := fun a _ q => by rw [q, tas.2]; exact ⟨by omega, by unfold zim; omega⟩
        have h1 := h.far hok (by omega) g1 hW1
        have hI1 := hI.kp hok g1 (fun a ha w => (hW1 a ha w).2)
        refine B_X8_init_138 ⟨_, hm.1.2.1, fun q => absurd (nI_lt heK (by omega)) q, fun _ => ⟨_, _, hm.1.2.2.2.1, C_sSeen v e rfl rfl hvV heK h ⟨_, rfl, _, hix, _, _, hm.1.2.2.2.2.1, _, hm.1.2.1, Call.zo fun hok1 _ => Call.zq (C_sHasDesP p v e rfl rfl hvV heK hok1 (by show hi ≤ zsz σ; omega) hp h1 fun τ g2 hokτ _ => ⟨_, rfl, _, hix, by split <;> simp, ?_⟩)⟩⟩⟩
        have hz2 : zsz σ ≤ zsz τ := g2.1.1
        have S2 : ∀ a, a < zsz σ → zsame (zAi σ as (K * v + e) (sSeen r v e)) τ a := fun a ha => g2.same ha id
        have h2 := h1.nw hok1 (by show hi ≤ zsz σ; omega) g2
        have hI2 := hI1.nw hok1 g2
        have g3 : zG (fun a => a = ab) 0 0 τ (zAi τ ab (K * v + e) (if wP r v e 1 = 1 then 1 else 0)) := zG.ai rfl
        have hW3 : ∀ a, a < zsz τ → a = ab → hi ≤ a ∧ ¬ zim (ztg τ a).1 := fun a _ q => by
          have : ztg τ ab = ztg σ ab := g2.1.2.2 ab tab.1
          rw [q, this, tab.2]; exact ⟨by omega, by unfold zim; omega⟩
        have h3 := h2.far hokτ (by omega) g3 hW3
        have hI3 := hI2.kp hokτ g3 (fun a ha w => (hW3 a ha w).2)
        have S3 : ∀ a, a < zsz τ → a ≠ ab → zsame τ (zAi τ ab (K * v + e) (if wP r v e 1 = 1 then 1 else 0)) a := fun a ha hne => g3.same ha hne
        have SS : ∀ a, a < zsz σ → a ≠ as → a ≠ ab → zsame σ (zAi τ ab (K * v + e) (if wP r v e 1 = 1 then 1 else 0)) a := fun a ha q1 q2 => ((S1 a ha q1).trans (S2 a ha)).trans (S3 a (by omega) q2)
        rw [nI_1]
        refine ihc (e + 1) _ (by omega) h3 ⟨?_, fun v' e' q1 q2 q3 => ⟨?_, ?_⟩, fun v' q1 q2 => ((SS aw taw.1 (Ne.symm d1) (Ne.symm e8)).2.2.1 _).trans (hm.2.2 v' q1 q2)⟩ hI3 ?_
        · have kM := SS M hMσ (by omega) (by omega)
          obtain ⟨a1, a2, a3, a4, a5, a6, a7, a8, a9⟩ := hm.1
          exact ⟨(kM.2.1 _).trans a1, (kM.1 _).trans a2, (kM.1 _).trans a3, (kM.2.1 _).trans a4, (kM.2.1 _).trans a5, (kM.2.1 _).trans a6, (kM.2.1 _).trans a7, (kM.2.1 _).trans a8, (kM.2.1 _).trans a9⟩
        · rw [zai_zAi, if_neg (fun q => e9 q.1.symm), (S2 as tas.1).2.2.1, zai_zAi]
          by_cases q4 : v' = v ∧ e' = e
          · obtain ⟨rfl, rfl⟩ := q4
            rw [if_pos ⟨rfl, rfl⟩]
          · rw [if_neg (fun q5 => q4 (kv_inj q2 heK q5.2))]
            exact (hm.2.1 v' e' q1 q2 (by omega)).1
        · rw [zai_zAi]
          by_cases q4 : v' = v ∧ e' = e
          · obtain ⟨rfl, rfl⟩ := q4
            rw [if_pos ⟨rfl, rfl⟩]
          · rw [if_neg (fun q5 => q4 (kv_inj q2 heK q5.2)), (S2 ab tab.1).2.2.1, zai_zAi, if_neg (fun q => e9 q.1)]
            exact (hm.2.1 v' e' q1 q2 (by omega)).2
        · have := ((hg.tr (g1.mono (V := fun a => a = as ∨ a = ab ∨ a = aw) (fun a _ q => Or.inl q) (Nat.le_refl _) (Nat.le_refl _))).tr g2.no).tr (g3.mono (V := fun a => a = as ∨ a = ab ∨ a = aw) (fun a _ q => Or.inr (Or.inl q)) (Nat.le_refl _) (Nat.le_refl _))
          have e5 : (K * v + (e + 1)) * p = (K * v + e) * p + p := by rw [← Nat.add_assoc, Nat.add_mul, Nat.one_mul]
          rw [e5]
          exact this.mono (fun _ _ q => q) (by omega) (by omega)
    refine Wp.zo fun hok => ?_
    have hMσ : M < zsz ν := Nat.lt_of_lt_of_le hMz hg.1.1
    have tas := hok.ref hm.1.2.2.2.1 (by decide) (by decide)
    have tab := hok.ref hm.1.2.2.2.2.1 (by decide) (by decide)
    have taw := hok.ref hm.1.2.2.2.2.2.2.1 (by decide) (by decide)
    have g1 : zG (fun a => a = aw) 0 0 ν (zAi ν aw v (wV r v 9)) := zG.ai rfl
    have hW1 : ∀ a, a < zsz ν → a = aw → hi ≤ a ∧ ¬ zim (ztg ν a).1 := fun a _ q => by rw [q, taw.2]; exact ⟨by omega, by unfold zim; omega⟩
    have S1 : ∀ a, a < zsz ν → a ≠ aw → zsame ν (zAi ν aw v (wV r v 9)) a := fun a ha hne => g1.same ha hne
    refine B_X8_init_114 ⟨_, hm.1.2.2.1, fun q => absurd (nI_lt hvV (by omega)) q, fun _ => ⟨_, _, hm.1.2.2.2.2.2.2.1, C_sValley v rfl hvV h ⟨_, rfl, _, rfl, _, h.eV hvV 9 (by decide), v, zix.eq rfl hvV (by omega), inner K 0 _ (by omega) (h.far hok (by omega) g1 hW1) ⟨?_, fun v' e' q1 q2 q3 => ?_, fun v' q1 q2 => ?_⟩ (hI.kp hok g1 (fun a ha w => (hW1 a ha w).2)) ?_⟩⟩⟩
    · have kM := S1 M hMσ (by omega)
      obtain ⟨a1, a2, a3, a4, a5, a6, a7, a8, a9⟩ := hm.1
      exact ⟨(kM.2.1 _).trans a1, (kM.1 _).trans a2, (kM.1 _).trans a3, (kM.2.1 _).trans a4, (kM.2.1 _).trans a5, (kM.2.1 _).trans a6, (kM.2.1 _).trans a7, (kM.2.1 _).trans a8, (kM.2.1 _).trans a9⟩
    · have := hm.2.1 v' e' q1 q2 (by omega)
      exact ⟨((S1 as tas.1 d1).2.2.1 _).trans this.1, ((S1 ab tab.1 e8).2.2.1 _).trans this.2⟩
    · rw [zai_zAi]
      by_cases q : v' = v
      · rw [if_pos ⟨rfl, q⟩, q]
      · rw [if_neg (fun q2 => q q2.2)]; exact hm.2.2 v' q1 (by omega)
    · exact (hg.tr (g1.mono (V := fun a => a = as ∨ a = ab ∨ a = aw) (fun a _ q => Or.inr (Or.inr q)) (Nat.le_refl _) (Nat.le_refl _))).mono (fun _ _ q => q) (by rw [Nat.add_zero]; exact Nat.le_refl _) (by rw [Nat.add_zero]; exact Nat.le_refl _)
end ZJ
