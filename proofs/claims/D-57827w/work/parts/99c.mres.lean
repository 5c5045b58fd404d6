set_option maxRecDepth 100000
/-! THE COMPONENT, 22: a Matching's run -/
/-- what a Matching may write to -/
def zM5 (al ak ac d ar : Nat) (a : Nat) : Prop := a = al ∨ a = ak ∨ a = ac ∨ a = d ∨ a = ar
def zRu (G : ZG) (ν : ZM) (lo hi s : Nat) (r : Nat → Int32) (K V F fg el ear vl var ds dm sm : Nat) (ea va ta sa : Nat → Nat) (M as ab al aw ak ac d ar : Nat) (rr : Nat → Int32) (q : List Nat) (ap : Nat → Nat → Bool) (kl : Nat → List Nat) : Prop :=
  zSta ν lo hi s r K V F fg el ear vl var ds dm sm ea va ta sa ∧ zMt ν M s K V as ab al aw ak ac rr ∧ zClo ν al K V rr ap ∧ zKk ν ak ac K V rr kl ∧ zIc G ν ∧ (ztg ν d).1 = 12 ∧ ∃ h ps, zDq ν d ar 14 h ps ∧ zQs ν K ps q
section ZJ
variable {G : ZG} {μ : ZM} {Q : Option ZV → ZM → Prop} {E : ZP → ZM → Prop} {lo hi s K V F fg el ear vl var ds dm sm M as ab al aw ak ac d ar : Nat} {ea va ta sa : Nat → Nat} {r rr : Nat → Int32} {ap : Nat → Nat → Bool} {kl : Nat → List Nat} {z1 z2 z3 : Int32}
theorem zM5_im {ν : ZM} {h : Nat} {ps : List ZP} (hok : zok ν) (hm : zMt ν M s K V as ab al aw ak ac rr) (hd : (ztg ν d).1 = 12) (hq : zDq ν d ar 14 h ps) (ho : zAo hi M d ar as ab al aw ak ac) : ∀ a, zM5 al ak ac d ar a → hi ≤ a ∧ ¬ zim (ztg ν a).1 := by
  obtain ⟨o1, o2, o3, o4⟩ := ho
  intro a ha
  rcases ha with q | q | q | q | q <;> rw [q]
  · rw [(hok.ref hm.1.2.2.2.2.2.1 (by decide) (by decide)).2]; exact ⟨by omega, by unfold zim; omega⟩
  · rw [(hok.ref hm.1.2.2.2.2.2.2.2.1 (by decide) (by decide)).2]; exact ⟨by omega, by unfold zim; omega⟩
  · rw [(hok.ref hm.1.2.2.2.2.2.2.2.2 (by decide) (by decide)).2]; exact ⟨by omega, by unfold zim; omega⟩
  · rw [hd]; exact ⟨by omega, by unfold zim; omega⟩
  · rw [(hok.ref hq.1 (by decide) (by decide)).2]; exact ⟨by omega, by unfold zim; omega⟩
theorem L_mRun (hsm : zSm K V rr) (hfr : ∀ v, v < V → wV r v 8 - wV r v 13 = nI (sPosts rr v) ∧ sPosts rr v ≤ 3) (hd : zAd as ab al aw ak ac) (ho : zAo hi M d ar as ab al aw ak ac) (har : ar < zsz μ) (hV8 : V ≤ 8) (hK12 : K ≤ 12) :
    ∀ n q ap kl ν, 2 * sCnt ap + q.length < n → q.length ≤ 12 → zRu G ν lo hi s r K V F fg el ear vl var ds dm sm ea va ta sa M as ab al aw ak ac d ar rr q ap kl → zG (zM5 al ak ac d ar) 0 0 μ ν →
    (∀ ρ ap', zok ρ → zRu G ρ lo hi s r K V F fg el ear vl var ds dm sm ea va ta sa M as ab al aw ak ac d ar rr [] ap' (sRun rr V n q ap kl) → zG (zM5 al ak ac d ar) 0 0 μ ρ → Wp G Y_X8_result 120 [(0, vP (8, 0, M)), (2, vP (200, K, zsz ρ)), (3, vI 0)] [] (zNew ρ 200 K K) Q E) →
    Wp G Y_X8_result 53 [(0, vP (8, 0, M)), (1, vP (12, 0, d))] [] ν Q E := by
  obtain ⟨o1, o2, o3, o4⟩ := id ho
  intro n
  induction n with
  | zero => intro q ap kl ν hn; omega
  | succ n ih =>
    intro q ap kl ν hn hql hR hg Kc
    obtain ⟨h, hm, hc, hk, hI, htd, h0, ps, hq, hqs⟩ := hR
    have hzz := hg.1.1
    refine Wp.zo fun hok => ?_
    have hlen := hqs.len
    cases q with
    | nil =>
      have hps : ps = [] := List.length_eq_zero_iff.mp hlen
      subst hps
      exact B_X8_result_53 (C_dqEmpty hq (fun _ => ⟨_, rfl, fun _ => ⟨_, hm.1.2.1, K, rfl, by omega, Kc ν ap hok ⟨h, hm, hc, hk, hI, htd, h0, [], hq, hqs⟩ hg⟩, fun e => absurd e (by decide)⟩) (fun q => absurd rfl q))
    | cons e q =>
      cases ps with
      | nil => exact hqs.elim
      | cons p ps =>
      obtain ⟨b1, b2, b3, b4⟩ := hqs
      simp only [List.length_cons] at hn hql
      refine B_X8_result_53 (C_dqEmpty hq (fun q => by cases q) (fun _ => ⟨_, rfl, fun e => absurd rfl e, fun _ => Call.zq (C_dqFirst hq fun ν1 g1 hq1 hok1 _ => ⟨_, rfl, Or.inr ⟨b1.1, ?_⟩⟩)⟩))
      have W1 : zG (zM5 al ak ac d ar) 0 0 ν ν1 := g1.mono (fun a _ w => w.elim (fun q => Or.inr (Or.inr (Or.inr (Or.inl q)))) (fun q => Or.inr (Or.inr (Or.inr (Or.inr q))))) (Nat.le_refl _) (Nat.le_refl _)
      have him := zM5_im hok hm htd hq ho
      have S1 : ∀ a, a < d → zsame ν ν1 a := fun a ha => g1.same (by omega) (by omega)
      have h1 := h.far hok (by omega) W1 (fun a _ w => him a w)
      have hI1 := hI.kp hok W1 (fun a _ w => (him a w).2)
      have hm1 := hm.kp (S1 M (by omega)) (S1 as (by omega)) (S1 ab (by omega)) (S1 aw (by omega))
      have hc1 := hc.kp (S1 al (by omega))
      have hk1 := hk.kp (S1 ak (by omega)) (S1 ac (by omega))
      have hqs1 : zQs ν1 K ps q := b4.kp W1 (fun a _ w => (him a w).2)
      have hp1 : zIn ν1 p (nI e) := by
        have := zQs.kp (ps := [p]) (q := [e]) W1 (fun a _ w => (him a w).2) ⟨b1, b2, b3, trivial⟩
        exact this.1
      have htd1 : (ztg ν1 d).1 = 12 := by rw [g1.1.2.2 d (by omega)]; exact htd
      have hz1 := g1.1.1
      refine C_intValue hp1 ⟨_, rfl, C_mNext e rfl b2 hK12 hV8 hsm hm1 hc1 ⟨_, rfl, ?_, ?_⟩⟩
      · intro hx
        cases hs : sNext rr (bA ap) e V with
        | none => rw [hs] at hx; exact absurd rfl hx
        | some v =>
          have hvV := nextLt hs
          have hfree : ap v e = false := by
            have := sNext_free hs
            unfold bA at this
            rw [show (12 * v + e) / 12 = v by omega, show (12 * v + e) % 12 = e by omega] at this
            cases hap : ap v e with
            | false => rfl
            | true => rw [hap, if_pos rfl] at this; exact absurd this (by decide)
          have hcnt := sCnt_upd (v := v) (e := e) (by omega) (by omega) hfree
          have hrun : ∀ (o : Option Nat) kl', (∀ q, sApply rr (sPosts rr v) q kl e v = (q ++ o.toList, kl')) → sRun rr V (n + 1) (e :: q) ap kl = sRun rr V n (q ++ o.toList) (aU ap v e) kl' := fun o kl' ha => by
            show (match sNext rr (bA ap) e V with
              | none => sRun rr V n q ap kl
              | some v => sRun rr V n (sApply rr (sPosts rr v) q kl e v).1 (aU ap v e) (sApply rr (sPosts rr v) q kl e v).2) = _
            rw [hs]
            show sRun rr V n (sApply rr (sPosts rr v) q kl e v).1 (aU ap v e) (sApply rr (sPosts rr v) q kl e v).2 = _
            rw [ha q]
          refine Call.zq (C_mApply v e rfl rfl hvV b2 hsm hfr hd ho hok1 (by omega) h1 hm1 hc1 hk1 fun ν2 o kl' ha hy hc2 hk2 g2 hok2 _ => ?_)
          have W2 : zG (zM5 al ak ac d ar) 0 0 ν1 ν2 := g2.mono (fun a _ w => w.elim Or.inl (fun q => q.elim (fun q => Or.inr (Or.inl q)) (fun q => Or.inr (Or.inr (Or.inl q))))) (Nat.le_refl _) (Nat.le_refl _)
          have him1 := zM5_im hok1 hm1 htd1 hq1 ho
          have h2 := h1.far hok1 (by omega) W2 (fun a _ w => him1 a w)
          have hI2 := hI1.kp hok1 W2 (fun a _ w => (him1 a w).2)
          obtain ⟨⟨d1, d2, d3, d4, d5, d6⟩, ⟨e1, e2, e3, e4, e5⟩, ⟨e6, e7, e8, e9⟩⟩ := id hd
          have S2 : ∀ a, a < zsz ν1 → a ≠ al → a ≠ ak → a ≠ ac → zsame ν1 ν2 a := fun a ha q1 q2 q3 => g2.same ha (by omega)
          have hm2 := hm1.kp (S2 M (by omega) (by omega) (by omega) (by omega)) (S2 as (by omega) e2 d2 d3) (S2 ab (by omega) e1 e6 e7) (S2 aw (by omega) e3 d4 d5)
          have hq2 := hq1.kp (S2 d (by omega) (by omega) (by omega) (by omega)) (S2 ar (by omega) (by omega) (by omega) (by omega))
          have hqs2 : zQs ν2 K ps q := hqs1.kp W2 (fun a _ w => (him1 a w).2)
          have htd2 : (ztg ν2 d).1 = 12 := by rw [g2.1.2.2 d (by omega)]; exact htd1
          have hG2 := (hg.tr W1).tr W2
          refine ⟨_, rfl, fun q5 => ?_, fun q5 => ?_⟩
          · cases o with
            | some y => exact absurd q5 (o2i_neg (n := y) (by have := hy y rfl; omega))
            | none =>
              have hr := hrun none kl' ha
              rw [hr] at Kc
              simp only [Option.toList_none, List.append_nil] at Kc
              exact ih q (aU ap v e) kl' ν2 (by omega) (by omega) ⟨h2, hm2, hc2, hk2, hI2, htd2, _, ps, hq2, hqs2⟩ hG2 Kc
          · cases o with
            | none => exact absurd rfl q5
            | some y =>
              have hyK := hy y rfl
              have hr := hrun (some y) kl' ha
              rw [hr] at Kc
              have hl2 : ps.length = q.length := hqs2.len
              refine C_valueOfS (j := y) rfl (by omega) hI2 hok2 fun p2 r1 r2 => ⟨_, rfl, r1.1, C_dqAdd hq2 (by omega) (by have : p2.1 = 24 ∨ p2.1 = 124 := r1.1; omega) ?_ fun ν3 g3 hq3 => ⟨rfl, ?_⟩⟩
              · have ht : p2.1 = 24 ∨ p2.1 = 124 := r1.1
                rcases ht with ht | ht <;> rw [ht] <;> rfl
              · have W3 : zG (zM5 al ak ac d ar) 0 0 ν2 ν3 := g3.mono (fun a _ w => w.elim (fun q => Or.inr (Or.inr (Or.inr (Or.inl q)))) (fun q => Or.inr (Or.inr (Or.inr (Or.inr q))))) (Nat.le_refl _) (Nat.le_refl _)
                have him2 := zM5_im hok2 hm2 htd2 hq2 ho
                have hz2 := g2.1.1
                have S3 : ∀ a, a < d → zsame ν2 ν3 a := fun a ha => g3.same (by omega) (by omega)
                have hqs3 : zQs ν3 K (ps ++ [p2]) (q ++ [y]) := zQs.kp W3 (fun a _ w => (him2 a w).2) (zQs.snoc r1 hyK r2 hqs2)
                exact ih (q ++ [y]) (aU ap v e) kl' ν3 (by rw [List.length_append]; show _ + (q.length + 1) < _; omega) (by rw [List.length_append]; show q.length + 1 ≤ 12; omega) ⟨h2.far hok2 (by omega) W3 (fun a _ w => him2 a w), hm2.kp (S3 M (by omega)) (S3 as (by omega)) (S3 ab (by omega)) (S3 aw (by omega)), hc2.kp (S3 al (by omega)), hk2.kp (S3 ak (by omega)) (S3 ac (by omega)), hI2.kp hok2 W3 (fun a _ w => (him2 a w).2), by rw [g3.1.2.2 d (by omega)]; exact htd2, _, _, hq3, hqs3⟩ (hG2.tr W3) Kc
      · intro hx
        cases hs : sNext rr (bA ap) e V with
        | some v => rw [hs] at hx; exact absurd hx (o2i_neg (n := v) (by have := nextLt hs; omega))
        | none =>
          have hr : sRun rr V (n + 1) (e :: q) ap kl = sRun rr V n q ap kl := by
            show (match sNext rr (bA ap) e V with
              | none => sRun rr V n q ap kl
              | some v => sRun rr V n (sApply rr (sPosts rr v) q kl e v).1 (aU ap v e) (sApply rr (sPosts rr v) q kl e v).2) = _
            rw [hs]
          rw [hr] at Kc
          exact ih q ap kl ν1 (by omega) (by omega) ⟨h1, hm1, hc1, hk1, hI1, htd1, _, ps, hq1, hqs1⟩ (hg.tr W1) Kc
end ZJ
