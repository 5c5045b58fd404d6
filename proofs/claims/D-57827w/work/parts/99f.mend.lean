set_option maxRecDepth 100000
/-! THE COMPONENT, 25: a Matching's result -/
theorem i32_m1 {x : Int32} : x - 1 = -1 ↔ x = 0 := by
  constructor
  · intro h
    have := Int32.sub_add_cancel x 1
    rw [h] at this
    rw [← this]; decide
  · rintro rfl; decide
theorem sto24 {p : ZP} (h : zis 24 p) : zsto 204 p.1 = true ∧ p.1 ≠ 0 := by
  have ht : p.1 = 24 ∨ p.1 = 124 := h
  refine ⟨?_, by omega⟩
  rcases ht with ht | ht <;> rw [ht] <;> rfl
section ZJ
variable {G : ZG} {μ : ZM} {Q : Option ZV → ZM → Prop} {E : ZP → ZM → Prop} {lo hi s K V F fg el ear vl var ds dm sm M as ab al aw ak ac d ar : Nat} {ea va ta sa : Nat → Nat} {r rr : Nat → Int32}
theorem L_fill (hrr : ∀ j, (∀ v, v < 8 → j ≠ 203 + 17 * v + 9) → rr j = r j) (hemp : ∀ e, e < K → wE r e 13 = 0 ∨ 0 < wE r e 13) (ho : zAo hi M d ar as ab al aw ak ac) (har : ar < zsz μ) (hV8 : V ≤ 8) (hK12 : K ≤ 12) {ap : Nat → Nat → Bool} {kl : Nat → List Nat}
    (Kc : ∀ ρ, zRu G ρ lo hi s r K V F fg el ear vl var ds dm sm ea va ta sa M as ab al aw ak ac d ar rr (sFree rr K) ap kl → zG (zM5 al ak ac d ar) 0 0 μ ρ → Wp G Y_X8_result 53 [(0, vP (8, 0, M)), (1, vP (12, 0, d))] [] ρ Q E) :
    ∀ (c e : Nat) (ν : ZM), e + c = K → zRu G ν lo hi s r K V F fg el ear vl var ds dm sm ea va ta sa M as ab al aw ak ac d ar rr (sFree rr e) ap kl → zG (zM5 al ak ac d ar) 0 0 μ ν → Wp G Y_X8_result 16 [(0, vP (8, 0, M)), (1, vP (12, 0, d)), (2, vI (nI e))] [] ν Q E := by
  obtain ⟨o1, o2, o3, o4⟩ := id ho
  intro c
  induction c with
  | zero =>
    intro e ν he hR hg
    have : e = K := by omega
    subst this
    exact B_X8_result_16 ⟨_, hR.2.1.1.2.1, fun _ => Kc ν hR hg, fun q => absurd q (nI_nlt (Nat.le_refl _) (by omega))⟩
  | succ c ih =>
    intro e ν he hR hg
    have heK : e < K := by omega
    obtain ⟨h, hm, hc, hk, hI, htd, h0, ps, hq, hqs⟩ := hR
    have e13 : wE rr e 13 = wE r e 13 := hrr _ (fun v _ => by omega)
    have x28 : zfi ν 28 (ea e) = wE r e 13 - 1 := h.eE heK 13 (by decide)
    refine Wp.zo fun hok => B_X8_result_16 ⟨_, hm.1.2.1, fun q => absurd (nI_lt heK (by omega)) q, fun _ => ⟨_, hm.1.1, C_sEcho e rfl heK h ⟨_, rfl, _, rfl, _, x28, fun q => ?_, fun q => ?_⟩⟩⟩
    · have hpos : 0 < wE rr e 13 := by
        rw [e13]
        exact (hemp e heK).resolve_left (fun q2 => q (i32_m1.mpr q2))
      rw [nI_1]
      refine ih (e + 1) ν (by omega) ?_ hg
      unfold sFree
      rw [if_pos hpos]
      exact ⟨h, hm, hc, hk, hI, htd, h0, ps, hq, hqs⟩
    · have h0w : ¬ 0 < wE rr e 13 := by rw [e13, i32_m1.mp q]; decide
      have hl := sFree_len rr e
      have hpl := hqs.len
      refine C_valueOfS (j := e) rfl (by omega) hI hok fun p2 r1 r2 => ⟨_, rfl, r1.1, C_dqAdd hq (by omega) (sto24 r1.1).2 (sto24 r1.1).1 fun ν3 g3 hq3 => ⟨rfl, ?_⟩⟩
      have hzz := hg.1.1
      have W3 : zG (zM5 al ak ac d ar) 0 0 ν ν3 := g3.mono (fun a _ w => w.elim (fun q => Or.inr (Or.inr (Or.inr (Or.inl q)))) (fun q => Or.inr (Or.inr (Or.inr (Or.inr q))))) (Nat.le_refl _) (Nat.le_refl _)
      have him2 := zM5_im hok hm htd hq ho
      have S3 : ∀ a, a < d → zsame ν ν3 a := fun a ha => g3.same (by omega) (by omega)
      rw [nI_1]
      refine ih (e + 1) ν3 (by omega) ?_ (hg.tr W3)
      unfold sFree
      rw [if_neg h0w]
      exact ⟨h.far hok (by omega) W3 (fun a _ w => him2 a w), hm.kp (S3 M (by omega)) (S3 as (by omega)) (S3 ab (by omega)) (S3 aw (by omega)), hc.kp (S3 al (by omega)), hk.kp (S3 ak (by omega)) (S3 ac (by omega)), hI.kp hok W3 (fun a _ w => (him2 a w).2), by rw [g3.1.2.2 d (by omega)]; exact htd, _, _, hq3, zQs.kp W3 (fun a _ w => (him2 a w).2) (zQs.snoc r1 heK r2 hqs)⟩
/-- what a result holds -/
def zRes (μ : ZM) (rz K V : Nat) (r : Nat → Int32) (kl : Nat → List Nat) : Prop := ∀ e, e < K → (∀ v, v < V → e ∈ kl v → zai μ rz e = nI v) ∧ ((∀ v, v < V → e ∉ kl v) → zai μ rz e = wE r e 13 - 1)
theorem L_res150 {kl : Nat → List Nat} {rz : Nat} (hdis : ∀ e v w, v < V → w < V → e ∈ kl v → e ∈ kl w → v = w) (hV8 : V ≤ 8) (hp : ∀ v, v < V → sPosts rr v ≤ 3) (hne : M ≠ rz ∧ ak ≠ rz ∧ ac ≠ rz) (hKz : K ≤ 12) (hMz : M < zsz μ ∧ ak < zsz μ ∧ ac < zsz μ) (hm : zMt μ M s K V as ab al aw ak ac rr) (hk : zKk μ ak ac K V rr kl)
    (Kc : ∀ ρ, zRes ρ rz K V r kl → zG (fun a => a = rz) 0 0 μ ρ → Q (some (vP (200, K, rz))) ρ) :
    ∀ (c v : Nat) (ν : ZM), v + c = V → zG (fun a => a = rz) 0 0 μ ν → (∀ e, e < K → (∀ w, w < v → e ∈ kl w → zai ν rz e = nI w) ∧ ((∀ w, w < v → e ∉ kl w) → zai ν rz e = wE r e 13 - 1)) → Wp G Y_X8_result 150 [(0, vP (8, 0, M)), (2, vP (200, K, rz)), (3, vI (nI v))] [] ν Q E := by
  intro c
  induction c with
  | zero =>
    intro v ν hv hg hr
    have : v = V := by omega
    subst this
    have kM := hg.same hMz.1 hne.1
    exact B_X8_result_150 ⟨_, (kM.1 _).trans hm.1.2.2.1, fun _ => Kc ν hr hg, fun q => absurd q (nI_nlt (Nat.le_refl _) (by omega))⟩
  | succ c ih =>
    intro v ν hv hg hr
    have hvV : v < V := by omega
    obtain ⟨k1, k2, k3⟩ := hk v hvV
    have hpv := hp v hvV
    have e3 : (3 : Int32) * nI v = nI (3 * v) := by show nI 3 * nI v = _; rw [pk_mul]
    have inner : ∀ (b k : Nat) (σ : ZM), k + b = (kl v).length → zG (fun a => a = rz) 0 0 μ σ → (∀ e, e < K → (∀ w, w < v → e ∈ kl w → zai σ rz e = nI w) ∧ (∀ j, j < k → (kl v).getD j 0 = e → zai σ rz e = nI v) ∧ ((∀ w, w < v → e ∉ kl w) → (∀ j, j < k → (kl v).getD j 0 ≠ e) → zai σ rz e = wE r e 13 - 1)) → Wp G Y_X8_result 161 [(0, vP (8, 0, M)), (2, vP (200, K, rz)), (3, vI (nI v)), (4, vI (nI k))] [] σ Q E := by
      intro b
      induction b with
      | zero =>
        intro k σ hk' hg hr
        have hkl : k = (kl v).length := by omega
        have kM := hg.same hMz.1 hne.1
        have kc := hg.same hMz.2.2 hne.2.2
        refine B_X8_result_161 ⟨_, _, (kM.2.1 _).trans hm.1.2.2.2.2.2.2.2.2, v, zix.eq rfl hvV (by omega), _, (kc.2.2.1 _).trans k2, fun _ => ?_, fun q => absurd q (nI_nlt (by omega) (by omega))⟩
        rw [nI_1]
        refine ih (v + 1) σ (by omega) hg fun e he => ?_
        obtain ⟨r1, r2, r3⟩ := hr e he
        refine ⟨fun w hw hm => ?_, fun hno => r3 (fun w hw => hno w (by omega)) (fun j hj q => ?_)⟩
        · by_cases q : w = v
          · subst q
            obtain ⟨j, hj⟩ := List.mem_iff_getElem?.mp hm
            have hjl := (List.getElem?_eq_some_iff.mp hj).1
            exact r2 j (by omega) (by rw [List.getD_eq_getElem?_getD, hj]; rfl)
          · exact r1 w (by omega) hm
        · refine hno v (by omega) ?_
          rw [← q, List.getD_eq_getElem?_getD, List.getElem?_eq_getElem (by omega)]
          exact List.getElem_mem _
      | succ b ihb =>
        intro k σ hk' hg hr
        have hkl : k < (kl v).length := by omega
        obtain ⟨a1, a2⟩ := k3 k hkl
        have kM := hg.same hMz.1 hne.1
        have kc := hg.same hMz.2.2 hne.2.2
        have ka := hg.same hMz.2.1 hne.2.1
        refine B_X8_result_161 ⟨_, _, (kM.2.1 _).trans hm.1.2.2.2.2.2.2.2.2, v, zix.eq rfl hvV (by omega), _, (kc.2.2.1 _).trans k2, fun q => absurd (nI_lt hkl (by omega)) q, fun _ => ⟨_, _, (kM.2.1 _).trans hm.1.2.2.2.2.2.2.2.1, 3 * v + k, zix.eq (by rw [e3, nI_add]) (by omega) (by omega), _, (ka.2.2.1 _).trans a1, _, zix.eq rfl a2 (by omega), ?_⟩⟩
        rw [nI_1]
        have hmem : (kl v).getD k 0 ∈ kl v := by
          rw [List.getD_eq_getElem?_getD, List.getElem?_eq_getElem hkl]
          exact List.getElem_mem _
        refine ihb (k + 1) _ (by omega) (hg.tr (zG.ai rfl)) fun e he => ?_
        obtain ⟨r1, r2, r3⟩ := hr e he
        refine ⟨fun w hw hm => ?_, fun j hj q => ?_, fun hno hno2 => ?_⟩
        · rw [zai_zAi, if_neg (fun q => by
            have q2 := q.2
            rw [q2] at hm
            have := hdis _ w v (by omega) hvV hm hmem
            omega)]
          exact r1 w hw hm
        · rw [zai_zAi]
          by_cases q2 : e = (kl v).getD k 0
          · rw [if_pos ⟨rfl, q2⟩]
          · rw [if_neg (fun q3 => q2 q3.2)]
            exact r2 j (by
              rcases Nat.lt_or_ge j k with q3 | q3
              · exact q3
              · have : j = k := by omega
                subst this; exact absurd q.symm q2) q
        · rw [zai_zAi, if_neg (fun q => hno2 k (by omega) q.2.symm)]
          exact r3 hno (fun j hj => hno2 j (by omega))
    have kM := hg.same hMz.1 hne.1
    exact B_X8_result_150 ⟨_, (kM.1 _).trans hm.1.2.2.1, fun q => absurd (nI_lt hvV (by omega)) q, fun _ => inner (kl v).length 0 ν (by omega) hg fun e he => ⟨(hr e he).1, fun j hj => absurd hj (Nat.not_lt_zero _), fun q _ => (hr e he).2 q⟩⟩
end ZJ
