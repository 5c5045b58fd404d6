set_option maxRecDepth 100000
/-! THE COMPONENT, 24: new Matching(state), the whole; its opening -/
theorem i32_lt1 {x : Int32} : 0 < x ↔ ¬ x < 1 := by
  rw [Int32.lt_iff_toInt_lt, Int32.lt_iff_toInt_lt]
  show (0 : Int) < x.toInt ↔ ¬ x.toInt < (1 : Int)
  omega
section ZJ
variable {G : ZG} {μ : ZM} {Q : Option ZV → ZM → Prop} {E : ZP → ZM → Prop} {lo hi s K V F fg el ear vl var ds dm sm M as ab al aw ak ac : Nat} {ea va ta sa : Nat → Nat} {r rr : Nat → Int32}
theorem C_mInit (p : Nat) (hp : p = 1 ∨ (p = 0 ∧ ∀ v e, v < V → e < K → ¬ wP r v e 1 = 1)) (hM : M + 1 = zsz μ) (hMt : (ztg μ M).1 = 8) (hiM : hi ≤ M) (hok : zok μ) (h : zSta μ lo hi s r K V F fg el ear vl var ds dm sm ea va ta sa) (hI : zIc G μ)
    (Kc : ∀ ρ, zSta ρ lo hi s r K V F fg el ear vl var ds dm sm ea va ta sa → zMt ρ M s K V (zsz μ) (zsz μ + 1) (zsz μ + 1 + 1) (zsz μ + 1 + 1 + 1) (zsz μ + 1 + 1 + 1 + 1) (zsz μ + 1 + 1 + 1 + 1 + 1) r → zIc G ρ → zG (fun a => a = M) (6 + 96 * p) (336 + 192 * p) μ ρ → zsz μ + 6 ≤ zsz ρ → Q none ρ) : Call G Y_X8_init [vP (8, 0, M), vP (2, 0, s)] μ Q E := by
  have hK := h.1.2.1.2.2.2.1
  have hV := h.1.2.1.2.2.2.2.1
  have h96 := kv_96 hK hV
  have e1 : nI K * nI V = nI (K * V) := pk_mul K V
  have e3 : (3 : Int32) * nI V = nI (3 * V) := by show nI 3 * nI V = _; rw [pk_mul]
  refine S_X8_init ⟨el, h.1.2.2.2.1.2.1, C_alSize h.2.1.2.1 ⟨_, rfl, vl, h.1.2.2.2.1.2.2.1, C_alSize h.2.2.1.2.1 ⟨_, rfl, nI K, by rw [zfi_zFi, if_pos ⟨rfl, rfl⟩], K * V, e1, by omega, K * V, e1, by omega, K * V, e1, by omega, V, rfl, by omega, 3 * V, e3, by omega, V, rfl, by omega, ?_⟩⟩⟩
  have g : ∀ (m0 : ZM), m0 = zFi (zFi (zFr μ 83 M (2, 0, s)) 84 M (nI K)) 85 M (nI V) → zG (fun a => a = M) 0 0 μ m0 := fun m0 q => by rw [q]; exact ((zG.fr (W := fun a => a = M) rfl).tr (zG.fi rfl)).tr (zG.fi rfl)
  have g0 := g _ rfl
  have g6 := (((((((((((g0.tr (zG.nw (t := 200) (n := K * V) (k := K * V))).tr (zG.fr (f := 86) (a := M) (v := (200, K * V, zsz μ)) rfl)).tr (zG.nw (t := 201) (n := K * V) (k := K * V))).tr (zG.fr (f := 90) (a := M) (v := (201, K * V, zsz μ + 1)) rfl)).tr (zG.nw (t := 201) (n := K * V) (k := K * V))).tr (zG.fr (f := 91) (a := M) (v := (201, K * V, zsz μ + 1 + 1)) rfl)).tr (zG.nw (t := 200) (n := V) (k := V))).tr (zG.fr (f := 87) (a := M) (v := (200, V, zsz μ + 1 + 1 + 1)) rfl)).tr (zG.nw (t := 200) (n := 3 * V) (k := 3 * V))).tr (zG.fr (f := 88) (a := M) (v := (200, 3 * V, zsz μ + 1 + 1 + 1 + 1)) rfl)).tr (zG.nw (t := 200) (n := V) (k := V))).tr (zG.fr (f := 89) (a := M) (v := (200, V, zsz μ + 1 + 1 + 1 + 1 + 1)) rfl)
  have hW : ∀ a, a < zsz μ → a = M → hi ≤ a ∧ ¬ zim (ztg μ a).1 := fun a _ q => by rw [q, hMt]; exact ⟨hiM, by unfold zim; omega⟩
  have h6 := h.far hok (by omega) g6 hW
  have hI6 := hI.kp hok g6 (fun a ha w => (hW a ha w).2)
  have hkp : K * V * p ≤ 96 * p := Nat.mul_le_mul_right p h96
  refine L_mInit (M := M) (as := zsz μ) (ab := zsz μ + 1) (al := zsz μ + 1 + 1) (aw := zsz μ + 1 + 1 + 1) (ak := zsz μ + 1 + 1 + 1 + 1) (ac := zsz μ + 1 + 1 + 1 + 1 + 1) p hp (by unfold zAd; omega) (by omega) hK hV (fun ρ k1 k2 k3 k4 => Kc ρ k1 k2 k3 ?_ ?_) V 0 _ (by omega) h6 ⟨⟨?_, ?_, ?_, ?_, ?_, ?_, ?_, ?_, ?_⟩, fun v' e' _ _ q => by omega, fun v' _ q => by omega⟩ hI6 ((zG.rf _ _).mono (fun _ _ q => q) (Nat.zero_le _) (Nat.zero_le _)) (by show M < zsz μ + 1 + 1 + 1 + 1 + 1 + 1; omega)
  · have := g6.trans (V := fun a => a = zsz μ ∨ a = zsz μ + 1 ∨ a = zsz μ + 1 + 1 + 1) k4 (fun a ha q => by omega)
    exact this.mono (fun _ _ q => q) (by omega) (by omega)
  · have := k4.1.1
    show zsz μ + 1 + 1 + 1 + 1 + 1 + 1 ≤ zsz ρ
    exact this
  all_goals simp [zfr_zFr, zfi_zFr, zfr_zNew, zfi_zNew, zfi_zFi, zfr_zFi, zsz_zFi, zsz_zFr, zsz_zNew]
theorem L_open (hrr : ∀ j, (∀ v, v < 8 → j ≠ 203 + 17 * v + 9) → rr j = r j) (hd : zAd as ab al aw ak ac) (hhi : hi ≤ M ∧ M < al ∧ M < ac) (hK : K ≤ 12) (hV : V ≤ 8)
    (Kc : ∀ ρ, zSta ρ lo hi s r K V F fg el ear vl var ds dm sm ea va ta sa → zMt ρ M s K V as ab al aw ak ac rr → zIc G ρ → zClo ρ al K V rr (fun _ _ => false) → zKk ρ ak ac K V rr (fun _ => []) → zG (fun a => a = al ∨ a = ac) 0 0 μ ρ → Q none ρ) (hMz : M < zsz μ) :
    ∀ (d v : Nat) (ν : ZM), v + d = V → zSta ν lo hi s r K V F fg el ear vl var ds dm sm ea va ta sa → zMt ν M s K V as ab al aw ak ac rr → zIc G ν → (∀ v' e', v' < V → e' < K → v' < v → zai ν al (K * v' + e') = if sReason rr v' e' = 0 then 0 else 1) → (∀ v', v' < v → zai ν ac v' = 0) → zG (fun a => a = al ∨ a = ac) 0 0 μ ν →
    Wp G Y_X8_open 2 [(0, vP (8, 0, M)), (1, vI (nI v))] [] ν Q E := by
  have h96 := kv_96 hK hV
  obtain ⟨⟨d1, d2, d3, d4, d5, d6⟩, ⟨e1, e2, e3, e4, e5⟩, ⟨e6, e7, e8, e9⟩⟩ := id hd
  intro d
  induction d with
  | zero =>
    intro v ν hv h hm hI hc ha hg
    have : v = V := by omega
    subst this
    exact B_X8_open_2 ⟨_, hm.1.2.2.1, fun _ => Kc ν h hm hI (fun v' e' q1 q2 => by rw [hc v' e' q1 q2 q1]; simp) (fun v' q => ⟨Nat.zero_le _, ha v' q, fun k hk => absurd hk (Nat.not_lt_zero _)⟩) hg, fun e => absurd e (nI_nlt (Nat.le_refl _) (by omega))⟩
  | succ d ih =>
    intro v ν hv h hm hI hc ha hg
    have hvV : v < V := by omega
    have inner : ∀ (c e : Nat) (σ : ZM), e + c = K → zSta σ lo hi s r K V F fg el ear vl var ds dm sm ea va ta sa → zMt σ M s K V as ab al aw ak ac rr → zIc G σ → (∀ v' e', v' < V → e' < K → (v' < v ∨ (v' = v ∧ e' < e)) → zai σ al (K * v' + e') = if sReason rr v' e' = 0 then 0 else 1) → (∀ v', v' < v + 1 → zai σ ac v' = 0) → zG (fun a => a = al ∨ a = ac) 0 0 μ σ → Wp G Y_X8_open 19 [(0, vP (8, 0, M)), (1, vI (nI v)), (2, vI (nI e))] [] σ Q E := by
      intro c
      induction c with
      | zero =>
        intro e σ he h hm hI hc ha hg
        have : e = K := by omega
        subst this
        refine B_X8_open_19 ⟨_, hm.1.2.1, fun _ => ?_, fun e => absurd e (nI_nlt (Nat.le_refl _) (by omega))⟩
        rw [nI_1]
        exact ih (v + 1) σ (by omega) h hm hI (fun v' e' q1 q2 q3 => hc v' e' q1 q2 (by omega)) ha hg
      | succ c ihc =>
        intro e σ he h hm hI hc ha hg
        have heK : e < K := by omega
        have hix := ixKV hK hV hvV heK
        refine Wp.zo fun hok => ?_
        have hMσ : M < zsz σ := Nat.lt_of_lt_of_le hMz hg.1.1
        have tal := hok.ref hm.1.2.2.2.2.2.1 (by decide) (by decide)
        have x23 := h.eE heK 9 (by decide)
        have e9r : wE rr e 9 = wE r e 9 := hrr _ (fun v _ => by omega)
        rw [show oE 9 = 0 from rfl, i32_s0, ← e9r] at x23
        -- the place written
        have wr : ∀ x : Int32, x = (if sReason rr v e = 0 then 0 else 1) → Wp G Y_X8_open 19 [(0, vP (8, 0, M)), (1, vI (nI v)), (2, vI (nI e + 1))] [] (zAi σ al (K * v + e) x) Q E := by
          intro x hx
          have g1 : zG (fun a => a = al) 0 0 σ (zAi σ al (K * v + e) x) := zG.ai rfl
          have hW1 : ∀ a, a < zsz σ → a = al → hi ≤ a ∧ ¬ zim (ztg σ a).1 := fun a _ q => by rw [q, tal.2]; exact ⟨by omega, by unfold zim; omega⟩
          have tas := hok.ref hm.1.2.2.2.1 (by decide) (by decide)
          have tab := hok.ref hm.1.2.2.2.2.1 (by decide) (by decide)
          have taw := hok.ref hm.1.2.2.2.2.2.2.1 (by decide) (by decide)
          have S1 : ∀ a, a < zsz σ → a ≠ al → zsame σ (zAi σ al (K * v + e) x) a := fun a ha hne => g1.same ha hne
          rw [nI_1]
          refine ihc (e + 1) _ (by omega) (h.far hok (by omega) g1 hW1) (hm.kp (S1 M hMσ (by omega)) (S1 as tas.1 e2) (S1 ab tab.1 e1) (S1 aw taw.1 e3)) (hI.kp hok g1 (fun a ha w => (hW1 a ha w).2)) (fun v' e' q1 q2 q3 => ?_) (fun v' q => ?_) (hg.tr (g1.mono (fun a _ q => Or.inl q) (Nat.le_refl _) (Nat.le_refl _)))
          · rw [zai_zAi]
            by_cases q4 : v' = v ∧ e' = e
            · obtain ⟨rfl, rfl⟩ := q4
              rw [if_pos ⟨rfl, rfl⟩]; exact hx
            · rw [if_neg (fun q5 => q4 (kv_inj q2 heK q5.2))]
              exact hc v' e' q1 q2 (by omega)
          · rw [zai_zAi, if_neg (fun q2 => e5 q2.1)]; exact ha v' q
        refine B_X8_open_19 ⟨_, hm.1.2.1, fun q => absurd (nI_lt heK (by omega)) q, fun _ => ⟨_, _, hm.1.2.2.2.2.2.2.1, v, zix.eq rfl hvV (by omega), _, hm.2.2 v hvV, _, hm.1.1, C_sEcho e rfl heK h ⟨_, rfl, _, rfl, _, x23, fun q => ?_, fun q => ⟨_, _, hm.1.2.2.2.1, _, hm.1.2.1, _, hix, _, (hm.2.1 v e hvV heK).1, fun q2 => ?_, fun q2 => ?_⟩⟩⟩⟩
        · refine B_X8_open_68 ⟨_, _, hm.1.2.2.2.2.2.1, _, hm.1.2.1, fun _ => ⟨_, hix, wr 1 ?_⟩, fun q => absurd rfl q⟩
          unfold sReason
          rw [if_pos q]; rfl
        · refine B_X8_open_68 ⟨_, _, hm.1.2.2.2.2.2.1, _, hm.1.2.1, fun _ => ⟨_, hix, wr 1 ?_⟩, fun q => absurd rfl q⟩
          have q3 : sSeen rr v e < 1 := by
            by_cases q3 : sSeen rr v e < 1
            · exact q3
            · exact absurd (i32_lt1.mpr q3) q2
          unfold sReason
          rw [if_neg q, if_pos q3]; rfl
        · have q3 := i32_lt1.mp q2
          refine B_X8_open_68 ⟨_, _, hm.1.2.2.2.2.2.1, _, hm.1.2.1, fun q => absurd q (by decide), fun _ => ⟨_, _, hm.1.2.2.2.2.1, _, hix, _, (hm.2.1 v e hvV heK).2, fun q4 => ⟨_, hix, wr 0 ?_⟩, fun q4 => ⟨_, hix, wr 1 ?_⟩⟩⟩
          · have q5 : ¬ wP rr v e 1 = 1 := fun q6 => by rw [if_pos q6] at q4; exact absurd q4 (by decide)
            unfold sReason
            rw [if_neg q, if_neg q3, if_neg q5]; rfl
          · have q5 : wP rr v e 1 = 1 := by
              by_cases q6 : wP rr v e 1 = 1
              · exact q6
              · rw [if_neg q6] at q4; exact absurd rfl q4
            unfold sReason
            rw [if_neg q, if_neg q3, if_pos q5]; rfl
    refine Wp.zo fun hok => ?_
    have hMσ : M < zsz ν := Nat.lt_of_lt_of_le hMz hg.1.1
    have tas := hok.ref hm.1.2.2.2.1 (by decide) (by decide)
    have tab := hok.ref hm.1.2.2.2.2.1 (by decide) (by decide)
    have taw := hok.ref hm.1.2.2.2.2.2.2.1 (by decide) (by decide)
    have tac := hok.ref hm.1.2.2.2.2.2.2.2.2 (by decide) (by decide)
    have g1 : zG (fun a => a = ac) 0 0 ν (zAi ν ac v 0) := zG.ai rfl
    have hW1 : ∀ a, a < zsz ν → a = ac → hi ≤ a ∧ ¬ zim (ztg ν a).1 := fun a _ q => by rw [q, tac.2]; exact ⟨by omega, by unfold zim; omega⟩
    have S1 : ∀ a, a < zsz ν → a ≠ ac → zsame ν (zAi ν ac v 0) a := fun a ha hne => g1.same ha hne
    refine B_X8_open_2 ⟨_, hm.1.2.2.1, fun q => absurd (nI_lt hvV (by omega)) q, fun _ => ⟨_, _, hm.1.2.2.2.2.2.2.2.2, v, zix.eq rfl hvV (by omega), inner K 0 _ (by omega) (h.far hok (by omega) g1 hW1) (hm.kp (S1 M hMσ (by omega)) (S1 as tas.1 d3) (S1 ab tab.1 e7) (S1 aw taw.1 d5)) (hI.kp hok g1 (fun a ha w => (hW1 a ha w).2)) (fun v' e' q1 q2 q3 => ?_) (fun v' q => ?_) (hg.tr (g1.mono (fun a _ q => Or.inr q) (Nat.le_refl _) (Nat.le_refl _)))⟩⟩
    · rw [zai_zAi, if_neg (fun q => e5 q.1.symm)]; exact hc v' e' q1 q2 (by omega)
    · rw [zai_zAi]
      by_cases q2 : v' = v
      · rw [if_pos ⟨rfl, q2⟩]
      · rw [if_neg (fun q3 => q2 q3.2)]; exact ha v' (by omega)
end ZJ
