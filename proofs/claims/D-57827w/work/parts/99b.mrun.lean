set_option maxRecDepth 100000
/-! THE COMPONENT, 21: a Matching: an application; the queue -/
def zAo (hi M d ar as ab al aw ak ac : Nat) : Prop := hi ≤ M ∧ (M < as ∧ M < ab ∧ M < al ∧ M < aw ∧ M < ak ∧ M < ac) ∧ (as < d ∧ ab < d ∧ al < d ∧ aw < d ∧ ak < d ∧ ac < d) ∧ d < ar
theorem zMt.kp {μ ν : ZM} {M s K V as ab al aw ak ac : Nat} {rr : Nat → Int32} (h : zMt μ M s K V as ab al aw ak ac rr) (k1 : zsame μ ν M) (k2 : zsame μ ν as) (k3 : zsame μ ν ab) (k4 : zsame μ ν aw) : zMt ν M s K V as ab al aw ak ac rr := by
  obtain ⟨⟨a1, a2, a3, a4, a5, a6, a7, a8, a9⟩, b, c⟩ := h
  exact ⟨⟨(k1.2.1 _).trans a1, (k1.1 _).trans a2, (k1.1 _).trans a3, (k1.2.1 _).trans a4, (k1.2.1 _).trans a5, (k1.2.1 _).trans a6, (k1.2.1 _).trans a7, (k1.2.1 _).trans a8, (k1.2.1 _).trans a9⟩, fun v e hv he => ⟨(k2.2.2.1 _).trans (b v e hv he).1, (k3.2.2.1 _).trans (b v e hv he).2⟩, fun v hv => (k4.2.2.1 _).trans (c v hv)⟩
theorem zClo.kp {μ ν : ZM} {al K V : Nat} {rr : Nat → Int32} {ap : Nat → Nat → Bool} (h : zClo μ al K V rr ap) (k : zsame μ ν al) : zClo ν al K V rr ap := fun v e hv he => (k.2.2.1 _).trans (h v e hv he)
theorem zKk.kp {μ ν : ZM} {ak ac K V : Nat} {rr : Nat → Int32} {kl : Nat → List Nat} (h : zKk μ ak ac K V rr kl) (k1 : zsame μ ν ak) (k2 : zsame μ ν ac) : zKk ν ak ac K V rr kl := fun v hv => ⟨(h v hv).1, (k2.2.2.1 _).trans (h v hv).2.1, fun k hk => ⟨(k1.2.2.1 _).trans ((h v hv).2.2 k hk).1, ((h v hv).2.2 k hk).2⟩⟩
theorem kU_s {f : Nat → List Nat} {v : Nat} {x : List Nat} : kU f v x v = x := if_pos rfl
theorem kU_n {f : Nat → List Nat} {v w : Nat} {x : List Nat} (h : w ≠ v) : kU f v x w = f w := if_neg h
section ZJ
variable {G : ZG} {μ : ZM} {Q : Option ZV → ZM → Prop} {E : ZP → ZM → Prop} {lo hi s K V F fg el ear vl var ds dm sm M as ab al aw ak ac d ar : Nat} {ea va ta sa : Nat → Nat} {r rr : Nat → Int32} {ap : Nat → Nat → Bool} {kl : Nat → List Nat} {z1 z2 z3 : Int32}
theorem C_mApply (v e : Nat) (h1 : z1 = nI v) (h2 : z2 = nI e) (hv : v < V) (he : e < K) (hsm : zSm K V rr) (hfr : ∀ v, v < V → wV r v 8 - wV r v 13 = nI (sPosts rr v) ∧ sPosts rr v ≤ 3) (hd : zAd as ab al aw ak ac) (ho : zAo hi M d ar as ab al aw ak ac) (hok : zok μ) (hz : d ≤ zsz μ)
    (h : zSta μ lo hi s r K V F fg el ear vl var ds dm sm ea va ta sa) (hm : zMt μ M s K V as ab al aw ak ac rr) (hc : zClo μ al K V rr ap) (hk : zKk μ ak ac K V rr kl)
    (k : ∀ ν (o : Option Nat) kl', (∀ q, sApply rr (sPosts rr v) q kl e v = (q ++ o.toList, kl')) → (∀ y, o = some y → y < K) → zClo ν al K V rr (aU ap v e) → zKk ν ak ac K V rr kl' → zG (fun a => a = al ∨ a = ak ∨ a = ac) 0 0 μ ν → Q (some (vI (o2i o))) ν) : Call G Y_X8_apply [vP (8, 0, M), vI z1, vI z2] μ Q E := by
  subst h1; subst h2
  have hK := h.1.2.1.2.2.2.1
  have hV := h.1.2.1.2.2.2.2.1
  obtain ⟨⟨d1, d2, d3, d4, d5, d6⟩, ⟨e1, e2, e3, e4, e5⟩, e6⟩ := hd
  obtain ⟨o1, o2, o3, o4⟩ := ho
  obtain ⟨k1, k2, k3⟩ := hk v hv
  obtain ⟨f1, f2⟩ := hfr v hv
  have tal := (hok.ref hm.1.2.2.2.2.2.1 (by decide) (by decide))
  have g1 : zG (fun a => a = al ∨ a = ak ∨ a = ac) 0 0 μ (zAi μ al (K * v + e) 1) := zG.ai (Or.inl rfl)
  have ga : zG (fun a => a = al) 0 0 μ (zAi μ al (K * v + e) 1) := zG.ai rfl
  have S : ∀ a, a < zsz μ → a ≠ al → zsame μ (zAi μ al (K * v + e) 1) a := fun a ha hne => ga.same ha hne
  have h' := h.far hok (by omega) ga (fun a ha q => by rw [q, tal.2]; exact ⟨by omega, by unfold zim; omega⟩)
  have hm' := hm.kp (S M (by omega) (by omega)) (S as (by omega) e2) (S ab (by omega) e1) (S aw (by omega) e3)
  have hk' := hk.kp (S ak (by omega) e4) (S ac (by omega) e5)
  have hc' : zClo (zAi μ al (K * v + e) 1) al K V rr (aU ap v e) := fun v' e' hv' he' => by
    rw [zai_zAi]
    unfold aU
    by_cases q : v' = v ∧ e' = e
    · obtain ⟨rfl, rfl⟩ := q
      have h9 : (if v' = v' ∧ e' = e' then true else ap v' e') = true := if_pos ⟨rfl, rfl⟩
      rw [if_pos ⟨rfl, rfl⟩, h9, if_neg (fun q => by cases q.2)]
    · rw [if_neg (fun q2 => q (kv_inj he' he q2.2)), if_neg q]
      exact hc v' e' hv' he'
  have x32 := h'.eV hv 8 (by decide)
  have x37 := h'.eV hv 13 (by decide)
  refine S_X8_apply ⟨_, _, hm.1.2.2.2.2.2.1, _, hm.1.2.1, _, ixKV hK hV hv he, _, hm.1.1, C_sValley v rfl hv h' ⟨_, rfl, _, rfl, S_X4_freePosts ⟨_, x32, _, x37, _, rfl, _, _, hm'.1.2.2.2.2.2.2.2.2, v, zix.eq rfl hv (by omega), _, (hk' v hv).2.1, fun q => ⟨fun q2 => ?_, fun q2 => ?_⟩, fun q => ?_⟩⟩⟩
  · rw [f1] at q q2
    have hge : sPosts rr v ≤ (kl v).length := by
      rcases Nat.lt_or_ge (kl v).length (sPosts rr v) with q3 | q3
      · exact absurd (nI_lt q3 (by omega)) q
      · exact q3
    have hp0 : 0 < sPosts rr v := by
      rcases Nat.eq_zero_or_pos (sPosts rr v) with q3 | q3
      · rw [q3] at q2; exact absurd rfl q2
      · exact q3
    have hw := leastLt (r := rr) (v := v) (l := kl v) (kl v).length (by omega)
    obtain ⟨a1, a2⟩ := (hk' v hv).2.2 _ hw
    have hix : zix (nI (3 * v + sLeast rr v (kl v) (kl v).length)) (3 * v + sLeast rr v (kl v) (kl v).length) (3 * V) := zix.eq rfl (by omega) (by omega)
    refine C_mWorst v rfl hv hK hV hsm f2 hm' hk' (by omega) ⟨_, rfl, _, _, hm'.1.2.2.2.2.2.2.2.1, _, hix, _, a1, C_mPrefers v e _ rfl rfl rfl hv he a2 hK hV hsm hm' (fun q3 => ⟨_, rfl, fun _ => ⟨_, _, hm'.1.2.2.2.2.2.2.2.1, _, hix, _, a1, ?_⟩, fun e => absurd e (by decide)⟩) (fun q3 => ⟨_, rfl, fun e => absurd rfl e, fun _ => ?_⟩)⟩
    · refine k _ (some ((kl v).getD (sLeast rr v (kl v) (kl v).length) 0)) (kU kl v ((kl v).set (sLeast rr v (kl v) (kl v).length) e)) (fun q4 => ?_) (fun y hy => by cases hy; exact a2) (fun v' e' hv' he' => ?_) (fun v' hv' => ?_) (g1.tr (zG.ai (Or.inr (Or.inl rfl))))
      · unfold sApply
        rw [if_neg (by omega), if_neg (by omega), if_pos q3]; rfl
      · rw [zai_zAi, if_neg (fun q => e4 q.1.symm)]; exact hc' v' e' hv' he'
      · by_cases qv : v' = v
        · subst qv
          rw [kU_s, List.length_set]
          refine ⟨k1, ?_, fun j hj => ?_⟩
          · rw [zai_zAi, if_neg (fun q => d6 q.1.symm)]; exact (hk' v' hv').2.1
          · rw [zai_zAi]
            by_cases qj : j = sLeast rr v' (kl v') (kl v').length
            · rw [if_pos ⟨rfl, by omega⟩, qj, List.getD_eq_getElem?_getD, List.getElem?_set_self (by omega)]
              exact ⟨rfl, he⟩
            · rw [if_neg (fun q => qj (by have := q.2; omega)), List.getD_eq_getElem?_getD, List.getElem?_set_ne (Ne.symm qj), ← List.getD_eq_getElem?_getD]
              exact (hk' v' hv').2.2 j hj
        · rw [kU_n qv]
          obtain ⟨b1, b2, b3⟩ := hk' v' hv'
          have := (hfr v' hv').2
          exact ⟨b1, by rw [zai_zAi, if_neg (fun q => d6 q.1.symm)]; exact b2, fun j hj => ⟨by rw [zai_zAi, if_neg (fun q => by have := q.2; omega)]; exact (b3 j hj).1, (b3 j hj).2⟩⟩
    · refine k _ (some e) kl (fun q4 => ?_) (fun y hy => by cases hy; exact he) hc' hk' g1
      unfold sApply
      rw [if_neg (by omega), if_neg (by omega), if_neg q3]; rfl
  · rw [f1] at q2
    have hp0 : sPosts rr v = 0 := (nI_eq (a := sPosts rr v) (b := 0) (by omega) (by omega)).mp q2
    refine k _ (some e) kl (fun q4 => ?_) (fun y hy => by cases hy; exact he) hc' hk' g1
    unfold sApply
    rw [if_neg (by omega), if_pos (by omega)]; rfl
  · rw [f1] at q
    have hlt := (nI_ltI (by omega) (by omega)).mp q
    refine ⟨_, _, hm'.1.2.2.2.2.2.2.2.1, 3 * v + (kl v).length, zix.eq (by show nI 3 * nI v + _ = _; rw [pk_mul, nI_add]) (by omega) (by omega), _, rfl, ?_⟩
    have hac : zai (zAi (zAi μ al (K * v + e) 1) ak (3 * v + (kl v).length) (nI e)) ac v = nI (kl v).length := by
      rw [zai_zAi, if_neg (fun q => d6 q.1.symm)]; exact (hk' v hv).2.1
    rw [hac, nI_1]
    refine k _ none (kU kl v (kl v ++ [e])) (fun q4 => ?_) (fun y hy => by cases hy) (fun v' e' hv' he' => ?_) (fun v' hv' => ?_) ((g1.tr (zG.ai (Or.inr (Or.inl rfl)))).tr (zG.ai (Or.inr (Or.inr rfl))))
    · unfold sApply
      rw [if_pos hlt]; simp
    · rw [zai_zAi, if_neg (fun q => e5 q.1.symm), zai_zAi, if_neg (fun q => e4 q.1.symm)]; exact hc' v' e' hv' he'
    · by_cases qv : v' = v
      · subst qv
        rw [kU_s, List.length_append]
        refine ⟨hlt, ?_, fun j hj => ?_⟩
        · rw [zai_zAi, if_pos ⟨rfl, rfl⟩]; rfl
        · rw [zai_zAi, if_neg (fun q => d6 q.1), zai_zAi]
          have hj' : j < (kl v').length + 1 := hj
          by_cases qj : j = (kl v').length
          · rw [if_pos ⟨rfl, by omega⟩, qj, List.getD_eq_getElem?_getD, List.getElem?_append_right (Nat.le_refl _), Nat.sub_self]
            exact ⟨rfl, he⟩
          · rw [if_neg (fun q => qj (by have := q.2; omega)), List.getD_eq_getElem?_getD, List.getElem?_append_left (by omega), ← List.getD_eq_getElem?_getD]
            exact (hk' v' hv').2.2 j (by omega)
      · rw [kU_n qv]
        obtain ⟨b1, b2, b3⟩ := hk' v' hv'
        have := (hfr v' hv').2
        refine ⟨b1, ?_, fun j hj => ⟨?_, (b3 j hj).2⟩⟩
        · rw [zai_zAi, if_neg (fun q => qv q.2), zai_zAi, if_neg (fun q => d6 q.1.symm)]; exact b2
        · rw [zai_zAi, if_neg (fun q => d6 q.1), zai_zAi, if_neg (fun q => by have := q.2; omega)]; exact (b3 j hj).1
/-- a queue of numbers, as Integers -/
def zQs (μ : ZM) (K : Nat) : List ZP → List Nat → Prop
  | [], [] => True
  | p :: ps, x :: qs => zIn μ p (nI x) ∧ x < K ∧ zpk μ p ∧ zQs μ K ps qs
  | _, _ => False
theorem zQs.len {μ : ZM} {K : Nat} : ∀ {ps : List ZP} {q : List Nat}, zQs μ K ps q → ps.length = q.length := by
  intro ps
  induction ps with
  | nil => intro q h; cases q with
    | nil => rfl
    | cons x q => exact h.elim
  | cons p ps ih => intro q h; cases q with
    | nil => exact h.elim
    | cons x q => show ps.length + 1 = q.length + 1; rw [ih h.2.2.2]
theorem zQs.snoc {μ : ZM} {K : Nat} {p : ZP} {x : Nat} (h1 : zIn μ p (nI x)) (h2 : x < K) (h3 : zpk μ p) : ∀ {ps : List ZP} {q : List Nat}, zQs μ K ps q → zQs μ K (ps ++ [p]) (q ++ [x]) := by
  intro ps
  induction ps with
  | nil => intro q h; cases q with
    | nil => exact ⟨h1, h2, h3, trivial⟩
    | cons x q => exact h.elim
  | cons p ps ih => intro q h; cases q with
    | nil => exact h.elim
    | cons x q => exact ⟨h.1, h.2.1, h.2.2.1, ih h.2.2.2⟩
theorem zQs.kp {μ ν : ZM} {K : Nat} {W : Nat → Prop} {c d : Nat} (g : zG W c d μ ν) (hW : ∀ a, a < zsz μ → W a → ¬ zim (ztg μ a).1) : ∀ {ps : List ZP} {q : List Nat}, zQs μ K ps q → zQs ν K ps q := by
  intro ps
  induction ps with
  | nil => intro q h; cases q with
    | nil => trivial
    | cons x q => exact h.elim
  | cons p ps ih => intro q h; cases q with
    | nil => exact h.elim
    | cons x q =>
      have ht : p.1 = 24 ∨ p.1 = 124 := h.1.1
      have hl := h.2.2.1.lt (by omega) (by omega)
      have e9 : (ztg μ p.2.2).1 = p.1 := congrArg Prod.fst hl.2
      exact ⟨⟨h.1.1, ((g.same hl.1 (fun w => hW _ hl.1 w (by unfold zim; omega))).1 _).trans h.1.2⟩, h.2.1, h.2.2.1.ext g.1, ih h.2.2.2⟩
theorem C_valueOfS {j : Nat} {z : Int32} (hz : z = nI j) (hj : j < 128) (hI : zIc G μ) (hok : zok μ) (k : ∀ p, zIn μ p z → zpk μ p → Q (some (vP p)) μ) : Call G Y_J17_valueOf [vI z] μ Q E := by
  subst hz
  obtain ⟨a1, i1, i2, i3, i4⟩ := hI
  have e1 : nI j + 128 = nI (j + 128) := nI_add j 128
  have e2 : nI (j + 128) - 128 = nI j := by rw [← e1]; exact Int32.add_sub_cancel _ _
  obtain ⟨q1, q2⟩ := i4 (j + 128) (by omega)
  refine S_J17_valueOf ⟨fun q => absurd q (fun q => nI_pos (n := j) (by omega) (Int32.lt_trans q (by decide))), fun _ => ⟨fun q => absurd ((nI_ltI (a := 127) (b := j) (by omega) (by omega)).mp q) (by omega), fun _ => ⟨_, _, i1, j + 128, zix.eq e1 (by omega) (by omega), _, rfl, q1, k _ ⟨q1, q2.trans e2⟩ (hok.2.2.2.2.2.2 _ _)⟩⟩⟩
end ZJ
