set_option maxRecDepth 100000
/-! THE COMPONENT, 54: a State grows -/
section KP
variable {μ ν : ZM} {lo hi hi' s K V K' V' F fg el ear vl var ds dm sm : Nat} {ea va ta sa : Nat → Nat} {r r' : Nat → Int32}
theorem zSD.more (h : zSD μ lo hi ds dm K V r) (hh : hi ≤ hi') (hK : K ≤ K') (hV : V ≤ V') (hr : ∀ x, x / 12 < V' → x % 12 < K' → ¬ (x / 12 < V ∧ x % 12 < K) → r (339 + 3 * x + 1) = 0) : zSD μ lo hi' ds dm K' V' r := by
  obtain ⟨d1, d2, d3, ks, nd, kp, vl, d4, d5, d6, d7⟩ := h
  refine ⟨by omega, d2, d3, ks, nd, kp, vl, d4, fun x hx => ⟨(d5 x hx).1, by have := d5 x hx; omega, by have := d5 x hx; omega⟩, d6.up hh, fun x h1 h2 => ?_⟩
  by_cases q : x / 12 < V ∧ x % 12 < K
  · exact d7 x q.1 q.2
  · rw [hr x h1 h2 q]
    exact ⟨fun t => absurd ⟨(d5 x t).2.1, (d5 x t).2.2⟩ q, fun t => absurd t (by decide)⟩
theorem zSS.more (h : zSS μ lo hi sm K V r) (hh : hi ≤ hi') (hr : ∀ x, x / 12 < V' → x % 12 < K' → ¬ (x / 12 < V ∧ x % 12 < K) → r (339 + 3 * x + 2) = 0) : zSS μ lo hi' sm K' V' r := by
  obtain ⟨d1, d2, ks, nd, kp, vl, d4, d5, d6, d7⟩ := h
  refine ⟨by omega, d2, ks, nd, kp, vl, d4, d5, d6.up hh, fun x h1 h2 h3 => ?_⟩
  by_cases q : x / 12 < V ∧ x % 12 < K
  · exact d7 x q.1 q.2 h3
  · exact hr x h1 h2 q
/-- one more echo -/
theorem zSta.addE {b : Nat} (h : zSta μ lo hi s r K V F fg el ear vl var ds dm sm ea va ta sa) (hok : zok μ) (hh : hi ≤ zsz μ) (hst : (ztg μ s).1 = 2) (hne : el ≠ vl ∧ ear ≠ var) (hx : zext μ ν) (hK : K < 12) (k1 : ∀ a, a < zsz μ → lo ≤ a → a < hi → a ≠ el → a ≠ ear → zsame μ ν a) (kf : zsame μ ν fg) (k2 : ∀ a, a < zsz μ → zmp (ztg μ a).1 → zsame μ ν a)
    (hl : zLs ν el ear 12 (K + 1) (fun i => if i = K then (3, 0, b) else (3, 0, ea i))) (hb : hi ≤ b ∧ b < hi') (hf : ∀ w, 7 ≤ w → w < 15 → zfi ν (fE w) b = wE r' K w - oE w)
    (r0 : r' 0 = nI (K + 1)) (hr : ∀ j, j ≠ 0 → (j < 23 + 15 * K ∨ 23 + 15 * K + 15 ≤ j) → r' j = r j) (hz : ∀ x, x / 12 < V → x % 12 = K → r (339 + 3 * x + 1) = 0 ∧ r (339 + 3 * x + 2) = 0) : zSta ν lo hi' s r' (K + 1) V F fg el ear vl var ds dm sm (fun i => if i = K then b else ea i) va ta sa := by
  obtain ⟨t1, t2, t3, t4, t5, t6, t7, t8, t9⟩ := h.tg hok
  have hV := h.1.2.1.2.2.2.2.1
  have hhi : hi ≤ hi' := by omega
  have hsD := (h.2.2.2.1.kt (r' := r') hok hh t2 hx.1 k2 hV (fun x hx => hr _ (by omega) (by omega))).more (hi' := hi') (K' := K + 1) (V' := V) hhi (by omega) (Nat.le_refl _) (fun x q1 q2 q3 => by rw [hr _ (by omega) (by omega)]; exact (hz x q1 (by omega)).1)
  have hsS := (h.2.2.2.2.1.kt (r' := r') hok hh t3 hx.1 k2 hV (fun x hx => hr _ (by omega) (by omega))).more (hi' := hi') (K' := K + 1) (V' := V) hhi (fun x q1 q2 q3 => by rw [hr _ (by omega) (by omega)]; exact (hz x q1 (by omega)).2)
  obtain ⟨⟨a1, a2, a3⟩, ⟨b1, b2, b3, b4, b5, b6, b7⟩, c, d, e⟩ := h.1
  have dmt := (hok.ref h.2.2.2.1.2.1 (by decide) (by decide))
  have ne : ∀ a t, (ztg μ a).1 = t → t ≠ 10 → t ≠ 204 → a ≠ el ∧ a ≠ ear := fun a t ht h1 h2 => ⟨fun q => h1 (by rw [← ht, q]; exact t6), fun q => h2 (by rw [← ht, q]; exact t8)⟩
  have sm' : ∀ a t, (ztg μ a).1 = t → t ≠ 10 → t ≠ 204 → lo ≤ a → a < hi → zsame μ ν a := fun a t ht h1 h2 q1 q2 => k1 a (by omega) q1 q2 (ne a t ht h1 h2).1 (ne a t ht h1 h2).2
  have ks : zsame μ ν s := sm' s 2 hst (by decide) (by decide) a1 a2
  obtain ⟨E1, E2, E3, E4, E5⟩ := h.2.1
  obtain ⟨V1, V2, V3, V4, V5, V6, V7, V8⟩ := h.2.2.1
  have kvl : zsame μ ν vl := k1 vl (by omega) V1.1 V1.2.1 (fun q => hne.1 q.symm) (fun q => by rw [q, t8] at t7; cases t7)
  have kvar : zsame μ ν var := k1 var (by omega) V1.2.2.1 V1.2.2.2 (fun q => by rw [q, t6] at t9; cases t9) (fun q => hne.2 q.symm)
  have kv : ∀ v, v < V → zsame μ ν (va v) ∧ zsame μ ν (ta v) ∧ zsame μ ν (sa v) := fun v hv => by
    obtain ⟨q1, q2, q3, q4⟩ := V3 v hv
    obtain ⟨u1, u2, u3⟩ := t5 v hv
    exact ⟨sm' _ 4 u1 (by decide) (by decide) q1.1 q1.2, sm' _ 201 u2 (by decide) (by decide) q2.1 q2.2, sm' _ 200 u3 (by decide) (by decide) q3.1 q3.2⟩
  have rV : ∀ v w, v < V → w < 17 → wV r' v w = wV r v w := fun v w hv hw => hr _ (by omega) (by omega)
  refine ⟨⟨⟨a1, by omega, by omega⟩, ⟨r0, (hr 1 (by omega) (by omega)).trans b2, (hr 4 (by omega) (by omega)).trans b3, by omega, b5, b6, b7⟩, fun w hw => ?_, ⟨(ks.2.1 _).trans d.1, (ks.2.1 _).trans d.2.1, (ks.2.1 _).trans d.2.2.1, (ks.2.1 _).trans d.2.2.2.1, (ks.2.1 _).trans d.2.2.2.2⟩, fun i hi => ?_⟩, ⟨by omega, ⟨hl.1, hl.2.1, hl.2.2.1, hl.2.2.2.1, fun i hi => ?_⟩, fun i hi => ?_, fun i j hi hj => ?_, fun i w hi hw1 hw2 => ?_⟩, ⟨by omega, V2.kp kvl kvar, fun v hv => by have := V3 v hv; omega, V4, fun v w hv h1 h2 => ?_, fun v hv => ?_, fun v x hv hx => ?_, fun v k hv hk hn => ?_⟩, hsD, hsS, fun n n' t q1 q2 => ?_⟩
  · rw [ks.1, c w hw, hr w (by rintro rfl; simp at hw) (by simp at hw; omega)]
  · rw [kf.2.2.1, e i hi, hr _ (by omega) (by omega)]
  · rw [hl.2.2.2.2 i hi]
    dsimp only
    split <;> rfl
  · dsimp only
    split
    · omega
    · have := E3 i (by omega); omega
  · dsimp only
    intro q
    by_cases q1 : i = K
    · by_cases q2 : j = K
      · omega
      · rw [if_pos q1, if_neg q2] at q
        have := E3 j (by omega); omega
    · by_cases q2 : j = K
      · rw [if_neg q1, if_pos q2] at q
        have := E3 i (by omega); omega
      · rw [if_neg q1, if_neg q2] at q
        exact E4 i j (by omega) (by omega) q
  · dsimp only
    by_cases q1 : i = K
    · rw [if_pos q1, q1]; exact hf w hw1 hw2
    · rw [if_neg q1]
      have q2 := E3 i (by omega)
      rw [(sm' (ea i) 3 (t4 i (by omega)) (by decide) (by decide) q2.1 q2.2).1, E5 i w (by omega) hw1 hw2]
      have : wE r' i w = wE r i w := hr _ (by omega) (by omega)
      rw [this]
  · rw [(kv v hv).1.1, V5 v w hv h1 h2, rV v w hv (by omega)]
  · rw [(kv v hv).1.2.1, (kv v hv).1.2.1]; exact V6 v hv
  · rw [(kv v hv).2.1.2.2.1]
    have : wP r' v x 0 = wP r v x 0 := hr _ (by omega) (by omega)
    rw [this]; exact V7 v x hv hx
  · rw [rV v 13 hv (by omega)] at hn
    rw [(kv v hv).2.2.2.2.1, rV v (14 + k) hv (by omega)]; exact V8 v k hv hk hn
  · have kd := k2 dm dmt.1 (by rw [dmt.2]; unfold zmp; omega)
    have ksm := k2 sm (by have := h.2.2.2.2.1.1; omega) (by rw [t3]; unfold zmp; omega)
    rw [kd.2.1] at q1
    rw [ksm.2.1] at q2
    exact h.2.2.2.2.2 n n' t q1 q2
/-- one more valley -/
theorem zSta.addV {b tb sb : Nat} (h : zSta μ lo hi s r K V F fg el ear vl var ds dm sm ea va ta sa) (hok : zok μ) (hh : hi ≤ zsz μ) (hst : (ztg μ s).1 = 2) (hne : el ≠ vl ∧ ear ≠ var) (hx : zext μ ν) (hV8 : V < 8) (k1 : ∀ a, a < zsz μ → lo ≤ a → a < hi → a ≠ vl → a ≠ var → zsame μ ν a) (kf : zsame μ ν fg) (k2 : ∀ a, a < zsz μ → zmp (ztg μ a).1 → zsame μ ν a)
    (hl : zLs ν vl var 8 (V + 1) (fun i => if i = V then (4, 0, b) else (4, 0, va i))) (hb : hi ≤ b ∧ b < hi') (htb : hi ≤ tb ∧ tb < hi') (hsb : hi ≤ sb ∧ sb < hi') (hf : ∀ w, 7 ≤ w → w < 14 → zfi ν (fV w) b = wV r' V w) (hp : zfr ν 33 b = (201, 12, tb) ∧ zfr ν 34 b = (200, 3, sb)) (ht : ∀ e, e < 12 → zai ν tb e = wP r' V e 0 ∧ (wP r' V e 0 = 0 ∨ wP r' V e 0 = 1)) (hs0 : wV r' V 13 = 0)
    (r1 : r' 1 = nI (V + 1)) (hr : ∀ j, j ≠ 1 → (j < 203 + 17 * V ∨ 203 + 17 * V + 17 ≤ j) → r' j = r j) (hz : ∀ x, x / 12 = V → r (339 + 3 * x + 1) = 0 ∧ r (339 + 3 * x + 2) = 0) : zSta ν lo hi' s r' K (V + 1) F fg el ear vl var ds dm sm ea (fun i => if i = V then b else va i) (fun i => if i = V then tb else ta i) (fun i => if i = V then sb else sa i) := by
  obtain ⟨t1, t2, t3, t4, t5, t6, t7, t8, t9⟩ := h.tg hok
  have hV := h.1.2.1.2.2.2.2.1
  have hK := h.1.2.1.2.2.2.1
  have hhi : hi ≤ hi' := by omega
  have hsD := (h.2.2.2.1.kt (r' := r') hok hh t2 hx.1 k2 hV (fun x hx => hr _ (by omega) (by omega))).more (hi' := hi') (K' := K) (V' := V + 1) hhi (Nat.le_refl _) (by omega) (fun x q1 q2 q3 => by rw [hr _ (by omega) (by omega)]; exact (hz x (by omega)).1)
  have hsS := (h.2.2.2.2.1.kt (r' := r') hok hh t3 hx.1 k2 hV (fun x hx => hr _ (by omega) (by omega))).more (hi' := hi') (K' := K) (V' := V + 1) hhi (fun x q1 q2 q3 => by rw [hr _ (by omega) (by omega)]; exact (hz x (by omega)).2)
  obtain ⟨⟨a1, a2, a3⟩, ⟨b1, b2, b3, b4, b5, b6, b7⟩, c, d, e⟩ := h.1
  have dmt := (hok.ref h.2.2.2.1.2.1 (by decide) (by decide))
  have ne : ∀ a t, (ztg μ a).1 = t → t ≠ 10 → t ≠ 204 → a ≠ vl ∧ a ≠ var := fun a t ht h1 h2 => ⟨fun q => h1 (by rw [← ht, q]; exact t7), fun q => h2 (by rw [← ht, q]; exact t9)⟩
  have sm' : ∀ a t, (ztg μ a).1 = t → t ≠ 10 → t ≠ 204 → lo ≤ a → a < hi → zsame μ ν a := fun a t ht h1 h2 q1 q2 => k1 a (by omega) q1 q2 (ne a t ht h1 h2).1 (ne a t ht h1 h2).2
  have ks : zsame μ ν s := sm' s 2 hst (by decide) (by decide) a1 a2
  obtain ⟨E1, E2, E3, E4, E5⟩ := h.2.1
  obtain ⟨V1, V2, V3, V4, V5, V6, V7, V8⟩ := h.2.2.1
  have kel : zsame μ ν el := k1 el (by omega) E1.1 E1.2.1 hne.1 (fun q => by rw [q, t9] at t6; cases t6)
  have kear : zsame μ ν ear := k1 ear (by omega) E1.2.2.1 E1.2.2.2 (fun q => by rw [q, t7] at t8; cases t8) hne.2
  have kv : ∀ v, v < V → zsame μ ν (va v) ∧ zsame μ ν (ta v) ∧ zsame μ ν (sa v) := fun v hv => by
    obtain ⟨q1, q2, q3, q4⟩ := V3 v hv
    obtain ⟨u1, u2, u3⟩ := t5 v hv
    exact ⟨sm' _ 4 u1 (by decide) (by decide) q1.1 q1.2, sm' _ 201 u2 (by decide) (by decide) q2.1 q2.2, sm' _ 200 u3 (by decide) (by decide) q3.1 q3.2⟩
  have rV : ∀ v w, v < V → w < 17 → wV r' v w = wV r v w := fun v w hv hw => hr _ (by omega) (by omega)
  refine ⟨⟨⟨a1, by omega, by omega⟩, ⟨(hr 0 (by omega) (by omega)).trans b1, r1, (hr 4 (by omega) (by omega)).trans b3, b4, by omega, b6, b7⟩, fun w hw => ?_, ⟨(ks.2.1 _).trans d.1, (ks.2.1 _).trans d.2.1, (ks.2.1 _).trans d.2.2.1, (ks.2.1 _).trans d.2.2.2.1, (ks.2.1 _).trans d.2.2.2.2⟩, fun i hi => ?_⟩, ⟨by omega, E2.kp kel kear, fun i hi => by have := E3 i hi; omega, E4, fun i w hi hw1 hw2 => ?_⟩, ⟨by omega, ⟨hl.1, hl.2.1, hl.2.2.1, hl.2.2.2.1, fun i hi => ?_⟩, fun v hv => ?_, fun v v' hv hv' q => ?_, fun v w hv h1 h2 => ?_, fun v hv => ?_, fun v x hv hx => ?_, fun v k hv hk hn => ?_⟩, hsD, hsS, fun n n' t q1 q2 => ?_⟩
  · rw [ks.1, c w hw, hr w (by rintro rfl; simp at hw) (by simp at hw; omega)]
  · rw [kf.2.2.1, e i hi, hr _ (by omega) (by omega)]
  · have q2 := E3 i hi
    rw [(sm' (ea i) 3 (t4 i hi) (by decide) (by decide) q2.1 q2.2).1, E5 i w hi hw1 hw2]
    have : wE r' i w = wE r i w := hr _ (by omega) (by omega)
    rw [this]
  · rw [hl.2.2.2.2 i hi]
    dsimp only
    split <;> rfl
  · dsimp only
    by_cases q : v = V
    · rw [if_pos q, if_pos q, if_pos q]; omega
    · rw [if_neg q, if_neg q, if_neg q]; have := V3 v (by omega); omega
  · dsimp only at q
    by_cases q1 : v = V
    · by_cases q2 : v' = V
      · omega
      · rw [if_pos q1, if_neg q2, if_pos q1, if_neg q2, if_pos q1, if_neg q2] at q
        have := V3 v' (by omega); omega
    · by_cases q2 : v' = V
      · rw [if_neg q1, if_pos q2, if_neg q1, if_pos q2, if_neg q1, if_pos q2] at q
        have := V3 v (by omega); omega
      · rw [if_neg q1, if_neg q2, if_neg q1, if_neg q2, if_neg q1, if_neg q2] at q
        exact V4 v v' (by omega) (by omega) q
  · dsimp only
    by_cases q : v = V
    · rw [if_pos q, q]; exact hf w h1 h2
    · rw [if_neg q, (kv v (by omega)).1.1, V5 v w (by omega) h1 h2, rV v w (by omega) (by omega)]
  · dsimp only
    by_cases q : v = V
    · rw [if_pos q, if_pos q, if_pos q]; exact hp
    · rw [if_neg q, if_neg q, if_neg q, (kv v (by omega)).1.2.1, (kv v (by omega)).1.2.1]; exact V6 v (by omega)
  · dsimp only
    by_cases q : v = V
    · rw [if_pos q, q]; exact ht x hx
    · rw [if_neg q, (kv v (by omega)).2.1.2.2.1]
      have : wP r' v x 0 = wP r v x 0 := hr _ (by omega) (by omega)
      rw [this]; exact V7 v x (by omega) hx
  · dsimp only
    by_cases q : v = V
    · rw [q, hs0] at hn
      exact absurd hn (nI_nlt (a := k) (b := 0) (by omega) (by omega))
    · rw [rV v 13 (by omega) (by omega)] at hn
      rw [if_neg q, (kv v (by omega)).2.2.2.2.1, rV v (14 + k) (by omega) (by omega)]; exact V8 v k (by omega) hk hn
  · have kd := k2 dm dmt.1 (by rw [dmt.2]; unfold zmp; omega)
    have ksm := k2 sm (by have := h.2.2.2.2.1.1; omega) (by rw [t3]; unfold zmp; omega)
    rw [kd.2.1] at q1
    rw [ksm.2.1] at q2
    exact h.2.2.2.2.2 n n' t q1 q2
end KP
