set_option maxRecDepth 100000
/-! THE COMPONENT, 13: writes to a State's objects -/
/-- tags of a map's objects, its keys and values -/
def zmp (t : Nat) : Prop := t = 13 ∨ t = 14 ∨ t = 15 ∨ t = 16 ∨ t = 17 ∨ t = 205 ∨ t = 9 ∨ t = 24 ∨ t = 124 ∨ t = 18 ∨ t = 20
section KP
variable {μ ν : ZM} {lo hi s K V F fg el ear vl var ds dm sm : Nat} {ea va ta sa : Nat → Nat} {r r' : Nat → Int32}
/-- tags of what a set of pairs rests on; of what a map of days does -/
def zdt (t : Nat) : Prop := t = 13 ∨ t = 15 ∨ t = 17 ∨ t = 9 ∨ t = 20
def zvt (t : Nat) : Prop := t = 14 ∨ t = 16 ∨ t = 9 ∨ t = 24 ∨ t = 124 ∨ t = 18
theorem zSD.kt' (h : zSD μ lo hi ds dm K V r) (hok : zok μ) (hh : hi ≤ zsz μ) (hds : (ztg μ ds).1 = 13) (hx : zsz μ ≤ zsz ν) (k : ∀ a, a < zsz μ → zdt (ztg μ a).1 ∨ (∃ n, zfr μ 107 dm = (205, n, a)) → zsame μ ν a) (hV : V ≤ 8) (hr : ∀ x, x < 96 → r' (339 + 3 * x + 1) = r (339 + 3 * x + 1)) : zSD ν lo hi ds dm K V r' := by
  obtain ⟨d1, d2, d3, ks, nd, kp, vl, d4, d5, d6, d7⟩ := h
  have hdm := hok.ref d2 (by decide) (by decide)
  have kds := k ds (by omega) (Or.inl (by rw [hds]; exact Or.inl rfl))
  have kdm := k dm hdm.1 (Or.inl (by rw [hdm.2]; exact Or.inr (Or.inl rfl)))
  obtain ⟨o1, o2, o3⟩ := d4.kn hok hdm.1 (Or.inr rfl)
  refine ⟨d1, (kds.2.1 _).trans d2, d3.kp (kdm.2.1 _) (fun b hb => ?_), ks, nd, kp, vl, d4.kp hx kdm.1 (fun f _ _ => kdm.2.1 f) (fun n t e i => ?_) (fun x hx' => ⟨?_, fun f _ _ => ?_, ?_⟩), d5, ⟨fun n t e => d6.1 n t ((kdm.2.1 107).symm.trans e), d6.2⟩, fun x hx1 hx2 => by rw [hr x (by omega)]; exact d7 x hx1 hx2⟩
  · have := hok.ref hb (by decide) (by decide)
    have kb := k b this.1 (Or.inl (by rw [this.2]; unfold zdt; omega))
    exact ⟨kb.2.1 _, kb.1 _⟩
  · exact (k t (o1 t (Or.inr (Or.inl ⟨n, e⟩))) (Or.inr ⟨n, e⟩)).2.2.2.1 i
  · exact (k _ (o1 _ (Or.inr (Or.inr ⟨x, hx', Or.inl rfl⟩))) (Or.inl (by rw [(o3 x hx').1]; unfold zdt; omega))).1
  · exact (k _ (o1 _ (Or.inr (Or.inr ⟨x, hx', Or.inl rfl⟩))) (Or.inl (by rw [(o3 x hx').1]; unfold zdt; omega))).2.1 f
  · exact (k _ (o1 _ (Or.inr (Or.inr ⟨x, hx', Or.inr rfl⟩))) (Or.inl (by rw [(o3 x hx').2]; unfold zdt; omega))).1
theorem zSD.kt (h : zSD μ lo hi ds dm K V r) (hok : zok μ) (hh : hi ≤ zsz μ) (hds : (ztg μ ds).1 = 13) (hx : zsz μ ≤ zsz ν) (k : ∀ a, a < zsz μ → zmp (ztg μ a).1 → zsame μ ν a) (hV : V ≤ 8) (hr : ∀ x, x < 96 → r' (339 + 3 * x + 1) = r (339 + 3 * x + 1)) : zSD ν lo hi ds dm K V r' :=
  h.kt' hok hh hds hx (fun a ha q => k a ha (by
    rcases q with q | ⟨n, q⟩
    · unfold zdt at q; unfold zmp; omega
    · rw [(hok.ref q (by decide) (by decide)).2]; unfold zmp; omega)) hV hr
theorem zIn.tg {p : ZP} {v : Int32} (h : zIn μ p v) (hp : zpk μ p) : p.2.2 < zsz μ ∧ zvt (ztg μ p.2.2).1 := by
  have hz : p.1 = 24 ∨ p.1 = 124 := h.1
  have hl := hp.lt (by omega) (by omega)
  refine ⟨hl.1, ?_⟩
  have e9 : (ztg μ p.2.2).1 = p.1 := congrArg Prod.fst hl.2
  unfold zvt; omega
theorem zSS.kt' (h : zSS μ lo hi sm K V r) (hok : zok μ) (hh : hi ≤ zsz μ) (hsm : (ztg μ sm).1 = 14) (hx : zsz μ ≤ zsz ν) (k : ∀ a, a < zsz μ → zvt (ztg μ a).1 ∨ (∃ n, zfr μ 107 sm = (205, n, a)) → zsame μ ν a) (hV : V ≤ 8) (hr : ∀ x, x < 96 → r' (339 + 3 * x + 2) = r (339 + 3 * x + 2)) : zSS ν lo hi sm K V r' := by
  obtain ⟨d1, d3, ks, nd, kp, vl, d4, d5, d6, d7⟩ := h
  have kdm := k sm (by omega) (Or.inl (by rw [hsm]; exact Or.inl rfl))
  obtain ⟨o1, o2, o3⟩ := d4.kn hok (by omega) (Or.inl rfl)
  have h96 : ∀ x ∈ ks, x < 96 := fun x hx' => (d4.nd.2 x hx').1
  refine ⟨d1, d3.kp (kdm.2.1 _) (fun b hb => ?_), ks, nd, kp, vl, d4.kp hx kdm.1 (fun f _ _ => kdm.2.1 f) (fun n t e i => ?_) (fun x hx' => ⟨?_, fun f _ _ => ?_, ?_⟩), fun x hx' => ⟨⟨(d5 x hx').1.1, ?_⟩, Nat.lt_of_lt_of_le (d5 x hx').2 hx⟩, ⟨fun n t e => d6.1 n t ((kdm.2.1 107).symm.trans e), d6.2⟩, fun x hx1 hx2 hn => by rw [hr x (by omega)]; exact d7 x hx1 hx2 hn⟩
  · have := hok.ref hb (by decide) (by decide)
    exact (k b this.1 (Or.inl (by rw [this.2]; unfold zvt; omega))).2.1 _
  · exact (k t (o1 t (Or.inr (Or.inl ⟨n, e⟩))) (Or.inr ⟨n, e⟩)).2.2.2.1 i
  · exact (k _ (o1 _ (Or.inr (Or.inr ⟨x, hx', Or.inl rfl⟩))) (Or.inl (by rw [(o3 x hx').1]; unfold zvt; omega))).1
  · exact (k _ (o1 _ (Or.inr (Or.inr ⟨x, hx', Or.inl rfl⟩))) (Or.inl (by rw [(o3 x hx').1]; unfold zvt; omega))).2.1 f
  · exact (k _ (o1 _ (Or.inr (Or.inr ⟨x, hx', Or.inr rfl⟩))) (Or.inl (by rw [(o3 x hx').2]; unfold zvt; omega))).1
  · have hp := hok.2.2.2.2.2.1 119 (nd x)
    rw [(d4.nd.2 x hx').2.2.2.2.2.2] at hp
    have := (d5 x hx').1.tg hp
    rw [(k _ this.1 (Or.inl this.2)).1, hr x (h96 x hx')]
    exact (d5 x hx').1.2
theorem zSS.kt (h : zSS μ lo hi sm K V r) (hok : zok μ) (hh : hi ≤ zsz μ) (hsm : (ztg μ sm).1 = 14) (hx : zsz μ ≤ zsz ν) (k : ∀ a, a < zsz μ → zmp (ztg μ a).1 → zsame μ ν a) (hV : V ≤ 8) (hr : ∀ x, x < 96 → r' (339 + 3 * x + 2) = r (339 + 3 * x + 2)) : zSS ν lo hi sm K V r' :=
  h.kt' hok hh hsm hx (fun a ha q => k a ha (by
    rcases q with q | ⟨n, q⟩
    · unfold zvt at q; unfold zmp; omega
    · rw [(hok.ref q (by decide) (by decide)).2]; unfold zmp; omega)) hV hr
/-- the objects' tags -/
theorem zSta.tg (h : zSta μ lo hi s r K V F fg el ear vl var ds dm sm ea va ta sa) (hok : zok μ) : (ztg μ fg).1 = 200 ∧ (ztg μ ds).1 = 13 ∧ (ztg μ sm).1 = 14 ∧ (∀ e, e < K → (ztg μ (ea e)).1 = 3) ∧ (∀ v, v < V → (ztg μ (va v)).1 = 4 ∧ (ztg μ (ta v)).1 = 201 ∧ (ztg μ (sa v)).1 = 200) ∧ (ztg μ el).1 = 10 ∧ (ztg μ vl).1 = 10 ∧ (ztg μ ear).1 = 204 ∧ (ztg μ var).1 = 204 := by
  obtain ⟨h0, h1, h2, -, -⟩ := h
  refine ⟨?_, ?_, ?_, fun e he => ?_, fun v hv => ⟨?_, ?_, ?_⟩, ?_, ?_, ?_, ?_⟩
  · rw [(hok.ref h0.2.2.2.1.1 (by decide) (by decide)).2]
  · rw [(hok.ref h0.2.2.2.1.2.2.2.1 (by decide) (by decide)).2]
  · rw [(hok.ref h0.2.2.2.1.2.2.2.2 (by decide) (by decide)).2]
  · rw [(hok.el (h1.2.1.2.2.2.2 e he) (by decide) (by decide)).2]
  · rw [(hok.el (h2.2.1.2.2.2.2 v hv) (by decide) (by decide)).2]
  · rw [(hok.ref (h2.2.2.2.2.2.1 v hv).1 (by decide) (by decide)).2]
  · rw [(hok.ref (h2.2.2.2.2.2.1 v hv).2 (by decide) (by decide)).2]
  · rw [(hok.ref h0.2.2.2.1.2.1 (by decide) (by decide)).2]
  · rw [(hok.ref h0.2.2.2.1.2.2.1 (by decide) (by decide)).2]
  · rw [(hok.ref h1.2.1.1 (by decide) (by decide)).2]
  · rw [(hok.ref h2.2.1.1 (by decide) (by decide)).2]
theorem zS0.cg (h : zS0 μ lo hi s r K V F fg el vl ds sm) (hr : ∀ j, j < 23 → r' j = r j) (h1 : ∀ w, w ∈ [2, 3, 5, 6, 7, 8, 9, 10] → zfi ν (fS w) s = zfi μ (fS w) s) (h2 : zfr ν = zfr μ) (h3 : ∀ i, zai ν fg i = zai μ fg i) : zS0 ν lo hi s r' K V F fg el vl ds sm := by
  obtain ⟨a1, a2, a3, a4, a5⟩ := h
  refine ⟨a1, ⟨by rw [hr 0 (by decide)]; exact a2.1, by rw [hr 1 (by decide)]; exact a2.2.1, by rw [hr 4 (by decide)]; exact a2.2.2.1, a2.2.2.2⟩, fun w hw => ?_, by rw [h2]; exact a4, fun i hi => ?_⟩
  · rw [h1 w hw, a3 w hw, hr w (by simp at hw; omega)]
  · rw [h3, a5 i hi, hr (11 + i) (by omega)]
theorem zSE.cg (h : zSE μ lo hi el ear K ea r) (hr : ∀ j, 23 ≤ j → j < 203 → r' j = r j) (hK : K ≤ 12) (h1 : ∀ e w, e < K → 7 ≤ w → w < 15 → zfi ν (fE w) (ea e) = zfi μ (fE w) (ea e)) (h0 : zfi ν 96 el = zfi μ 96 el) (h2 : zfr ν = zfr μ) (h3 : zar ν = zar μ) : zSE ν lo hi el ear K ea r' := by
  obtain ⟨a1, a2, a3, a4, a5⟩ := h
  refine ⟨a1, ⟨by rw [h2]; exact a2.1, h0.trans a2.2.1, a2.2.2.1, a2.2.2.2.1, by rw [h3]; exact a2.2.2.2.2⟩, a3, a4, fun e w he hw1 hw2 => ?_⟩
  rw [h1 e w he hw1 hw2, a5 e w he hw1 hw2]
  unfold wE
  rw [hr _ (by omega) (by omega)]
theorem zSV.cg (h : zSV μ lo hi vl var V fg va ta sa r) (hr : ∀ j, 203 ≤ j → j < 339 → r' j = r j) (hr2 : ∀ v e, v < 8 → e < 12 → wP r' v e 0 = wP r v e 0) (hV : V ≤ 8) (h1 : ∀ v w, v < V → 7 ≤ w → w < 14 → zfi ν (fV w) (va v) = zfi μ (fV w) (va v)) (h0 : zfi ν 96 vl = zfi μ 96 vl) (h2 : zfr ν = zfr μ) (h3 : zar ν = zar μ) (h4 : ∀ v i, v < V → zai ν (ta v) i = zai μ (ta v) i ∧ zai ν (sa v) i = zai μ (sa v) i) : zSV ν lo hi vl var V fg va ta sa r' := by
  obtain ⟨a1, a2, a3, a4, a5, a6, a7, a8⟩ := h
  have hw : ∀ v w, v < V → w < 17 → wV r' v w = wV r v w := fun v w hv hw => by unfold wV; rw [hr _ (by omega) (by omega)]
  refine ⟨a1, ⟨by rw [h2]; exact a2.1, h0.trans a2.2.1, a2.2.2.1, a2.2.2.2.1, by rw [h3]; exact a2.2.2.2.2⟩, a3, a4, fun v w hv hw1 hw2 => ?_, by rw [h2]; exact a6, fun v e hv he => ?_, fun v k hv hk hn => ?_⟩
  · rw [h1 v w hv hw1 hw2, a5 v w hv hw1 hw2, hw v w hv (by omega)]
  · rw [(h4 v e hv).1, hr2 v e (by omega) he]; exact a7 v e hv he
  · rw [hw v 13 hv (by omega)] at hn
    rw [(h4 v k hv).2, hw v (14 + k) hv (by omega)]; exact a8 v k hv hk hn
theorem wU_s {f : Nat → Int32} {j : Nat} {x : Int32} : wU f j x j = x := if_pos rfl
theorem wU_n {f : Nat → Int32} {j i : Nat} {x : Int32} (h : i ≠ j) : wU f j x i = f i := if_neg h
theorem ffE : ∀ w : Fin 15, 7 ≤ w.val → (∀ w' : Fin 11, w'.val ∈ [2, 3, 5, 6, 7, 8, 9, 10] → fS w'.val ≠ fE w.val) ∧ fE w.val ≠ 96 ∧ ∀ w' : Fin 14, 7 ≤ w'.val → fV w'.val ≠ fE w.val := by decide
theorem ffV : ∀ w : Fin 14, 7 ≤ w.val → (∀ w' : Fin 11, w'.val ∈ [2, 3, 5, 6, 7, 8, 9, 10] → fS w'.val ≠ fV w.val) ∧ fV w.val ≠ 96 ∧ ∀ w' : Fin 15, 7 ≤ w'.val → fE w'.val ≠ fV w.val := by decide
theorem ffS : ∀ w : Fin 11, w.val ∈ [2, 3, 5, 6, 7, 8, 9, 10] → fS w.val ≠ 96 ∧ (∀ w' : Fin 14, 7 ≤ w'.val → fV w'.val ≠ fS w.val) ∧ ∀ w' : Fin 15, 7 ≤ w'.val → fE w'.val ≠ fS w.val := by decide
theorem zsame_at {μ : ZM} {f a : Nat} {v : Int32} {t : Nat} (h : (ztg μ a).1 = t) (ht : ¬ zmp t) : ∀ b, b < zsz μ → zmp (ztg μ b).1 → zsame μ (zFi μ f a v) b := fun b _ hb => zsame_zFi (by rintro rfl; rw [h] at hb; exact ht hb) v
/-- a word of an echo written -/
theorem zSta.stE (h : zSta μ lo hi s r K V F fg el ear vl var ds dm sm ea va ta sa) (hok : zok μ) (hh : hi ≤ zsz μ) {e : Nat} (he : e < K) (w : Nat) (hw : 7 ≤ w ∧ w < 15) {x y : Int32} (hx : x = y - oE w) : zSta (zFi μ (fE w) (ea e) x) lo hi s (wU r (23 + 15 * e + w) y) K V F fg el ear vl var ds dm sm ea va ta sa := by
  have hK := h.1.2.1.2.2.2.1
  have hV := h.1.2.1.2.2.2.2.1
  obtain ⟨t1, t2, t3, t4, t5, -⟩ := h.tg hok
  obtain ⟨f1, f2, f3⟩ := ffE ⟨w, hw.2⟩ hw.1
  have hr : ∀ j, j < 23 ∨ 203 ≤ j → wU r (23 + 15 * e + w) y j = r j := fun j hj => wU_n (by omega)
  have ks : ∀ b, b < zsz μ → zmp (ztg μ b).1 → zsame μ (zFi μ (fE w) (ea e) x) b := zsame_at (t4 e he) (by unfold zmp; omega)
  refine ⟨h.1.cg (fun j hj => hr j (Or.inl hj)) (fun w' hw' => ?_) rfl (fun _ => rfl), ?_, h.2.2.1.cg (fun j hj _ => hr j (Or.inr hj)) (fun v e' _ _ => hr _ (Or.inr (by omega))) hV (fun v w' hv h1 h2 => ?_) ?_ rfl rfl (fun _ _ _ => ⟨rfl, rfl⟩), h.2.2.2.1.kt hok hh t2 (Nat.le_refl _) ks hV (fun x hx => hr _ (Or.inr (by omega))), h.2.2.2.2.1.kt hok hh t3 (Nat.le_refl _) ks hV (fun x hx => hr _ (Or.inr (by omega))), h.2.2.2.2.2⟩
  · rw [zfi_zFi, if_neg (fun q => f1 ⟨w', by simp at hw'; omega⟩ hw' q.1)]
  · obtain ⟨a1, a2, a3, a4, a5⟩ := h.2.1
    refine ⟨a1, ⟨a2.1, ?_, a2.2.2⟩, a3, a4, fun e' w' he' h1 h2 => ?_⟩
    · rw [zfi_zFi, if_neg (fun q => f2 q.1.symm)]; exact a2.2.1
    · rw [zfi_zFi]
      by_cases q : fE w' = fE w ∧ ea e' = ea e
      · have q1 := congrArg Fin.val (fE_inj ⟨w', h2⟩ ⟨w, hw.2⟩ h1 hw.1 q.1)
        have q2 := a4 e' e he' he q.2
        dsimp only at q1
        subst q1; subst q2
        rw [if_pos ⟨rfl, rfl⟩, hx]
        show _ = wU r (23 + 15 * e' + w') y (23 + 15 * e' + w') - _
        rw [wU_s]
      · rw [if_neg q, a5 e' w' he' h1 h2]
        show r _ - _ = wU r (23 + 15 * e + w) y (23 + 15 * e' + w') - _
        rw [wU_n]
        rintro q3
        have h3 : e' = e := by omega
        have h4 : w' = w := by omega
        exact q ⟨by rw [h4], by rw [h3]⟩
  · rw [zfi_zFi, if_neg (fun q => f3 ⟨w', h2⟩ h1 q.1)]
  · rw [zfi_zFi, if_neg (fun q => f2 q.1.symm)]
/-- a word of a valley written -/
theorem zSta.stV (h : zSta μ lo hi s r K V F fg el ear vl var ds dm sm ea va ta sa) (hok : zok μ) (hh : hi ≤ zsz μ) {v : Nat} (hv : v < V) (w : Nat) (hw : 7 ≤ w ∧ w < 14) {x : Int32} (hst : w = 13 → ∀ k, k < 3 → nI k < x → zai μ (sa v) k = wV r v (14 + k)) : zSta (zFi μ (fV w) (va v) x) lo hi s (wU r (203 + 17 * v + w) x) K V F fg el ear vl var ds dm sm ea va ta sa := by
  have hK := h.1.2.1.2.2.2.1
  have hV := h.1.2.1.2.2.2.2.1
  obtain ⟨t1, t2, t3, t4, t5, -⟩ := h.tg hok
  obtain ⟨f1, f2, f3⟩ := ffV ⟨w, hw.2⟩ hw.1
  have hr : ∀ j, j < 203 ∨ 339 ≤ j → wU r (203 + 17 * v + w) x j = r j := fun j hj => wU_n (by omega)
  have ks : ∀ b, b < zsz μ → zmp (ztg μ b).1 → zsame μ (zFi μ (fV w) (va v) x) b := zsame_at (t5 v hv).1 (by unfold zmp; omega)
  refine ⟨h.1.cg (fun j hj => hr j (Or.inl (by omega))) (fun w' hw' => ?_) rfl (fun _ => rfl), h.2.1.cg (fun j _ hj => hr j (Or.inl hj)) hK (fun e' w' he' h1 h2 => ?_) ?_ rfl rfl, ?_, h.2.2.2.1.kt hok hh t2 (Nat.le_refl _) ks hV (fun x hx => hr _ (Or.inr (by omega))), h.2.2.2.2.1.kt hok hh t3 (Nat.le_refl _) ks hV (fun x hx => hr _ (Or.inr (by omega))), h.2.2.2.2.2⟩
  · rw [zfi_zFi, if_neg (fun q => f1 ⟨w', by simp at hw'; omega⟩ hw' q.1)]
  · rw [zfi_zFi, if_neg (fun q => f3 ⟨w', h2⟩ h1 q.1)]
  · rw [zfi_zFi, if_neg (fun q => f2 q.1.symm)]
  · obtain ⟨a1, a2, a3, a4, a5, a6, a7, a8⟩ := h.2.2.1
    have wn : ∀ v' w', w' < 17 → ¬ (v' = v ∧ w' = w) → wV (wU r (203 + 17 * v + w) x) v' w' = wV r v' w' := fun v' w' h1 q => by
      show wU r (203 + 17 * v + w) x (203 + 17 * v' + w') = r _
      exact wU_n (by
        intro q3
        have h3 : v' = v := by omega
        exact q ⟨h3, by omega⟩)
    refine ⟨a1, ⟨a2.1, ?_, a2.2.2⟩, a3, a4, fun v' w' hv' h1 h2 => ?_, a6, fun v' e hv' he => ?_, fun v' k hv' hk hn => ?_⟩
    · rw [zfi_zFi, if_neg (fun q => f2 q.1.symm)]; exact a2.2.1
    · rw [zfi_zFi]
      by_cases q : fV w' = fV w ∧ va v' = va v
      · have q1 := congrArg Fin.val (fV_inj ⟨w', h2⟩ ⟨w, hw.2⟩ h1 hw.1 q.1)
        have q2 := a4 v' v hv' hv (Or.inl q.2)
        dsimp only at q1
        subst q1; subst q2
        rw [if_pos ⟨rfl, rfl⟩]
        show _ = wU r (203 + 17 * v' + w') x (203 + 17 * v' + w')
        rw [wU_s]
      · rw [if_neg q, a5 v' w' hv' h1 h2, wn v' w' (by omega) (fun q3 => q ⟨by rw [q3.2], by rw [q3.1]⟩)]
    · have : wP (wU r (203 + 17 * v + w) x) v' e 0 = wP r v' e 0 := hr _ (Or.inr (by omega))
      rw [this]; exact a7 v' e hv' he
    · rw [wn v' (14 + k) (by omega) (by omega)]
      by_cases q : v' = v ∧ w = 13
      · obtain ⟨rfl, q2⟩ := q
        subst q2
        have : wV (wU r (203 + 17 * v' + 13) x) v' 13 = x := wU_s
        rw [this] at hn
        exact hst rfl k hk hn
      · rw [wn v' 13 (by omega) (fun q3 => q ⟨q3.1, q3.2.symm⟩)] at hn
        exact a8 v' k hv' hk hn
/-- a count of the state written -/
theorem zSta.stS (h : zSta μ lo hi s r K V F fg el ear vl var ds dm sm ea va ta sa) (hok : zok μ) (hh : hi ≤ zsz μ) (hs : (ztg μ s).1 = 2) (w : Nat) (hw : w ∈ [2, 3, 5, 6, 7, 8, 9, 10]) {x : Int32} : zSta (zFi μ (fS w) s x) lo hi s (wU r w x) K V F fg el ear vl var ds dm sm ea va ta sa := by
  have hK := h.1.2.1.2.2.2.1
  have hV := h.1.2.1.2.2.2.2.1
  obtain ⟨t1, t2, t3, t4, t5, -⟩ := h.tg hok
  have hw11 : w < 11 := by simp at hw; omega
  obtain ⟨f1, f2, f3⟩ := ffS ⟨w, hw11⟩ hw
  have hr : ∀ j, 11 ≤ j → wU r w x j = r j := fun j hj => wU_n (by omega)
  have ks : ∀ b, b < zsz μ → zmp (ztg μ b).1 → zsame μ (zFi μ (fS w) s x) b := zsame_at hs (by unfold zmp; omega)
  refine ⟨?_, h.2.1.cg (fun j h1 _ => hr j (by omega)) hK (fun e' w' he' h1 h2 => ?_) ?_ rfl rfl, h.2.2.1.cg (fun j hj _ => hr j (by omega)) (fun v e' _ _ => hr _ (by omega)) hV (fun v w' hv h1 h2 => ?_) ?_ rfl rfl (fun _ _ _ => ⟨rfl, rfl⟩), h.2.2.2.1.kt hok hh t2 (Nat.le_refl _) ks hV (fun x hx => hr _ (by omega)), h.2.2.2.2.1.kt hok hh t3 (Nat.le_refl _) ks hV (fun x hx => hr _ (by omega)), h.2.2.2.2.2⟩
  · obtain ⟨a1, a2, a3, a4, a5⟩ := h.1
    have hw0 : w ≠ 0 ∧ w ≠ 1 ∧ w ≠ 4 := by simp at hw; omega
    refine ⟨a1, ⟨by rw [wU_n hw0.1.symm]; exact a2.1, by rw [wU_n hw0.2.1.symm]; exact a2.2.1, by rw [wU_n hw0.2.2.symm]; exact a2.2.2.1, a2.2.2.2⟩, fun w' hw' => ?_, a4, fun i hi => by rw [hr _ (by omega)]; exact a5 i hi⟩
    rw [zfi_zFi]
    by_cases q : w' = w
    · subst q
      rw [if_pos ⟨rfl, rfl⟩, wU_s]
    · rw [if_neg (fun q2 => q (congrArg Fin.val (fS_inj ⟨w', by simp at hw'; omega⟩ ⟨w, hw11⟩ hw' hw q2.1))), wU_n q]
      exact a3 w' hw'
  · rw [zfi_zFi, if_neg (fun q => f3 ⟨w', h2⟩ h1 q.1)]
  · rw [zfi_zFi, if_neg (fun q => f1 q.1.symm)]
  · rw [zfi_zFi, if_neg (fun q => f2 ⟨w', h2⟩ h1 q.1)]
  · rw [zfi_zFi, if_neg (fun q => f1 q.1.symm)]
end KP
