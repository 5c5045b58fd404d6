set_option maxRecDepth 100000
/-! THE COMPONENT, 58: a statement -/
/-- tags that a State rests on -/
def zsT (t : Nat) : Prop := t = 2 ∨ t = 3 ∨ t = 4 ∨ t = 10 ∨ t = 204 ∨ t = 200 ∨ t = 201 ∨ zmp t
section KP
variable {μ ν : ZM} {lo hi s K V F fg el ear vl var ds dm sm : Nat} {ea va ta sa : Nat → Nat} {r : Nat → Int32}
theorem zSta.tgs (h : zSta μ lo hi s r K V F fg el ear vl var ds dm sm ea va ta sa) (hok : zok μ) (hh : hi ≤ zsz μ) (hst : (ztg μ s).1 = 2) (hx : zext μ ν) (k : ∀ a, a < zsz μ → zsT (ztg μ a).1 → zsame μ ν a) : zSta ν lo hi s r K V F fg el ear vl var ds dm sm ea va ta sa := by
  obtain ⟨t1, t2, t3, t4, t5, t6, t7, t8, t9⟩ := h.tg hok
  have hV := h.1.2.1.2.2.2.2.1
  have k2 : ∀ a, a < zsz μ → zmp (ztg μ a).1 → zsame μ ν a := fun a ha hz => k a ha (by unfold zsT; exact Or.inr (Or.inr (Or.inr (Or.inr (Or.inr (Or.inr (Or.inr hz)))))))
  have hsD := h.2.2.2.1.kt (r' := r) hok hh t2 hx.1 k2 hV (fun _ _ => rfl)
  have hsS := h.2.2.2.2.1.kt (r' := r) hok hh t3 hx.1 k2 hV (fun _ _ => rfl)
  have dmt := (hok.ref h.2.2.2.1.2.1 (by decide) (by decide))
  have hS := h.1.1
  have sg : ∀ a t, (ztg μ a).1 = t → zsT t → a < hi → zsame μ ν a := fun a t h1 h2 h3 => k a (by omega) (by rw [h1]; exact h2)
  obtain ⟨E1, E2, E3, E4, E5⟩ := h.2.1
  obtain ⟨V1, V2, V3, V4, V5, V6, V7, V8⟩ := h.2.2.1
  refine ⟨h.1.kp (sg s 2 hst (by unfold zsT; omega) hS.2.1).c (sg fg 200 t1 (by unfold zsT; omega) hS.2.2).c, ⟨E1, E2.kp (sg el 10 t6 (by unfold zsT; omega) E1.2.1) (sg ear 204 t8 (by unfold zsT; omega) E1.2.2.2), E3, E4, fun i w hi h1 h2 => ?_⟩, ⟨V1, V2.kp (sg vl 10 t7 (by unfold zsT; omega) V1.2.1) (sg var 204 t9 (by unfold zsT; omega) V1.2.2.2), V3, V4, fun v w hv h1 h2 => ?_, fun v hv => ?_, fun v x hv hx => ?_, fun v j hv hj hn => ?_⟩, hsD, hsS, fun n n' t q1 q2 => ?_⟩
  · rw [(sg (ea i) 3 (t4 i hi) (by unfold zsT; omega) (E3 i hi).2).1]; exact E5 i w hi h1 h2
  · rw [(sg (va v) 4 (t5 v hv).1 (by unfold zsT; omega) (V3 v hv).1.2).1]; exact V5 v w hv h1 h2
  · have := sg (va v) 4 (t5 v hv).1 (by unfold zsT; omega) (V3 v hv).1.2
    rw [this.2.1, this.2.1]; exact V6 v hv
  · rw [(sg (ta v) 201 (t5 v hv).2.1 (by unfold zsT; omega) (V3 v hv).2.1.2).2.2.1]; exact V7 v x hv hx
  · rw [(sg (sa v) 200 (t5 v hv).2.2 (by unfold zsT; omega) (V3 v hv).2.2.1.2).2.2.1]; exact V8 v j hv hj hn
  · have kd := k2 dm dmt.1 (by rw [dmt.2]; unfold zmp; omega)
    have ksm := k2 sm (by have := h.2.2.2.2.1.1; omega) (by rw [t3]; unfold zmp; omega)
    rw [kd.2.1] at q1
    rw [ksm.2.1] at q2
    exact h.2.2.2.2.2 n n' t q1 q2
end KP
theorem zStr.hs {ν : ZM} {C f h : Nat} {x : Int32} {q : ZP} {w : List Nat} (k : zStr ν C q w) (hf : f = 142 ∨ f = 143) : zStr (zFi ν f h x) C q w := by
  obtain ⟨a1, a2, a3, a4, q', a5, a6, a7, a8, a9⟩ := k
  exact ⟨a1, a2, by rw [zfi_zFi, if_neg (fun t => by have := t.1; omega)]; exact a3, a4, q', a5, a6, a7, a8, a9⟩
section ZJ
variable {G : ZG} {μ ν τ μ0 : ZM} {Q : Option ZV → ZM → Prop} {E : ZP → ZM → Prop} {P x bf B c e a M K V s lo hi F fg el ear vl var ds dm sm c' e' h n C f : Nat} {ea va ta sa : Nat → Nat} {r : Nat → Int32} {po : Nat → Nat} {b w : List Nat} {y z z1 z2 : Int32} {q : ZP}
theorem zBd.hs (k : zBd ν P r K V s lo hi F fg el ear vl var ds dm sm ea va ta sa) (hok : zok ν) (ht : (ztg ν h).1 = 23) (hf : f = 142 ∨ f = 143) : zBd (zFi ν f h y) P r K V s lo hi F fg el ear vl var ds dm sm ea va ta sa := by
  obtain ⟨h1, ⟨h2, h3, h4, h5, h6, h7⟩, h8, h9⟩ := k
  refine ⟨h1.tgs hok h2 h4 (zext_zFi _ _ _ _) (fun a ha hz => zsame_zFi (fun t => by rw [t, ht] at hz; unfold zsT zmp at hz; omega) _), ⟨h2, h3, h4, h5, h6, h7⟩, fun i hi => ?_, fun v hv => ?_⟩
  · obtain ⟨n1, n2, n3⟩ := h8 i hi
    exact ⟨n1.hs hf, n2, n3⟩
  · obtain ⟨n1, n2, n3⟩ := h9 v hv
    exact ⟨n1.hs hf, n2, n3⟩
theorem zPq.hs (k : zPq G μ0 ν P x b c e a M) (hh : zsz μ0 ≤ h) (hf : f = 142 ∨ f = 143) : zPq G μ0 (zFi ν f h y) P x b c e a M := by
  obtain ⟨h1, h2, ⟨t1, t2, t3, t4, t5⟩, h4⟩ := k
  have nf : ∀ g, g ≠ 142 → g ≠ 143 → zfi (zFi ν f h y) g P = zfi ν g P := fun g g1 g2 => by rw [zfi_zFi, if_neg (fun t => by have := t.1; omega)]
  refine ⟨h1, h2.kp (Nat.le_refl _) rfl (nf 68 (by decide) (by decide)), ⟨(nf 70 (by decide) (by decide)).trans t1, (nf 69 (by decide) (by decide)).trans t2, t3, fun q => (nf 71 (by decide) (by decide)).trans (t4 q), ?_⟩, zG.nfi h4 hh⟩
  rcases t5 with q | ⟨h', q1, q2, q3, q4⟩
  · exact Or.inl q
  · exact Or.inr ⟨h', q1, q2, q3, q4.hs hf⟩
/-- a valley that must be there; an echo -/
theorem C_pMustV (hc : zPc G μ0 x bf B b) (h : zPq G μ0 ν P x b c e a M) (hN : ∀ q w (Q' : Option ZV → ZM → Prop) (E' : ZP → ZM → Prop), (∃ C, zStr ν C q w) → (∀ k, sThing r true w = some k → k < V → Q' (some (vI (nI k))) ν) → (sThing r true w = none → Q' (some (vI (-1))) ν) → Call G Y_X2_valleyNamed [vP (2, 0, s), vP q] ν Q' E') (hV : V ≤ 8)
    (kok : ∀ k a', pMust b r true a = .ok (k, a') → k < V → ∀ τ c' e', zPq G μ0 τ P x b c e a' (zsz ν) → zFh G τ (zfr τ 72 P) → zG (fun h => h = P) c' e' ν τ → Q (some (vI (nI k))) τ) (ker : ∀ er, pMust b r true a = .error er → zPx E μ0 b c e er) : Call G Y_X6_valley [vP (6, 0, P), vP (2, 0, s)] ν Q E := by
  refine S_X6_valley (C_pPeekN hc h (fun w p q hn hp hw hw0 h72 hwd => ?_) (fun er he => (ker er (by unfold pMust; rw [he])).zk))
  subst hp
  obtain ⟨C, hs⟩ := zWd.str hc h.2.2.2 hwd
  refine ⟨_, rfl, hs.1, hN q w _ _ ⟨C, hs⟩ (fun k hk hkV => ⟨_, rfl, S_X6_known ⟨fun t => absurd t (nI_nm1 (by omega)), fun _ => C_pReq1 (by decide) ⟨rfl, C_pNext hc h fun τ c' e' y1 y2 y3 => ⟨rfl, _, rfl, kok k (pSk b a + w.length) ?_ hkV τ c' e' ?_ y2 y3⟩⟩⟩⟩) (fun hk => ⟨_, rfl, S_X6_known ⟨fun _ => h.req rfl (ker (3, pSk b a) ?_).zk.zk, fun t => absurd rfl t⟩⟩)⟩
  · unfold pMust; rw [hn]; simp only [hk]
  · rw [hw, ← pEd_3 (by rw [← hw]; exact hw0)]; exact y1
  · unfold pMust; rw [hn]; simp only [hk]
theorem C_pMustE (hc : zPc G μ0 x bf B b) (h : zPq G μ0 ν P x b c e a M) (hN : ∀ q w (Q' : Option ZV → ZM → Prop) (E' : ZP → ZM → Prop), (∃ C, zStr ν C q w) → (∀ k, sThing r false w = some k → k < K → Q' (some (vI (nI k))) ν) → (sThing r false w = none → Q' (some (vI (-1))) ν) → Call G Y_X2_echoNamed [vP (2, 0, s), vP q] ν Q' E') (hK : K ≤ 12)
    (kok : ∀ k a', pMust b r false a = .ok (k, a') → k < K → ∀ τ c' e', zPq G μ0 τ P x b c e a' (zsz ν) → zFh G τ (zfr τ 72 P) → zG (fun h => h = P) c' e' ν τ → Q (some (vI (nI k))) τ) (ker : ∀ er, pMust b r false a = .error er → zPx E μ0 b c e er) : Call G Y_X6_echo [vP (6, 0, P), vP (2, 0, s)] ν Q E := by
  refine S_X6_echo (C_pPeekN hc h (fun w p q hn hp hw hw0 h72 hwd => ?_) (fun er he => (ker er (by unfold pMust; rw [he])).zk))
  subst hp
  obtain ⟨C, hs⟩ := zWd.str hc h.2.2.2 hwd
  refine ⟨_, rfl, hs.1, hN q w _ _ ⟨C, hs⟩ (fun k hk hkV => ⟨_, rfl, S_X6_known ⟨fun t => absurd t (nI_nm1 (by omega)), fun _ => C_pReq1 (by decide) ⟨rfl, C_pNext hc h fun τ c' e' y1 y2 y3 => ⟨rfl, _, rfl, kok k (pSk b a + w.length) ?_ hkV τ c' e' ?_ y2 y3⟩⟩⟩⟩) (fun hk => ⟨_, rfl, S_X6_known ⟨fun _ => h.req rfl (ker (3, pSk b a) ?_).zk.zk, fun t => absurd rfl t⟩⟩)⟩
  · unfold pMust; rw [hn]; simp only [hk]
  · rw [hw, ← pEd_3 (by rw [← hw]; exact hw0)]; exact y1
  · unfold pMust; rw [hn]; simp only [hk]
end ZJ
