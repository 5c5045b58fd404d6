set_option maxRecDepth 100000
/-! THE COMPONENT, 52: the parser reads -/
theorem pKd_in (b : List Nat) (p : Nat) : pKd b p = 2 ∨ pKd b p = 3 ∨ pKd b p = 4 ∨ pKd b p = 5 := by
  unfold pKd
  split
  · split
    · exact Or.inr (Or.inl rfl)
    · split
      · exact Or.inr (Or.inr (Or.inl rfl))
      · exact Or.inr (Or.inr (Or.inr rfl))
  · exact Or.inl rfl
theorem zKd.eq {G : ZG} (h : zKd G) {i j : Nat} (hi : i = 2 ∨ i = 3 ∨ i = 4 ∨ i = 5) (hj : j = 2 ∨ j = 3 ∨ j = 4 ∨ j = 5) (e : zgS G i = zgS G j) : i = j := by
  obtain ⟨-, h1, h2, h3, h4, h5, h6⟩ := h
  rcases hi with rfl | rfl | rfl | rfl <;> rcases hj with rfl | rfl | rfl | rfl <;> first | rfl | exact absurd e (by assumption) | exact absurd e.symm (by assumption)
theorem zKd.no {G : ZG} (h : zKd G) {i : Nat} (hi : i = 2 ∨ i = 3 ∨ i = 4 ∨ i = 5) : (zgS G i).1 ≠ 251 := by
  obtain ⟨⟨h1, h2, h3, h4⟩, -⟩ := h
  rcases hi with rfl | rfl | rfl | rfl <;> assumption
/-- words, numbers, other signs -/
theorem pKd_3 {b : List Nat} {p : Nat} : pKd b p = 3 ↔ pWd b p ≠ [] := by
  unfold pKd
  by_cases h : p < b.length
  · rw [if_pos h]
    by_cases q : pLet (b.getD p 0) = true
    · rw [if_pos q]
      refine ⟨fun _ => ?_, fun _ => rfl⟩
      unfold pWd; rw [pTw_step h q]; simp
    · rw [if_neg q]
      refine ⟨fun t => ?_, fun t => absurd (pTw_stop (fun _ => q)) t⟩
      split at t <;> cases t
  · rw [if_neg h]
    exact ⟨fun t => (by cases t), fun t => absurd (pTw_stop (fun q => absurd q h)) t⟩
theorem pEd_3 {b : List Nat} {p : Nat} (h : pWd b p ≠ []) : pEd b p = p + (pWd b p).length := by
  have hk := pKd_3.mpr h
  unfold pKd at hk
  unfold pEd
  split at hk
  · rename_i q
    rw [if_pos q]
    split at hk
    · rename_i q2; rw [if_pos q2]
    · split at hk <;> cases hk
  · cases hk
theorem pKd_4 {b : List Nat} {p : Nat} : pKd b p = 4 ↔ (pDg b p).length ≠ 0 := by
  unfold pKd
  by_cases h : p < b.length
  · rw [if_pos h]
    by_cases q : pLet (b.getD p 0) = true
    · rw [if_pos q]
      have hn : ¬ pDgt (b.getD p 0) = true := by
        unfold pLet at q; unfold pDgt
        rw [decide_eq_true_eq] at q ⊢; omega
      refine ⟨fun t => (by cases t), fun t => absurd ?_ t⟩
      unfold pDg; rw [pTw_stop (fun _ => hn)]; rfl
    · rw [if_neg q]
      by_cases q2 : pDgt (b.getD p 0) = true
      · rw [if_pos q2]
        refine ⟨fun _ => ?_, fun _ => rfl⟩
        unfold pDg; rw [pTw_step h q2]; simp
      · rw [if_neg q2]
        refine ⟨fun t => (by cases t), fun t => absurd ?_ t⟩
        unfold pDg; rw [pTw_stop (fun _ => q2)]; rfl
  · rw [if_neg h]
    refine ⟨fun t => (by cases t), fun t => absurd ?_ t⟩
    unfold pDg; rw [pTw_stop (fun q => absurd q h)]; rfl
theorem pEd_4 {b : List Nat} {p : Nat} (h : (pDg b p).length ≠ 0) : pEd b p = p + (pDg b p).length := by
  have hk := pKd_4.mpr h
  unfold pKd at hk
  unfold pEd
  split at hk
  · rename_i q
    rw [if_pos q]
    split at hk
    · cases hk
    · rename_i q2
      rw [if_neg q2]
      split at hk
      · rename_i q3; rw [if_pos q3]
      · cases hk
  · cases hk
theorem pKd_5 {b : List Nat} {p : Nat} (hb : ∀ k, k < b.length → b.getD k 0 < 256) (h : bAt b p = 59) : pKd b p = 5 ∧ pEd b p = p + 1 := by
  obtain ⟨g1, g2⟩ := bAt_eq (e := 59) hb (by omega) h
  have n1 : ¬ pLet (b.getD p 0) = true := by rw [g2]; decide
  have n2 : ¬ pDgt (b.getD p 0) = true := by rw [g2]; decide
  unfold pKd pEd
  rw [if_pos g1, if_neg n1, if_neg n2, if_pos g1, if_neg n1, if_neg n2]
  exact ⟨rfl, rfl⟩
/-- an error is thrown -/
def zPx (E : ZP → ZM → Prop) (μ0 : ZM) (b : List Nat) (c e : Nat) (er : Int32 × Nat) : Prop := ∀ τ h, zPe τ h er.1 (nI er.2) → zG (fun _ => False) (c + 5 * b.length + 1) (e + 33 * b.length + 8) μ0 τ → E (7, 0, h) τ
theorem zPx.zk {E : ZP → ZM → Prop} {μ0 : ZM} {b : List Nat} {c e : Nat} {er : Int32 × Nat} (h : zPx E μ0 b c e er) : zPx (fun q ν => zkc q.1 = true ∧ E q ν) μ0 b c e er := fun τ p h1 h2 => ⟨rfl, h τ p h1 h2⟩
section ZJ
variable {G : ZG} {μ ν μ0 : ZM} {Q : Option ZV → ZM → Prop} {E : ZP → ZM → Prop} {P x bf B c e a M lo hi : Nat} {b w : List Nat} {z z1 z2 : Int32}
theorem zPq.req {er : Int32 × Nat} (h : zPq G μ0 ν P x b c e a M) (he : er = (z2, pSk b a)) (k : zPx E μ0 b c e er) : Call G Y_X6_require [vP (6, 0, P), vI 0, vI z2] ν Q E := by
  subst he
  have hE := pEd_le (pSk_le h.1)
  exact C_pReq0 h.2.2.1.1 fun τ p y1 y2 => k τ p y1 ((zG.tr h.2.2.2 y2).mono (fun _ _ q => q) (by omega) (by omega))
/-- the token is consumed -/
theorem C_pNext (hc : zPc G μ0 x bf B b) (h : zPq G μ0 ν P x b c e a M) (k : ∀ τ c' e', zPq G μ0 τ P x b c e (pEd b (pSk b a)) (zsz ν) → zFh G τ (zfr τ 72 P) → zG (fun h => h = P) c' e' ν τ → Q none τ) : Call G Y_X6_advance [vP (6, 0, P)] ν Q E :=
  C_pAdv hc (pEd_le (pSk_le h.1)).1 h.2.1 h.2.2.1.2.1 h.2.2.2 k
theorem C_pPeek (hc : zPc G μ0 x bf B b) (h1 : z1 = nI lo) (h2 : z2 = nI hi) (hlo : lo ≤ 100) (hhi : hi ≤ 20000) (h : zPq G μ0 ν P x b c e a M) (kok : ∀ v a', pNum b lo hi a = .ok (v, a') → a' = pEd b (pSk b a) → Q (some (vI (nI v))) ν) (ker : ∀ er, pNum b lo hi a = .error er → zPx E μ0 b c e er) : Call G Y_X6_peekNumber [vP (6, 0, P), vI z1, vI z2] ν Q E := by
  subst h1; subst h2
  have hK := hc.2.2.2
  obtain ⟨ha, ho, ⟨t1, t2, t3, t4, t5⟩, g⟩ := id h
  have hp := pSk_le ha
  have hd := pDg_le hp
  have hl := hc.2.1.1
  unfold pNum at kok ker
  have bad : ((pDg b (pSk b a)).length = 0 ∨ 4 < (pDg b (pSk b a)).length) → Wp G Y_X6_peekNumber 29 [(0, vP (6, 0, P)), (1, vI (nI lo)), (2, vI (nI hi))] [vI 0, vP (6, 0, P)] ν Q E := fun q => B_X6_peekNumber_29 (h.req rfl (ker _ (if_pos q)).zk)
  refine S_X6_peekNumber ⟨_, t3, hK.no (pKd_in _ _), hK.no (by omega), fun hne => bad (Or.inl ?_), fun heq => ?_⟩
  · apply Decidable.byContradiction
    intro t
    exact hne (by rw [pKd_4.mpr t])
  · have hk4 := hK.eq (pKd_in b (pSk b a)) (by omega) heq
    have hD := pKd_4.mp hk4
    have hEd := pEd_4 hD
    have ed : nI (pEd b (pSk b a)) - nI (pSk b a) = nI (pDg b (pSk b a)).length := by rw [hEd, pk_sub (by omega)]; congr 1; omega
    refine ⟨_, t2, _, t1, fun q => bad (Or.inr ?_), fun q => ?_⟩
    · rw [ed] at q; exact (nI_ltI (a := 4) (by omega) (by omega)).mp q
    · have h4 : ¬ 4 < (pDg b (pSk b a)).length := fun t => q (by rw [ed]; exact nI_lt (a := 4) t (by omega))
      rw [if_neg (by omega)] at kok ker
      have e71 := t4 hk4
      have hv : pVal (pDg b (pSk b a)) < 10000 := by
        have := pVal_lt (b := b) (p := pSk b a) (pDg b (pSk b a)).length (by omega) (Nat.le_refl _)
        rw [List.take_of_length_le (Nat.le_refl _)] at this
        exact Nat.lt_of_lt_of_le this (Nat.pow_le_pow_right (by decide) (show (pDg b (pSk b a)).length ≤ 4 by omega))
      refine B_X6_peekNumber_29 (C_pReq1 (by decide) ⟨rfl, _, e71, C_xIn lo (hi + 1) (by rw [Int32.toInt_toInt64, nI_toInt (by omega)]) (by rw [Int32.toInt_toInt64, nI_toInt (by omega)]; omega) (fun y y1 y2 hy => ⟨_, rfl, C_pReq1 (by decide) ⟨rfl, _, e71, ?_⟩⟩) (fun hne => ⟨_, rfl, h.req rfl (ker _ ?_).zk⟩)⟩)
      · have : pVal (pDg b (pSk b a)) = y := (nI_eq (by omega) (by omega)).mp hy
        exact kok _ _ (if_pos ⟨by omega, by omega⟩) hEd.symm
      · exact if_neg fun t => hne _ t.1 (by omega) (by omega) rfl
theorem C_pNum (hc : zPc G μ0 x bf B b) (h1 : z1 = nI lo) (h2 : z2 = nI hi) (hlo : lo ≤ 100) (hhi : hi ≤ 20000) (h : zPq G μ0 ν P x b c e a M) (kok : ∀ v a', pNum b lo hi a = .ok (v, a') → ∀ τ c' e', zPq G μ0 τ P x b c e a' (zsz ν) → zFh G τ (zfr τ 72 P) → zG (fun h => h = P) c' e' ν τ → Q (some (vI (nI v))) τ) (ker : ∀ er, pNum b lo hi a = .error er → zPx E μ0 b c e er) : Call G Y_X6_number [vP (6, 0, P), vI z1, vI z2] ν Q E :=
  S_X6_number (C_pPeek hc h1 h2 hlo hhi h (fun v a' q qe => ⟨_, rfl, C_pNext hc h fun τ c' e' y1 y2 y3 => ⟨rfl, kok v a' q τ c' e' (by rw [qe]; exact y1) y2 y3⟩⟩) (fun er q => (ker er q).zk))
theorem zPc.str (hc : zPc G μ0 x bf B b) {c' e' : Nat} (g : zG (fun _ => False) c' e' μ0 ν) {y : Nat × List Nat} (hy : y ∈ kTx) : zStr ν B (zgS G y.1) y.2 := (hc.2.2.1.1 y hy).kpB fun a ha => (g.same (Nat.lt_of_lt_of_le ha hc.2.2.1.2.1) id).c
theorem zWd.str (hc : zPc G μ0 x bf B b) {c' e' : Nat} (g : zG (fun _ => False) c' e' μ0 ν) {q : ZP} (h : zWd G ν M q w) : ∃ C, zStr ν C q w := by
  rcases h with ⟨h1, h2⟩ | ⟨h, -, -, -, h4⟩
  · rw [h1, h2]; exact ⟨B, hc.str g (y := (107, [])) (by unfold kTx; simp)⟩
  · exact ⟨_, h4⟩
theorem C_pKeyw {n : Nat} (hc : zPc G μ0 x bf B b) (hn : (n, w) ∈ kTx) (hw : w ≠ []) (h : zPq G μ0 ν P x b c e a M) (kok : ∀ a', pKey b w a = .ok a' → ∀ τ c' e', zPq G μ0 τ P x b c e a' (zsz ν) → zFh G τ (zfr τ 72 P) → zG (fun h => h = P) c' e' ν τ → Q none τ) (ker : ∀ er, pKey b w a = .error er → zPx E μ0 b c e er) : Call G Y_X6_keyword [vP (6, 0, P), vP (zgS G n)] ν Q E := by
  obtain ⟨ha, ho, ⟨t1, t2, t3, t4, t5⟩, g⟩ := id h
  obtain ⟨C, s1⟩ := zWd.str hc g t5
  have s2 : zStr ν B (zgS G n) w := hc.str g hn
  unfold pKey at kok ker
  refine S_X6_keyword ⟨s2.1, _, rfl, s1.1, C_strEq s1 s2 (fun q => ⟨_, rfl, C_pReq1 (by decide) ⟨rfl, C_pNext hc h fun τ c' e' y1 y2 y3 => ⟨rfl, kok _ (if_pos q) τ c' e' ?_ y2 y3⟩⟩⟩) (fun q => ⟨_, rfl, h.req rfl (ker _ (if_neg q)).zk⟩)⟩
  rw [← q, ← pEd_3 (by rw [q]; exact hw)]
  exact y1
theorem C_pSemi (hc : zPc G μ0 x bf B b) (h : zPq G μ0 ν P x b c e a M) (kok : ∀ a', pSemi b a = .ok a' → ∀ τ c' e', zPq G μ0 τ P x b c e a' (zsz ν) → zFh G τ (zfr τ 72 P) → zG (fun h => h = P) c' e' ν τ → Q none τ) (ker : ∀ er, pSemi b a = .error er → zPx E μ0 b c e er) : Call G Y_X6_semicolon [vP (6, 0, P)] ν Q E := by
  have hK := hc.2.2.2
  obtain ⟨ha, ho, ⟨t1, t2, t3, t4, t5⟩, g⟩ := id h
  have hp := pSk_le ha
  have hl := hc.2.1.1
  unfold pSemi at kok ker
  refine S_X6_semicolon ⟨_, t3, hK.no (pKd_in _ _), hK.no (by omega), fun hne => ?_, fun heq => ⟨_, t1, C_pByte (pSk b a) hc ho g rfl (by omega) ⟨_, rfl, fun q => h.req rfl (ker _ (if_neg q)).zk, fun q => C_pReq1 (by decide) ⟨rfl, C_pNext hc h fun τ c' e' y1 y2 y3 => ⟨rfl, kok _ (if_pos q) τ c' e' ?_ y2 y3⟩⟩⟩⟩⟩
  · refine h.req rfl (ker _ (if_neg fun q => hne ?_)).zk
    rw [(pKd_5 hc.by q).1]
  · rw [← (pKd_5 hc.by q).2]; exact y1
/-- the name that stands here -/
theorem C_pPeekN (hc : zPc G μ0 x bf B b) (h : zPq G μ0 ν P x b c e a M) (kok : ∀ w p q, pName b a = .ok (w, p) → p = pSk b a → w = pWd b p → w ≠ [] → zfr ν 72 P = q → zWd G ν M q w → Q (some (vP q)) ν) (ker : ∀ er, pName b a = .error er → zPx E μ0 b c e er) : Call G Y_X6_peekName [vP (6, 0, P)] ν Q E := by
  have hK := hc.2.2.2
  obtain ⟨ha, ho, ⟨t1, t2, t3, t4, t5⟩, g⟩ := id h
  have hp := pSk_le ha
  have hw := pWd_le hp
  have hl := hc.2.1.1
  obtain ⟨C, s1⟩ := zWd.str hc g t5
  unfold pName at kok ker
  have bad : ¬ (1 ≤ (pWd b (pSk b a)).length ∧ (pWd b (pSk b a)).length ≤ 6) → ∀ (Q' : Option ZV → ZM → Prop), Call G Y_X6_require [vP (6, 0, P), vI 0, vI 1] ν Q' (fun q ν => zkc q.1 = true ∧ E q ν) := fun q Q' => h.req rfl (ker _ (if_neg q)).zk
  refine S_X6_peekName ⟨_, t3, hK.no (pKd_in _ _), hK.no (by omega), fun hne => bad (fun q => hne ?_) _, fun heq => ⟨_, rfl, s1.1, C_strLen s1 ⟨_, rfl, fun q => bad (fun t => ?_) _, fun q => C_pReq1 (by decide) ⟨rfl, _, rfl, s1.1, ?_⟩⟩⟩⟩
  · have : pWd b (pSk b a) ≠ [] := fun t => by rw [t] at q; exact absurd q.1 (by decide)
    rw [pKd_3.mpr this]
  · have := (nI_ltI (a := 6) (by omega) (by omega)).mp q
    omega
  · have hne := pKd_3.mp (hK.eq (pKd_in b (pSk b a)) (by omega) heq)
    have h1 : 1 ≤ (pWd b (pSk b a)).length := by
      cases hc2 : pWd b (pSk b a) with
      | nil => exact absurd hc2 hne
      | cons _ _ => simp
    have h6 : (pWd b (pSk b a)).length ≤ 6 := by
      apply Decidable.byContradiction
      intro t
      exact q (nI_lt (a := 6) (by omega) (by omega))
    exact kok _ _ _ (if_pos ⟨h1, h6⟩) rfl rfl hne rfl t5
end ZJ
