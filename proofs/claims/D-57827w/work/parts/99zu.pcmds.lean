set_option maxRecDepth 100000
/-! THE COMPONENT, 66: all commands -/
theorem pCmd_5 {b : List Nat} {r : Nat → Int32} {K V n a a' : Nat} {c : Nat × Nat × Nat} (hr : sKV r K V) (h : pCmd b r n a = .ok (c, a')) : a + 5 ≤ a' := by
  unfold pCmd at h
  split at h
  · cases h
  · rename_i k hk
    obtain ⟨k7, -⟩ := pKind_lt hk
    have hw : 4 ≤ (pWd b (pSk b a)).length := by
      rcases pKind_is hk with ⟨t, -⟩ | ⟨t, -⟩ | ⟨t, -⟩ | ⟨t, -⟩ | ⟨t, -⟩ | ⟨t, -⟩ | ⟨t, -⟩ <;> rw [t] <;> decide
    split at h
    · cases h
    · split at h
      · cases h
      · rename_i x y a1 h1
        split at h
        · cases h
        · rename_i a2 h2
          cases h
          obtain ⟨g1, g2⟩ := pParts_ok hr k7 h1
          have := pSemi_gt h2
          have := pSk_ge b a
          omega
/-- the commands read so far -/
def zCds (ν : ZM) (A : Nat) (l : List (Nat × Nat × Nat)) : Prop := ((ztg ν A).1 = 206 ∧ A < zsz ν) ∧ (∀ j, j < l.length → zCd ν (zar ν A j) (l.getD j (0, 0, 0))) ∧ ∀ j, l.length ≤ j → j < 31 → zar ν A j = zN
theorem zCd.kp {ν τ : ZM} {q : ZP} {c : Nat × Nat × Nat} (h : zCd ν q c) (hx : zext ν τ) (hs : ∀ a, a < zsz ν → 300 < (ztg ν a).1 → ∀ j, zai τ a j = zai ν a j) : zCd τ q c := by
  obtain ⟨a, h1, h2, h3⟩ := h
  refine ⟨a, h1, fun t => ?_, fun t => ?_⟩
  · obtain ⟨g1, g2, g3⟩ := h2 t
    exact ⟨Nat.lt_of_lt_of_le g1 hx.1, by rw [hx.2.2 a g1]; exact g2, by rw [hs a g1 g2]; exact g3⟩
  · obtain ⟨g1, g2, g3⟩ := h2 (by omega)
    rw [hs a g1 g2]; exact h3 t
theorem zCds.kp {ν τ : ZM} {A : Nat} {l : List (Nat × Nat × Nat)} (h : zCds ν A l) (hx : zext ν τ) (hA : ∀ j, zar τ A j = zar ν A j) (hs : ∀ a, a < zsz ν → 300 < (ztg ν a).1 → ∀ j, zai τ a j = zai ν a j) : zCds τ A l :=
  ⟨⟨by rw [hx.2.2 A h.1.2]; exact h.1.1, Nat.lt_of_lt_of_le h.1.2 hx.1⟩, fun j hj => by rw [hA]; exact (h.2.1 j hj).kp hx hs, fun j h1 h2 => by rw [hA]; exact h.2.2 j h1 h2⟩
theorem zCd.lm {ν : ZM} {q : ZP} {c : Nat × Nat × Nat} (h : zCd ν q c) (hc : c.1 < 7) : zlm q := by
  obtain ⟨a, h1, -⟩ := h
  have : c.1 = 0 ∨ c.1 = 1 ∨ c.1 = 2 ∨ c.1 = 3 ∨ c.1 = 4 ∨ c.1 = 5 ∨ c.1 = 6 := by omega
  rcases this with t | t | t | t | t | t | t <;> rw [t] at h1
  · exact ⟨1, _, _, a, rfl, h1⟩
  · exact ⟨2, _, _, a, rfl, h1⟩
  · exact ⟨3, _, _, a, rfl, h1⟩
  · exact ⟨4, _, _, a, rfl, h1⟩
  · exact ⟨5, _, _, a, rfl, h1⟩
  · exact ⟨6, _, _, a, rfl, h1⟩
  · exact ⟨7, _, _, a, rfl, h1⟩
section ZJ
variable {G : ZG} {μ ν τ ρ μ0 : ZM} {Q : Option ZV → ZM → Prop} {E : ZP → ZM → Prop} {P x bf B c e a M K V s lo hi F fg el ear vl var ds dm sm c' e' h n C f c0 e0 d da sb sba D k A : Nat} {ea va ta sa : Nat → Nat} {r : Nat → Int32} {po : Nat → Nat} {b w : List Nat} {y z z1 z2 : Int32} {q : ZP} {Z : Nat → Prop} {σ : ZS}
theorem C_pCmds (hG : zGk G) (hc : zPc G μ0 x bf B b) (hx0 : zfr μ0 0 x = (2, 0, s)) (hN : zNmd G μ0 s K V r) (hr : sKV r K V) (hA : zsz μ0 ≤ A) (hPA : P < A) : ∀ (n : Nat) (l : List (Nat × Nat × Nat)) (a : Nat) (ν : ZM) (M : Nat), b.length < a + n → zPq G μ0 ν P x b (c0 + l.length) (e0 + 2 * l.length) a M → zsz μ0 ≤ M → zFh G ν (zfr ν 72 P) → (ztg ν P).1 = 6 → l.length ≤ 30 → 5 * l.length ≤ a → (∀ c, c ∈ l → cOk K V c) → zCds ν A l → (∀ l', pCmds b r n l a = .ok l' → ∀ τ, zCds τ A l' → l'.length ≤ 30 → 5 * l'.length ≤ b.length → (∀ c, c ∈ l' → cOk K V c) → zG (fun _ => False) (c0 + 31 + 5 * b.length) (e0 + 62 + 33 * b.length) μ0 τ → Q (some (vP (206, 31, A))) τ) → (∀ er, pCmds b r n l a = .error er → zPx E μ0 b (c0 + 31) (e0 + 62) er) → Wp G Y_X6_commands 8 [(0, vP (6, 0, P)), (1, vP (206, 31, A)), (2, vI (nI l.length))] [] ν Q E := by
  have hKd := hc.2.2.2
  obtain ⟨-, -, hK, hV⟩ := id hr
  intro n
  induction n with
  | zero => intro l a ν M hn h; have := h.1; omega
  | succ n ih =>
    intro l a ν M hn h hM hf hPt hl5 hla hcl hC kok ker
    obtain ⟨h1, h2, ⟨t1, t2, t3, t4, t5⟩, h4⟩ := id h
    have e1 : pCmds b r (n + 1) l a = if b.length ≤ pSk b a then .ok l else match pCmd b r l.length a with
      | .error e => .error e
      | .ok (c, a1) => pCmds b r n (l ++ [c]) a1 := rfl
    have hE := pEd_le (pSk_le h1)
    refine nB_X6_commands_8 ⟨_, t3, hKd.no (pKd_in _ _), hKd.no (by omega), fun heq => ?_, fun hne => ?_⟩
    · have hk2 := hKd.eq (pKd_in b (pSk b a)) (by omega) heq
      have hend : b.length ≤ pSk b a := by
        apply Decidable.byContradiction
        intro t
        unfold pKd at hk2
        rw [if_pos (by omega)] at hk2
        split at hk2
        · cases hk2
        · split at hk2 <;> cases hk2
      exact kok l (by rw [e1, if_pos hend]) ν hC hl5 (by omega) hcl (zG.mono h4 (fun _ _ q => q) (by omega) (by omega))
    · have hno : ¬ b.length ≤ pSk b a := fun t => hne (by unfold pKd; rw [if_neg (by omega)])
      rw [e1, if_neg hno] at kok ker
      obtain ⟨C0, hs0⟩ := zWd.str hc h4 t5
      refine ⟨_, rfl, hs0.1, C_isCmd hc h hf hM fun τ qτ he e72 hwc => ⟨_, rfl, ?_⟩⟩
      -- behind the hash
      have xτ : zext ν τ := by rcases he with rfl | ⟨h0, f0, y0, k1, k2, rfl⟩ <;> exact zext.rf _
      have Cτ : zCds τ A l := by
        rcases he with rfl | ⟨h0, f0, y0, k1, k2, rfl⟩
        · exact hC
        · exact hC.kp (zext.rf _) (fun j => rfl) (fun a _ _ j => rfl)
      have tP : (ztg τ P).1 = 6 := by rw [xτ.2.2 P h2.2.1]; exact hPt
      cases hk : pKind (pWd b (pSk b a)) with
      | none =>
        rw [if_pos rfl]
        exact qτ.req rfl ((ker (1, pSk b a) (by rw [show pCmd b r l.length a = .error (1, pSk b a) by unfold pCmd; rw [hk]])).le (by omega) (by omega)).zk
      | some k =>
        obtain ⟨k7, -⟩ := pKind_lt hk
        rw [if_neg (by simp)]
        refine C_pReq1 (by decide) ⟨rfl, fun h30 => ?_, fun h30 => ?_⟩
        · have h30' : 30 ≤ l.length := by
            apply Decidable.byContradiction
            intro t
            exact h30 (nI_lt (b := 30) (by omega) (by omega))
          exact qτ.req rfl ((ker (4, pSk b a) (by rw [show pCmd b r l.length a = .error (4, pSk b a) by unfold pCmd; rw [hk]; dsimp only; rw [if_pos h30']])).le (by omega) (by omega)).zk
        · have h30' : l.length < 30 := (nI_ltI (b := 30) (by omega) (by omega)).mp h30
          have eC : pCmd b r l.length a = match pParts b r k (pSk b a + (pWd b (pSk b a)).length) with
            | .error e => .error e
            | .ok ((x, y), a1) => match pSemi b a1 with
              | .error e => .error e
              | .ok a2 => .ok ((k, x, y), a2) := by unfold pCmd; rw [hk]; dsimp only; rw [if_neg (by omega)]; rfl
          have hwc' : zWc τ (zfr τ 72 P) (pWd b (pSk b a)) (zsz τ) := by
            obtain ⟨h0, u1, ⟨u2, u3⟩, u4⟩ := hwc (by rw [hk]; simp)
            rw [e72]
            exact ⟨h0, u1, ⟨Nat.lt_of_lt_of_le u2 xτ.1, u3⟩, u4⟩
          refine C_pReq1 (by decide) ⟨rfl, Call.zq <| C_pCommand hG hc qτ hwc' hx0 hN hK hV hk (fun x' y' a1 hp ρ q c2 e2 M' q2 hM' f2 g2 hq okρ _ => ⟨_, rfl, l.length, zix.eq rfl (by omega) (by omega), hq.lm k7, ?_⟩) (fun er he => ((ker er (by rw [eC, he])).le (by omega) (by omega)).zk)⟩
          have aA : A ≠ P := by omega
          have Cρ : zCds ρ A l := Cτ.kp g2.1 (fun j => (g2.same Cτ.1.2 aA).2.2.2.1 j) (fun a ha hta j => (g2.same ha (fun t => by rw [t, tP] at hta; omega)).2.2.1 j)
          have gA : zG (fun _ => False) (c0 + (l.length + 1) + 5 * pEd b (pSk b a1)) (e0 + 2 * (l.length + 1) + 33 * pEd b (pSk b a1)) μ0 (zAr ρ A l.length q) := (zG.trN (W := fun _ => False) q2.2.2.2 (zG.ar (a := A) (i := l.length) (v := q) (Or.inr hA))).mono (fun _ _ q => q) (by omega) (by omega)
          have sA : ∀ a, a ≠ A → zsame ρ (zAr ρ A l.length q) a := fun a ha => zsame_zAr ha _
          have tA : (ztg ρ A).1 = 206 := by rw [g2.1.2.2 A Cτ.1.2]; exact Cτ.1.1
          have q3 : zPq G μ0 (zAr ρ A l.length q) P x b (c0 + (l.length + 1)) (e0 + 2 * (l.length + 1)) a1 M' := q2.kpT (W := fun a => a = A) okρ (zext_zAr _ _ _ _) (fun a _ hn => sA a hn) (fun h _ w => ⟨by omega, by rw [w, tA]; omega⟩) gA
          have f3 : zFh G (zAr ρ A l.length q) (zfr (zAr ρ A l.length q) 72 P) := f2.kp (okρ.2.2.2.2.2.1 72 P) fun a ha hta => sA a (fun t => by rw [t, tA] at hta; cases hta)
          have Cq : zCds (zAr ρ A l.length q) A (l ++ [(k, x', y')]) := by
            refine ⟨Cρ.1, fun j hj => ?_, fun j j1 j2 => ?_⟩
            · rw [List.length_append] at hj
              have hj : j < l.length + 1 := hj
              by_cases hjl : j = l.length
              · subst hjl
                rw [zar_zAr, if_pos ⟨rfl, rfl⟩]
                have : (l ++ [(k, x', y')]).getD l.length (0, 0, 0) = (k, x', y') := by simp
                rw [this]; exact hq
              · rw [zar_zAr, if_neg (fun t => hjl t.2)]
                have : (l ++ [(k, x', y')]).getD j (0, 0, 0) = l.getD j (0, 0, 0) := by
                  rw [List.getD_eq_getElem?_getD, List.getD_eq_getElem?_getD, List.getElem?_append_left (by omega)]
                rw [this]; exact Cρ.2.1 j (by omega)
            · rw [List.length_append] at j1
              have j1 : l.length + 1 ≤ j := j1
              rw [zar_zAr, if_neg (fun t => by omega)]
              exact Cρ.2.2 j (by omega) j2
          have tP2 : (ztg (zAr ρ A l.length q) P).1 = 6 := by
            show (ztg ρ P).1 = 6
            rw [g2.1.2.2 P qτ.2.1.2.1]; exact tP
          refine C_pSemi hc q3 (fun a2 hs τ3 c3 e3 q4 f4 g4 => ⟨rfl, ?_⟩) (fun er he => ((ker er (by rw [eC, hp]; dsimp only; rw [he])).le (by omega) (by omega)).zk)
          have hcmd : pCmd b r l.length a = .ok ((k, x', y'), a2) := by rw [eC, hp]; dsimp only; rw [hs]
          have h5 := pCmd_5 hr hcmd
          obtain ⟨o1, o2, o3⟩ := pCmd_ok hr hcmd
          have elen : (l ++ [(k, x', y')]).length = l.length + 1 := by rw [List.length_append]; rfl
          rw [nI_1, ← elen]
          rw [hcmd] at kok ker
          have zA := q3.2.2.2.1.1
          refine ih (l ++ [(k, x', y')]) a2 τ3 _ (by omega) (by rw [elen]; exact q4) zA f4 (by rw [g4.1.2.2 P q3.2.1.2.1]; exact tP2) (by omega) (by omega) (fun c hc' => ?_) (Cq.kp g4.1 (fun j => (g4.same Cq.1.2 aA).2.2.2.1 j) (fun a ha hta j => (g4.same ha (fun t => by rw [t, tP2] at hta; omega)).2.2.1 j)) kok ker
          rcases List.mem_append.mp hc' with t | t
          · exact hcl c t
          · rw [List.mem_singleton.mp t]; exact o1
end ZJ
