set_option maxRecDepth 100000
/-! THE LAW, 5: its loop -/
theorem lw_cmp_d : ∀ (t : Fin 145) (i : Fin 151), (nI t.val - 6 < nI i.val) ↔ t.val < i.val + 6 := by decide +kernel
theorem lw_room {a b c d S k p q : Nat} (h1 : a + p * b ≤ S + q * k) (h2 : c + p * d ≤ a + p * b + q) : c + p * d ≤ S + q * (k + 1) := by
  rw [Nat.mul_add, Nat.mul_one]; omega
section ZJ
variable {G : ZG} {x d da bf sb m o t0 r0 B S T : Nat} {Q : Option ZV → ZM → Prop} {E : ZP → ZM → Prop}
theorem L_loop (hG : zGk G) (ht : t0 ≤ 144) (kq : ∀ ν, zsz ν ≤ S + 1200000 → zsl ν ≤ T + 5484000 → Q (some (vI 1)) ν) : ∀ (n c : Nat) (σ : ZS) (μ : ZM), c + n = 24 → zLv G x d da bf sb m o r0 B σ σ μ → zGs (2000 * c) σ → zsz μ + 2200 * (aBu σ).length ≤ S + 50000 * c → zsl μ + 8400 * (aBu σ).length ≤ T + 228500 * c → Wp G Y_L_law 23 [(0, vP (209, t0, r0)), (1, vP (1, 0, x)), (2, vP (5, 0, m)), (3, vP (203, 1, o)), (4, vI (nI (6 * c)))] [] μ Q E := by
  intro n
  induction n with
  | zero =>
    intro c σ μ hn hL hs h1 h2
    refine B_L_law_23 ⟨fun _ => kq μ (by omega) (by omega), fun h => absurd ((lw_cmp_d ⟨t0, by omega⟩ ⟨6 * c, by omega⟩).mpr (by show t0 < 6 * c + 6; omega)) h⟩
  | succ n ih =>
    intro c σ μ hn hL hs h1 h2
    refine B_L_law_23 ⟨fun _ => kq μ (by omega) (by omega), fun h => ?_⟩
    have hi : 6 * c + 6 ≤ t0 := by
      apply Decidable.byContradiction
      intro q
      exact h ((lw_cmp_d ⟨t0, by omega⟩ ⟨6 * c, by omega⟩).mpr (by show t0 < 6 * c + 6; omega))
    have nx : zNx G x d da bf sb m o t0 r0 B σ (2000 * c) (nI (6 * c)) μ Q E := fun σ' ν hL' hs' g1 g2 => by
      have e : nI (6 * c) + 6 = nI (6 * (c + 1)) := by rw [show (6 : Int32) = nI 6 from rfl, nI_add]; congr 1
      rw [e]
      have hD : 2000 * c + 2000 ≤ 2000 * (c + 1) := by omega
      have q1 : zsz ν + 2200 * (aBu σ').length ≤ S + 50000 * (c + 1) := lw_room h1 g1
      have q2 : zsl ν + 8400 * (aBu σ').length ≤ T + 228500 * (c + 1) := lw_room h2 g2
      exact ih (c + 1) σ' ν (by omega) hL' (hs'.le hD) q1 q2
    exact ⟨6 * c, zix.eq rfl (by omega) (by omega), _, rfl, fun _ => L_c0 hG hL hs (by omega) rfl (by omega) ht nx, fun _ => L_c1 hG hL hs (by omega) rfl (by omega) ht nx, fun _ => L_c2 hG hL hs (by omega) rfl (by omega) ht nx, fun _ => L_c3 hG hL hs (by omega) rfl (by omega) ht nx, fun _ => L_c4 hG hL hs (by omega) rfl (by omega) ht nx, fun _ => L_c5 hG hL hs (by omega) rfl (by omega) ht nx, fun _ => L_c6 hG hL hs (by omega) rfl (by omega) ht nx, fun _ => L_c7 hG hL hs (by omega) rfl (by omega) ht nx, fun _ => L_c8 hG hL hs (by omega) rfl (by omega) ht nx, fun _ => L_c9 hG hL hs (by omega) rfl (by omega) ht nx, fun _ => L_c10 hG hL hs (by omega) rfl (by omega) ht nx, fun _ => L_c11 hG hL hs (by omega) rfl (by omega) ht nx, fun _ => L_c12 hG hL hs (by omega) rfl (by omega) ht nx, fun _ => L_c13 hG hL hs (by omega) rfl (by omega) ht nx, fun _ => L_c14 hG hL hs (by omega) rfl (by omega) ht nx, fun _ => L_c15 hG hL hs (by omega) rfl (by omega) ht nx, fun _ => L_c16 hG hL hs (by omega) rfl (by omega) ht nx, fun _ => L_c17 hG hL hs (by omega) rfl (by omega) ht nx, fun _ => L_c18 hG hL hs (by omega) rfl (by omega) ht nx, fun _ => L_c19 hG hL hs (by omega) rfl (by omega) ht nx, fun _ => L_c20 hG hL hs (by omega) rfl (by omega) ht nx, fun _ => L_c21 hG hL hs (by omega) rfl (by omega) ht nx, fun _ => L_c22 hG hL hs (by omega) rfl (by omega) ht nx, fun _ => L_c23 hG hL hs (by omega) rfl (by omega) ht nx, fun _ => L_c24 hG hL hs (by omega) rfl (by omega) ht nx, fun _ => L_c25 hG hL hs (by omega) rfl (by omega) ht nx, fun _ => L_c26 hG hL hs (by omega) rfl (by omega) ht nx, fun _ => L_c27 hG hL hs (by omega) rfl (by omega) ht nx, fun _ => L_c28 hG hL hs (by omega) rfl (by omega) ht nx, fun _ => L_c29 hG hL hs (by omega) rfl (by omega) ht nx, fun _ => L_c30 hG hL hs (by omega) rfl (by omega) ht nx, fun _ => L_c31 hG hL hs (by omega) rfl (by omega) ht nx, fun _ => L_c32 hG hL hs (by omega) rfl (by omega) ht nx, fun _ => L_c33 hG hL hs (by omega) rfl (by omega) ht nx, fun _ => L_c34 hG hL hs (by omega) rfl (by omega) ht nx, fun _ => L_c35 hG hL hs (by omega) rfl (by omega) ht nx, fun _ => L_c36 hG hL hs (by omega) rfl (by omega) ht nx, fun _ => L_c37 hG hL hs (by omega) rfl (by omega) ht nx, fun _ => L_c38 hG hL hs (by omega) rfl (by omega) ht nx, fun _ => L_c39 hG hL hs (by omega) rfl (by omega) ht nx, fun _ => L_c40 hG hL hs (by omega) rfl (by omega) ht nx, fun _ => L_c41 hG hL hs (by omega) rfl (by omega) ht nx, fun _ => L_c42 hG hL hs (by omega) rfl (by omega) ht nx, fun _ => L_c43 hG hL hs (by omega) rfl (by omega) ht nx, fun _ => L_c44 hG hL hs (by omega) rfl (by omega) ht nx, fun _ => L_c45 hG hL hs (by omega) rfl (by omega) ht nx, fun _ => L_c46 hG hL hs (by omega) rfl (by omega) ht nx, fun _ => L_c47 hG hL hs (by omega) rfl (by omega) ht nx, fun _ => L_c48 hG hL hs (by omega) rfl (by omega) ht nx, fun _ => L_c49 hG hL hs (by omega) rfl (by omega) ht nx, fun _ => L_c50 hG hL hs (by omega) rfl (by omega) ht nx, fun _ => L_c51 hG hL hs (by omega) rfl (by omega) ht nx, fun _ => L_c52 hG hL hs (by omega) rfl (by omega) ht nx, fun _ => L_c53 hG hL hs (by omega) rfl (by omega) ht nx, fun _ => L_c54 hG hL hs (by omega) rfl (by omega) ht nx, fun _ => L_c55 hG hL hs (by omega) rfl (by omega) ht nx, fun _ => L_c56 hG hL hs (by omega) rfl (by omega) ht nx, fun _ => L_c57 hG hL hs (by omega) rfl (by omega) ht nx, fun _ => L_c58 hG hL hs (by omega) rfl (by omega) ht nx, fun _ => L_c59 hG hL hs (by omega) rfl (by omega) ht nx, fun _ => L_c60 hG hL hs (by omega) rfl (by omega) ht nx, fun _ => L_c61 hG hL hs (by omega) rfl (by omega) ht nx, fun _ => nx σ μ hL (hs.le (by omega)) (by omega) (by omega)⟩
end ZJ
