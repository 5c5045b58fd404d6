set_option maxRecDepth 100000
/-! THE LAW, 3b: good rows behind the calls; answers of other kinds -/
section ZJ
variable {G : ZG} {μ ν ρ : ZM} {x d da bf sb sba n m o t0 r0 B : Nat} {σ σ' σx σm : ZS} {Q : Option ZV → ZM → Prop} {E : ZP → ZM → Prop} {v kk z4 y : Int32} {D i K V : Nat} {po : Nat → Nat} {r : Nat → Int32} {w : Int64}
theorem zGr.sz (h : zGr D r) : sZ r := by obtain ⟨K, V, po, h⟩ := h; exact h.2.2.1
theorem zGs.load (h : zGs D σ) (hr : pLoad (aBu σ) = .ok r) : zGs (D + 2000) (aLoad σ r) := by
  obtain ⟨K, V, po, hg⟩ := pLoad_ok hr
  exact ⟨⟨K, V, po, hg.le (Nat.zero_le _)⟩, fun y q => (h.2.1 y q).le (by omega), fun y q => by cases q⟩
theorem zGr.cmds {b : List Nat} {l : List (Nat × Nat × Nat)} (hg : sGd r K V po D) (hD : D < 900000) (hl : pCmds b r 1000 [] 0 = .ok l) : zGr (D + 2000) (sExec K V l r).1 := by
  have hr : sKV r K V := ⟨hg.1.2.1.1, hg.1.2.1.2, hg.1.1.1, hg.1.1.2.1⟩
  obtain ⟨h1, h2⟩ := pCmds_ok hr (show ([] : List (Nat × Nat × Nat)).length ≤ 30 by simp) (fun c q => by cases q) hl
  exact ⟨K, V, po, (sExec_ok hg (by omega) h2).le (by omega)⟩
theorem zGs.undo {l : List (Nat → Int32)} (h : zGs D σ) (hl : aPa σ = l ++ [r]) : zGs (D + 2000) (r, aSv σ, l, σ.2.2.2) :=
  ⟨(h.2.2 r (by rw [hl]; simp)).le (by omega), fun y q => (h.2.1 y q).le (by omega), fun y q => (h.2.2 y (by rw [hl]; exact List.mem_append_left _ q)).le (by omega)⟩
theorem zGs.rest (h : zGs D σ) (hr : aSv σ = some r) : zGs (D + 2000) (r, some r, [], σ.2.2.2) :=
  ⟨(h.2.1 r hr).le (by omega), fun y q => by cases q; exact (h.2.1 r hr).le (by omega), fun y q => by cases q⟩
theorem zGs.save (h : zGs D σ) : zGs (D + 2000) (aR σ, some (aR σ), σ.2.2) :=
  ⟨h.1.le (by omega), fun y q => by cases q; exact h.1.le (by omega), fun y q => (h.2.2 y q).le (by omega)⟩
theorem sSt_lt (hg : sGd r K V po D) {v : Nat} (hv : v < V) : sSt r v < 2147483648 := by
  unfold sSt
  have := (wV r v 13).toInt_lt
  have e : (wV r v 13).toNatClampNeg = (wV r v 13).toInt.toNat := rfl
  omega
theorem L_tb (hL : zLv G x d da bf sb m o r0 B σ σ μ) (hd : zXd G x d da bf sb (zZm m) σ σ' μ ν) (okν : zok ν) (hg : zGs (D + 2000) σ') (nx : zNx G x d da bf sb m o t0 r0 B σ D z4 μ Q E) (ok1 : zok (zAl ν o 0 w)) (hy : (y = 0 ∧ w = 0) ∨ (¬ y = 0 ∧ w = 1)) : zEd (zAl ν o 0 w) m (rI fun x12 ν2 => Call G Y_X5_thrown [vP (5, 0, m)] ν2 (rI fun x13 ν3 => (x13 = 0 → ((¬ (0 : Int32) = 0 → Wp G Y_L_law 23 [(0, vP (209, t0, r0)), (1, vP (1, 0, x)), (2, vP (5, 0, m)), (3, vP (203, 1, o)), (4, vI (z4 + 6))] [] ν3 Q E) ∧ ((0 : Int32) = 0 → (0 < 1 ∧ ∃ l1, zal ν3 o 0 = l1 ∧ (x12 = 0 → ((lg_cmp l1 0 = 0 → Wp G Y_L_law 23 [(0, vP (209, t0, r0)), (1, vP (1, 0, x)), (2, vP (5, 0, m)), (3, vP (203, 1, o)), (4, vI (z4 + 6))] [] ν3 Q E) ∧ (¬ lg_cmp l1 0 = 0 → Q (some (vI 0)) ν3))) ∧ (¬ x12 = 0 → ((lg_cmp l1 1 = 0 → Wp G Y_L_law 23 [(0, vP (209, t0, r0)), (1, vP (1, 0, x)), (2, vP (5, 0, m)), (3, vP (203, 1, o)), (4, vI (z4 + 6))] [] ν3 Q E) ∧ (¬ lg_cmp l1 1 = 0 → Q (some (vI 0)) ν3))))))) ∧ (¬ x13 = 0 → Q (some (vI 0)) ν3)) (fun q ν => zkc q.1 = true ∧ E q ν)) σ' 0 y := by
  intro ρ hm ht hW
  have L1 := ((hL.cx hd).1.al (w := w) okν).cm ok1 hm hW
  have e1 : zsz ρ = zsz ν := hW.1
  have e2 : zsl ρ = zsl ν := hW.2.1
  have N := nx σ' ρ L1 hg (by rw [e1]; exact hd.2.2.2.1) (by rw [e2]; exact hd.2.2.2.2)
  have el : zal ρ o 0 = w := by rw [hW.2.2.2.2.2.1, zal_zAl, if_pos ⟨rfl, rfl⟩]
  refine ⟨_, rfl, S_X5_thrown ⟨_, ht, _, rfl, fun _ => ⟨fun q => absurd rfl q, fun _ => ⟨by decide, _, el, fun h0 => ?_, fun h0 => ?_⟩⟩, fun q => absurd rfl q⟩⟩
  · rcases hy with ⟨q1, q2⟩ | ⟨q1, q2⟩
    · rw [q2]; exact ⟨fun _ => N, fun q => absurd (lg_cmp_self _) q⟩
    · exact absurd h0 q1
  · rcases hy with ⟨q1, q2⟩ | ⟨q1, q2⟩
    · exact absurd q1 h0
    · rw [q2]; exact ⟨fun _ => N, fun q => absurd (lg_cmp_self _) q⟩
theorem L_tb1 (hL : zLv G x d da bf sb m o r0 B σ σ μ) (hd : zXd G x d da bf sb (zZm m) σ σ' μ ν) (okν : zok ν) (hg : zGs (D + 2000) σ') (nx : zNx G x d da bf sb m o t0 r0 B σ D z4 μ Q E) : zEd ν m (rI fun x12 ν2 => Call G Y_X5_thrown [vP (5, 0, m)] ν2 (rI fun x13 ν3 => (x13 = 1 → ((¬ (1 : Int32) = 0 → Wp G Y_L_law 23 [(0, vP (209, t0, r0)), (1, vP (1, 0, x)), (2, vP (5, 0, m)), (3, vP (203, 1, o)), (4, vI (z4 + 6))] [] ν3 Q E) ∧ ((1 : Int32) = 0 → (0 < 1 ∧ ∃ l1, zal ν3 o 0 = l1 ∧ (x12 = 0 → ((lg_cmp l1 0 = 0 → Wp G Y_L_law 23 [(0, vP (209, t0, r0)), (1, vP (1, 0, x)), (2, vP (5, 0, m)), (3, vP (203, 1, o)), (4, vI (z4 + 6))] [] ν3 Q E) ∧ (¬ lg_cmp l1 0 = 0 → Q (some (vI 0)) ν3))) ∧ (¬ x12 = 0 → ((lg_cmp l1 1 = 0 → Wp G Y_L_law 23 [(0, vP (209, t0, r0)), (1, vP (1, 0, x)), (2, vP (5, 0, m)), (3, vP (203, 1, o)), (4, vI (z4 + 6))] [] ν3 Q E) ∧ (¬ lg_cmp l1 1 = 0 → Q (some (vI 0)) ν3))))))) ∧ (¬ x13 = 1 → Q (some (vI 0)) ν3)) (fun q ν => zkc q.1 = true ∧ E q ν)) σ' 1 y := by
  intro ρ hm ht hW
  exact ⟨_, rfl, S_X5_thrown ⟨_, ht, _, rfl, fun _ => ⟨fun _ => L_nx hL hd okν hg nx hm hW, fun q => absurd q (by decide)⟩, fun q => absurd rfl q⟩⟩
theorem L_fp {W Q0 c : Prop} (h : W) : (c → W) ∧ (¬ c → ((c → Q0) ∧ (¬ c → ((¬ c → W) ∧ (c → Q0))))) := ⟨fun _ => h, fun n => ⟨fun q => absurd q n, fun _ => ⟨fun _ => h, fun q => absurd q n⟩⟩⟩
theorem fp_rate_d : ∀ (c K : Fin 13), 0 < K.val → vf_n64 (FP.f2d (FP.fdiv (FP.i2f (nI c.val)) (FP.i2f (nI K.val)))) := by
  unfold vf_n64
  decide +kernel
theorem fp_rate {c : Nat} (hc : c ≤ K) (hK : K ≤ 12) (h0 : 0 < K) : vf_n64 (FP.f2d (FP.fdiv (FP.i2f (nI c)) (FP.i2f (nI K)))) := fp_rate_d ⟨c, by omega⟩ ⟨K, by omega⟩ h0
end ZJ
