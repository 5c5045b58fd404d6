/-! CONTRACTS, 4: contracts come and end in the model -/
section ZS
variable {G : ZG} {μ : ZM} {Q : Option ZV → ZM → Prop} {E : ZP → ZM → Prop} {m a : Nat} {z1 z2 z3 : Int32}
/-- no int field; one array -/
def zF0 (_ _ : Nat) : Prop := False
def zA1 (a : Nat) : Nat → Prop := fun b => b = a
theorem zW_A1 {F : Nat → Nat → Prop} (μ : ZM) (a j : Nat) (x : Int32) : zW F (zA1 a) μ (zAi μ a j x) := zW_Ai (show zA1 a a from rfl) μ j x
theorem zMo.self (h : zfr μ 40 m = (200, 627, a)) : zMo μ m a (zai μ a) := ⟨h, fun _ _ => rfl⟩
theorem C_puts (e w : Nat) (h1 : z1 = nI e) (h2 : z2 = nI w) (h : zfr μ 40 m = (200, 627, a)) (he : 23 + 15 * e + w < 627) (k : Q none (zAi μ a (23 + 15 * e + w) z3)) : Call G Y_X5_puts [vP (5, 0, m), vI z1, vI z2, vI z3] μ Q E := by
  subst h1 h2
  refine S_X5_puts ⟨_, _, h, 23 + 15 * e + w, zix.eq ?_ he (by omega), k⟩
  show (nI 23 + nI 15 * nI e) + nI w = _
  rw [pk_mul, nI_add, nI_add]
theorem C_putsValley (v w : Nat) (h1 : z1 = nI v) (h2 : z2 = nI w) (h : zfr μ 40 m = (200, 627, a)) (he : 203 + 17 * v + w < 627) (k : Q none (zAi μ a (203 + 17 * v + w) z3)) : Call G Y_X5_putsValley [vP (5, 0, m), vI z1, vI z2, vI z3] μ Q E := by
  subst h1 h2
  refine S_X5_putsValley ⟨_, _, h, 203 + 17 * v + w, zix.eq ?_ he (by omega), k⟩
  show (nI 203 + nI 17 * nI v) + nI w = _
  rw [pk_mul, nI_add, nI_add]
/-- a contract of valley v, that has n, with echo e -/
def sComes (r : Nat → Int32) (v e n : Nat) : Nat → Int32 :=
  wU (wU (wU (wU r (203 + 17 * v + (14 + n)) (nI e)) (203 + 17 * v + 13) (nI (n + 1))) (23 + 15 * e + 13) (nI (v + 1))) 5 (r 5 + 1)
theorem C_contractComes (v e n : Nat) (h1 : z1 = nI v) (h2 : z2 = nI e) (hv : v < 8) (he : e < 12) (h : zfr μ 40 m = (200, 627, a)) (hn : wV (zai μ a) v 13 = nI n) (hn3 : n < 3) (k : ∀ ν, zW zF0 (zA1 a) μ ν → zai ν a = sComes (zai μ a) v e n → Q none ν) : Call G Y_X5_contractComes [vP (5, 0, m), vI z1, vI z2] μ Q E := by
  subst h1 h2
  refine S_X5_contractComes (C_ofValley v 13 rfl rfl (zMo.self h) (by omega) ⟨_, rfl, ?_⟩)
  rw [hn]
  refine C_putsValley v (14 + n) rfl (nI_add 14 n) h (by omega) ⟨rfl, C_putsValley v 13 rfl rfl h (by omega) ⟨rfl, C_puts e 13 rfl rfl h (by omega) ⟨rfl, _, _, h, by omega, _, rfl, k _ ?_ ?_⟩⟩⟩
  · exact (((zW_A1 μ a _ _).trans (zW_A1 _ a _ _)).trans (zW_A1 _ a _ _)).trans (zW_A1 _ a _ _)
  · rw [zai_set, zai_set, zai_set, zai_set]
    unfold sComes
    have e5 : wU (wU (wU (zai μ a) (203 + 17 * v + (14 + n)) (nI e)) (203 + 17 * v + 13) (nI n + 1)) (23 + 15 * e + 13) (nI v + 1) 5 = zai μ a 5 := by
      unfold wU
      rw [if_neg (by omega), if_neg (by omega), if_neg (by omega)]
    rw [e5, nI_1, nI_1]
/-- the first place of e in a valley's staff, from place k on -/
def sPlace (r : Nat → Int32) (v e : Nat) : Nat → Nat → Nat
  | 0, k => k
  | d + 1, k => if wV r v (14 + k) = nI e then k else sPlace r v e d (k + 1)
/-- the staff from place k on moves up -/
def sShift (r : Nat → Int32) (v : Nat) : Nat → Nat → Nat → Int32
  | 0, _ => r
  | d + 1, k => sShift (wU r (203 + 17 * v + (14 + k)) (wV r v (14 + k + 1))) v d (k + 1)
theorem sPlace_lt {r : Nat → Int32} {v e n : Nat} : ∀ d k, k + d = n → (∃ i, k ≤ i ∧ i < n ∧ wV r v (14 + i) = nI e) → sPlace r v e d k < n ∧ k ≤ sPlace r v e d k ∧ wV r v (14 + sPlace r v e d k) = nI e := by
  intro d
  induction d with
  | zero => intro k hk ⟨i, h1, h2, _⟩; omega
  | succ d ih =>
    intro k hk ⟨i, h1, h2, h3⟩
    unfold sPlace
    split
    · exact ⟨by omega, Nat.le_refl _, by assumption⟩
    · rename_i hn
      have hki : k ≠ i := by intro q; rw [q] at hn; exact hn h3
      obtain ⟨a1, a2, a3⟩ := ih (k + 1) (by omega) ⟨i, by omega, h2, h3⟩
      exact ⟨a1, by omega, a3⟩
/-- the contract of echo e, in valley v that has n, ends -/
def sEnds (r : Nat → Int32) (v e n : Nat) : Nat → Int32 :=
  let r1 := sShift r v (n - 1 - sPlace r v e n 0) (sPlace r v e n 0)
  wU (wU (wU (wU r1 (203 + 17 * v + 13) (nI n - 1)) (23 + 15 * e + 13) 0) (23 + 15 * e + 12) 0) 6 (r1 6 + 1)
theorem C_contractEnds (e v n : Nat) (h1 : z1 = nI e) (he : e < 12) (hv : v < 8) (h : zfr μ 40 m = (200, 627, a)) (hm : wE (zai μ a) e 13 - 1 = nI v) (hn : wV (zai μ a) v 13 = nI n) (hn3 : n ≤ 3) (hex : ∃ i, i < n ∧ wV (zai μ a) v (14 + i) = nI e) (k : ∀ ν, zW zF0 (zA1 a) μ ν → zai ν a = sEnds (zai μ a) v e n → Q none ν) : Call G Y_X5_contractEnds [vP (5, 0, m), vI z1] μ Q E := by
  subst h1
  refine S_X5_contractEnds (C_employer e rfl he (zMo.self h) ⟨_, rfl, ?_⟩)
  rw [hm]
  refine C_ofValley v 13 rfl rfl (zMo.self h) (by omega) ⟨_, rfl, ?_⟩
  rw [hn]
  obtain ⟨p1, -, p3⟩ := sPlace_lt (r := zai μ a) (v := v) (e := e) (n := n) n 0 (by omega) (by obtain ⟨i, g1, g2⟩ := hex; exact ⟨i, by omega, g1, g2⟩)
  -- the place is found
  have find : ∀ d i, i + d = n → sPlace (zai μ a) v e d i = sPlace (zai μ a) v e n 0 → (∃ j, i ≤ j ∧ j < n ∧ wV (zai μ a) v (14 + j) = nI e) → Wp G Y_X5_contractEnds 41 [(0, vP (5, 0, m)), (1, vI (nI e)), (2, vI (nI v)), (3, vI (nI n)), (5, vI (nI (sPlace (zai μ a) v e n 0)))] [] μ Q E → Wp G Y_X5_contractEnds 17 [(0, vP (5, 0, m)), (1, vI (nI e)), (2, vI (nI v)), (3, vI (nI n)), (4, vI (nI i))] [] μ Q E := by
    intro d
    induction d with
    | zero => intro i hi _ hj; obtain ⟨j, g1, g2, -⟩ := hj; omega
    | succ d ih =>
      intro i hi hs hj kk
      have hstep : sPlace (zai μ a) v e (d + 1) i = if wV (zai μ a) v (14 + i) = nI e then i else sPlace (zai μ a) v e d (i + 1) := rfl
      rw [hs] at hstep
      refine B_X5_contractEnds_17 (C_ofValley v (14 + i) rfl (nI_add 14 i) (zMo.self h) (by omega) ⟨_, rfl, fun hy => ?_, fun hnn => ?_⟩)
      · rw [if_pos hy] at hstep; rw [hstep] at kk; exact kk
      · rw [if_neg hnn] at hstep
        rw [nI_1]
        refine ih (i + 1) (by omega) hstep.symm ?_ kk
        obtain ⟨j, g1, g2, g3⟩ := hj
        refine ⟨j, ?_, g2, g3⟩
        have : i ≠ j := by intro q; rw [q] at hnn; exact hnn g3
        omega
  refine find n 0 (by omega) rfl (by obtain ⟨i, g1, g2⟩ := hex; exact ⟨i, by omega, g1, g2⟩) ?_
  -- the others move up
  have move : ∀ d i (ν : ZM), i + 1 + d = n → zW zF0 (zA1 a) μ ν → sShift (zai ν a) v d i = sShift (zai μ a) v (n - 1 - sPlace (zai μ a) v e n 0) (sPlace (zai μ a) v e n 0) → Wp G Y_X5_contractEnds 41 [(0, vP (5, 0, m)), (1, vI (nI e)), (2, vI (nI v)), (3, vI (nI n)), (5, vI (nI i))] [] ν Q E := by
    intro d
    induction d with
    | zero =>
      intro i ν hi hW hs
      have hr : zfr ν 40 m = (200, 627, a) := by rw [hW.2.2.2.1]; exact h
      refine B_X5_contractEnds_41 ⟨fun _ => C_putsValley v 13 rfl rfl hr (by omega) ⟨rfl, C_puts e 13 rfl rfl hr (by omega) ⟨rfl, C_puts e 12 rfl rfl hr (by omega) ⟨rfl, _, _, hr, by omega, _, rfl, k _ ?_ ?_⟩⟩⟩, fun hlt => absurd hlt ?_⟩
      · exact (((hW.trans (zW_A1 _ a _ _)).trans (zW_A1 _ a _ _)).trans (zW_A1 _ a _ _)).trans (zW_A1 _ a _ _)
      · rw [zai_set, zai_set, zai_set, zai_set]
        have hs' : zai ν a = _ := hs
        unfold sEnds
        dsimp only
        rw [← hs']
        have e6 : wU (wU (wU (zai ν a) (203 + 17 * v + 13) (nI n - 1)) (23 + 15 * e + 13) 0) (23 + 15 * e + 12) 0 6 = zai ν a 6 := by
          unfold wU
          rw [if_neg (by omega), if_neg (by omega), if_neg (by omega)]
        rw [e6]
      · rw [nI_1]; exact nI_nlt (by omega) (by omega)
    | succ d ih =>
      intro i ν hi hW hs
      have hr : zfr ν 40 m = (200, 627, a) := by rw [hW.2.2.2.1]; exact h
      refine B_X5_contractEnds_41 ⟨fun hlt => absurd ?_ hlt, fun _ => C_ofValley v (14 + i + 1) rfl ?_ (zMo.self hr) (by omega) ⟨_, rfl, C_putsValley v (14 + i) rfl (nI_add 14 i) hr (by omega) ⟨rfl, ?_⟩⟩⟩
      · rw [nI_1]; exact nI_lt (by omega) (by omega)
      · show (nI 14 + nI i) + nI 1 = _
        rw [nI_add, nI_add]
      · rw [nI_1]
        refine ih (i + 1) _ (by omega) (hW.trans (zW_A1 _ a _ _)) ?_
        rw [zai_set]
        exact hs
  exact move (n - 1 - sPlace (zai μ a) v e n 0) (sPlace (zai μ a) v e n 0) μ (by omega) (zW.rf _ _ _) rfl
end ZS
