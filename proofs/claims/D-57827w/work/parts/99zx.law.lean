set_option maxRecDepth 100000
/-! THE LAW, 1: its walk (printed by tools/run_law.py) -/
def Y_L_law : ZY := (x, cL_law, 9, ret, none, 18)
theorem S_L_law {G : ZG} {μ : ZM} {Q : Option ZV → ZM → Prop} {E : ZP → ZM → Prop} {t0 : Nat} {r0 : Nat}
    (h : Call G Y_X1_init [vP (1, 0, zsz μ)] (zNew μ 1 0 8) (rV fun ν1 => Call G Y_X5_init [vP (5, 0, zsz ν1)] (zNew ν1 5 0 28) (rV fun ν2 => Wp G Y_L_law 23 [(0, vP (209, t0, r0)), (1, vP (1, 0, zsz μ)), (2, vP (5, 0, zsz ν1)), (3, vP (203, 1, zsz ν2)), (4, vI 0)] [] (zNew ν2 203 1 1) Q E) (fun q ν => zkc q.1 = true ∧ E q ν)) (fun q ν => zkc q.1 = true ∧ E q ν)) : Wp G Y_L_law 0 [(0, vP (209, t0, r0))] [] μ Q E := by
  refine Wg_new 1 8 q231 q232 q163 dL_law_0 rfl rfl (by decide) rfl rfl ?_
  refine Wp_dup dL_law_3 rfl ?_
  refine Wp_init Y_X1_init (1, 0, zsz μ) [] K_X1_init rfl rfl rfl KI_X1_init (Nat.ne_of_beq_eq_false rfl) rfl q233 dL_law_4 (zlt rfl) (Nat.le_of_ble_eq_true rfl) rfl (Call.toV h rfl fun ν1 h => ?_)
  refine Wp_astore_n [0, 1] (ls' := [(1, vP (1, 0, zsz μ)), (0, vP (209, t0, r0))]) dL_law_7 rfl (zlt rfl) rfl ?_
  refine Wg_new 5 28 q3807 q3808 q200 dL_law_8 rfl rfl (by decide) rfl rfl ?_
  refine Wp_dup dL_law_11 rfl ?_
  refine Wp_init Y_X5_init (5, 0, zsz ν1) [] K_X5_init rfl rfl rfl KI_X5_init (Nat.ne_of_beq_eq_false rfl) rfl q3809 dL_law_12 (zlt rfl) (Nat.le_of_ble_eq_true rfl) rfl (Call.toV h rfl fun ν2 h => ?_)
  refine Wp_astore_n [0, 1, 2] (ls' := [(2, vP (5, 0, zsz ν1)), (1, vP (1, 0, zsz μ)), (0, vP (209, t0, r0))]) dL_law_15 rfl (zlt rfl) rfl ?_
  refine Wp_iconst dL_law_16 (v := 1) rfl ?_
  refine Wg_newa 203 (atype := .long) q4566 dL_law_17 rfl (j := 1) rfl (by decide) ?_
  refine Wp_astore_n [0, 1, 2, 3] (ls' := [(3, vP (203, 1, zsz ν2)), (2, vP (5, 0, zsz ν1)), (1, vP (1, 0, zsz μ)), (0, vP (209, t0, r0))]) dL_law_19 rfl (zlt rfl) rfl ?_
  refine Wp_iconst dL_law_20 (v := 0) rfl ?_
  refine Wp_istore [0, 1, 2, 3, 4] (ls' := [(4, vI 0), (3, vP (203, 1, zsz ν2)), (2, vP (5, 0, zsz ν1)), (1, vP (1, 0, zsz μ)), (0, vP (209, t0, r0))]) dL_law_21 (zlt rfl) rfl ?_
  exact Wp.lcl [4, 3, 2, 1, 0] rfl h
theorem B_L_law_23 {G : ZG} {μ : ZM} {Q : Option ZV → ZM → Prop} {E : ZP → ZM → Prop} {t0 : Nat} {r0 : Nat} {r1 : Nat} {r2 : Nat} {t3 : Nat} {r3 : Nat} {z4 : Int32}
    (h : (((nI t0) - 6) < z4 → Q (some (vI 1)) μ) ∧ (¬ ((nI t0) - 6) < z4 → (∃ j1, zix z4 j1 t0 ∧ ∃ x1, zai μ r0 j1 = x1 ∧ (x1 &&& 63 = 0 → Wp G Y_L_law 304 [(0, vP (209, t0, r0)), (1, vP (1, 0, r1)), (2, vP (5, 0, r2)), (3, vP (203, t3, r3)), (4, vI z4)] [] μ Q E) ∧ (x1 &&& 63 = 1 → Wp G Y_L_law 408 [(0, vP (209, t0, r0)), (1, vP (1, 0, r1)), (2, vP (5, 0, r2)), (3, vP (203, t3, r3)), (4, vI z4)] [] μ Q E) ∧ (x1 &&& 63 = 2 → Wp G Y_L_law 464 [(0, vP (209, t0, r0)), (1, vP (1, 0, r1)), (2, vP (5, 0, r2)), (3, vP (203, t3, r3)), (4, vI z4)] [] μ Q E) ∧ (x1 &&& 63 = 3 → Wp G Y_L_law 508 [(0, vP (209, t0, r0)), (1, vP (1, 0, r1)), (2, vP (5, 0, r2)), (3, vP (203, t3, r3)), (4, vI z4)] [] μ Q E) ∧ (x1 &&& 63 = 4 → Wp G Y_L_law 552 [(0, vP (209, t0, r0)), (1, vP (1, 0, r1)), (2, vP (5, 0, r2)), (3, vP (203, t3, r3)), (4, vI z4)] [] μ Q E) ∧ (x1 &&& 63 = 5 → Wp G Y_L_law 565 [(0, vP (209, t0, r0)), (1, vP (1, 0, r1)), (2, vP (5, 0, r2)), (3, vP (203, t3, r3)), (4, vI z4)] [] μ Q E) ∧ (x1 &&& 63 = 6 → Wp G Y_L_law 578 [(0, vP (209, t0, r0)), (1, vP (1, 0, r1)), (2, vP (5, 0, r2)), (3, vP (203, t3, r3)), (4, vI z4)] [] μ Q E) ∧ (x1 &&& 63 = 7 → Wp G Y_L_law 591 [(0, vP (209, t0, r0)), (1, vP (1, 0, r1)), (2, vP (5, 0, r2)), (3, vP (203, t3, r3)), (4, vI z4)] [] μ Q E) ∧ (x1 &&& 63 = 8 → Wp G Y_L_law 604 [(0, vP (209, t0, r0)), (1, vP (1, 0, r1)), (2, vP (5, 0, r2)), (3, vP (203, t3, r3)), (4, vI z4)] [] μ Q E) ∧ (x1 &&& 63 = 9 → Wp G Y_L_law 617 [(0, vP (209, t0, r0)), (1, vP (1, 0, r1)), (2, vP (5, 0, r2)), (3, vP (203, t3, r3)), (4, vI z4)] [] μ Q E) ∧ (x1 &&& 63 = 10 → Wp G Y_L_law 630 [(0, vP (209, t0, r0)), (1, vP (1, 0, r1)), (2, vP (5, 0, r2)), (3, vP (203, t3, r3)), (4, vI z4)] [] μ Q E) ∧ (x1 &&& 63 = 11 → Wp G Y_L_law 686 [(0, vP (209, t0, r0)), (1, vP (1, 0, r1)), (2, vP (5, 0, r2)), (3, vP (203, t3, r3)), (4, vI z4)] [] μ Q E) ∧ (x1 &&& 63 = 12 → Wp G Y_L_law 699 [(0, vP (209, t0, r0)), (1, vP (1, 0, r1)), (2, vP (5, 0, r2)), (3, vP (203, t3, r3)), (4, vI z4)] [] μ Q E) ∧ (x1 &&& 63 = 13 → Wp G Y_L_law 712 [(0, vP (209, t0, r0)), (1, vP (1, 0, r1)), (2, vP (5, 0, r2)), (3, vP (203, t3, r3)), (4, vI z4)] [] μ Q E) ∧ (x1 &&& 63 = 14 → Wp G Y_L_law 768 [(0, vP (209, t0, r0)), (1, vP (1, 0, r1)), (2, vP (5, 0, r2)), (3, vP (203, t3, r3)), (4, vI z4)] [] μ Q E) ∧ (x1 &&& 63 = 15 → Wp G Y_L_law 824 [(0, vP (209, t0, r0)), (1, vP (1, 0, r1)), (2, vP (5, 0, r2)), (3, vP (203, t3, r3)), (4, vI z4)] [] μ Q E) ∧ (x1 &&& 63 = 16 → Wp G Y_L_law 880 [(0, vP (209, t0, r0)), (1, vP (1, 0, r1)), (2, vP (5, 0, r2)), (3, vP (203, t3, r3)), (4, vI z4)] [] μ Q E) ∧ (x1 &&& 63 = 17 → Wp G Y_L_law 936 [(0, vP (209, t0, r0)), (1, vP (1, 0, r1)), (2, vP (5, 0, r2)), (3, vP (203, t3, r3)), (4, vI z4)] [] μ Q E) ∧ (x1 &&& 63 = 18 → Wp G Y_L_law 992 [(0, vP (209, t0, r0)), (1, vP (1, 0, r1)), (2, vP (5, 0, r2)), (3, vP (203, t3, r3)), (4, vI z4)] [] μ Q E) ∧ (x1 &&& 63 = 19 → Wp G Y_L_law 1048 [(0, vP (209, t0, r0)), (1, vP (1, 0, r1)), (2, vP (5, 0, r2)), (3, vP (203, t3, r3)), (4, vI z4)] [] μ Q E) ∧ (x1 &&& 63 = 20 → Wp G Y_L_law 1104 [(0, vP (209, t0, r0)), (1, vP (1, 0, r1)), (2, vP (5, 0, r2)), (3, vP (203, t3, r3)), (4, vI z4)] [] μ Q E) ∧ (x1 &&& 63 = 21 → Wp G Y_L_law 1160 [(0, vP (209, t0, r0)), (1, vP (1, 0, r1)), (2, vP (5, 0, r2)), (3, vP (203, t3, r3)), (4, vI z4)] [] μ Q E) ∧ (x1 &&& 63 = 22 → Wp G Y_L_law 1216 [(0, vP (209, t0, r0)), (1, vP (1, 0, r1)), (2, vP (5, 0, r2)), (3, vP (203, t3, r3)), (4, vI z4)] [] μ Q E) ∧ (x1 &&& 63 = 23 → Wp G Y_L_law 1272 [(0, vP (209, t0, r0)), (1, vP (1, 0, r1)), (2, vP (5, 0, r2)), (3, vP (203, t3, r3)), (4, vI z4)] [] μ Q E) ∧ (x1 &&& 63 = 24 → Wp G Y_L_law 1328 [(0, vP (209, t0, r0)), (1, vP (1, 0, r1)), (2, vP (5, 0, r2)), (3, vP (203, t3, r3)), (4, vI z4)] [] μ Q E) ∧ (x1 &&& 63 = 25 → Wp G Y_L_law 1384 [(0, vP (209, t0, r0)), (1, vP (1, 0, r1)), (2, vP (5, 0, r2)), (3, vP (203, t3, r3)), (4, vI z4)] [] μ Q E) ∧ (x1 &&& 63 = 26 → Wp G Y_L_law 1452 [(0, vP (209, t0, r0)), (1, vP (1, 0, r1)), (2, vP (5, 0, r2)), (3, vP (203, t3, r3)), (4, vI z4)] [] μ Q E) ∧ (x1 &&& 63 = 27 → Wp G Y_L_law 1527 [(0, vP (209, t0, r0)), (1, vP (1, 0, r1)), (2, vP (5, 0, r2)), (3, vP (203, t3, r3)), (4, vI z4)] [] μ Q E) ∧ (x1 &&& 63 = 28 → Wp G Y_L_law 1595 [(0, vP (209, t0, r0)), (1, vP (1, 0, r1)), (2, vP (5, 0, r2)), (3, vP (203, t3, r3)), (4, vI z4)] [] μ Q E) ∧ (x1 &&& 63 = 29 → Wp G Y_L_law 1663 [(0, vP (209, t0, r0)), (1, vP (1, 0, r1)), (2, vP (5, 0, r2)), (3, vP (203, t3, r3)), (4, vI z4)] [] μ Q E) ∧ (x1 &&& 63 = 30 → Wp G Y_L_law 1731 [(0, vP (209, t0, r0)), (1, vP (1, 0, r1)), (2, vP (5, 0, r2)), (3, vP (203, t3, r3)), (4, vI z4)] [] μ Q E) ∧ (x1 &&& 63 = 31 → Wp G Y_L_law 1799 [(0, vP (209, t0, r0)), (1, vP (1, 0, r1)), (2, vP (5, 0, r2)), (3, vP (203, t3, r3)), (4, vI z4)] [] μ Q E) ∧ (x1 &&& 63 = 32 → Wp G Y_L_law 1812 [(0, vP (209, t0, r0)), (1, vP (1, 0, r1)), (2, vP (5, 0, r2)), (3, vP (203, t3, r3)), (4, vI z4)] [] μ Q E) ∧ (x1 &&& 63 = 33 → Wp G Y_L_law 1868 [(0, vP (209, t0, r0)), (1, vP (1, 0, r1)), (2, vP (5, 0, r2)), (3, vP (203, t3, r3)), (4, vI z4)] [] μ Q E) ∧ (x1 &&& 63 = 34 → Wp G Y_L_law 1936 [(0, vP (209, t0, r0)), (1, vP (1, 0, r1)), (2, vP (5, 0, r2)), (3, vP (203, t3, r3)), (4, vI z4)] [] μ Q E) ∧ (x1 &&& 63 = 35 → Wp G Y_L_law 2004 [(0, vP (209, t0, r0)), (1, vP (1, 0, r1)), (2, vP (5, 0, r2)), (3, vP (203, t3, r3)), (4, vI z4)] [] μ Q E) ∧ (x1 &&& 63 = 36 → Wp G Y_L_law 2060 [(0, vP (209, t0, r0)), (1, vP (1, 0, r1)), (2, vP (5, 0, r2)), (3, vP (203, t3, r3)), (4, vI z4)] [] μ Q E) ∧ (x1 &&& 63 = 37 → Wp G Y_L_law 2128 [(0, vP (209, t0, r0)), (1, vP (1, 0, r1)), (2, vP (5, 0, r2)), (3, vP (203, t3, r3)), (4, vI z4)] [] μ Q E) ∧ (x1 &&& 63 = 38 → Wp G Y_L_law 2184 [(0, vP (209, t0, r0)), (1, vP (1, 0, r1)), (2, vP (5, 0, r2)), (3, vP (203, t3, r3)), (4, vI z4)] [] μ Q E) ∧ (x1 &&& 63 = 39 → Wp G Y_L_law 2197 [(0, vP (209, t0, r0)), (1, vP (1, 0, r1)), (2, vP (5, 0, r2)), (3, vP (203, t3, r3)), (4, vI z4)] [] μ Q E) ∧ (x1 &&& 63 = 40 → Wp G Y_L_law 2265 [(0, vP (209, t0, r0)), (1, vP (1, 0, r1)), (2, vP (5, 0, r2)), (3, vP (203, t3, r3)), (4, vI z4)] [] μ Q E) ∧ (x1 &&& 63 = 41 → Wp G Y_L_law 2278 [(0, vP (209, t0, r0)), (1, vP (1, 0, r1)), (2, vP (5, 0, r2)), (3, vP (203, t3, r3)), (4, vI z4)] [] μ Q E) ∧ (x1 &&& 63 = 42 → Wp G Y_L_law 2291 [(0, vP (209, t0, r0)), (1, vP (1, 0, r1)), (2, vP (5, 0, r2)), (3, vP (203, t3, r3)), (4, vI z4)] [] μ Q E) ∧ (x1 &&& 63 = 43 → Wp G Y_L_law 2347 [(0, vP (209, t0, r0)), (1, vP (1, 0, r1)), (2, vP (5, 0, r2)), (3, vP (203, t3, r3)), (4, vI z4)] [] μ Q E) ∧ (x1 &&& 63 = 44 → Wp G Y_L_law 2403 [(0, vP (209, t0, r0)), (1, vP (1, 0, r1)), (2, vP (5, 0, r2)), (3, vP (203, t3, r3)), (4, vI z4)] [] μ Q E) ∧ (x1 &&& 63 = 45 → Wp G Y_L_law 2459 [(0, vP (209, t0, r0)), (1, vP (1, 0, r1)), (2, vP (5, 0, r2)), (3, vP (203, t3, r3)), (4, vI z4)] [] μ Q E) ∧ (x1 &&& 63 = 46 → Wp G Y_L_law 2472 [(0, vP (209, t0, r0)), (1, vP (1, 0, r1)), (2, vP (5, 0, r2)), (3, vP (203, t3, r3)), (4, vI z4)] [] μ Q E) ∧ (x1 &&& 63 = 47 → Wp G Y_L_law 2485 [(0, vP (209, t0, r0)), (1, vP (1, 0, r1)), (2, vP (5, 0, r2)), (3, vP (203, t3, r3)), (4, vI z4)] [] μ Q E) ∧ (x1 &&& 63 = 48 → Wp G Y_L_law 2498 [(0, vP (209, t0, r0)), (1, vP (1, 0, r1)), (2, vP (5, 0, r2)), (3, vP (203, t3, r3)), (4, vI z4)] [] μ Q E) ∧ (x1 &&& 63 = 49 → Wp G Y_L_law 2539 [(0, vP (209, t0, r0)), (1, vP (1, 0, r1)), (2, vP (5, 0, r2)), (3, vP (203, t3, r3)), (4, vI z4)] [] μ Q E) ∧ (x1 &&& 63 = 50 → Wp G Y_L_law 2582 [(0, vP (209, t0, r0)), (1, vP (1, 0, r1)), (2, vP (5, 0, r2)), (3, vP (203, t3, r3)), (4, vI z4)] [] μ Q E) ∧ (x1 &&& 63 = 51 → Wp G Y_L_law 2638 [(0, vP (209, t0, r0)), (1, vP (1, 0, r1)), (2, vP (5, 0, r2)), (3, vP (203, t3, r3)), (4, vI z4)] [] μ Q E) ∧ (x1 &&& 63 = 52 → Wp G Y_L_law 2651 [(0, vP (209, t0, r0)), (1, vP (1, 0, r1)), (2, vP (5, 0, r2)), (3, vP (203, t3, r3)), (4, vI z4)] [] μ Q E) ∧ (x1 &&& 63 = 53 → Wp G Y_L_law 2719 [(0, vP (209, t0, r0)), (1, vP (1, 0, r1)), (2, vP (5, 0, r2)), (3, vP (203, t3, r3)), (4, vI z4)] [] μ Q E) ∧ (x1 &&& 63 = 54 → Wp G Y_L_law 2775 [(0, vP (209, t0, r0)), (1, vP (1, 0, r1)), (2, vP (5, 0, r2)), (3, vP (203, t3, r3)), (4, vI z4)] [] μ Q E) ∧ (x1 &&& 63 = 55 → Wp G Y_L_law 2843 [(0, vP (209, t0, r0)), (1, vP (1, 0, r1)), (2, vP (5, 0, r2)), (3, vP (203, t3, r3)), (4, vI z4)] [] μ Q E) ∧ (x1 &&& 63 = 56 → Wp G Y_L_law 2911 [(0, vP (209, t0, r0)), (1, vP (1, 0, r1)), (2, vP (5, 0, r2)), (3, vP (203, t3, r3)), (4, vI z4)] [] μ Q E) ∧ (x1 &&& 63 = 57 → Wp G Y_L_law 2967 [(0, vP (209, t0, r0)), (1, vP (1, 0, r1)), (2, vP (5, 0, r2)), (3, vP (203, t3, r3)), (4, vI z4)] [] μ Q E) ∧ (x1 &&& 63 = 58 → Wp G Y_L_law 3011 [(0, vP (209, t0, r0)), (1, vP (1, 0, r1)), (2, vP (5, 0, r2)), (3, vP (203, t3, r3)), (4, vI z4)] [] μ Q E) ∧ (x1 &&& 63 = 59 → Wp G Y_L_law 3024 [(0, vP (209, t0, r0)), (1, vP (1, 0, r1)), (2, vP (5, 0, r2)), (3, vP (203, t3, r3)), (4, vI z4)] [] μ Q E) ∧ (x1 &&& 63 = 60 → Wp G Y_L_law 3068 [(0, vP (209, t0, r0)), (1, vP (1, 0, r1)), (2, vP (5, 0, r2)), (3, vP (203, t3, r3)), (4, vI z4)] [] μ Q E) ∧ (x1 &&& 63 = 61 → Wp G Y_L_law 3081 [(0, vP (209, t0, r0)), (1, vP (1, 0, r1)), (2, vP (5, 0, r2)), (3, vP (203, t3, r3)), (4, vI z4)] [] μ Q E) ∧ ((x1 &&& 63).toInt < 0 ∨ 61 < (x1 &&& 63).toInt → Wp G Y_L_law 23 [(0, vP (209, t0, r0)), (1, vP (1, 0, r1)), (2, vP (5, 0, r2)), (3, vP (203, t3, r3)), (4, vI (z4 + 6))] [] μ Q E)))) : Wp G Y_L_law 23 [(0, vP (209, t0, r0)), (1, vP (1, 0, r1)), (2, vP (5, 0, r2)), (3, vP (203, t3, r3)), (4, vI z4)] [] μ Q E := by
  refine Wp_iload 4 dL_law_23 rfl ?_
  refine Wp_aload_n 0 dL_law_25 rfl rfl ?_
  refine Wg_alen dL_law_26 rfl ?_
  refine Wp_bipush dL_law_27 (v := 6) rfl ?_
  refine Wp_isub dL_law_29 ?_
  refine Wp_icmp_gt (tgt := 3112) dL_law_30 rfl (fun hc => ?_) (fun hc => ?_)
  · replace h := h.1 hc
    refine Wp_iconst dL_law_3112 (v := 1) rfl ?_
    exact Wp_ireturn dL_law_3113 rfl (by decide) h
  · replace h := h.2 hc
    refine Wp_aload_n 0 dL_law_33 rfl rfl ?_
    refine Wp_iload 4 dL_law_34 rfl ?_
    obtain ⟨j1, hj1, h⟩ := h
    obtain ⟨x1, e1, h⟩ := h
    refine Wg_iald dL_law_36 rfl hj1 e1 ?_
    refine Wp_bipush dL_law_37 (v := 63) rfl ?_
    refine Wp_iand dL_law_39 ?_
    obtain ⟨h0, h1, h2, h3, h4, h5, h6, h7, h8, h9, h10, h11, h12, h13, h14, h15, h16, h17, h18, h19, h20, h21, h22, h23, h24, h25, h26, h27, h28, h29, h30, h31, h32, h33, h34, h35, h36, h37, h38, h39, h40, h41, h42, h43, h44, h45, h46, h47, h48, h49, h50, h51, h52, h53, h54, h55, h56, h57, h58, h59, h60, h61, h62⟩ := h
    by_cases c0 : x1 &&& 63 = 0
    · replace h := h0 c0
      refine Wp_tableIn (off := 264) (tgt := 304) dL_law_40 (by rw [c0]; decide) (by rw [c0]; decide) (by rw [c0]; rfl) rfl ?_
      exact Wp.lcl [0, 1, 2, 3, 4] rfl h
    by_cases c1 : x1 &&& 63 = 1
    · replace h := h1 c1
      refine Wp_tableIn (off := 368) (tgt := 408) dL_law_40 (by rw [c1]; decide) (by rw [c1]; decide) (by rw [c1]; rfl) rfl ?_
      exact Wp.lcl [0, 1, 2, 3, 4] rfl h
    by_cases c2 : x1 &&& 63 = 2
    · replace h := h2 c2
      refine Wp_tableIn (off := 424) (tgt := 464) dL_law_40 (by rw [c2]; decide) (by rw [c2]; decide) (by rw [c2]; rfl) rfl ?_
      exact Wp.lcl [0, 1, 2, 3, 4] rfl h
    by_cases c3 : x1 &&& 63 = 3
    · replace h := h3 c3
      refine Wp_tableIn (off := 468) (tgt := 508) dL_law_40 (by rw [c3]; decide) (by rw [c3]; decide) (by rw [c3]; rfl) rfl ?_
      exact Wp.lcl [0, 1, 2, 3, 4] rfl h
    by_cases c4 : x1 &&& 63 = 4
    · replace h := h4 c4
      refine Wp_tableIn (off := 512) (tgt := 552) dL_law_40 (by rw [c4]; decide) (by rw [c4]; decide) (by rw [c4]; rfl) rfl ?_
      exact Wp.lcl [0, 1, 2, 3, 4] rfl h
    by_cases c5 : x1 &&& 63 = 5
    · replace h := h5 c5
      refine Wp_tableIn (off := 525) (tgt := 565) dL_law_40 (by rw [c5]; decide) (by rw [c5]; decide) (by rw [c5]; rfl) rfl ?_
      exact Wp.lcl [0, 1, 2, 3, 4] rfl h
    by_cases c6 : x1 &&& 63 = 6
    · replace h := h6 c6
      refine Wp_tableIn (off := 538) (tgt := 578) dL_law_40 (by rw [c6]; decide) (by rw [c6]; decide) (by rw [c6]; rfl) rfl ?_
      exact Wp.lcl [0, 1, 2, 3, 4] rfl h
    by_cases c7 : x1 &&& 63 = 7
    · replace h := h7 c7
      refine Wp_tableIn (off := 551) (tgt := 591) dL_law_40 (by rw [c7]; decide) (by rw [c7]; decide) (by rw [c7]; rfl) rfl ?_
      exact Wp.lcl [0, 1, 2, 3, 4] rfl h
    by_cases c8 : x1 &&& 63 = 8
    · replace h := h8 c8
      refine Wp_tableIn (off := 564) (tgt := 604) dL_law_40 (by rw [c8]; decide) (by rw [c8]; decide) (by rw [c8]; rfl) rfl ?_
      exact Wp.lcl [0, 1, 2, 3, 4] rfl h
    by_cases c9 : x1 &&& 63 = 9
    · replace h := h9 c9
      refine Wp_tableIn (off := 577) (tgt := 617) dL_law_40 (by rw [c9]; decide) (by rw [c9]; decide) (by rw [c9]; rfl) rfl ?_
      exact Wp.lcl [0, 1, 2, 3, 4] rfl h
    by_cases c10 : x1 &&& 63 = 10
    · replace h := h10 c10
      refine Wp_tableIn (off := 590) (tgt := 630) dL_law_40 (by rw [c10]; decide) (by rw [c10]; decide) (by rw [c10]; rfl) rfl ?_
      exact Wp.lcl [0, 1, 2, 3, 4] rfl h
    by_cases c11 : x1 &&& 63 = 11
    · replace h := h11 c11
      refine Wp_tableIn (off := 646) (tgt := 686) dL_law_40 (by rw [c11]; decide) (by rw [c11]; decide) (by rw [c11]; rfl) rfl ?_
      exact Wp.lcl [0, 1, 2, 3, 4] rfl h
    by_cases c12 : x1 &&& 63 = 12
    · replace h := h12 c12
      refine Wp_tableIn (off := 659) (tgt := 699) dL_law_40 (by rw [c12]; decide) (by rw [c12]; decide) (by rw [c12]; rfl) rfl ?_
      exact Wp.lcl [0, 1, 2, 3, 4] rfl h
    by_cases c13 : x1 &&& 63 = 13
    · replace h := h13 c13
      refine Wp_tableIn (off := 672) (tgt := 712) dL_law_40 (by rw [c13]; decide) (by rw [c13]; decide) (by rw [c13]; rfl) rfl ?_
      exact Wp.lcl [0, 1, 2, 3, 4] rfl h
    by_cases c14 : x1 &&& 63 = 14
    · replace h := h14 c14
      refine Wp_tableIn (off := 728) (tgt := 768) dL_law_40 (by rw [c14]; decide) (by rw [c14]; decide) (by rw [c14]; rfl) rfl ?_
      exact Wp.lcl [0, 1, 2, 3, 4] rfl h
    by_cases c15 : x1 &&& 63 = 15
    · replace h := h15 c15
      refine Wp_tableIn (off := 784) (tgt := 824) dL_law_40 (by rw [c15]; decide) (by rw [c15]; decide) (by rw [c15]; rfl) rfl ?_
      exact Wp.lcl [0, 1, 2, 3, 4] rfl h
    by_cases c16 : x1 &&& 63 = 16
    · replace h := h16 c16
      refine Wp_tableIn (off := 840) (tgt := 880) dL_law_40 (by rw [c16]; decide) (by rw [c16]; decide) (by rw [c16]; rfl) rfl ?_
      exact Wp.lcl [0, 1, 2, 3, 4] rfl h
    by_cases c17 : x1 &&& 63 = 17
    · replace h := h17 c17
      refine Wp_tableIn (off := 896) (tgt := 936) dL_law_40 (by rw [c17]; decide) (by rw [c17]; decide) (by rw [c17]; rfl) rfl ?_
      exact Wp.lcl [0, 1, 2, 3, 4] rfl h
    by_cases c18 : x1 &&& 63 = 18
    · replace h := h18 c18
      refine Wp_tableIn (off := 952) (tgt := 992) dL_law_40 (by rw [c18]; decide) (by rw [c18]; decide) (by rw [c18]; rfl) rfl ?_
      exact Wp.lcl [0, 1, 2, 3, 4] rfl h
    by_cases c19 : x1 &&& 63 = 19
    · replace h := h19 c19
      refine Wp_tableIn (off := 1008) (tgt := 1048) dL_law_40 (by rw [c19]; decide) (by rw [c19]; decide) (by rw [c19]; rfl) rfl ?_
      exact Wp.lcl [0, 1, 2, 3, 4] rfl h
    by_cases c20 : x1 &&& 63 = 20
    · replace h := h20 c20
      refine Wp_tableIn (off := 1064) (tgt := 1104) dL_law_40 (by rw [c20]; decide) (by rw [c20]; decide) (by rw [c20]; rfl) rfl ?_
      exact Wp.lcl [0, 1, 2, 3, 4] rfl h
    by_cases c21 : x1 &&& 63 = 21
    · replace h := h21 c21
      refine Wp_tableIn (off := 1120) (tgt := 1160) dL_law_40 (by rw [c21]; decide) (by rw [c21]; decide) (by rw [c21]; rfl) rfl ?_
      exact Wp.lcl [0, 1, 2, 3, 4] rfl h
    by_cases c22 : x1 &&& 63 = 22
    · replace h := h22 c22
      refine Wp_tableIn (off := 1176) (tgt := 1216) dL_law_40 (by rw [c22]; decide) (by rw [c22]; decide) (by rw [c22]; rfl) rfl ?_
      exact Wp.lcl [0, 1, 2, 3, 4] rfl h
    by_cases c23 : x1 &&& 63 = 23
    · replace h := h23 c23
      refine Wp_tableIn (off := 1232) (tgt := 1272) dL_law_40 (by rw [c23]; decide) (by rw [c23]; decide) (by rw [c23]; rfl) rfl ?_
      exact Wp.lcl [0, 1, 2, 3, 4] rfl h
    by_cases c24 : x1 &&& 63 = 24
    · replace h := h24 c24
      refine Wp_tableIn (off := 1288) (tgt := 1328) dL_law_40 (by rw [c24]; decide) (by rw [c24]; decide) (by rw [c24]; rfl) rfl ?_
      exact Wp.lcl [0, 1, 2, 3, 4] rfl h
    by_cases c25 : x1 &&& 63 = 25
    · replace h := h25 c25
      refine Wp_tableIn (off := 1344) (tgt := 1384) dL_law_40 (by rw [c25]; decide) (by rw [c25]; decide) (by rw [c25]; rfl) rfl ?_
      exact Wp.lcl [0, 1, 2, 3, 4] rfl h
    by_cases c26 : x1 &&& 63 = 26
    · replace h := h26 c26
      refine Wp_tableIn (off := 1412) (tgt := 1452) dL_law_40 (by rw [c26]; decide) (by rw [c26]; decide) (by rw [c26]; rfl) rfl ?_
      exact Wp.lcl [0, 1, 2, 3, 4] rfl h
    by_cases c27 : x1 &&& 63 = 27
    · replace h := h27 c27
      refine Wp_tableIn (off := 1487) (tgt := 1527) dL_law_40 (by rw [c27]; decide) (by rw [c27]; decide) (by rw [c27]; rfl) rfl ?_
      exact Wp.lcl [0, 1, 2, 3, 4] rfl h
    by_cases c28 : x1 &&& 63 = 28
    · replace h := h28 c28
      refine Wp_tableIn (off := 1555) (tgt := 1595) dL_law_40 (by rw [c28]; decide) (by rw [c28]; decide) (by rw [c28]; rfl) rfl ?_
      exact Wp.lcl [0, 1, 2, 3, 4] rfl h
    by_cases c29 : x1 &&& 63 = 29
    · replace h := h29 c29
      refine Wp_tableIn (off := 1623) (tgt := 1663) dL_law_40 (by rw [c29]; decide) (by rw [c29]; decide) (by rw [c29]; rfl) rfl ?_
      exact Wp.lcl [0, 1, 2, 3, 4] rfl h
    by_cases c30 : x1 &&& 63 = 30
    · replace h := h30 c30
      refine Wp_tableIn (off := 1691) (tgt := 1731) dL_law_40 (by rw [c30]; decide) (by rw [c30]; decide) (by rw [c30]; rfl) rfl ?_
      exact Wp.lcl [0, 1, 2, 3, 4] rfl h
    by_cases c31 : x1 &&& 63 = 31
    · replace h := h31 c31
      refine Wp_tableIn (off := 1759) (tgt := 1799) dL_law_40 (by rw [c31]; decide) (by rw [c31]; decide) (by rw [c31]; rfl) rfl ?_
      exact Wp.lcl [0, 1, 2, 3, 4] rfl h
    by_cases c32 : x1 &&& 63 = 32
    · replace h := h32 c32
      refine Wp_tableIn (off := 1772) (tgt := 1812) dL_law_40 (by rw [c32]; decide) (by rw [c32]; decide) (by rw [c32]; rfl) rfl ?_
      exact Wp.lcl [0, 1, 2, 3, 4] rfl h
    by_cases c33 : x1 &&& 63 = 33
    · replace h := h33 c33
      refine Wp_tableIn (off := 1828) (tgt := 1868) dL_law_40 (by rw [c33]; decide) (by rw [c33]; decide) (by rw [c33]; rfl) rfl ?_
      exact Wp.lcl [0, 1, 2, 3, 4] rfl h
    by_cases c34 : x1 &&& 63 = 34
    · replace h := h34 c34
      refine Wp_tableIn (off := 1896) (tgt := 1936) dL_law_40 (by rw [c34]; decide) (by rw [c34]; decide) (by rw [c34]; rfl) rfl ?_
      exact Wp.lcl [0, 1, 2, 3, 4] rfl h
    by_cases c35 : x1 &&& 63 = 35
    · replace h := h35 c35
      refine Wp_tableIn (off := 1964) (tgt := 2004) dL_law_40 (by rw [c35]; decide) (by rw [c35]; decide) (by rw [c35]; rfl) rfl ?_
      exact Wp.lcl [0, 1, 2, 3, 4] rfl h
    by_cases c36 : x1 &&& 63 = 36
    · replace h := h36 c36
      refine Wp_tableIn (off := 2020) (tgt := 2060) dL_law_40 (by rw [c36]; decide) (by rw [c36]; decide) (by rw [c36]; rfl) rfl ?_
      exact Wp.lcl [0, 1, 2, 3, 4] rfl h
    by_cases c37 : x1 &&& 63 = 37
    · replace h := h37 c37
      refine Wp_tableIn (off := 2088) (tgt := 2128) dL_law_40 (by rw [c37]; decide) (by rw [c37]; decide) (by rw [c37]; rfl) rfl ?_
      exact Wp.lcl [0, 1, 2, 3, 4] rfl h
    by_cases c38 : x1 &&& 63 = 38
    · replace h := h38 c38
      refine Wp_tableIn (off := 2144) (tgt := 2184) dL_law_40 (by rw [c38]; decide) (by rw [c38]; decide) (by rw [c38]; rfl) rfl ?_
      exact Wp.lcl [0, 1, 2, 3, 4] rfl h
    by_cases c39 : x1 &&& 63 = 39
    · replace h := h39 c39
      refine Wp_tableIn (off := 2157) (tgt := 2197) dL_law_40 (by rw [c39]; decide) (by rw [c39]; decide) (by rw [c39]; rfl) rfl ?_
      exact Wp.lcl [0, 1, 2, 3, 4] rfl h
    by_cases c40 : x1 &&& 63 = 40
    · replace h := h40 c40
      refine Wp_tableIn (off := 2225) (tgt := 2265) dL_law_40 (by rw [c40]; decide) (by rw [c40]; decide) (by rw [c40]; rfl) rfl ?_
      exact Wp.lcl [0, 1, 2, 3, 4] rfl h
    by_cases c41 : x1 &&& 63 = 41
    · replace h := h41 c41
      refine Wp_tableIn (off := 2238) (tgt := 2278) dL_law_40 (by rw [c41]; decide) (by rw [c41]; decide) (by rw [c41]; rfl) rfl ?_
      exact Wp.lcl [0, 1, 2, 3, 4] rfl h
    by_cases c42 : x1 &&& 63 = 42
    · replace h := h42 c42
      refine Wp_tableIn (off := 2251) (tgt := 2291) dL_law_40 (by rw [c42]; decide) (by rw [c42]; decide) (by rw [c42]; rfl) rfl ?_
      exact Wp.lcl [0, 1, 2, 3, 4] rfl h
    by_cases c43 : x1 &&& 63 = 43
    · replace h := h43 c43
      refine Wp_tableIn (off := 2307) (tgt := 2347) dL_law_40 (by rw [c43]; decide) (by rw [c43]; decide) (by rw [c43]; rfl) rfl ?_
      exact Wp.lcl [0, 1, 2, 3, 4] rfl h
    by_cases c44 : x1 &&& 63 = 44
    · replace h := h44 c44
      refine Wp_tableIn (off := 2363) (tgt := 2403) dL_law_40 (by rw [c44]; decide) (by rw [c44]; decide) (by rw [c44]; rfl) rfl ?_
      exact Wp.lcl [0, 1, 2, 3, 4] rfl h
    by_cases c45 : x1 &&& 63 = 45
    · replace h := h45 c45
      refine Wp_tableIn (off := 2419) (tgt := 2459) dL_law_40 (by rw [c45]; decide) (by rw [c45]; decide) (by rw [c45]; rfl) rfl ?_
      exact Wp.lcl [0, 1, 2, 3, 4] rfl h
    by_cases c46 : x1 &&& 63 = 46
    · replace h := h46 c46
      refine Wp_tableIn (off := 2432) (tgt := 2472) dL_law_40 (by rw [c46]; decide) (by rw [c46]; decide) (by rw [c46]; rfl) rfl ?_
      exact Wp.lcl [0, 1, 2, 3, 4] rfl h
    by_cases c47 : x1 &&& 63 = 47
    · replace h := h47 c47
      refine Wp_tableIn (off := 2445) (tgt := 2485) dL_law_40 (by rw [c47]; decide) (by rw [c47]; decide) (by rw [c47]; rfl) rfl ?_
      exact Wp.lcl [0, 1, 2, 3, 4] rfl h
    by_cases c48 : x1 &&& 63 = 48
    · replace h := h48 c48
      refine Wp_tableIn (off := 2458) (tgt := 2498) dL_law_40 (by rw [c48]; decide) (by rw [c48]; decide) (by rw [c48]; rfl) rfl ?_
      exact Wp.lcl [0, 1, 2, 3, 4] rfl h
    by_cases c49 : x1 &&& 63 = 49
    · replace h := h49 c49
      refine Wp_tableIn (off := 2499) (tgt := 2539) dL_law_40 (by rw [c49]; decide) (by rw [c49]; decide) (by rw [c49]; rfl) rfl ?_
      exact Wp.lcl [0, 1, 2, 3, 4] rfl h
    by_cases c50 : x1 &&& 63 = 50
    · replace h := h50 c50
      refine Wp_tableIn (off := 2542) (tgt := 2582) dL_law_40 (by rw [c50]; decide) (by rw [c50]; decide) (by rw [c50]; rfl) rfl ?_
      exact Wp.lcl [0, 1, 2, 3, 4] rfl h
    by_cases c51 : x1 &&& 63 = 51
    · replace h := h51 c51
      refine Wp_tableIn (off := 2598) (tgt := 2638) dL_law_40 (by rw [c51]; decide) (by rw [c51]; decide) (by rw [c51]; rfl) rfl ?_
      exact Wp.lcl [0, 1, 2, 3, 4] rfl h
    by_cases c52 : x1 &&& 63 = 52
    · replace h := h52 c52
      refine Wp_tableIn (off := 2611) (tgt := 2651) dL_law_40 (by rw [c52]; decide) (by rw [c52]; decide) (by rw [c52]; rfl) rfl ?_
      exact Wp.lcl [0, 1, 2, 3, 4] rfl h
    by_cases c53 : x1 &&& 63 = 53
    · replace h := h53 c53
      refine Wp_tableIn (off := 2679) (tgt := 2719) dL_law_40 (by rw [c53]; decide) (by rw [c53]; decide) (by rw [c53]; rfl) rfl ?_
      exact Wp.lcl [0, 1, 2, 3, 4] rfl h
    by_cases c54 : x1 &&& 63 = 54
    · replace h := h54 c54
      refine Wp_tableIn (off := 2735) (tgt := 2775) dL_law_40 (by rw [c54]; decide) (by rw [c54]; decide) (by rw [c54]; rfl) rfl ?_
      exact Wp.lcl [0, 1, 2, 3, 4] rfl h
    by_cases c55 : x1 &&& 63 = 55
    · replace h := h55 c55
      refine Wp_tableIn (off := 2803) (tgt := 2843) dL_law_40 (by rw [c55]; decide) (by rw [c55]; decide) (by rw [c55]; rfl) rfl ?_
      exact Wp.lcl [0, 1, 2, 3, 4] rfl h
    by_cases c56 : x1 &&& 63 = 56
    · replace h := h56 c56
      refine Wp_tableIn (off := 2871) (tgt := 2911) dL_law_40 (by rw [c56]; decide) (by rw [c56]; decide) (by rw [c56]; rfl) rfl ?_
      exact Wp.lcl [0, 1, 2, 3, 4] rfl h
    by_cases c57 : x1 &&& 63 = 57
    · replace h := h57 c57
      refine Wp_tableIn (off := 2927) (tgt := 2967) dL_law_40 (by rw [c57]; decide) (by rw [c57]; decide) (by rw [c57]; rfl) rfl ?_
      exact Wp.lcl [0, 1, 2, 3, 4] rfl h
    by_cases c58 : x1 &&& 63 = 58
    · replace h := h58 c58
      refine Wp_tableIn (off := 2971) (tgt := 3011) dL_law_40 (by rw [c58]; decide) (by rw [c58]; decide) (by rw [c58]; rfl) rfl ?_
      exact Wp.lcl [0, 1, 2, 3, 4] rfl h
    by_cases c59 : x1 &&& 63 = 59
    · replace h := h59 c59
      refine Wp_tableIn (off := 2984) (tgt := 3024) dL_law_40 (by rw [c59]; decide) (by rw [c59]; decide) (by rw [c59]; rfl) rfl ?_
      exact Wp.lcl [0, 1, 2, 3, 4] rfl h
    by_cases c60 : x1 &&& 63 = 60
    · replace h := h60 c60
      refine Wp_tableIn (off := 3028) (tgt := 3068) dL_law_40 (by rw [c60]; decide) (by rw [c60]; decide) (by rw [c60]; rfl) rfl ?_
      exact Wp.lcl [0, 1, 2, 3, 4] rfl h
    by_cases c61 : x1 &&& 63 = 61
    · replace h := h61 c61
      refine Wp_tableIn (off := 3041) (tgt := 3081) dL_law_40 (by rw [c61]; decide) (by rw [c61]; decide) (by rw [c61]; rfl) rfl ?_
      exact Wp.lcl [0, 1, 2, 3, 4] rfl h
    have tt0 : (x1 &&& 63).toInt ≠ 0 := fun e => c0 (Int32.toInt_inj.mp (by rw [e]; rfl))
    have tt1 : (x1 &&& 63).toInt ≠ 1 := fun e => c1 (Int32.toInt_inj.mp (by rw [e]; rfl))
    have tt2 : (x1 &&& 63).toInt ≠ 2 := fun e => c2 (Int32.toInt_inj.mp (by rw [e]; rfl))
    have tt3 : (x1 &&& 63).toInt ≠ 3 := fun e => c3 (Int32.toInt_inj.mp (by rw [e]; rfl))
    have tt4 : (x1 &&& 63).toInt ≠ 4 := fun e => c4 (Int32.toInt_inj.mp (by rw [e]; rfl))
    have tt5 : (x1 &&& 63).toInt ≠ 5 := fun e => c5 (Int32.toInt_inj.mp (by rw [e]; rfl))
    have tt6 : (x1 &&& 63).toInt ≠ 6 := fun e => c6 (Int32.toInt_inj.mp (by rw [e]; rfl))
    have tt7 : (x1 &&& 63).toInt ≠ 7 := fun e => c7 (Int32.toInt_inj.mp (by rw [e]; rfl))
    have tt8 : (x1 &&& 63).toInt ≠ 8 := fun e => c8 (Int32.toInt_inj.mp (by rw [e]; rfl))
    have tt9 : (x1 &&& 63).toInt ≠ 9 := fun e => c9 (Int32.toInt_inj.mp (by rw [e]; rfl))
    have tt10 : (x1 &&& 63).toInt ≠ 10 := fun e => c10 (Int32.toInt_inj.mp (by rw [e]; rfl))
    have tt11 : (x1 &&& 63).toInt ≠ 11 := fun e => c11 (Int32.toInt_inj.mp (by rw [e]; rfl))
    have tt12 : (x1 &&& 63).toInt ≠ 12 := fun e => c12 (Int32.toInt_inj.mp (by rw [e]; rfl))
    have tt13 : (x1 &&& 63).toInt ≠ 13 := fun e => c13 (Int32.toInt_inj.mp (by rw [e]; rfl))
    have tt14 : (x1 &&& 63).toInt ≠ 14 := fun e => c14 (Int32.toInt_inj.mp (by rw [e]; rfl))
    have tt15 : (x1 &&& 63).toInt ≠ 15 := fun e => c15 (Int32.toInt_inj.mp (by rw [e]; rfl))
    have tt16 : (x1 &&& 63).toInt ≠ 16 := fun e => c16 (Int32.toInt_inj.mp (by rw [e]; rfl))
    have tt17 : (x1 &&& 63).toInt ≠ 17 := fun e => c17 (Int32.toInt_inj.mp (by rw [e]; rfl))
    have tt18 : (x1 &&& 63).toInt ≠ 18 := fun e => c18 (Int32.toInt_inj.mp (by rw [e]; rfl))
    have tt19 : (x1 &&& 63).toInt ≠ 19 := fun e => c19 (Int32.toInt_inj.mp (by rw [e]; rfl))
    have tt20 : (x1 &&& 63).toInt ≠ 20 := fun e => c20 (Int32.toInt_inj.mp (by rw [e]; rfl))
    have tt21 : (x1 &&& 63).toInt ≠ 21 := fun e => c21 (Int32.toInt_inj.mp (by rw [e]; rfl))
    have tt22 : (x1 &&& 63).toInt ≠ 22 := fun e => c22 (Int32.toInt_inj.mp (by rw [e]; rfl))
    have tt23 : (x1 &&& 63).toInt ≠ 23 := fun e => c23 (Int32.toInt_inj.mp (by rw [e]; rfl))
    have tt24 : (x1 &&& 63).toInt ≠ 24 := fun e => c24 (Int32.toInt_inj.mp (by rw [e]; rfl))
    have tt25 : (x1 &&& 63).toInt ≠ 25 := fun e => c25 (Int32.toInt_inj.mp (by rw [e]; rfl))
    have tt26 : (x1 &&& 63).toInt ≠ 26 := fun e => c26 (Int32.toInt_inj.mp (by rw [e]; rfl))
    have tt27 : (x1 &&& 63).toInt ≠ 27 := fun e => c27 (Int32.toInt_inj.mp (by rw [e]; rfl))
    have tt28 : (x1 &&& 63).toInt ≠ 28 := fun e => c28 (Int32.toInt_inj.mp (by rw [e]; rfl))
    have tt29 : (x1 &&& 63).toInt ≠ 29 := fun e => c29 (Int32.toInt_inj.mp (by rw [e]; rfl))
    have tt30 : (x1 &&& 63).toInt ≠ 30 := fun e => c30 (Int32.toInt_inj.mp (by rw [e]; rfl))
    have tt31 : (x1 &&& 63).toInt ≠ 31 := fun e => c31 (Int32.toInt_inj.mp (by rw [e]; rfl))
    have tt32 : (x1 &&& 63).toInt ≠ 32 := fun e => c32 (Int32.toInt_inj.mp (by rw [e]; rfl))
    have tt33 : (x1 &&& 63).toInt ≠ 33 := fun e => c33 (Int32.toInt_inj.mp (by rw [e]; rfl))
    have tt34 : (x1 &&& 63).toInt ≠ 34 := fun e => c34 (Int32.toInt_inj.mp (by rw [e]; rfl))
    have tt35 : (x1 &&& 63).toInt ≠ 35 := fun e => c35 (Int32.toInt_inj.mp (by rw [e]; rfl))
    have tt36 : (x1 &&& 63).toInt ≠ 36 := fun e => c36 (Int32.toInt_inj.mp (by rw [e]; rfl))
    have tt37 : (x1 &&& 63).toInt ≠ 37 := fun e => c37 (Int32.toInt_inj.mp (by rw [e]; rfl))
    have tt38 : (x1 &&& 63).toInt ≠ 38 := fun e => c38 (Int32.toInt_inj.mp (by rw [e]; rfl))
    have tt39 : (x1 &&& 63).toInt ≠ 39 := fun e => c39 (Int32.toInt_inj.mp (by rw [e]; rfl))
    have tt40 : (x1 &&& 63).toInt ≠ 40 := fun e => c40 (Int32.toInt_inj.mp (by rw [e]; rfl))
    have tt41 : (x1 &&& 63).toInt ≠ 41 := fun e => c41 (Int32.toInt_inj.mp (by rw [e]; rfl))
    have tt42 : (x1 &&& 63).toInt ≠ 42 := fun e => c42 (Int32.toInt_inj.mp (by rw [e]; rfl))
    have tt43 : (x1 &&& 63).toInt ≠ 43 := fun e => c43 (Int32.toInt_inj.mp (by rw [e]; rfl))
    have tt44 : (x1 &&& 63).toInt ≠ 44 := fun e => c44 (Int32.toInt_inj.mp (by rw [e]; rfl))
    have tt45 : (x1 &&& 63).toInt ≠ 45 := fun e => c45 (Int32.toInt_inj.mp (by rw [e]; rfl))
    have tt46 : (x1 &&& 63).toInt ≠ 46 := fun e => c46 (Int32.toInt_inj.mp (by rw [e]; rfl))
    have tt47 : (x1 &&& 63).toInt ≠ 47 := fun e => c47 (Int32.toInt_inj.mp (by rw [e]; rfl))
    have tt48 : (x1 &&& 63).toInt ≠ 48 := fun e => c48 (Int32.toInt_inj.mp (by rw [e]; rfl))
    have tt49 : (x1 &&& 63).toInt ≠ 49 := fun e => c49 (Int32.toInt_inj.mp (by rw [e]; rfl))
    have tt50 : (x1 &&& 63).toInt ≠ 50 := fun e => c50 (Int32.toInt_inj.mp (by rw [e]; rfl))
    have tt51 : (x1 &&& 63).toInt ≠ 51 := fun e => c51 (Int32.toInt_inj.mp (by rw [e]; rfl))
    have tt52 : (x1 &&& 63).toInt ≠ 52 := fun e => c52 (Int32.toInt_inj.mp (by rw [e]; rfl))
    have tt53 : (x1 &&& 63).toInt ≠ 53 := fun e => c53 (Int32.toInt_inj.mp (by rw [e]; rfl))
    have tt54 : (x1 &&& 63).toInt ≠ 54 := fun e => c54 (Int32.toInt_inj.mp (by rw [e]; rfl))
    have tt55 : (x1 &&& 63).toInt ≠ 55 := fun e => c55 (Int32.toInt_inj.mp (by rw [e]; rfl))
    have tt56 : (x1 &&& 63).toInt ≠ 56 := fun e => c56 (Int32.toInt_inj.mp (by rw [e]; rfl))
    have tt57 : (x1 &&& 63).toInt ≠ 57 := fun e => c57 (Int32.toInt_inj.mp (by rw [e]; rfl))
    have tt58 : (x1 &&& 63).toInt ≠ 58 := fun e => c58 (Int32.toInt_inj.mp (by rw [e]; rfl))
    have tt59 : (x1 &&& 63).toInt ≠ 59 := fun e => c59 (Int32.toInt_inj.mp (by rw [e]; rfl))
    have tt60 : (x1 &&& 63).toInt ≠ 60 := fun e => c60 (Int32.toInt_inj.mp (by rw [e]; rfl))
    have tt61 : (x1 &&& 63).toInt ≠ 61 := fun e => c61 (Int32.toInt_inj.mp (by rw [e]; rfl))
    have ho : (x1 &&& 63).toInt < 0 ∨ 61 < (x1 &&& 63).toInt := by omega
    replace h := h62 ho
    refine Wp_tableOut (tgt := 3106) dL_law_40 ho rfl ?_
    refine Wp_iinc 4 [0, 1, 2, 3, 4] (ls' := [(4, vI (z4 + 6)), (0, vP (209, t0, r0)), (1, vP (1, 0, r1)), (2, vP (5, 0, r2)), (3, vP (203, t3, r3))]) dL_law_3106 rfl (v := 6) rfl (zlt rfl) rfl ?_
    refine Wp_goto (tgt := 23) dL_law_3109 rfl ?_
    exact Wp.lcl [1, 2, 3, 4, 0] rfl h
theorem B_L_law_304 {G : ZG} {μ : ZM} {Q : Option ZV → ZM → Prop} {E : ZP → ZM → Prop} {t0 : Nat} {r0 : Nat} {r1 : Nat} {r2 : Nat} {t3 : Nat} {r3 : Nat} {z4 : Int32}
    (h : ∃ j1, zix (z4 + 1) j1 t0 ∧ ∃ x1, zai μ r0 j1 = x1 ∧ ∃ j2, zix (z4 + 2) j2 t0 ∧ ∃ x2, zai μ r0 j2 = x2 ∧ ∃ j3, zix (z4 + 3) j3 t0 ∧ ∃ x3, zai μ r0 j3 = x3 ∧ ∃ j4, zix (z4 + 4) j4 t0 ∧ ∃ x4, zai μ r0 j4 = x4 ∧ ∃ j5, zix (z4 + 5) j5 t0 ∧ ∃ x5, zai μ r0 j5 = x5 ∧ Call G Y_X0_append [vP (1, 0, r1), vI x1, vI x2, vI x3, vI x4, vI x5, vP (203, t3, r3)] μ (rI fun x6 ν1 => ∃ j6, zix (z4 + 1) j6 t0 ∧ ∃ x7, zai ν1 r0 j6 = x7 ∧ ∃ j7, zix (z4 + 2) j7 t0 ∧ ∃ x8, zai ν1 r0 j7 = x8 ∧ ∃ j8, zix (z4 + 3) j8 t0 ∧ ∃ x9, zai ν1 r0 j8 = x9 ∧ ∃ j9, zix (z4 + 4) j9 t0 ∧ ∃ x10, zai ν1 r0 j9 = x10 ∧ ∃ j10, zix (z4 + 5) j10 t0 ∧ ∃ x11, zai ν1 r0 j10 = x11 ∧ Call G Y_X5_append [vP (5, 0, r2), vI x7, vI x8, vI x9, vI x10, vI x11] ν1 (rI fun x12 ν2 => Call G Y_X5_thrown [vP (5, 0, r2)] ν2 (rI fun x13 ν3 => (x13 = x6 → ((¬ x6 = 0 → Wp G Y_L_law 23 [(0, vP (209, t0, r0)), (1, vP (1, 0, r1)), (2, vP (5, 0, r2)), (3, vP (203, t3, r3)), (4, vI (z4 + 6))] [] ν3 Q E) ∧ (x6 = 0 → (0 < t3 ∧ ∃ l1, zal ν3 r3 0 = l1 ∧ ((lg_cmp l1 x12.toInt64) = 0 → Wp G Y_L_law 23 [(0, vP (209, t0, r0)), (1, vP (1, 0, r1)), (2, vP (5, 0, r2)), (3, vP (203, t3, r3)), (4, vI (z4 + 6))] [] ν3 Q E) ∧ (¬ (lg_cmp l1 x12.toInt64) = 0 → Q (some (vI 0)) ν3))))) ∧ (¬ x13 = x6 → Q (some (vI 0)) ν3)) (fun q ν => zkc q.1 = true ∧ E q ν)) (fun q ν => zkc q.1 = true ∧ E q ν)) (fun q ν => zkc q.1 = true ∧ E q ν)) : Wp G Y_L_law 304 [(0, vP (209, t0, r0)), (1, vP (1, 0, r1)), (2, vP (5, 0, r2)), (3, vP (203, t3, r3)), (4, vI z4)] [] μ Q E := by
  refine Wp_aload_n 1 dL_law_304 rfl rfl ?_
  refine Wp_aload_n 0 dL_law_305 rfl rfl ?_
  refine Wp_iload 4 dL_law_306 rfl ?_
  refine Wp_iconst dL_law_308 (v := 1) rfl ?_
  refine Wp_iadd dL_law_309 ?_
  obtain ⟨j1, hj1, h⟩ := h
  obtain ⟨x1, e1, h⟩ := h
  refine Wg_iald dL_law_310 rfl hj1 e1 ?_
  refine Wp_aload_n 0 dL_law_311 rfl rfl ?_
  refine Wp_iload 4 dL_law_312 rfl ?_
  refine Wp_iconst dL_law_314 (v := 2) rfl ?_
  refine Wp_iadd dL_law_315 ?_
  obtain ⟨j2, hj2, h⟩ := h
  obtain ⟨x2, e2, h⟩ := h
  refine Wg_iald dL_law_316 rfl hj2 e2 ?_
  refine Wp_aload_n 0 dL_law_317 rfl rfl ?_
  refine Wp_iload 4 dL_law_318 rfl ?_
  refine Wp_iconst dL_law_320 (v := 3) rfl ?_
  refine Wp_iadd dL_law_321 ?_
  obtain ⟨j3, hj3, h⟩ := h
  obtain ⟨x3, e3, h⟩ := h
  refine Wg_iald dL_law_322 rfl hj3 e3 ?_
  refine Wp_aload_n 0 dL_law_323 rfl rfl ?_
  refine Wp_iload 4 dL_law_324 rfl ?_
  refine Wp_iconst dL_law_326 (v := 4) rfl ?_
  refine Wp_iadd dL_law_327 ?_
  obtain ⟨j4, hj4, h⟩ := h
  obtain ⟨x4, e4, h⟩ := h
  refine Wg_iald dL_law_328 rfl hj4 e4 ?_
  refine Wp_aload_n 0 dL_law_329 rfl rfl ?_
  refine Wp_iload 4 dL_law_330 rfl ?_
  refine Wp_iconst dL_law_332 (v := 5) rfl ?_
  refine Wp_iadd dL_law_333 ?_
  obtain ⟨j5, hj5, h⟩ := h
  obtain ⟨x5, e5, h⟩ := h
  refine Wg_iald dL_law_334 rfl hj5 e5 ?_
  refine Wp_aload_n 3 dL_law_335 rfl rfl ?_
  refine Wp_stat Y_X0_append [vP (1, 0, r1), vI x1, vI x2, vI x3, vI x4, vI x5, vP (203, t3, r3)] K_X0_append KS_X0_append KT_X0_append rfl q3034 dL_law_336 (zlt rfl) (Nat.le_of_ble_eq_true rfl) rfl (Call.toI h rfl fun x6 ν1 h => ?_)
  refine Wp_istore [0, 1, 2, 3, 4, 5] (ls' := [(5, vI x6), (0, vP (209, t0, r0)), (1, vP (1, 0, r1)), (2, vP (5, 0, r2)), (3, vP (203, t3, r3)), (4, vI z4)]) dL_law_339 (zlt rfl) rfl ?_
  refine Wp_aload_n 3 dL_law_341 rfl rfl ?_
  refine Wp_aload_n 1 dL_law_342 rfl rfl ?_
  refine Wp_iload 5 dL_law_343 rfl ?_
  refine Wp_iconst dL_law_345 (v := 1) rfl ?_
  refine Wp_iadd dL_law_346 ?_
  obtain ⟨j6, hj6, h⟩ := h
  obtain ⟨x7, e6, h⟩ := h
  refine Wg_iald dL_law_347 rfl hj6 e6 ?_
  refine Wp_aload_n 1 dL_law_348 rfl rfl ?_
  refine Wp_iload 5 dL_law_349 rfl ?_
  refine Wp_iconst dL_law_351 (v := 2) rfl ?_
  refine Wp_iadd dL_law_352 ?_
  obtain ⟨j7, hj7, h⟩ := h
  obtain ⟨x8, e7, h⟩ := h
  refine Wg_iald dL_law_353 rfl hj7 e7 ?_
  refine Wp_aload_n 1 dL_law_354 rfl rfl ?_
  refine Wp_iload 5 dL_law_355 rfl ?_
  refine Wp_iconst dL_law_357 (v := 3) rfl ?_
  refine Wp_iadd dL_law_358 ?_
  obtain ⟨j8, hj8, h⟩ := h
  obtain ⟨x9, e8, h⟩ := h
  refine Wg_iald dL_law_359 rfl hj8 e8 ?_
  refine Wp_aload_n 1 dL_law_360 rfl rfl ?_
  refine Wp_iload 5 dL_law_361 rfl ?_
  refine Wp_iconst dL_law_363 (v := 4) rfl ?_
  refine Wp_iadd dL_law_364 ?_
  obtain ⟨j9, hj9, h⟩ := h
  obtain ⟨x10, e9, h⟩ := h
  refine Wg_iald dL_law_365 rfl hj9 e9 ?_
  refine Wp_aload_n 1 dL_law_366 rfl rfl ?_
  refine Wp_iload 5 dL_law_367 rfl ?_
  refine Wp_iconst dL_law_369 (v := 5) rfl ?_
  refine Wp_iadd dL_law_370 ?_
  obtain ⟨j10, hj10, h⟩ := h
  obtain ⟨x11, e10, h⟩ := h
  refine Wg_iald dL_law_371 rfl hj10 e10 ?_
  refine Wp_vown Y_X5_append (5, 0, r2) [vI x7, vI x8, vI x9, vI x10, vI x11] K_X5_append KI_X5_append q4029 rfl rfl rfl q4027 dL_law_372 KS_X5_append (zlt rfl) (Nat.le_of_ble_eq_true rfl) rfl (Call.toI h rfl fun x12 ν2 h => ?_)
  refine Wp_istore [0, 1, 2, 3, 4, 5, 6] (ls' := [(6, vI x12), (5, vI x6), (0, vP (209, t0, r0)), (1, vP (1, 0, r1)), (2, vP (5, 0, r2)), (3, vP (203, t3, r3)), (4, vI z4)]) dL_law_375 (zlt rfl) rfl ?_
  refine Wp_aload_n 4 dL_law_377 rfl rfl ?_
  refine Wp_vown Y_X5_thrown (5, 0, r2) [] K_X5_thrown KI_X5_thrown q4025 rfl rfl rfl q4023 dL_law_378 KS_X5_thrown (zlt rfl) (Nat.le_of_ble_eq_true rfl) rfl (Call.toI h rfl fun x13 ν3 h => ?_)
  refine Wp_iload 1 dL_law_381 rfl ?_
  refine Wp_icmp_eq (tgt := 388) dL_law_383 rfl (fun hc => ?_) (fun hc => ?_)
  · replace h := h.1 hc
    refine Wp_iload 1 dL_law_388 rfl ?_
    refine Wp_if_ne (tgt := 405) dL_law_390 rfl (fun hc => ?_) (fun hc => ?_)
    · replace h := h.1 hc
      refine Wp_goto (tgt := 3106) dL_law_405 rfl ?_
      refine Wp_iinc 6 [0, 3, 4, 5, 6] (ls' := [(4, vI (z4 + 6)), (0, vP (209, t0, r0)), (1, vP (1, 0, r1)), (2, vP (5, 0, r2)), (3, vP (203, t3, r3))]) dL_law_3106 rfl (v := 6) rfl (zlt rfl) rfl ?_
      refine Wp_goto (tgt := 23) dL_law_3109 rfl ?_
      exact Wp.lcl [1, 2, 3, 4, 0] rfl h
    · replace h := h.2 hc
      refine Wp_aload_n 5 dL_law_393 rfl rfl ?_
      refine Wp_iconst dL_law_394 (v := 0) rfl ?_
      obtain ⟨hi1, h⟩ := h
      obtain ⟨l1, e11, h⟩ := h
      refine Wg_lald dL_law_395 rfl ⟨rfl, hi1, by decide⟩ e11 ?_
      refine Wp_iload 0 dL_law_396 rfl ?_
      refine Wp_i2l dL_law_398 ?_
      refine Wp_lcmp dL_law_399 ?_
      refine Wp_if_eq (tgt := 405) dL_law_400 rfl (fun hc => ?_) (fun hc => ?_)
      · replace h := h.1 hc
        refine Wp_goto (tgt := 3106) dL_law_405 rfl ?_
        refine Wp_iinc 6 [0, 3, 4, 5, 6] (ls' := [(4, vI (z4 + 6)), (0, vP (209, t0, r0)), (1, vP (1, 0, r1)), (2, vP (5, 0, r2)), (3, vP (203, t3, r3))]) dL_law_3106 rfl (v := 6) rfl (zlt rfl) rfl ?_
        refine Wp_goto (tgt := 23) dL_law_3109 rfl ?_
        exact Wp.lcl [1, 2, 3, 4, 0] rfl h
      · replace h := h.2 hc
        refine Wp_iconst dL_law_403 (v := 0) rfl ?_
        exact Wp_ireturn dL_law_404 rfl (by decide) h
  · replace h := h.2 hc
    refine Wp_iconst dL_law_386 (v := 0) rfl ?_
    exact Wp_ireturn dL_law_387 rfl (by decide) h
theorem B_L_law_408 {G : ZG} {μ : ZM} {Q : Option ZV → ZM → Prop} {E : ZP → ZM → Prop} {t0 : Nat} {r0 : Nat} {r1 : Nat} {r2 : Nat} {t3 : Nat} {r3 : Nat} {z4 : Int32}
    (h : ∃ j1, zix (z4 + 1) j1 t0 ∧ ∃ x1, zai μ r0 j1 = x1 ∧ Call G Y_X0_truncate [vP (1, 0, r1), vI x1, vP (203, t3, r3)] μ (rI fun x2 ν1 => ∃ j2, zix (z4 + 1) j2 t0 ∧ ∃ x3, zai ν1 r0 j2 = x3 ∧ Call G Y_X5_truncate [vP (5, 0, r2), vI x3] ν1 (rI fun x4 ν2 => Call G Y_X5_thrown [vP (5, 0, r2)] ν2 (rI fun x5 ν3 => (x5 = x2 → ((¬ x2 = 0 → Wp G Y_L_law 23 [(0, vP (209, t0, r0)), (1, vP (1, 0, r1)), (2, vP (5, 0, r2)), (3, vP (203, t3, r3)), (4, vI (z4 + 6))] [] ν3 Q E) ∧ (x2 = 0 → (0 < t3 ∧ ∃ l1, zal ν3 r3 0 = l1 ∧ ((lg_cmp l1 x4.toInt64) = 0 → Wp G Y_L_law 23 [(0, vP (209, t0, r0)), (1, vP (1, 0, r1)), (2, vP (5, 0, r2)), (3, vP (203, t3, r3)), (4, vI (z4 + 6))] [] ν3 Q E) ∧ (¬ (lg_cmp l1 x4.toInt64) = 0 → Q (some (vI 0)) ν3))))) ∧ (¬ x5 = x2 → Q (some (vI 0)) ν3)) (fun q ν => zkc q.1 = true ∧ E q ν)) (fun q ν => zkc q.1 = true ∧ E q ν)) (fun q ν => zkc q.1 = true ∧ E q ν)) : Wp G Y_L_law 408 [(0, vP (209, t0, r0)), (1, vP (1, 0, r1)), (2, vP (5, 0, r2)), (3, vP (203, t3, r3)), (4, vI z4)] [] μ Q E := by
  refine Wp_aload_n 1 dL_law_408 rfl rfl ?_
  refine Wp_aload_n 0 dL_law_409 rfl rfl ?_
  refine Wp_iload 4 dL_law_410 rfl ?_
  refine Wp_iconst dL_law_412 (v := 1) rfl ?_
  refine Wp_iadd dL_law_413 ?_
  obtain ⟨j1, hj1, h⟩ := h
  obtain ⟨x1, e1, h⟩ := h
  refine Wg_iald dL_law_414 rfl hj1 e1 ?_
  refine Wp_aload_n 3 dL_law_415 rfl rfl ?_
  refine Wp_stat Y_X0_truncate [vP (1, 0, r1), vI x1, vP (203, t3, r3)] K_X0_truncate KS_X0_truncate KT_X0_truncate rfl q3060 dL_law_416 (zlt rfl) (Nat.le_of_ble_eq_true rfl) rfl (Call.toI h rfl fun x2 ν1 h => ?_)
  refine Wp_istore [0, 1, 2, 3, 4, 5] (ls' := [(5, vI x2), (0, vP (209, t0, r0)), (1, vP (1, 0, r1)), (2, vP (5, 0, r2)), (3, vP (203, t3, r3)), (4, vI z4)]) dL_law_419 (zlt rfl) rfl ?_
  refine Wp_aload_n 3 dL_law_421 rfl rfl ?_
  refine Wp_aload_n 1 dL_law_422 rfl rfl ?_
  refine Wp_iload 5 dL_law_423 rfl ?_
  refine Wp_iconst dL_law_425 (v := 1) rfl ?_
  refine Wp_iadd dL_law_426 ?_
  obtain ⟨j2, hj2, h⟩ := h
  obtain ⟨x3, e2, h⟩ := h
  refine Wg_iald dL_law_427 rfl hj2 e2 ?_
  refine Wp_vown Y_X5_truncate (5, 0, r2) [vI x3] K_X5_truncate KI_X5_truncate q4037 rfl rfl rfl q4035 dL_law_428 KS_X5_truncate (zlt rfl) (Nat.le_of_ble_eq_true rfl) rfl (Call.toI h rfl fun x4 ν2 h => ?_)
  refine Wp_istore [0, 1, 2, 3, 4, 5, 6] (ls' := [(6, vI x4), (5, vI x2), (0, vP (209, t0, r0)), (1, vP (1, 0, r1)), (2, vP (5, 0, r2)), (3, vP (203, t3, r3)), (4, vI z4)]) dL_law_431 (zlt rfl) rfl ?_
  refine Wp_aload_n 4 dL_law_433 rfl rfl ?_
  refine Wp_vown Y_X5_thrown (5, 0, r2) [] K_X5_thrown KI_X5_thrown q4025 rfl rfl rfl q4023 dL_law_434 KS_X5_thrown (zlt rfl) (Nat.le_of_ble_eq_true rfl) rfl (Call.toI h rfl fun x5 ν3 h => ?_)
  refine Wp_iload 1 dL_law_437 rfl ?_
  refine Wp_icmp_eq (tgt := 444) dL_law_439 rfl (fun hc => ?_) (fun hc => ?_)
  · replace h := h.1 hc
    refine Wp_iload 1 dL_law_444 rfl ?_
    refine Wp_if_ne (tgt := 461) dL_law_446 rfl (fun hc => ?_) (fun hc => ?_)
    · replace h := h.1 hc
      refine Wp_goto (tgt := 3106) dL_law_461 rfl ?_
      refine Wp_iinc 6 [0, 3, 4, 5, 6] (ls' := [(4, vI (z4 + 6)), (0, vP (209, t0, r0)), (1, vP (1, 0, r1)), (2, vP (5, 0, r2)), (3, vP (203, t3, r3))]) dL_law_3106 rfl (v := 6) rfl (zlt rfl) rfl ?_
      refine Wp_goto (tgt := 23) dL_law_3109 rfl ?_
      exact Wp.lcl [1, 2, 3, 4, 0] rfl h
    · replace h := h.2 hc
      refine Wp_aload_n 5 dL_law_449 rfl rfl ?_
      refine Wp_iconst dL_law_450 (v := 0) rfl ?_
      obtain ⟨hi1, h⟩ := h
      obtain ⟨l1, e3, h⟩ := h
      refine Wg_lald dL_law_451 rfl ⟨rfl, hi1, by decide⟩ e3 ?_
      refine Wp_iload 0 dL_law_452 rfl ?_
      refine Wp_i2l dL_law_454 ?_
      refine Wp_lcmp dL_law_455 ?_
      refine Wp_if_eq (tgt := 461) dL_law_456 rfl (fun hc => ?_) (fun hc => ?_)
      · replace h := h.1 hc
        refine Wp_goto (tgt := 3106) dL_law_461 rfl ?_
        refine Wp_iinc 6 [0, 3, 4, 5, 6] (ls' := [(4, vI (z4 + 6)), (0, vP (209, t0, r0)), (1, vP (1, 0, r1)), (2, vP (5, 0, r2)), (3, vP (203, t3, r3))]) dL_law_3106 rfl (v := 6) rfl (zlt rfl) rfl ?_
        refine Wp_goto (tgt := 23) dL_law_3109 rfl ?_
        exact Wp.lcl [1, 2, 3, 4, 0] rfl h
      · replace h := h.2 hc
        refine Wp_iconst dL_law_459 (v := 0) rfl ?_
        exact Wp_ireturn dL_law_460 rfl (by decide) h
  · replace h := h.2 hc
    refine Wp_iconst dL_law_442 (v := 0) rfl ?_
    exact Wp_ireturn dL_law_443 rfl (by decide) h
theorem B_L_law_464 {G : ZG} {μ : ZM} {Q : Option ZV → ZM → Prop} {E : ZP → ZM → Prop} {t0 : Nat} {r0 : Nat} {r1 : Nat} {r2 : Nat} {t3 : Nat} {r3 : Nat} {z4 : Int32}
    (h : Call G Y_X0_load [vP (1, 0, r1), vP (203, t3, r3)] μ (rI fun x1 ν1 => Call G Y_X5_load [vP (5, 0, r2)] ν1 (rI fun x2 ν2 => Call G Y_X5_thrown [vP (5, 0, r2)] ν2 (rI fun x3 ν3 => (x3 = x1 → ((¬ x1 = 0 → Wp G Y_L_law 23 [(0, vP (209, t0, r0)), (1, vP (1, 0, r1)), (2, vP (5, 0, r2)), (3, vP (203, t3, r3)), (4, vI (z4 + 6))] [] ν3 Q E) ∧ (x1 = 0 → (0 < t3 ∧ ∃ l1, zal ν3 r3 0 = l1 ∧ ((lg_cmp l1 x2.toInt64) = 0 → Wp G Y_L_law 23 [(0, vP (209, t0, r0)), (1, vP (1, 0, r1)), (2, vP (5, 0, r2)), (3, vP (203, t3, r3)), (4, vI (z4 + 6))] [] ν3 Q E) ∧ (¬ (lg_cmp l1 x2.toInt64) = 0 → Q (some (vI 0)) ν3))))) ∧ (¬ x3 = x1 → Q (some (vI 0)) ν3)) (fun q ν => zkc q.1 = true ∧ E q ν)) (fun q ν => zkc q.1 = true ∧ E q ν)) (fun q ν => zkc q.1 = true ∧ E q ν)) : Wp G Y_L_law 464 [(0, vP (209, t0, r0)), (1, vP (1, 0, r1)), (2, vP (5, 0, r2)), (3, vP (203, t3, r3)), (4, vI z4)] [] μ Q E := by
  refine Wp_aload_n 1 dL_law_464 rfl rfl ?_
  refine Wp_aload_n 3 dL_law_465 rfl rfl ?_
  refine Wp_stat Y_X0_load [vP (1, 0, r1), vP (203, t3, r3)] K_X0_load KS_X0_load KT_X0_load rfl q3076 dL_law_466 (zlt rfl) (Nat.le_of_ble_eq_true rfl) rfl (Call.toI h rfl fun x1 ν1 h => ?_)
  refine Wp_istore [0, 1, 2, 3, 4, 5] (ls' := [(5, vI x1), (0, vP (209, t0, r0)), (1, vP (1, 0, r1)), (2, vP (5, 0, r2)), (3, vP (203, t3, r3)), (4, vI z4)]) dL_law_469 (zlt rfl) rfl ?_
  refine Wp_aload_n 3 dL_law_471 rfl rfl ?_
  refine Wp_vown Y_X5_load (5, 0, r2) [] K_X5_load KI_X5_load q3818 rfl rfl rfl q4047 dL_law_472 KS_X5_load (zlt rfl) (Nat.le_of_ble_eq_true rfl) rfl (Call.toI h rfl fun x2 ν2 h => ?_)
  refine Wp_istore [0, 1, 2, 3, 4, 5, 6] (ls' := [(6, vI x2), (5, vI x1), (0, vP (209, t0, r0)), (1, vP (1, 0, r1)), (2, vP (5, 0, r2)), (3, vP (203, t3, r3)), (4, vI z4)]) dL_law_475 (zlt rfl) rfl ?_
  refine Wp_aload_n 4 dL_law_477 rfl rfl ?_
  refine Wp_vown Y_X5_thrown (5, 0, r2) [] K_X5_thrown KI_X5_thrown q4025 rfl rfl rfl q4023 dL_law_478 KS_X5_thrown (zlt rfl) (Nat.le_of_ble_eq_true rfl) rfl (Call.toI h rfl fun x3 ν3 h => ?_)
  refine Wp_iload 1 dL_law_481 rfl ?_
  refine Wp_icmp_eq (tgt := 488) dL_law_483 rfl (fun hc => ?_) (fun hc => ?_)
  · replace h := h.1 hc
    refine Wp_iload 1 dL_law_488 rfl ?_
    refine Wp_if_ne (tgt := 505) dL_law_490 rfl (fun hc => ?_) (fun hc => ?_)
    · replace h := h.1 hc
      refine Wp_goto (tgt := 3106) dL_law_505 rfl ?_
      refine Wp_iinc 6 [0, 3, 4, 5, 6] (ls' := [(4, vI (z4 + 6)), (0, vP (209, t0, r0)), (1, vP (1, 0, r1)), (2, vP (5, 0, r2)), (3, vP (203, t3, r3))]) dL_law_3106 rfl (v := 6) rfl (zlt rfl) rfl ?_
      refine Wp_goto (tgt := 23) dL_law_3109 rfl ?_
      exact Wp.lcl [1, 2, 3, 4, 0] rfl h
    · replace h := h.2 hc
      refine Wp_aload_n 5 dL_law_493 rfl rfl ?_
      refine Wp_iconst dL_law_494 (v := 0) rfl ?_
      obtain ⟨hi1, h⟩ := h
      obtain ⟨l1, e1, h⟩ := h
      refine Wg_lald dL_law_495 rfl ⟨rfl, hi1, by decide⟩ e1 ?_
      refine Wp_iload 0 dL_law_496 rfl ?_
      refine Wp_i2l dL_law_498 ?_
      refine Wp_lcmp dL_law_499 ?_
      refine Wp_if_eq (tgt := 505) dL_law_500 rfl (fun hc => ?_) (fun hc => ?_)
      · replace h := h.1 hc
        refine Wp_goto (tgt := 3106) dL_law_505 rfl ?_
        refine Wp_iinc 6 [0, 3, 4, 5, 6] (ls' := [(4, vI (z4 + 6)), (0, vP (209, t0, r0)), (1, vP (1, 0, r1)), (2, vP (5, 0, r2)), (3, vP (203, t3, r3))]) dL_law_3106 rfl (v := 6) rfl (zlt rfl) rfl ?_
        refine Wp_goto (tgt := 23) dL_law_3109 rfl ?_
        exact Wp.lcl [1, 2, 3, 4, 0] rfl h
      · replace h := h.2 hc
        refine Wp_iconst dL_law_503 (v := 0) rfl ?_
        exact Wp_ireturn dL_law_504 rfl (by decide) h
  · replace h := h.2 hc
    refine Wp_iconst dL_law_486 (v := 0) rfl ?_
    exact Wp_ireturn dL_law_487 rfl (by decide) h
theorem B_L_law_508 {G : ZG} {μ : ZM} {Q : Option ZV → ZM → Prop} {E : ZP → ZM → Prop} {t0 : Nat} {r0 : Nat} {r1 : Nat} {r2 : Nat} {t3 : Nat} {r3 : Nat} {z4 : Int32}
    (h : Call G Y_X0_executeCommands [vP (1, 0, r1), vP (203, t3, r3)] μ (rI fun x1 ν1 => Call G Y_X5_executeCommands [vP (5, 0, r2)] ν1 (rI fun x2 ν2 => Call G Y_X5_thrown [vP (5, 0, r2)] ν2 (rI fun x3 ν3 => (x3 = x1 → ((¬ x1 = 0 → Wp G Y_L_law 23 [(0, vP (209, t0, r0)), (1, vP (1, 0, r1)), (2, vP (5, 0, r2)), (3, vP (203, t3, r3)), (4, vI (z4 + 6))] [] ν3 Q E) ∧ (x1 = 0 → (0 < t3 ∧ ∃ l1, zal ν3 r3 0 = l1 ∧ ((lg_cmp l1 x2.toInt64) = 0 → Wp G Y_L_law 23 [(0, vP (209, t0, r0)), (1, vP (1, 0, r1)), (2, vP (5, 0, r2)), (3, vP (203, t3, r3)), (4, vI (z4 + 6))] [] ν3 Q E) ∧ (¬ (lg_cmp l1 x2.toInt64) = 0 → Q (some (vI 0)) ν3))))) ∧ (¬ x3 = x1 → Q (some (vI 0)) ν3)) (fun q ν => zkc q.1 = true ∧ E q ν)) (fun q ν => zkc q.1 = true ∧ E q ν)) (fun q ν => zkc q.1 = true ∧ E q ν)) : Wp G Y_L_law 508 [(0, vP (209, t0, r0)), (1, vP (1, 0, r1)), (2, vP (5, 0, r2)), (3, vP (203, t3, r3)), (4, vI z4)] [] μ Q E := by
  refine Wp_aload_n 1 dL_law_508 rfl rfl ?_
  refine Wp_aload_n 3 dL_law_509 rfl rfl ?_
  refine Wp_stat Y_X0_executeCommands [vP (1, 0, r1), vP (203, t3, r3)] K_X0_executeCommands KS_X0_executeCommands KT_X0_executeCommands rfl q3276 dL_law_510 (zlt rfl) (Nat.le_of_ble_eq_true rfl) rfl (Call.toI h rfl fun x1 ν1 h => ?_)
  refine Wp_istore [0, 1, 2, 3, 4, 5] (ls' := [(5, vI x1), (0, vP (209, t0, r0)), (1, vP (1, 0, r1)), (2, vP (5, 0, r2)), (3, vP (203, t3, r3)), (4, vI z4)]) dL_law_513 (zlt rfl) rfl ?_
  refine Wp_aload_n 3 dL_law_515 rfl rfl ?_
  refine Wp_vown Y_X5_executeCommands (5, 0, r2) [] K_X5_executeCommands KI_X5_executeCommands q4050 rfl rfl rfl q4048 dL_law_516 KS_X5_executeCommands (zlt rfl) (Nat.le_of_ble_eq_true rfl) rfl (Call.toI h rfl fun x2 ν2 h => ?_)
  refine Wp_istore [0, 1, 2, 3, 4, 5, 6] (ls' := [(6, vI x2), (5, vI x1), (0, vP (209, t0, r0)), (1, vP (1, 0, r1)), (2, vP (5, 0, r2)), (3, vP (203, t3, r3)), (4, vI z4)]) dL_law_519 (zlt rfl) rfl ?_
  refine Wp_aload_n 4 dL_law_521 rfl rfl ?_
  refine Wp_vown Y_X5_thrown (5, 0, r2) [] K_X5_thrown KI_X5_thrown q4025 rfl rfl rfl q4023 dL_law_522 KS_X5_thrown (zlt rfl) (Nat.le_of_ble_eq_true rfl) rfl (Call.toI h rfl fun x3 ν3 h => ?_)
  refine Wp_iload 1 dL_law_525 rfl ?_
  refine Wp_icmp_eq (tgt := 532) dL_law_527 rfl (fun hc => ?_) (fun hc => ?_)
  · replace h := h.1 hc
    refine Wp_iload 1 dL_law_532 rfl ?_
    refine Wp_if_ne (tgt := 549) dL_law_534 rfl (fun hc => ?_) (fun hc => ?_)
    · replace h := h.1 hc
      refine Wp_goto (tgt := 3106) dL_law_549 rfl ?_
      refine Wp_iinc 6 [0, 3, 4, 5, 6] (ls' := [(4, vI (z4 + 6)), (0, vP (209, t0, r0)), (1, vP (1, 0, r1)), (2, vP (5, 0, r2)), (3, vP (203, t3, r3))]) dL_law_3106 rfl (v := 6) rfl (zlt rfl) rfl ?_
      refine Wp_goto (tgt := 23) dL_law_3109 rfl ?_
      exact Wp.lcl [1, 2, 3, 4, 0] rfl h
    · replace h := h.2 hc
      refine Wp_aload_n 5 dL_law_537 rfl rfl ?_
      refine Wp_iconst dL_law_538 (v := 0) rfl ?_
      obtain ⟨hi1, h⟩ := h
      obtain ⟨l1, e1, h⟩ := h
      refine Wg_lald dL_law_539 rfl ⟨rfl, hi1, by decide⟩ e1 ?_
      refine Wp_iload 0 dL_law_540 rfl ?_
      refine Wp_i2l dL_law_542 ?_
      refine Wp_lcmp dL_law_543 ?_
      refine Wp_if_eq (tgt := 549) dL_law_544 rfl (fun hc => ?_) (fun hc => ?_)
      · replace h := h.1 hc
        refine Wp_goto (tgt := 3106) dL_law_549 rfl ?_
        refine Wp_iinc 6 [0, 3, 4, 5, 6] (ls' := [(4, vI (z4 + 6)), (0, vP (209, t0, r0)), (1, vP (1, 0, r1)), (2, vP (5, 0, r2)), (3, vP (203, t3, r3))]) dL_law_3106 rfl (v := 6) rfl (zlt rfl) rfl ?_
        refine Wp_goto (tgt := 23) dL_law_3109 rfl ?_
        exact Wp.lcl [1, 2, 3, 4, 0] rfl h
      · replace h := h.2 hc
        refine Wp_iconst dL_law_547 (v := 0) rfl ?_
        exact Wp_ireturn dL_law_548 rfl (by decide) h
  · replace h := h.2 hc
    refine Wp_iconst dL_law_530 (v := 0) rfl ?_
    exact Wp_ireturn dL_law_531 rfl (by decide) h
theorem B_L_law_552 {G : ZG} {μ : ZM} {Q : Option ZV → ZM → Prop} {E : ZP → ZM → Prop} {t0 : Nat} {r0 : Nat} {r1 : Nat} {r2 : Nat} {t3 : Nat} {r3 : Nat} {z4 : Int32}
    (h : Call G Y_X1_errorCode [vP (1, 0, r1)] μ (rI fun x1 ν1 => Call G Y_X5_errorCode [vP (5, 0, r2)] ν1 (rI fun x2 ν2 => (x1 = x2 → Wp G Y_L_law 23 [(0, vP (209, t0, r0)), (1, vP (1, 0, r1)), (2, vP (5, 0, r2)), (3, vP (203, t3, r3)), (4, vI (z4 + 6))] [] ν2 Q E) ∧ (¬ x1 = x2 → Q (some (vI 0)) ν2)) (fun q ν => zkc q.1 = true ∧ E q ν)) (fun q ν => zkc q.1 = true ∧ E q ν)) : Wp G Y_L_law 552 [(0, vP (209, t0, r0)), (1, vP (1, 0, r1)), (2, vP (5, 0, r2)), (3, vP (203, t3, r3)), (4, vI z4)] [] μ Q E := by
  refine Wp_aload_n 1 dL_law_552 rfl rfl ?_
  refine Wp_vown Y_X1_errorCode (1, 0, r1) [] K_X1_errorCode KI_X1_errorCode q1489 rfl rfl rfl q1487 dL_law_553 KS_X1_errorCode (zlt rfl) (Nat.le_of_ble_eq_true rfl) rfl (Call.toI h rfl fun x1 ν1 h => ?_)
  refine Wp_aload_n 2 dL_law_556 rfl rfl ?_
  refine Wp_vown Y_X5_errorCode (5, 0, r2) [] K_X5_errorCode KI_X5_errorCode q4041 rfl rfl rfl q4039 dL_law_557 KS_X5_errorCode (zlt rfl) (Nat.le_of_ble_eq_true rfl) rfl (Call.toI h rfl fun x2 ν2 h => ?_)
  refine Wp_icmp_eq (tgt := 3106) dL_law_560 rfl (fun hc => ?_) (fun hc => ?_)
  · replace h := h.1 hc
    refine Wp_iinc 4 [0, 1, 2, 3, 4] (ls' := [(4, vI (z4 + 6)), (0, vP (209, t0, r0)), (1, vP (1, 0, r1)), (2, vP (5, 0, r2)), (3, vP (203, t3, r3))]) dL_law_3106 rfl (v := 6) rfl (zlt rfl) rfl ?_
    refine Wp_goto (tgt := 23) dL_law_3109 rfl ?_
    exact Wp.lcl [1, 2, 3, 4, 0] rfl h
  · replace h := h.2 hc
    refine Wp_iconst dL_law_563 (v := 0) rfl ?_
    exact Wp_ireturn dL_law_564 rfl (by decide) h
theorem B_L_law_565 {G : ZG} {μ : ZM} {Q : Option ZV → ZM → Prop} {E : ZP → ZM → Prop} {t0 : Nat} {r0 : Nat} {r1 : Nat} {r2 : Nat} {t3 : Nat} {r3 : Nat} {z4 : Int32}
    (h : Call G Y_X1_errorPosition [vP (1, 0, r1)] μ (rI fun x1 ν1 => Call G Y_X5_errorPosition [vP (5, 0, r2)] ν1 (rI fun x2 ν2 => (x1 = x2 → Wp G Y_L_law 23 [(0, vP (209, t0, r0)), (1, vP (1, 0, r1)), (2, vP (5, 0, r2)), (3, vP (203, t3, r3)), (4, vI (z4 + 6))] [] ν2 Q E) ∧ (¬ x1 = x2 → Q (some (vI 0)) ν2)) (fun q ν => zkc q.1 = true ∧ E q ν)) (fun q ν => zkc q.1 = true ∧ E q ν)) : Wp G Y_L_law 565 [(0, vP (209, t0, r0)), (1, vP (1, 0, r1)), (2, vP (5, 0, r2)), (3, vP (203, t3, r3)), (4, vI z4)] [] μ Q E := by
  refine Wp_aload_n 1 dL_law_565 rfl rfl ?_
  refine Wp_vown Y_X1_errorPosition (1, 0, r1) [] K_X1_errorPosition KI_X1_errorPosition q1493 rfl rfl rfl q1491 dL_law_566 KS_X1_errorPosition (zlt rfl) (Nat.le_of_ble_eq_true rfl) rfl (Call.toI h rfl fun x1 ν1 h => ?_)
  refine Wp_aload_n 2 dL_law_569 rfl rfl ?_
  refine Wp_vown Y_X5_errorPosition (5, 0, r2) [] K_X5_errorPosition KI_X5_errorPosition q4045 rfl rfl rfl q4043 dL_law_570 KS_X5_errorPosition (zlt rfl) (Nat.le_of_ble_eq_true rfl) rfl (Call.toI h rfl fun x2 ν2 h => ?_)
  refine Wp_icmp_eq (tgt := 3106) dL_law_573 rfl (fun hc => ?_) (fun hc => ?_)
  · replace h := h.1 hc
    refine Wp_iinc 4 [0, 1, 2, 3, 4] (ls' := [(4, vI (z4 + 6)), (0, vP (209, t0, r0)), (1, vP (1, 0, r1)), (2, vP (5, 0, r2)), (3, vP (203, t3, r3))]) dL_law_3106 rfl (v := 6) rfl (zlt rfl) rfl ?_
    refine Wp_goto (tgt := 23) dL_law_3109 rfl ?_
    exact Wp.lcl [1, 2, 3, 4, 0] rfl h
  · replace h := h.2 hc
    refine Wp_iconst dL_law_576 (v := 0) rfl ?_
    exact Wp_ireturn dL_law_577 rfl (by decide) h
theorem B_L_law_578 {G : ZG} {μ : ZM} {Q : Option ZV → ZM → Prop} {E : ZP → ZM → Prop} {t0 : Nat} {r0 : Nat} {r1 : Nat} {r2 : Nat} {t3 : Nat} {r3 : Nat} {z4 : Int32}
    (h : Call G Y_X1_echoCount [vP (1, 0, r1)] μ (rI fun x1 ν1 => Call G Y_X5_echoCount [vP (5, 0, r2)] ν1 (rI fun x2 ν2 => (x1 = x2 → Wp G Y_L_law 23 [(0, vP (209, t0, r0)), (1, vP (1, 0, r1)), (2, vP (5, 0, r2)), (3, vP (203, t3, r3)), (4, vI (z4 + 6))] [] ν2 Q E) ∧ (¬ x1 = x2 → Q (some (vI 0)) ν2)) (fun q ν => zkc q.1 = true ∧ E q ν)) (fun q ν => zkc q.1 = true ∧ E q ν)) : Wp G Y_L_law 578 [(0, vP (209, t0, r0)), (1, vP (1, 0, r1)), (2, vP (5, 0, r2)), (3, vP (203, t3, r3)), (4, vI z4)] [] μ Q E := by
  refine Wp_aload_n 1 dL_law_578 rfl rfl ?_
  refine Wp_vown Y_X1_echoCount (1, 0, r1) [] K_X1_echoCount KI_X1_echoCount q1497 rfl rfl rfl q1495 dL_law_579 KS_X1_echoCount (zlt rfl) (Nat.le_of_ble_eq_true rfl) rfl (Call.toI h rfl fun x1 ν1 h => ?_)
  refine Wp_aload_n 2 dL_law_582 rfl rfl ?_
  refine Wp_vown Y_X5_echoCount (5, 0, r2) [] K_X5_echoCount KI_X5_echoCount q4237 rfl rfl rfl q4235 dL_law_583 KS_X5_echoCount (zlt rfl) (Nat.le_of_ble_eq_true rfl) rfl (Call.toI h rfl fun x2 ν2 h => ?_)
  refine Wp_icmp_eq (tgt := 3106) dL_law_586 rfl (fun hc => ?_) (fun hc => ?_)
  · replace h := h.1 hc
    refine Wp_iinc 4 [0, 1, 2, 3, 4] (ls' := [(4, vI (z4 + 6)), (0, vP (209, t0, r0)), (1, vP (1, 0, r1)), (2, vP (5, 0, r2)), (3, vP (203, t3, r3))]) dL_law_3106 rfl (v := 6) rfl (zlt rfl) rfl ?_
    refine Wp_goto (tgt := 23) dL_law_3109 rfl ?_
    exact Wp.lcl [1, 2, 3, 4, 0] rfl h
  · replace h := h.2 hc
    refine Wp_iconst dL_law_589 (v := 0) rfl ?_
    exact Wp_ireturn dL_law_590 rfl (by decide) h
theorem B_L_law_591 {G : ZG} {μ : ZM} {Q : Option ZV → ZM → Prop} {E : ZP → ZM → Prop} {t0 : Nat} {r0 : Nat} {r1 : Nat} {r2 : Nat} {t3 : Nat} {r3 : Nat} {z4 : Int32}
    (h : Call G Y_X1_valleyCount [vP (1, 0, r1)] μ (rI fun x1 ν1 => Call G Y_X5_valleyCount [vP (5, 0, r2)] ν1 (rI fun x2 ν2 => (x1 = x2 → Wp G Y_L_law 23 [(0, vP (209, t0, r0)), (1, vP (1, 0, r1)), (2, vP (5, 0, r2)), (3, vP (203, t3, r3)), (4, vI (z4 + 6))] [] ν2 Q E) ∧ (¬ x1 = x2 → Q (some (vI 0)) ν2)) (fun q ν => zkc q.1 = true ∧ E q ν)) (fun q ν => zkc q.1 = true ∧ E q ν)) : Wp G Y_L_law 591 [(0, vP (209, t0, r0)), (1, vP (1, 0, r1)), (2, vP (5, 0, r2)), (3, vP (203, t3, r3)), (4, vI z4)] [] μ Q E := by
  refine Wp_aload_n 1 dL_law_591 rfl rfl ?_
  refine Wp_vown Y_X1_valleyCount (1, 0, r1) [] K_X1_valleyCount KI_X1_valleyCount q1510 rfl rfl rfl q1508 dL_law_592 KS_X1_valleyCount (zlt rfl) (Nat.le_of_ble_eq_true rfl) rfl (Call.toI h rfl fun x1 ν1 h => ?_)
  refine Wp_aload_n 2 dL_law_595 rfl rfl ?_
  refine Wp_vown Y_X5_valleyCount (5, 0, r2) [] K_X5_valleyCount KI_X5_valleyCount q4245 rfl rfl rfl q4243 dL_law_596 KS_X5_valleyCount (zlt rfl) (Nat.le_of_ble_eq_true rfl) rfl (Call.toI h rfl fun x2 ν2 h => ?_)
  refine Wp_icmp_eq (tgt := 3106) dL_law_599 rfl (fun hc => ?_) (fun hc => ?_)
  · replace h := h.1 hc
    refine Wp_iinc 4 [0, 1, 2, 3, 4] (ls' := [(4, vI (z4 + 6)), (0, vP (209, t0, r0)), (1, vP (1, 0, r1)), (2, vP (5, 0, r2)), (3, vP (203, t3, r3))]) dL_law_3106 rfl (v := 6) rfl (zlt rfl) rfl ?_
    refine Wp_goto (tgt := 23) dL_law_3109 rfl ?_
    exact Wp.lcl [1, 2, 3, 4, 0] rfl h
  · replace h := h.2 hc
    refine Wp_iconst dL_law_602 (v := 0) rfl ?_
    exact Wp_ireturn dL_law_603 rfl (by decide) h
theorem B_L_law_604 {G : ZG} {μ : ZM} {Q : Option ZV → ZM → Prop} {E : ZP → ZM → Prop} {t0 : Nat} {r0 : Nat} {r1 : Nat} {r2 : Nat} {t3 : Nat} {r3 : Nat} {z4 : Int32}
    (h : Call G Y_X1_day [vP (1, 0, r1)] μ (rI fun x1 ν1 => Call G Y_X5_day [vP (5, 0, r2)] ν1 (rI fun x2 ν2 => (x1 = x2 → Wp G Y_L_law 23 [(0, vP (209, t0, r0)), (1, vP (1, 0, r1)), (2, vP (5, 0, r2)), (3, vP (203, t3, r3)), (4, vI (z4 + 6))] [] ν2 Q E) ∧ (¬ x1 = x2 → Q (some (vI 0)) ν2)) (fun q ν => zkc q.1 = true ∧ E q ν)) (fun q ν => zkc q.1 = true ∧ E q ν)) : Wp G Y_L_law 604 [(0, vP (209, t0, r0)), (1, vP (1, 0, r1)), (2, vP (5, 0, r2)), (3, vP (203, t3, r3)), (4, vI z4)] [] μ Q E := by
  refine Wp_aload_n 1 dL_law_604 rfl rfl ?_
  refine Wp_vown Y_X1_day (1, 0, r1) [] K_X1_day KI_X1_day q1514 rfl rfl rfl q1512 dL_law_605 KS_X1_day (zlt rfl) (Nat.le_of_ble_eq_true rfl) rfl (Call.toI h rfl fun x1 ν1 h => ?_)
  refine Wp_aload_n 2 dL_law_608 rfl rfl ?_
  refine Wp_vown Y_X5_day (5, 0, r2) [] K_X5_day KI_X5_day q4249 rfl rfl rfl q4247 dL_law_609 KS_X5_day (zlt rfl) (Nat.le_of_ble_eq_true rfl) rfl (Call.toI h rfl fun x2 ν2 h => ?_)
  refine Wp_icmp_eq (tgt := 3106) dL_law_612 rfl (fun hc => ?_) (fun hc => ?_)
  · replace h := h.1 hc
    refine Wp_iinc 4 [0, 1, 2, 3, 4] (ls' := [(4, vI (z4 + 6)), (0, vP (209, t0, r0)), (1, vP (1, 0, r1)), (2, vP (5, 0, r2)), (3, vP (203, t3, r3))]) dL_law_3106 rfl (v := 6) rfl (zlt rfl) rfl ?_
    refine Wp_goto (tgt := 23) dL_law_3109 rfl ?_
    exact Wp.lcl [1, 2, 3, 4, 0] rfl h
  · replace h := h.2 hc
    refine Wp_iconst dL_law_615 (v := 0) rfl ?_
    exact Wp_ireturn dL_law_616 rfl (by decide) h
theorem B_L_law_617 {G : ZG} {μ : ZM} {Q : Option ZV → ZM → Prop} {E : ZP → ZM → Prop} {t0 : Nat} {r0 : Nat} {r1 : Nat} {r2 : Nat} {t3 : Nat} {r3 : Nat} {z4 : Int32}
    (h : Call G Y_X1_seasonLength [vP (1, 0, r1)] μ (rI fun x1 ν1 => Call G Y_X5_seasonLength [vP (5, 0, r2)] ν1 (rI fun x2 ν2 => (x1 = x2 → Wp G Y_L_law 23 [(0, vP (209, t0, r0)), (1, vP (1, 0, r1)), (2, vP (5, 0, r2)), (3, vP (203, t3, r3)), (4, vI (z4 + 6))] [] ν2 Q E) ∧ (¬ x1 = x2 → Q (some (vI 0)) ν2)) (fun q ν => zkc q.1 = true ∧ E q ν)) (fun q ν => zkc q.1 = true ∧ E q ν)) : Wp G Y_L_law 617 [(0, vP (209, t0, r0)), (1, vP (1, 0, r1)), (2, vP (5, 0, r2)), (3, vP (203, t3, r3)), (4, vI z4)] [] μ Q E := by
  refine Wp_aload_n 1 dL_law_617 rfl rfl ?_
  refine Wp_vown Y_X1_seasonLength (1, 0, r1) [] K_X1_seasonLength KI_X1_seasonLength q1518 rfl rfl rfl q1516 dL_law_618 KS_X1_seasonLength (zlt rfl) (Nat.le_of_ble_eq_true rfl) rfl (Call.toI h rfl fun x1 ν1 h => ?_)
  refine Wp_aload_n 2 dL_law_621 rfl rfl ?_
  refine Wp_vown Y_X5_seasonLength (5, 0, r2) [] K_X5_seasonLength KI_X5_seasonLength q4253 rfl rfl rfl q4251 dL_law_622 KS_X5_seasonLength (zlt rfl) (Nat.le_of_ble_eq_true rfl) rfl (Call.toI h rfl fun x2 ν2 h => ?_)
  refine Wp_icmp_eq (tgt := 3106) dL_law_625 rfl (fun hc => ?_) (fun hc => ?_)
  · replace h := h.1 hc
    refine Wp_iinc 4 [0, 1, 2, 3, 4] (ls' := [(4, vI (z4 + 6)), (0, vP (209, t0, r0)), (1, vP (1, 0, r1)), (2, vP (5, 0, r2)), (3, vP (203, t3, r3))]) dL_law_3106 rfl (v := 6) rfl (zlt rfl) rfl ?_
    refine Wp_goto (tgt := 23) dL_law_3109 rfl ?_
    exact Wp.lcl [1, 2, 3, 4, 0] rfl h
  · replace h := h.2 hc
    refine Wp_iconst dL_law_628 (v := 0) rfl ?_
    exact Wp_ireturn dL_law_629 rfl (by decide) h
theorem B_L_law_630 {G : ZG} {μ : ZM} {Q : Option ZV → ZM → Prop} {E : ZP → ZM → Prop} {t0 : Nat} {r0 : Nat} {r1 : Nat} {r2 : Nat} {t3 : Nat} {r3 : Nat} {z4 : Int32}
    (h : ∃ j1, zix (z4 + 1) j1 t0 ∧ ∃ x1, zai μ r0 j1 = x1 ∧ Call G Y_X0_fogOf [vP (1, 0, r1), vI x1, vP (203, t3, r3)] μ (rI fun x2 ν1 => ∃ j2, zix (z4 + 1) j2 t0 ∧ ∃ x3, zai ν1 r0 j2 = x3 ∧ Call G Y_X5_fogOf [vP (5, 0, r2), vI x3] ν1 (rI fun x4 ν2 => Call G Y_X5_thrown [vP (5, 0, r2)] ν2 (rI fun x5 ν3 => (x5 = x2 → ((¬ x2 = 0 → Wp G Y_L_law 23 [(0, vP (209, t0, r0)), (1, vP (1, 0, r1)), (2, vP (5, 0, r2)), (3, vP (203, t3, r3)), (4, vI (z4 + 6))] [] ν3 Q E) ∧ (x2 = 0 → (0 < t3 ∧ ∃ l1, zal ν3 r3 0 = l1 ∧ ((lg_cmp l1 x4.toInt64) = 0 → Wp G Y_L_law 23 [(0, vP (209, t0, r0)), (1, vP (1, 0, r1)), (2, vP (5, 0, r2)), (3, vP (203, t3, r3)), (4, vI (z4 + 6))] [] ν3 Q E) ∧ (¬ (lg_cmp l1 x4.toInt64) = 0 → Q (some (vI 0)) ν3))))) ∧ (¬ x5 = x2 → Q (some (vI 0)) ν3)) (fun q ν => zkc q.1 = true ∧ E q ν)) (fun q ν => zkc q.1 = true ∧ E q ν)) (fun q ν => zkc q.1 = true ∧ E q ν)) : Wp G Y_L_law 630 [(0, vP (209, t0, r0)), (1, vP (1, 0, r1)), (2, vP (5, 0, r2)), (3, vP (203, t3, r3)), (4, vI z4)] [] μ Q E := by
  refine Wp_aload_n 1 dL_law_630 rfl rfl ?_
  refine Wp_aload_n 0 dL_law_631 rfl rfl ?_
  refine Wp_iload 4 dL_law_632 rfl ?_
  refine Wp_iconst dL_law_634 (v := 1) rfl ?_
  refine Wp_iadd dL_law_635 ?_
  obtain ⟨j1, hj1, h⟩ := h
  obtain ⟨x1, e1, h⟩ := h
  refine Wg_iald dL_law_636 rfl hj1 e1 ?_
  refine Wp_aload_n 3 dL_law_637 rfl rfl ?_
  refine Wp_stat Y_X0_fogOf [vP (1, 0, r1), vI x1, vP (203, t3, r3)] K_X0_fogOf KS_X0_fogOf KT_X0_fogOf rfl q3458 dL_law_638 (zlt rfl) (Nat.le_of_ble_eq_true rfl) rfl (Call.toI h rfl fun x2 ν1 h => ?_)
  refine Wp_istore [0, 1, 2, 3, 4, 5] (ls' := [(5, vI x2), (0, vP (209, t0, r0)), (1, vP (1, 0, r1)), (2, vP (5, 0, r2)), (3, vP (203, t3, r3)), (4, vI z4)]) dL_law_641 (zlt rfl) rfl ?_
  refine Wp_aload_n 3 dL_law_643 rfl rfl ?_
  refine Wp_aload_n 1 dL_law_644 rfl rfl ?_
  refine Wp_iload 5 dL_law_645 rfl ?_
  refine Wp_iconst dL_law_647 (v := 1) rfl ?_
  refine Wp_iadd dL_law_648 ?_
  obtain ⟨j2, hj2, h⟩ := h
  obtain ⟨x3, e2, h⟩ := h
  refine Wg_iald dL_law_649 rfl hj2 e2 ?_
  refine Wp_vown Y_X5_fogOf (5, 0, r2) [vI x3] K_X5_fogOf KI_X5_fogOf q4257 rfl rfl rfl q4255 dL_law_650 KS_X5_fogOf (zlt rfl) (Nat.le_of_ble_eq_true rfl) rfl (Call.toI h rfl fun x4 ν2 h => ?_)
  refine Wp_istore [0, 1, 2, 3, 4, 5, 6] (ls' := [(6, vI x4), (5, vI x2), (0, vP (209, t0, r0)), (1, vP (1, 0, r1)), (2, vP (5, 0, r2)), (3, vP (203, t3, r3)), (4, vI z4)]) dL_law_653 (zlt rfl) rfl ?_
  refine Wp_aload_n 4 dL_law_655 rfl rfl ?_
  refine Wp_vown Y_X5_thrown (5, 0, r2) [] K_X5_thrown KI_X5_thrown q4025 rfl rfl rfl q4023 dL_law_656 KS_X5_thrown (zlt rfl) (Nat.le_of_ble_eq_true rfl) rfl (Call.toI h rfl fun x5 ν3 h => ?_)
  refine Wp_iload 1 dL_law_659 rfl ?_
  refine Wp_icmp_eq (tgt := 666) dL_law_661 rfl (fun hc => ?_) (fun hc => ?_)
  · replace h := h.1 hc
    refine Wp_iload 1 dL_law_666 rfl ?_
    refine Wp_if_ne (tgt := 683) dL_law_668 rfl (fun hc => ?_) (fun hc => ?_)
    · replace h := h.1 hc
      refine Wp_goto (tgt := 3106) dL_law_683 rfl ?_
      refine Wp_iinc 6 [0, 3, 4, 5, 6] (ls' := [(4, vI (z4 + 6)), (0, vP (209, t0, r0)), (1, vP (1, 0, r1)), (2, vP (5, 0, r2)), (3, vP (203, t3, r3))]) dL_law_3106 rfl (v := 6) rfl (zlt rfl) rfl ?_
      refine Wp_goto (tgt := 23) dL_law_3109 rfl ?_
      exact Wp.lcl [1, 2, 3, 4, 0] rfl h
    · replace h := h.2 hc
      refine Wp_aload_n 5 dL_law_671 rfl rfl ?_
      refine Wp_iconst dL_law_672 (v := 0) rfl ?_
      obtain ⟨hi1, h⟩ := h
      obtain ⟨l1, e3, h⟩ := h
      refine Wg_lald dL_law_673 rfl ⟨rfl, hi1, by decide⟩ e3 ?_
      refine Wp_iload 0 dL_law_674 rfl ?_
      refine Wp_i2l dL_law_676 ?_
      refine Wp_lcmp dL_law_677 ?_
      refine Wp_if_eq (tgt := 683) dL_law_678 rfl (fun hc => ?_) (fun hc => ?_)
      · replace h := h.1 hc
        refine Wp_goto (tgt := 3106) dL_law_683 rfl ?_
        refine Wp_iinc 6 [0, 3, 4, 5, 6] (ls' := [(4, vI (z4 + 6)), (0, vP (209, t0, r0)), (1, vP (1, 0, r1)), (2, vP (5, 0, r2)), (3, vP (203, t3, r3))]) dL_law_3106 rfl (v := 6) rfl (zlt rfl) rfl ?_
        refine Wp_goto (tgt := 23) dL_law_3109 rfl ?_
        exact Wp.lcl [1, 2, 3, 4, 0] rfl h
      · replace h := h.2 hc
        refine Wp_iconst dL_law_681 (v := 0) rfl ?_
        exact Wp_ireturn dL_law_682 rfl (by decide) h
  · replace h := h.2 hc
    refine Wp_iconst dL_law_664 (v := 0) rfl ?_
    exact Wp_ireturn dL_law_665 rfl (by decide) h
theorem B_L_law_686 {G : ZG} {μ : ZM} {Q : Option ZV → ZM → Prop} {E : ZP → ZM → Prop} {t0 : Nat} {r0 : Nat} {r1 : Nat} {r2 : Nat} {t3 : Nat} {r3 : Nat} {z4 : Int32}
    (h : Call G Y_X1_findEcho [vP (1, 0, r1)] μ (rI fun x1 ν1 => Call G Y_X5_findEcho [vP (5, 0, r2)] ν1 (rI fun x2 ν2 => (x1 = x2 → Wp G Y_L_law 23 [(0, vP (209, t0, r0)), (1, vP (1, 0, r1)), (2, vP (5, 0, r2)), (3, vP (203, t3, r3)), (4, vI (z4 + 6))] [] ν2 Q E) ∧ (¬ x1 = x2 → Q (some (vI 0)) ν2)) (fun q ν => zkc q.1 = true ∧ E q ν)) (fun q ν => zkc q.1 = true ∧ E q ν)) : Wp G Y_L_law 686 [(0, vP (209, t0, r0)), (1, vP (1, 0, r1)), (2, vP (5, 0, r2)), (3, vP (203, t3, r3)), (4, vI z4)] [] μ Q E := by
  refine Wp_aload_n 1 dL_law_686 rfl rfl ?_
  refine Wp_vown Y_X1_findEcho (1, 0, r1) [] K_X1_findEcho KI_X1_findEcho q1522 rfl rfl rfl q1520 dL_law_687 KS_X1_findEcho (zlt rfl) (Nat.le_of_ble_eq_true rfl) rfl (Call.toI h rfl fun x1 ν1 h => ?_)
  refine Wp_aload_n 2 dL_law_690 rfl rfl ?_
  refine Wp_vown Y_X5_findEcho (5, 0, r2) [] K_X5_findEcho KI_X5_findEcho q4262 rfl rfl rfl q4260 dL_law_691 KS_X5_findEcho (zlt rfl) (Nat.le_of_ble_eq_true rfl) rfl (Call.toI h rfl fun x2 ν2 h => ?_)
  refine Wp_icmp_eq (tgt := 3106) dL_law_694 rfl (fun hc => ?_) (fun hc => ?_)
  · replace h := h.1 hc
    refine Wp_iinc 4 [0, 1, 2, 3, 4] (ls' := [(4, vI (z4 + 6)), (0, vP (209, t0, r0)), (1, vP (1, 0, r1)), (2, vP (5, 0, r2)), (3, vP (203, t3, r3))]) dL_law_3106 rfl (v := 6) rfl (zlt rfl) rfl ?_
    refine Wp_goto (tgt := 23) dL_law_3109 rfl ?_
    exact Wp.lcl [1, 2, 3, 4, 0] rfl h
  · replace h := h.2 hc
    refine Wp_iconst dL_law_697 (v := 0) rfl ?_
    exact Wp_ireturn dL_law_698 rfl (by decide) h
theorem B_L_law_699 {G : ZG} {μ : ZM} {Q : Option ZV → ZM → Prop} {E : ZP → ZM → Prop} {t0 : Nat} {r0 : Nat} {r1 : Nat} {r2 : Nat} {t3 : Nat} {r3 : Nat} {z4 : Int32}
    (h : Call G Y_X1_findValley [vP (1, 0, r1)] μ (rI fun x1 ν1 => Call G Y_X5_findValley [vP (5, 0, r2)] ν1 (rI fun x2 ν2 => (x1 = x2 → Wp G Y_L_law 23 [(0, vP (209, t0, r0)), (1, vP (1, 0, r1)), (2, vP (5, 0, r2)), (3, vP (203, t3, r3)), (4, vI (z4 + 6))] [] ν2 Q E) ∧ (¬ x1 = x2 → Q (some (vI 0)) ν2)) (fun q ν => zkc q.1 = true ∧ E q ν)) (fun q ν => zkc q.1 = true ∧ E q ν)) : Wp G Y_L_law 699 [(0, vP (209, t0, r0)), (1, vP (1, 0, r1)), (2, vP (5, 0, r2)), (3, vP (203, t3, r3)), (4, vI z4)] [] μ Q E := by
  refine Wp_aload_n 1 dL_law_699 rfl rfl ?_
  refine Wp_vown Y_X1_findValley (1, 0, r1) [] K_X1_findValley KI_X1_findValley q1557 rfl rfl rfl q1555 dL_law_700 KS_X1_findValley (zlt rfl) (Nat.le_of_ble_eq_true rfl) rfl (Call.toI h rfl fun x1 ν1 h => ?_)
  refine Wp_aload_n 2 dL_law_703 rfl rfl ?_
  refine Wp_vown Y_X5_findValley (5, 0, r2) [] K_X5_findValley KI_X5_findValley q4270 rfl rfl rfl q4268 dL_law_704 KS_X5_findValley (zlt rfl) (Nat.le_of_ble_eq_true rfl) rfl (Call.toI h rfl fun x2 ν2 h => ?_)
  refine Wp_icmp_eq (tgt := 3106) dL_law_707 rfl (fun hc => ?_) (fun hc => ?_)
  · replace h := h.1 hc
    refine Wp_iinc 4 [0, 1, 2, 3, 4] (ls' := [(4, vI (z4 + 6)), (0, vP (209, t0, r0)), (1, vP (1, 0, r1)), (2, vP (5, 0, r2)), (3, vP (203, t3, r3))]) dL_law_3106 rfl (v := 6) rfl (zlt rfl) rfl ?_
    refine Wp_goto (tgt := 23) dL_law_3109 rfl ?_
    exact Wp.lcl [1, 2, 3, 4, 0] rfl h
  · replace h := h.2 hc
    refine Wp_iconst dL_law_710 (v := 0) rfl ?_
    exact Wp_ireturn dL_law_711 rfl (by decide) h
theorem B_L_law_712 {G : ZG} {μ : ZM} {Q : Option ZV → ZM → Prop} {E : ZP → ZM → Prop} {t0 : Nat} {r0 : Nat} {r1 : Nat} {r2 : Nat} {t3 : Nat} {r3 : Nat} {z4 : Int32}
    (h : ∃ j1, zix (z4 + 1) j1 t0 ∧ ∃ x1, zai μ r0 j1 = x1 ∧ Call G Y_X0_delayOf [vP (1, 0, r1), vI x1, vP (203, t3, r3)] μ (rI fun x2 ν1 => ∃ j2, zix (z4 + 1) j2 t0 ∧ ∃ x3, zai ν1 r0 j2 = x3 ∧ Call G Y_X5_delayOf [vP (5, 0, r2), vI x3] ν1 (rI fun x4 ν2 => Call G Y_X5_thrown [vP (5, 0, r2)] ν2 (rI fun x5 ν3 => (x5 = x2 → ((¬ x2 = 0 → Wp G Y_L_law 23 [(0, vP (209, t0, r0)), (1, vP (1, 0, r1)), (2, vP (5, 0, r2)), (3, vP (203, t3, r3)), (4, vI (z4 + 6))] [] ν3 Q E) ∧ (x2 = 0 → (0 < t3 ∧ ∃ l1, zal ν3 r3 0 = l1 ∧ ((lg_cmp l1 x4.toInt64) = 0 → Wp G Y_L_law 23 [(0, vP (209, t0, r0)), (1, vP (1, 0, r1)), (2, vP (5, 0, r2)), (3, vP (203, t3, r3)), (4, vI (z4 + 6))] [] ν3 Q E) ∧ (¬ (lg_cmp l1 x4.toInt64) = 0 → Q (some (vI 0)) ν3))))) ∧ (¬ x5 = x2 → Q (some (vI 0)) ν3)) (fun q ν => zkc q.1 = true ∧ E q ν)) (fun q ν => zkc q.1 = true ∧ E q ν)) (fun q ν => zkc q.1 = true ∧ E q ν)) : Wp G Y_L_law 712 [(0, vP (209, t0, r0)), (1, vP (1, 0, r1)), (2, vP (5, 0, r2)), (3, vP (203, t3, r3)), (4, vI z4)] [] μ Q E := by
  refine Wp_aload_n 1 dL_law_712 rfl rfl ?_
  refine Wp_aload_n 0 dL_law_713 rfl rfl ?_
  refine Wp_iload 4 dL_law_714 rfl ?_
  refine Wp_iconst dL_law_716 (v := 1) rfl ?_
  refine Wp_iadd dL_law_717 ?_
  obtain ⟨j1, hj1, h⟩ := h
  obtain ⟨x1, e1, h⟩ := h
  refine Wg_iald dL_law_718 rfl hj1 e1 ?_
  refine Wp_aload_n 3 dL_law_719 rfl rfl ?_
  refine Wp_stat Y_X0_delayOf [vP (1, 0, r1), vI x1, vP (203, t3, r3)] K_X0_delayOf KS_X0_delayOf KT_X0_delayOf rfl q3467 dL_law_720 (zlt rfl) (Nat.le_of_ble_eq_true rfl) rfl (Call.toI h rfl fun x2 ν1 h => ?_)
  refine Wp_istore [0, 1, 2, 3, 4, 5] (ls' := [(5, vI x2), (0, vP (209, t0, r0)), (1, vP (1, 0, r1)), (2, vP (5, 0, r2)), (3, vP (203, t3, r3)), (4, vI z4)]) dL_law_723 (zlt rfl) rfl ?_
  refine Wp_aload_n 3 dL_law_725 rfl rfl ?_
  refine Wp_aload_n 1 dL_law_726 rfl rfl ?_
  refine Wp_iload 5 dL_law_727 rfl ?_
  refine Wp_iconst dL_law_729 (v := 1) rfl ?_
  refine Wp_iadd dL_law_730 ?_
  obtain ⟨j2, hj2, h⟩ := h
  obtain ⟨x3, e2, h⟩ := h
  refine Wg_iald dL_law_731 rfl hj2 e2 ?_
  refine Wp_vown Y_X5_delayOf (5, 0, r2) [vI x3] K_X5_delayOf KI_X5_delayOf q4274 rfl rfl rfl q4272 dL_law_732 KS_X5_delayOf (zlt rfl) (Nat.le_of_ble_eq_true rfl) rfl (Call.toI h rfl fun x4 ν2 h => ?_)
  refine Wp_istore [0, 1, 2, 3, 4, 5, 6] (ls' := [(6, vI x4), (5, vI x2), (0, vP (209, t0, r0)), (1, vP (1, 0, r1)), (2, vP (5, 0, r2)), (3, vP (203, t3, r3)), (4, vI z4)]) dL_law_735 (zlt rfl) rfl ?_
  refine Wp_aload_n 4 dL_law_737 rfl rfl ?_
  refine Wp_vown Y_X5_thrown (5, 0, r2) [] K_X5_thrown KI_X5_thrown q4025 rfl rfl rfl q4023 dL_law_738 KS_X5_thrown (zlt rfl) (Nat.le_of_ble_eq_true rfl) rfl (Call.toI h rfl fun x5 ν3 h => ?_)
  refine Wp_iload 1 dL_law_741 rfl ?_
  refine Wp_icmp_eq (tgt := 748) dL_law_743 rfl (fun hc => ?_) (fun hc => ?_)
  · replace h := h.1 hc
    refine Wp_iload 1 dL_law_748 rfl ?_
    refine Wp_if_ne (tgt := 765) dL_law_750 rfl (fun hc => ?_) (fun hc => ?_)
    · replace h := h.1 hc
      refine Wp_goto (tgt := 3106) dL_law_765 rfl ?_
      refine Wp_iinc 6 [0, 3, 4, 5, 6] (ls' := [(4, vI (z4 + 6)), (0, vP (209, t0, r0)), (1, vP (1, 0, r1)), (2, vP (5, 0, r2)), (3, vP (203, t3, r3))]) dL_law_3106 rfl (v := 6) rfl (zlt rfl) rfl ?_
      refine Wp_goto (tgt := 23) dL_law_3109 rfl ?_
      exact Wp.lcl [1, 2, 3, 4, 0] rfl h
    · replace h := h.2 hc
      refine Wp_aload_n 5 dL_law_753 rfl rfl ?_
      refine Wp_iconst dL_law_754 (v := 0) rfl ?_
      obtain ⟨hi1, h⟩ := h
      obtain ⟨l1, e3, h⟩ := h
      refine Wg_lald dL_law_755 rfl ⟨rfl, hi1, by decide⟩ e3 ?_
      refine Wp_iload 0 dL_law_756 rfl ?_
      refine Wp_i2l dL_law_758 ?_
      refine Wp_lcmp dL_law_759 ?_
      refine Wp_if_eq (tgt := 765) dL_law_760 rfl (fun hc => ?_) (fun hc => ?_)
      · replace h := h.1 hc
        refine Wp_goto (tgt := 3106) dL_law_765 rfl ?_
        refine Wp_iinc 6 [0, 3, 4, 5, 6] (ls' := [(4, vI (z4 + 6)), (0, vP (209, t0, r0)), (1, vP (1, 0, r1)), (2, vP (5, 0, r2)), (3, vP (203, t3, r3))]) dL_law_3106 rfl (v := 6) rfl (zlt rfl) rfl ?_
        refine Wp_goto (tgt := 23) dL_law_3109 rfl ?_
        exact Wp.lcl [1, 2, 3, 4, 0] rfl h
      · replace h := h.2 hc
        refine Wp_iconst dL_law_763 (v := 0) rfl ?_
        exact Wp_ireturn dL_law_764 rfl (by decide) h
  · replace h := h.2 hc
    refine Wp_iconst dL_law_746 (v := 0) rfl ?_
    exact Wp_ireturn dL_law_747 rfl (by decide) h
theorem B_L_law_768 {G : ZG} {μ : ZM} {Q : Option ZV → ZM → Prop} {E : ZP → ZM → Prop} {t0 : Nat} {r0 : Nat} {r1 : Nat} {r2 : Nat} {t3 : Nat} {r3 : Nat} {z4 : Int32}
    (h : ∃ j1, zix (z4 + 1) j1 t0 ∧ ∃ x1, zai μ r0 j1 = x1 ∧ Call G Y_X0_repeatsOf [vP (1, 0, r1), vI x1, vP (203, t3, r3)] μ (rI fun x2 ν1 => ∃ j2, zix (z4 + 1) j2 t0 ∧ ∃ x3, zai ν1 r0 j2 = x3 ∧ Call G Y_X5_repeatsOf [vP (5, 0, r2), vI x3] ν1 (rI fun x4 ν2 => Call G Y_X5_thrown [vP (5, 0, r2)] ν2 (rI fun x5 ν3 => (x5 = x2 → ((¬ x2 = 0 → Wp G Y_L_law 23 [(0, vP (209, t0, r0)), (1, vP (1, 0, r1)), (2, vP (5, 0, r2)), (3, vP (203, t3, r3)), (4, vI (z4 + 6))] [] ν3 Q E) ∧ (x2 = 0 → (0 < t3 ∧ ∃ l1, zal ν3 r3 0 = l1 ∧ ((lg_cmp l1 x4.toInt64) = 0 → Wp G Y_L_law 23 [(0, vP (209, t0, r0)), (1, vP (1, 0, r1)), (2, vP (5, 0, r2)), (3, vP (203, t3, r3)), (4, vI (z4 + 6))] [] ν3 Q E) ∧ (¬ (lg_cmp l1 x4.toInt64) = 0 → Q (some (vI 0)) ν3))))) ∧ (¬ x5 = x2 → Q (some (vI 0)) ν3)) (fun q ν => zkc q.1 = true ∧ E q ν)) (fun q ν => zkc q.1 = true ∧ E q ν)) (fun q ν => zkc q.1 = true ∧ E q ν)) : Wp G Y_L_law 768 [(0, vP (209, t0, r0)), (1, vP (1, 0, r1)), (2, vP (5, 0, r2)), (3, vP (203, t3, r3)), (4, vI z4)] [] μ Q E := by
  refine Wp_aload_n 1 dL_law_768 rfl rfl ?_
  refine Wp_aload_n 0 dL_law_769 rfl rfl ?_
  refine Wp_iload 4 dL_law_770 rfl ?_
  refine Wp_iconst dL_law_772 (v := 1) rfl ?_
  refine Wp_iadd dL_law_773 ?_
  obtain ⟨j1, hj1, h⟩ := h
  obtain ⟨x1, e1, h⟩ := h
  refine Wg_iald dL_law_774 rfl hj1 e1 ?_
  refine Wp_aload_n 3 dL_law_775 rfl rfl ?_
  refine Wp_stat Y_X0_repeatsOf [vP (1, 0, r1), vI x1, vP (203, t3, r3)] K_X0_repeatsOf KS_X0_repeatsOf KT_X0_repeatsOf rfl q3499 dL_law_776 (zlt rfl) (Nat.le_of_ble_eq_true rfl) rfl (Call.toI h rfl fun x2 ν1 h => ?_)
  refine Wp_istore [0, 1, 2, 3, 4, 5] (ls' := [(5, vI x2), (0, vP (209, t0, r0)), (1, vP (1, 0, r1)), (2, vP (5, 0, r2)), (3, vP (203, t3, r3)), (4, vI z4)]) dL_law_779 (zlt rfl) rfl ?_
  refine Wp_aload_n 3 dL_law_781 rfl rfl ?_
  refine Wp_aload_n 1 dL_law_782 rfl rfl ?_
  refine Wp_iload 5 dL_law_783 rfl ?_
  refine Wp_iconst dL_law_785 (v := 1) rfl ?_
  refine Wp_iadd dL_law_786 ?_
  obtain ⟨j2, hj2, h⟩ := h
  obtain ⟨x3, e2, h⟩ := h
  refine Wg_iald dL_law_787 rfl hj2 e2 ?_
  refine Wp_vown Y_X5_repeatsOf (5, 0, r2) [vI x3] K_X5_repeatsOf KI_X5_repeatsOf q4286 rfl rfl rfl q4284 dL_law_788 KS_X5_repeatsOf (zlt rfl) (Nat.le_of_ble_eq_true rfl) rfl (Call.toI h rfl fun x4 ν2 h => ?_)
  refine Wp_istore [0, 1, 2, 3, 4, 5, 6] (ls' := [(6, vI x4), (5, vI x2), (0, vP (209, t0, r0)), (1, vP (1, 0, r1)), (2, vP (5, 0, r2)), (3, vP (203, t3, r3)), (4, vI z4)]) dL_law_791 (zlt rfl) rfl ?_
  refine Wp_aload_n 4 dL_law_793 rfl rfl ?_
  refine Wp_vown Y_X5_thrown (5, 0, r2) [] K_X5_thrown KI_X5_thrown q4025 rfl rfl rfl q4023 dL_law_794 KS_X5_thrown (zlt rfl) (Nat.le_of_ble_eq_true rfl) rfl (Call.toI h rfl fun x5 ν3 h => ?_)
  refine Wp_iload 1 dL_law_797 rfl ?_
  refine Wp_icmp_eq (tgt := 804) dL_law_799 rfl (fun hc => ?_) (fun hc => ?_)
  · replace h := h.1 hc
    refine Wp_iload 1 dL_law_804 rfl ?_
    refine Wp_if_ne (tgt := 821) dL_law_806 rfl (fun hc => ?_) (fun hc => ?_)
    · replace h := h.1 hc
      refine Wp_goto (tgt := 3106) dL_law_821 rfl ?_
      refine Wp_iinc 6 [0, 3, 4, 5, 6] (ls' := [(4, vI (z4 + 6)), (0, vP (209, t0, r0)), (1, vP (1, 0, r1)), (2, vP (5, 0, r2)), (3, vP (203, t3, r3))]) dL_law_3106 rfl (v := 6) rfl (zlt rfl) rfl ?_
      refine Wp_goto (tgt := 23) dL_law_3109 rfl ?_
      exact Wp.lcl [1, 2, 3, 4, 0] rfl h
    · replace h := h.2 hc
      refine Wp_aload_n 5 dL_law_809 rfl rfl ?_
      refine Wp_iconst dL_law_810 (v := 0) rfl ?_
      obtain ⟨hi1, h⟩ := h
      obtain ⟨l1, e3, h⟩ := h
      refine Wg_lald dL_law_811 rfl ⟨rfl, hi1, by decide⟩ e3 ?_
      refine Wp_iload 0 dL_law_812 rfl ?_
      refine Wp_i2l dL_law_814 ?_
      refine Wp_lcmp dL_law_815 ?_
      refine Wp_if_eq (tgt := 821) dL_law_816 rfl (fun hc => ?_) (fun hc => ?_)
      · replace h := h.1 hc
        refine Wp_goto (tgt := 3106) dL_law_821 rfl ?_
        refine Wp_iinc 6 [0, 3, 4, 5, 6] (ls' := [(4, vI (z4 + 6)), (0, vP (209, t0, r0)), (1, vP (1, 0, r1)), (2, vP (5, 0, r2)), (3, vP (203, t3, r3))]) dL_law_3106 rfl (v := 6) rfl (zlt rfl) rfl ?_
        refine Wp_goto (tgt := 23) dL_law_3109 rfl ?_
        exact Wp.lcl [1, 2, 3, 4, 0] rfl h
      · replace h := h.2 hc
        refine Wp_iconst dL_law_819 (v := 0) rfl ?_
        exact Wp_ireturn dL_law_820 rfl (by decide) h
  · replace h := h.2 hc
    refine Wp_iconst dL_law_802 (v := 0) rfl ?_
    exact Wp_ireturn dL_law_803 rfl (by decide) h
theorem B_L_law_824 {G : ZG} {μ : ZM} {Q : Option ZV → ZM → Prop} {E : ZP → ZM → Prop} {t0 : Nat} {r0 : Nat} {r1 : Nat} {r2 : Nat} {t3 : Nat} {r3 : Nat} {z4 : Int32}
    (h : ∃ j1, zix (z4 + 1) j1 t0 ∧ ∃ x1, zai μ r0 j1 = x1 ∧ Call G Y_X0_reserveWage [vP (1, 0, r1), vI x1, vP (203, t3, r3)] μ (rI fun x2 ν1 => ∃ j2, zix (z4 + 1) j2 t0 ∧ ∃ x3, zai ν1 r0 j2 = x3 ∧ Call G Y_X5_reserveWage [vP (5, 0, r2), vI x3] ν1 (rI fun x4 ν2 => Call G Y_X5_thrown [vP (5, 0, r2)] ν2 (rI fun x5 ν3 => (x5 = x2 → ((¬ x2 = 0 → Wp G Y_L_law 23 [(0, vP (209, t0, r0)), (1, vP (1, 0, r1)), (2, vP (5, 0, r2)), (3, vP (203, t3, r3)), (4, vI (z4 + 6))] [] ν3 Q E) ∧ (x2 = 0 → (0 < t3 ∧ ∃ l1, zal ν3 r3 0 = l1 ∧ ((lg_cmp l1 x4.toInt64) = 0 → Wp G Y_L_law 23 [(0, vP (209, t0, r0)), (1, vP (1, 0, r1)), (2, vP (5, 0, r2)), (3, vP (203, t3, r3)), (4, vI (z4 + 6))] [] ν3 Q E) ∧ (¬ (lg_cmp l1 x4.toInt64) = 0 → Q (some (vI 0)) ν3))))) ∧ (¬ x5 = x2 → Q (some (vI 0)) ν3)) (fun q ν => zkc q.1 = true ∧ E q ν)) (fun q ν => zkc q.1 = true ∧ E q ν)) (fun q ν => zkc q.1 = true ∧ E q ν)) : Wp G Y_L_law 824 [(0, vP (209, t0, r0)), (1, vP (1, 0, r1)), (2, vP (5, 0, r2)), (3, vP (203, t3, r3)), (4, vI z4)] [] μ Q E := by
  refine Wp_aload_n 1 dL_law_824 rfl rfl ?_
  refine Wp_aload_n 0 dL_law_825 rfl rfl ?_
  refine Wp_iload 4 dL_law_826 rfl ?_
  refine Wp_iconst dL_law_828 (v := 1) rfl ?_
  refine Wp_iadd dL_law_829 ?_
  obtain ⟨j1, hj1, h⟩ := h
  obtain ⟨x1, e1, h⟩ := h
  refine Wg_iald dL_law_830 rfl hj1 e1 ?_
  refine Wp_aload_n 3 dL_law_831 rfl rfl ?_
  refine Wp_stat Y_X0_reserveWage [vP (1, 0, r1), vI x1, vP (203, t3, r3)] K_X0_reserveWage KS_X0_reserveWage KT_X0_reserveWage rfl q3506 dL_law_832 (zlt rfl) (Nat.le_of_ble_eq_true rfl) rfl (Call.toI h rfl fun x2 ν1 h => ?_)
  refine Wp_istore [0, 1, 2, 3, 4, 5] (ls' := [(5, vI x2), (0, vP (209, t0, r0)), (1, vP (1, 0, r1)), (2, vP (5, 0, r2)), (3, vP (203, t3, r3)), (4, vI z4)]) dL_law_835 (zlt rfl) rfl ?_
  refine Wp_aload_n 3 dL_law_837 rfl rfl ?_
  refine Wp_aload_n 1 dL_law_838 rfl rfl ?_
  refine Wp_iload 5 dL_law_839 rfl ?_
  refine Wp_iconst dL_law_841 (v := 1) rfl ?_
  refine Wp_iadd dL_law_842 ?_
  obtain ⟨j2, hj2, h⟩ := h
  obtain ⟨x3, e2, h⟩ := h
  refine Wg_iald dL_law_843 rfl hj2 e2 ?_
  refine Wp_vown Y_X5_reserveWage (5, 0, r2) [vI x3] K_X5_reserveWage KI_X5_reserveWage q4290 rfl rfl rfl q4288 dL_law_844 KS_X5_reserveWage (zlt rfl) (Nat.le_of_ble_eq_true rfl) rfl (Call.toI h rfl fun x4 ν2 h => ?_)
  refine Wp_istore [0, 1, 2, 3, 4, 5, 6] (ls' := [(6, vI x4), (5, vI x2), (0, vP (209, t0, r0)), (1, vP (1, 0, r1)), (2, vP (5, 0, r2)), (3, vP (203, t3, r3)), (4, vI z4)]) dL_law_847 (zlt rfl) rfl ?_
  refine Wp_aload_n 4 dL_law_849 rfl rfl ?_
  refine Wp_vown Y_X5_thrown (5, 0, r2) [] K_X5_thrown KI_X5_thrown q4025 rfl rfl rfl q4023 dL_law_850 KS_X5_thrown (zlt rfl) (Nat.le_of_ble_eq_true rfl) rfl (Call.toI h rfl fun x5 ν3 h => ?_)
  refine Wp_iload 1 dL_law_853 rfl ?_
  refine Wp_icmp_eq (tgt := 860) dL_law_855 rfl (fun hc => ?_) (fun hc => ?_)
  · replace h := h.1 hc
    refine Wp_iload 1 dL_law_860 rfl ?_
    refine Wp_if_ne (tgt := 877) dL_law_862 rfl (fun hc => ?_) (fun hc => ?_)
    · replace h := h.1 hc
      refine Wp_goto (tgt := 3106) dL_law_877 rfl ?_
      refine Wp_iinc 6 [0, 3, 4, 5, 6] (ls' := [(4, vI (z4 + 6)), (0, vP (209, t0, r0)), (1, vP (1, 0, r1)), (2, vP (5, 0, r2)), (3, vP (203, t3, r3))]) dL_law_3106 rfl (v := 6) rfl (zlt rfl) rfl ?_
      refine Wp_goto (tgt := 23) dL_law_3109 rfl ?_
      exact Wp.lcl [1, 2, 3, 4, 0] rfl h
    · replace h := h.2 hc
      refine Wp_aload_n 5 dL_law_865 rfl rfl ?_
      refine Wp_iconst dL_law_866 (v := 0) rfl ?_
      obtain ⟨hi1, h⟩ := h
      obtain ⟨l1, e3, h⟩ := h
      refine Wg_lald dL_law_867 rfl ⟨rfl, hi1, by decide⟩ e3 ?_
      refine Wp_iload 0 dL_law_868 rfl ?_
      refine Wp_i2l dL_law_870 ?_
      refine Wp_lcmp dL_law_871 ?_
      refine Wp_if_eq (tgt := 877) dL_law_872 rfl (fun hc => ?_) (fun hc => ?_)
      · replace h := h.1 hc
        refine Wp_goto (tgt := 3106) dL_law_877 rfl ?_
        refine Wp_iinc 6 [0, 3, 4, 5, 6] (ls' := [(4, vI (z4 + 6)), (0, vP (209, t0, r0)), (1, vP (1, 0, r1)), (2, vP (5, 0, r2)), (3, vP (203, t3, r3))]) dL_law_3106 rfl (v := 6) rfl (zlt rfl) rfl ?_
        refine Wp_goto (tgt := 23) dL_law_3109 rfl ?_
        exact Wp.lcl [1, 2, 3, 4, 0] rfl h
      · replace h := h.2 hc
        refine Wp_iconst dL_law_875 (v := 0) rfl ?_
        exact Wp_ireturn dL_law_876 rfl (by decide) h
  · replace h := h.2 hc
    refine Wp_iconst dL_law_858 (v := 0) rfl ?_
    exact Wp_ireturn dL_law_859 rfl (by decide) h
theorem B_L_law_880 {G : ZG} {μ : ZM} {Q : Option ZV → ZM → Prop} {E : ZP → ZM → Prop} {t0 : Nat} {r0 : Nat} {r1 : Nat} {r2 : Nat} {t3 : Nat} {r3 : Nat} {z4 : Int32}
    (h : ∃ j1, zix (z4 + 1) j1 t0 ∧ ∃ x1, zai μ r0 j1 = x1 ∧ Call G Y_X0_resistanceOf [vP (1, 0, r1), vI x1, vP (203, t3, r3)] μ (rI fun x2 ν1 => ∃ j2, zix (z4 + 1) j2 t0 ∧ ∃ x3, zai ν1 r0 j2 = x3 ∧ Call G Y_X5_resistanceOf [vP (5, 0, r2), vI x3] ν1 (rI fun x4 ν2 => Call G Y_X5_thrown [vP (5, 0, r2)] ν2 (rI fun x5 ν3 => (x5 = x2 → ((¬ x2 = 0 → Wp G Y_L_law 23 [(0, vP (209, t0, r0)), (1, vP (1, 0, r1)), (2, vP (5, 0, r2)), (3, vP (203, t3, r3)), (4, vI (z4 + 6))] [] ν3 Q E) ∧ (x2 = 0 → (0 < t3 ∧ ∃ l1, zal ν3 r3 0 = l1 ∧ ((lg_cmp l1 x4.toInt64) = 0 → Wp G Y_L_law 23 [(0, vP (209, t0, r0)), (1, vP (1, 0, r1)), (2, vP (5, 0, r2)), (3, vP (203, t3, r3)), (4, vI (z4 + 6))] [] ν3 Q E) ∧ (¬ (lg_cmp l1 x4.toInt64) = 0 → Q (some (vI 0)) ν3))))) ∧ (¬ x5 = x2 → Q (some (vI 0)) ν3)) (fun q ν => zkc q.1 = true ∧ E q ν)) (fun q ν => zkc q.1 = true ∧ E q ν)) (fun q ν => zkc q.1 = true ∧ E q ν)) : Wp G Y_L_law 880 [(0, vP (209, t0, r0)), (1, vP (1, 0, r1)), (2, vP (5, 0, r2)), (3, vP (203, t3, r3)), (4, vI z4)] [] μ Q E := by
  refine Wp_aload_n 1 dL_law_880 rfl rfl ?_
  refine Wp_aload_n 0 dL_law_881 rfl rfl ?_
  refine Wp_iload 4 dL_law_882 rfl ?_
  refine Wp_iconst dL_law_884 (v := 1) rfl ?_
  refine Wp_iadd dL_law_885 ?_
  obtain ⟨j1, hj1, h⟩ := h
  obtain ⟨x1, e1, h⟩ := h
  refine Wg_iald dL_law_886 rfl hj1 e1 ?_
  refine Wp_aload_n 3 dL_law_887 rfl rfl ?_
  refine Wp_stat Y_X0_resistanceOf [vP (1, 0, r1), vI x1, vP (203, t3, r3)] K_X0_resistanceOf KS_X0_resistanceOf KT_X0_resistanceOf rfl q3513 dL_law_888 (zlt rfl) (Nat.le_of_ble_eq_true rfl) rfl (Call.toI h rfl fun x2 ν1 h => ?_)
  refine Wp_istore [0, 1, 2, 3, 4, 5] (ls' := [(5, vI x2), (0, vP (209, t0, r0)), (1, vP (1, 0, r1)), (2, vP (5, 0, r2)), (3, vP (203, t3, r3)), (4, vI z4)]) dL_law_891 (zlt rfl) rfl ?_
  refine Wp_aload_n 3 dL_law_893 rfl rfl ?_
  refine Wp_aload_n 1 dL_law_894 rfl rfl ?_
  refine Wp_iload 5 dL_law_895 rfl ?_
  refine Wp_iconst dL_law_897 (v := 1) rfl ?_
  refine Wp_iadd dL_law_898 ?_
  obtain ⟨j2, hj2, h⟩ := h
  obtain ⟨x3, e2, h⟩ := h
  refine Wg_iald dL_law_899 rfl hj2 e2 ?_
  refine Wp_vown Y_X5_resistanceOf (5, 0, r2) [vI x3] K_X5_resistanceOf KI_X5_resistanceOf q4294 rfl rfl rfl q4292 dL_law_900 KS_X5_resistanceOf (zlt rfl) (Nat.le_of_ble_eq_true rfl) rfl (Call.toI h rfl fun x4 ν2 h => ?_)
  refine Wp_istore [0, 1, 2, 3, 4, 5, 6] (ls' := [(6, vI x4), (5, vI x2), (0, vP (209, t0, r0)), (1, vP (1, 0, r1)), (2, vP (5, 0, r2)), (3, vP (203, t3, r3)), (4, vI z4)]) dL_law_903 (zlt rfl) rfl ?_
  refine Wp_aload_n 4 dL_law_905 rfl rfl ?_
  refine Wp_vown Y_X5_thrown (5, 0, r2) [] K_X5_thrown KI_X5_thrown q4025 rfl rfl rfl q4023 dL_law_906 KS_X5_thrown (zlt rfl) (Nat.le_of_ble_eq_true rfl) rfl (Call.toI h rfl fun x5 ν3 h => ?_)
  refine Wp_iload 1 dL_law_909 rfl ?_
  refine Wp_icmp_eq (tgt := 916) dL_law_911 rfl (fun hc => ?_) (fun hc => ?_)
  · replace h := h.1 hc
    refine Wp_iload 1 dL_law_916 rfl ?_
    refine Wp_if_ne (tgt := 933) dL_law_918 rfl (fun hc => ?_) (fun hc => ?_)
    · replace h := h.1 hc
      refine Wp_goto (tgt := 3106) dL_law_933 rfl ?_
      refine Wp_iinc 6 [0, 3, 4, 5, 6] (ls' := [(4, vI (z4 + 6)), (0, vP (209, t0, r0)), (1, vP (1, 0, r1)), (2, vP (5, 0, r2)), (3, vP (203, t3, r3))]) dL_law_3106 rfl (v := 6) rfl (zlt rfl) rfl ?_
      refine Wp_goto (tgt := 23) dL_law_3109 rfl ?_
      exact Wp.lcl [1, 2, 3, 4, 0] rfl h
    · replace h := h.2 hc
      refine Wp_aload_n 5 dL_law_921 rfl rfl ?_
      refine Wp_iconst dL_law_922 (v := 0) rfl ?_
      obtain ⟨hi1, h⟩ := h
      obtain ⟨l1, e3, h⟩ := h
      refine Wg_lald dL_law_923 rfl ⟨rfl, hi1, by decide⟩ e3 ?_
      refine Wp_iload 0 dL_law_924 rfl ?_
      refine Wp_i2l dL_law_926 ?_
      refine Wp_lcmp dL_law_927 ?_
      refine Wp_if_eq (tgt := 933) dL_law_928 rfl (fun hc => ?_) (fun hc => ?_)
      · replace h := h.1 hc
        refine Wp_goto (tgt := 3106) dL_law_933 rfl ?_
        refine Wp_iinc 6 [0, 3, 4, 5, 6] (ls' := [(4, vI (z4 + 6)), (0, vP (209, t0, r0)), (1, vP (1, 0, r1)), (2, vP (5, 0, r2)), (3, vP (203, t3, r3))]) dL_law_3106 rfl (v := 6) rfl (zlt rfl) rfl ?_
        refine Wp_goto (tgt := 23) dL_law_3109 rfl ?_
        exact Wp.lcl [1, 2, 3, 4, 0] rfl h
      · replace h := h.2 hc
        refine Wp_iconst dL_law_931 (v := 0) rfl ?_
        exact Wp_ireturn dL_law_932 rfl (by decide) h
  · replace h := h.2 hc
    refine Wp_iconst dL_law_914 (v := 0) rfl ?_
    exact Wp_ireturn dL_law_915 rfl (by decide) h
theorem B_L_law_936 {G : ZG} {μ : ZM} {Q : Option ZV → ZM → Prop} {E : ZP → ZM → Prop} {t0 : Nat} {r0 : Nat} {r1 : Nat} {r2 : Nat} {t3 : Nat} {r3 : Nat} {z4 : Int32}
    (h : ∃ j1, zix (z4 + 1) j1 t0 ∧ ∃ x1, zai μ r0 j1 = x1 ∧ Call G Y_X0_savingsOf [vP (1, 0, r1), vI x1, vP (203, t3, r3)] μ (rI fun x2 ν1 => ∃ j2, zix (z4 + 1) j2 t0 ∧ ∃ x3, zai ν1 r0 j2 = x3 ∧ Call G Y_X5_savingsOf [vP (5, 0, r2), vI x3] ν1 (rI fun x4 ν2 => Call G Y_X5_thrown [vP (5, 0, r2)] ν2 (rI fun x5 ν3 => (x5 = x2 → ((¬ x2 = 0 → Wp G Y_L_law 23 [(0, vP (209, t0, r0)), (1, vP (1, 0, r1)), (2, vP (5, 0, r2)), (3, vP (203, t3, r3)), (4, vI (z4 + 6))] [] ν3 Q E) ∧ (x2 = 0 → (0 < t3 ∧ ∃ l1, zal ν3 r3 0 = l1 ∧ ((lg_cmp l1 x4.toInt64) = 0 → Wp G Y_L_law 23 [(0, vP (209, t0, r0)), (1, vP (1, 0, r1)), (2, vP (5, 0, r2)), (3, vP (203, t3, r3)), (4, vI (z4 + 6))] [] ν3 Q E) ∧ (¬ (lg_cmp l1 x4.toInt64) = 0 → Q (some (vI 0)) ν3))))) ∧ (¬ x5 = x2 → Q (some (vI 0)) ν3)) (fun q ν => zkc q.1 = true ∧ E q ν)) (fun q ν => zkc q.1 = true ∧ E q ν)) (fun q ν => zkc q.1 = true ∧ E q ν)) : Wp G Y_L_law 936 [(0, vP (209, t0, r0)), (1, vP (1, 0, r1)), (2, vP (5, 0, r2)), (3, vP (203, t3, r3)), (4, vI z4)] [] μ Q E := by
  refine Wp_aload_n 1 dL_law_936 rfl rfl ?_
  refine Wp_aload_n 0 dL_law_937 rfl rfl ?_
  refine Wp_iload 4 dL_law_938 rfl ?_
  refine Wp_iconst dL_law_940 (v := 1) rfl ?_
  refine Wp_iadd dL_law_941 ?_
  obtain ⟨j1, hj1, h⟩ := h
  obtain ⟨x1, e1, h⟩ := h
  refine Wg_iald dL_law_942 rfl hj1 e1 ?_
  refine Wp_aload_n 3 dL_law_943 rfl rfl ?_
  refine Wp_stat Y_X0_savingsOf [vP (1, 0, r1), vI x1, vP (203, t3, r3)] K_X0_savingsOf KS_X0_savingsOf KT_X0_savingsOf rfl q3520 dL_law_944 (zlt rfl) (Nat.le_of_ble_eq_true rfl) rfl (Call.toI h rfl fun x2 ν1 h => ?_)
  refine Wp_istore [0, 1, 2, 3, 4, 5] (ls' := [(5, vI x2), (0, vP (209, t0, r0)), (1, vP (1, 0, r1)), (2, vP (5, 0, r2)), (3, vP (203, t3, r3)), (4, vI z4)]) dL_law_947 (zlt rfl) rfl ?_
  refine Wp_aload_n 3 dL_law_949 rfl rfl ?_
  refine Wp_aload_n 1 dL_law_950 rfl rfl ?_
  refine Wp_iload 5 dL_law_951 rfl ?_
  refine Wp_iconst dL_law_953 (v := 1) rfl ?_
  refine Wp_iadd dL_law_954 ?_
  obtain ⟨j2, hj2, h⟩ := h
  obtain ⟨x3, e2, h⟩ := h
  refine Wg_iald dL_law_955 rfl hj2 e2 ?_
  refine Wp_vown Y_X5_savingsOf (5, 0, r2) [vI x3] K_X5_savingsOf KI_X5_savingsOf q4298 rfl rfl rfl q4296 dL_law_956 KS_X5_savingsOf (zlt rfl) (Nat.le_of_ble_eq_true rfl) rfl (Call.toI h rfl fun x4 ν2 h => ?_)
  refine Wp_istore [0, 1, 2, 3, 4, 5, 6] (ls' := [(6, vI x4), (5, vI x2), (0, vP (209, t0, r0)), (1, vP (1, 0, r1)), (2, vP (5, 0, r2)), (3, vP (203, t3, r3)), (4, vI z4)]) dL_law_959 (zlt rfl) rfl ?_
  refine Wp_aload_n 4 dL_law_961 rfl rfl ?_
  refine Wp_vown Y_X5_thrown (5, 0, r2) [] K_X5_thrown KI_X5_thrown q4025 rfl rfl rfl q4023 dL_law_962 KS_X5_thrown (zlt rfl) (Nat.le_of_ble_eq_true rfl) rfl (Call.toI h rfl fun x5 ν3 h => ?_)
  refine Wp_iload 1 dL_law_965 rfl ?_
  refine Wp_icmp_eq (tgt := 972) dL_law_967 rfl (fun hc => ?_) (fun hc => ?_)
  · replace h := h.1 hc
    refine Wp_iload 1 dL_law_972 rfl ?_
    refine Wp_if_ne (tgt := 989) dL_law_974 rfl (fun hc => ?_) (fun hc => ?_)
    · replace h := h.1 hc
      refine Wp_goto (tgt := 3106) dL_law_989 rfl ?_
      refine Wp_iinc 6 [0, 3, 4, 5, 6] (ls' := [(4, vI (z4 + 6)), (0, vP (209, t0, r0)), (1, vP (1, 0, r1)), (2, vP (5, 0, r2)), (3, vP (203, t3, r3))]) dL_law_3106 rfl (v := 6) rfl (zlt rfl) rfl ?_
      refine Wp_goto (tgt := 23) dL_law_3109 rfl ?_
      exact Wp.lcl [1, 2, 3, 4, 0] rfl h
    · replace h := h.2 hc
      refine Wp_aload_n 5 dL_law_977 rfl rfl ?_
      refine Wp_iconst dL_law_978 (v := 0) rfl ?_
      obtain ⟨hi1, h⟩ := h
      obtain ⟨l1, e3, h⟩ := h
      refine Wg_lald dL_law_979 rfl ⟨rfl, hi1, by decide⟩ e3 ?_
      refine Wp_iload 0 dL_law_980 rfl ?_
      refine Wp_i2l dL_law_982 ?_
      refine Wp_lcmp dL_law_983 ?_
      refine Wp_if_eq (tgt := 989) dL_law_984 rfl (fun hc => ?_) (fun hc => ?_)
      · replace h := h.1 hc
        refine Wp_goto (tgt := 3106) dL_law_989 rfl ?_
        refine Wp_iinc 6 [0, 3, 4, 5, 6] (ls' := [(4, vI (z4 + 6)), (0, vP (209, t0, r0)), (1, vP (1, 0, r1)), (2, vP (5, 0, r2)), (3, vP (203, t3, r3))]) dL_law_3106 rfl (v := 6) rfl (zlt rfl) rfl ?_
        refine Wp_goto (tgt := 23) dL_law_3109 rfl ?_
        exact Wp.lcl [1, 2, 3, 4, 0] rfl h
      · replace h := h.2 hc
        refine Wp_iconst dL_law_987 (v := 0) rfl ?_
        exact Wp_ireturn dL_law_988 rfl (by decide) h
  · replace h := h.2 hc
    refine Wp_iconst dL_law_970 (v := 0) rfl ?_
    exact Wp_ireturn dL_law_971 rfl (by decide) h
theorem B_L_law_992 {G : ZG} {μ : ZM} {Q : Option ZV → ZM → Prop} {E : ZP → ZM → Prop} {t0 : Nat} {r0 : Nat} {r1 : Nat} {r2 : Nat} {t3 : Nat} {r3 : Nat} {z4 : Int32}
    (h : ∃ j1, zix (z4 + 1) j1 t0 ∧ ∃ x1, zai μ r0 j1 = x1 ∧ Call G Y_X0_unpaidDays [vP (1, 0, r1), vI x1, vP (203, t3, r3)] μ (rI fun x2 ν1 => ∃ j2, zix (z4 + 1) j2 t0 ∧ ∃ x3, zai ν1 r0 j2 = x3 ∧ Call G Y_X5_unpaidDays [vP (5, 0, r2), vI x3] ν1 (rI fun x4 ν2 => Call G Y_X5_thrown [vP (5, 0, r2)] ν2 (rI fun x5 ν3 => (x5 = x2 → ((¬ x2 = 0 → Wp G Y_L_law 23 [(0, vP (209, t0, r0)), (1, vP (1, 0, r1)), (2, vP (5, 0, r2)), (3, vP (203, t3, r3)), (4, vI (z4 + 6))] [] ν3 Q E) ∧ (x2 = 0 → (0 < t3 ∧ ∃ l1, zal ν3 r3 0 = l1 ∧ ((lg_cmp l1 x4.toInt64) = 0 → Wp G Y_L_law 23 [(0, vP (209, t0, r0)), (1, vP (1, 0, r1)), (2, vP (5, 0, r2)), (3, vP (203, t3, r3)), (4, vI (z4 + 6))] [] ν3 Q E) ∧ (¬ (lg_cmp l1 x4.toInt64) = 0 → Q (some (vI 0)) ν3))))) ∧ (¬ x5 = x2 → Q (some (vI 0)) ν3)) (fun q ν => zkc q.1 = true ∧ E q ν)) (fun q ν => zkc q.1 = true ∧ E q ν)) (fun q ν => zkc q.1 = true ∧ E q ν)) : Wp G Y_L_law 992 [(0, vP (209, t0, r0)), (1, vP (1, 0, r1)), (2, vP (5, 0, r2)), (3, vP (203, t3, r3)), (4, vI z4)] [] μ Q E := by
  refine Wp_aload_n 1 dL_law_992 rfl rfl ?_
  refine Wp_aload_n 0 dL_law_993 rfl rfl ?_
  refine Wp_iload 4 dL_law_994 rfl ?_
  refine Wp_iconst dL_law_996 (v := 1) rfl ?_
  refine Wp_iadd dL_law_997 ?_
  obtain ⟨j1, hj1, h⟩ := h
  obtain ⟨x1, e1, h⟩ := h
  refine Wg_iald dL_law_998 rfl hj1 e1 ?_
  refine Wp_aload_n 3 dL_law_999 rfl rfl ?_
  refine Wp_stat Y_X0_unpaidDays [vP (1, 0, r1), vI x1, vP (203, t3, r3)] K_X0_unpaidDays KS_X0_unpaidDays KT_X0_unpaidDays rfl q3527 dL_law_1000 (zlt rfl) (Nat.le_of_ble_eq_true rfl) rfl (Call.toI h rfl fun x2 ν1 h => ?_)
  refine Wp_istore [0, 1, 2, 3, 4, 5] (ls' := [(5, vI x2), (0, vP (209, t0, r0)), (1, vP (1, 0, r1)), (2, vP (5, 0, r2)), (3, vP (203, t3, r3)), (4, vI z4)]) dL_law_1003 (zlt rfl) rfl ?_
  refine Wp_aload_n 3 dL_law_1005 rfl rfl ?_
  refine Wp_aload_n 1 dL_law_1006 rfl rfl ?_
  refine Wp_iload 5 dL_law_1007 rfl ?_
  refine Wp_iconst dL_law_1009 (v := 1) rfl ?_
  refine Wp_iadd dL_law_1010 ?_
  obtain ⟨j2, hj2, h⟩ := h
  obtain ⟨x3, e2, h⟩ := h
  refine Wg_iald dL_law_1011 rfl hj2 e2 ?_
  refine Wp_vown Y_X5_unpaidDays (5, 0, r2) [vI x3] K_X5_unpaidDays KI_X5_unpaidDays q4302 rfl rfl rfl q4300 dL_law_1012 KS_X5_unpaidDays (zlt rfl) (Nat.le_of_ble_eq_true rfl) rfl (Call.toI h rfl fun x4 ν2 h => ?_)
  refine Wp_istore [0, 1, 2, 3, 4, 5, 6] (ls' := [(6, vI x4), (5, vI x2), (0, vP (209, t0, r0)), (1, vP (1, 0, r1)), (2, vP (5, 0, r2)), (3, vP (203, t3, r3)), (4, vI z4)]) dL_law_1015 (zlt rfl) rfl ?_
  refine Wp_aload_n 4 dL_law_1017 rfl rfl ?_
  refine Wp_vown Y_X5_thrown (5, 0, r2) [] K_X5_thrown KI_X5_thrown q4025 rfl rfl rfl q4023 dL_law_1018 KS_X5_thrown (zlt rfl) (Nat.le_of_ble_eq_true rfl) rfl (Call.toI h rfl fun x5 ν3 h => ?_)
  refine Wp_iload 1 dL_law_1021 rfl ?_
  refine Wp_icmp_eq (tgt := 1028) dL_law_1023 rfl (fun hc => ?_) (fun hc => ?_)
  · replace h := h.1 hc
    refine Wp_iload 1 dL_law_1028 rfl ?_
    refine Wp_if_ne (tgt := 1045) dL_law_1030 rfl (fun hc => ?_) (fun hc => ?_)
    · replace h := h.1 hc
      refine Wp_goto (tgt := 3106) dL_law_1045 rfl ?_
      refine Wp_iinc 6 [0, 3, 4, 5, 6] (ls' := [(4, vI (z4 + 6)), (0, vP (209, t0, r0)), (1, vP (1, 0, r1)), (2, vP (5, 0, r2)), (3, vP (203, t3, r3))]) dL_law_3106 rfl (v := 6) rfl (zlt rfl) rfl ?_
      refine Wp_goto (tgt := 23) dL_law_3109 rfl ?_
      exact Wp.lcl [1, 2, 3, 4, 0] rfl h
    · replace h := h.2 hc
      refine Wp_aload_n 5 dL_law_1033 rfl rfl ?_
      refine Wp_iconst dL_law_1034 (v := 0) rfl ?_
      obtain ⟨hi1, h⟩ := h
      obtain ⟨l1, e3, h⟩ := h
      refine Wg_lald dL_law_1035 rfl ⟨rfl, hi1, by decide⟩ e3 ?_
      refine Wp_iload 0 dL_law_1036 rfl ?_
      refine Wp_i2l dL_law_1038 ?_
      refine Wp_lcmp dL_law_1039 ?_
      refine Wp_if_eq (tgt := 1045) dL_law_1040 rfl (fun hc => ?_) (fun hc => ?_)
      · replace h := h.1 hc
        refine Wp_goto (tgt := 3106) dL_law_1045 rfl ?_
        refine Wp_iinc 6 [0, 3, 4, 5, 6] (ls' := [(4, vI (z4 + 6)), (0, vP (209, t0, r0)), (1, vP (1, 0, r1)), (2, vP (5, 0, r2)), (3, vP (203, t3, r3))]) dL_law_3106 rfl (v := 6) rfl (zlt rfl) rfl ?_
        refine Wp_goto (tgt := 23) dL_law_3109 rfl ?_
        exact Wp.lcl [1, 2, 3, 4, 0] rfl h
      · replace h := h.2 hc
        refine Wp_iconst dL_law_1043 (v := 0) rfl ?_
        exact Wp_ireturn dL_law_1044 rfl (by decide) h
  · replace h := h.2 hc
    refine Wp_iconst dL_law_1026 (v := 0) rfl ?_
    exact Wp_ireturn dL_law_1027 rfl (by decide) h
theorem B_L_law_1048 {G : ZG} {μ : ZM} {Q : Option ZV → ZM → Prop} {E : ZP → ZM → Prop} {t0 : Nat} {r0 : Nat} {r1 : Nat} {r2 : Nat} {t3 : Nat} {r3 : Nat} {z4 : Int32}
    (h : ∃ j1, zix (z4 + 1) j1 t0 ∧ ∃ x1, zai μ r0 j1 = x1 ∧ Call G Y_X0_employerOf [vP (1, 0, r1), vI x1, vP (203, t3, r3)] μ (rI fun x2 ν1 => ∃ j2, zix (z4 + 1) j2 t0 ∧ ∃ x3, zai ν1 r0 j2 = x3 ∧ Call G Y_X5_employerOf [vP (5, 0, r2), vI x3] ν1 (rI fun x4 ν2 => Call G Y_X5_thrown [vP (5, 0, r2)] ν2 (rI fun x5 ν3 => (x5 = x2 → ((¬ x2 = 0 → Wp G Y_L_law 23 [(0, vP (209, t0, r0)), (1, vP (1, 0, r1)), (2, vP (5, 0, r2)), (3, vP (203, t3, r3)), (4, vI (z4 + 6))] [] ν3 Q E) ∧ (x2 = 0 → (0 < t3 ∧ ∃ l1, zal ν3 r3 0 = l1 ∧ ((lg_cmp l1 x4.toInt64) = 0 → Wp G Y_L_law 23 [(0, vP (209, t0, r0)), (1, vP (1, 0, r1)), (2, vP (5, 0, r2)), (3, vP (203, t3, r3)), (4, vI (z4 + 6))] [] ν3 Q E) ∧ (¬ (lg_cmp l1 x4.toInt64) = 0 → Q (some (vI 0)) ν3))))) ∧ (¬ x5 = x2 → Q (some (vI 0)) ν3)) (fun q ν => zkc q.1 = true ∧ E q ν)) (fun q ν => zkc q.1 = true ∧ E q ν)) (fun q ν => zkc q.1 = true ∧ E q ν)) : Wp G Y_L_law 1048 [(0, vP (209, t0, r0)), (1, vP (1, 0, r1)), (2, vP (5, 0, r2)), (3, vP (203, t3, r3)), (4, vI z4)] [] μ Q E := by
  refine Wp_aload_n 1 dL_law_1048 rfl rfl ?_
  refine Wp_aload_n 0 dL_law_1049 rfl rfl ?_
  refine Wp_iload 4 dL_law_1050 rfl ?_
  refine Wp_iconst dL_law_1052 (v := 1) rfl ?_
  refine Wp_iadd dL_law_1053 ?_
  obtain ⟨j1, hj1, h⟩ := h
  obtain ⟨x1, e1, h⟩ := h
  refine Wg_iald dL_law_1054 rfl hj1 e1 ?_
  refine Wp_aload_n 3 dL_law_1055 rfl rfl ?_
  refine Wp_stat Y_X0_employerOf [vP (1, 0, r1), vI x1, vP (203, t3, r3)] K_X0_employerOf KS_X0_employerOf KT_X0_employerOf rfl q3534 dL_law_1056 (zlt rfl) (Nat.le_of_ble_eq_true rfl) rfl (Call.toI h rfl fun x2 ν1 h => ?_)
  refine Wp_istore [0, 1, 2, 3, 4, 5] (ls' := [(5, vI x2), (0, vP (209, t0, r0)), (1, vP (1, 0, r1)), (2, vP (5, 0, r2)), (3, vP (203, t3, r3)), (4, vI z4)]) dL_law_1059 (zlt rfl) rfl ?_
  refine Wp_aload_n 3 dL_law_1061 rfl rfl ?_
  refine Wp_aload_n 1 dL_law_1062 rfl rfl ?_
  refine Wp_iload 5 dL_law_1063 rfl ?_
  refine Wp_iconst dL_law_1065 (v := 1) rfl ?_
  refine Wp_iadd dL_law_1066 ?_
  obtain ⟨j2, hj2, h⟩ := h
  obtain ⟨x3, e2, h⟩ := h
  refine Wg_iald dL_law_1067 rfl hj2 e2 ?_
  refine Wp_vown Y_X5_employerOf (5, 0, r2) [vI x3] K_X5_employerOf KI_X5_employerOf q4306 rfl rfl rfl q4304 dL_law_1068 KS_X5_employerOf (zlt rfl) (Nat.le_of_ble_eq_true rfl) rfl (Call.toI h rfl fun x4 ν2 h => ?_)
  refine Wp_istore [0, 1, 2, 3, 4, 5, 6] (ls' := [(6, vI x4), (5, vI x2), (0, vP (209, t0, r0)), (1, vP (1, 0, r1)), (2, vP (5, 0, r2)), (3, vP (203, t3, r3)), (4, vI z4)]) dL_law_1071 (zlt rfl) rfl ?_
  refine Wp_aload_n 4 dL_law_1073 rfl rfl ?_
  refine Wp_vown Y_X5_thrown (5, 0, r2) [] K_X5_thrown KI_X5_thrown q4025 rfl rfl rfl q4023 dL_law_1074 KS_X5_thrown (zlt rfl) (Nat.le_of_ble_eq_true rfl) rfl (Call.toI h rfl fun x5 ν3 h => ?_)
  refine Wp_iload 1 dL_law_1077 rfl ?_
  refine Wp_icmp_eq (tgt := 1084) dL_law_1079 rfl (fun hc => ?_) (fun hc => ?_)
  · replace h := h.1 hc
    refine Wp_iload 1 dL_law_1084 rfl ?_
    refine Wp_if_ne (tgt := 1101) dL_law_1086 rfl (fun hc => ?_) (fun hc => ?_)
    · replace h := h.1 hc
      refine Wp_goto (tgt := 3106) dL_law_1101 rfl ?_
      refine Wp_iinc 6 [0, 3, 4, 5, 6] (ls' := [(4, vI (z4 + 6)), (0, vP (209, t0, r0)), (1, vP (1, 0, r1)), (2, vP (5, 0, r2)), (3, vP (203, t3, r3))]) dL_law_3106 rfl (v := 6) rfl (zlt rfl) rfl ?_
      refine Wp_goto (tgt := 23) dL_law_3109 rfl ?_
      exact Wp.lcl [1, 2, 3, 4, 0] rfl h
    · replace h := h.2 hc
      refine Wp_aload_n 5 dL_law_1089 rfl rfl ?_
      refine Wp_iconst dL_law_1090 (v := 0) rfl ?_
      obtain ⟨hi1, h⟩ := h
      obtain ⟨l1, e3, h⟩ := h
      refine Wg_lald dL_law_1091 rfl ⟨rfl, hi1, by decide⟩ e3 ?_
      refine Wp_iload 0 dL_law_1092 rfl ?_
      refine Wp_i2l dL_law_1094 ?_
      refine Wp_lcmp dL_law_1095 ?_
      refine Wp_if_eq (tgt := 1101) dL_law_1096 rfl (fun hc => ?_) (fun hc => ?_)
      · replace h := h.1 hc
        refine Wp_goto (tgt := 3106) dL_law_1101 rfl ?_
        refine Wp_iinc 6 [0, 3, 4, 5, 6] (ls' := [(4, vI (z4 + 6)), (0, vP (209, t0, r0)), (1, vP (1, 0, r1)), (2, vP (5, 0, r2)), (3, vP (203, t3, r3))]) dL_law_3106 rfl (v := 6) rfl (zlt rfl) rfl ?_
        refine Wp_goto (tgt := 23) dL_law_3109 rfl ?_
        exact Wp.lcl [1, 2, 3, 4, 0] rfl h
      · replace h := h.2 hc
        refine Wp_iconst dL_law_1099 (v := 0) rfl ?_
        exact Wp_ireturn dL_law_1100 rfl (by decide) h
  · replace h := h.2 hc
    refine Wp_iconst dL_law_1082 (v := 0) rfl ?_
    exact Wp_ireturn dL_law_1083 rfl (by decide) h
theorem B_L_law_1104 {G : ZG} {μ : ZM} {Q : Option ZV → ZM → Prop} {E : ZP → ZM → Prop} {t0 : Nat} {r0 : Nat} {r1 : Nat} {r2 : Nat} {t3 : Nat} {r3 : Nat} {z4 : Int32}
    (h : ∃ j1, zix (z4 + 1) j1 t0 ∧ ∃ x1, zai μ r0 j1 = x1 ∧ Call G Y_X0_widthOf [vP (1, 0, r1), vI x1, vP (203, t3, r3)] μ (rI fun x2 ν1 => ∃ j2, zix (z4 + 1) j2 t0 ∧ ∃ x3, zai ν1 r0 j2 = x3 ∧ Call G Y_X5_widthOf [vP (5, 0, r2), vI x3] ν1 (rI fun x4 ν2 => Call G Y_X5_thrown [vP (5, 0, r2)] ν2 (rI fun x5 ν3 => (x5 = x2 → ((¬ x2 = 0 → Wp G Y_L_law 23 [(0, vP (209, t0, r0)), (1, vP (1, 0, r1)), (2, vP (5, 0, r2)), (3, vP (203, t3, r3)), (4, vI (z4 + 6))] [] ν3 Q E) ∧ (x2 = 0 → (0 < t3 ∧ ∃ l1, zal ν3 r3 0 = l1 ∧ ((lg_cmp l1 x4.toInt64) = 0 → Wp G Y_L_law 23 [(0, vP (209, t0, r0)), (1, vP (1, 0, r1)), (2, vP (5, 0, r2)), (3, vP (203, t3, r3)), (4, vI (z4 + 6))] [] ν3 Q E) ∧ (¬ (lg_cmp l1 x4.toInt64) = 0 → Q (some (vI 0)) ν3))))) ∧ (¬ x5 = x2 → Q (some (vI 0)) ν3)) (fun q ν => zkc q.1 = true ∧ E q ν)) (fun q ν => zkc q.1 = true ∧ E q ν)) (fun q ν => zkc q.1 = true ∧ E q ν)) : Wp G Y_L_law 1104 [(0, vP (209, t0, r0)), (1, vP (1, 0, r1)), (2, vP (5, 0, r2)), (3, vP (203, t3, r3)), (4, vI z4)] [] μ Q E := by
  refine Wp_aload_n 1 dL_law_1104 rfl rfl ?_
  refine Wp_aload_n 0 dL_law_1105 rfl rfl ?_
  refine Wp_iload 4 dL_law_1106 rfl ?_
  refine Wp_iconst dL_law_1108 (v := 1) rfl ?_
  refine Wp_iadd dL_law_1109 ?_
  obtain ⟨j1, hj1, h⟩ := h
  obtain ⟨x1, e1, h⟩ := h
  refine Wg_iald dL_law_1110 rfl hj1 e1 ?_
  refine Wp_aload_n 3 dL_law_1111 rfl rfl ?_
  refine Wp_stat Y_X0_widthOf [vP (1, 0, r1), vI x1, vP (203, t3, r3)] K_X0_widthOf KS_X0_widthOf KT_X0_widthOf rfl q3541 dL_law_1112 (zlt rfl) (Nat.le_of_ble_eq_true rfl) rfl (Call.toI h rfl fun x2 ν1 h => ?_)
  refine Wp_istore [0, 1, 2, 3, 4, 5] (ls' := [(5, vI x2), (0, vP (209, t0, r0)), (1, vP (1, 0, r1)), (2, vP (5, 0, r2)), (3, vP (203, t3, r3)), (4, vI z4)]) dL_law_1115 (zlt rfl) rfl ?_
  refine Wp_aload_n 3 dL_law_1117 rfl rfl ?_
  refine Wp_aload_n 1 dL_law_1118 rfl rfl ?_
  refine Wp_iload 5 dL_law_1119 rfl ?_
  refine Wp_iconst dL_law_1121 (v := 1) rfl ?_
  refine Wp_iadd dL_law_1122 ?_
  obtain ⟨j2, hj2, h⟩ := h
  obtain ⟨x3, e2, h⟩ := h
  refine Wg_iald dL_law_1123 rfl hj2 e2 ?_
  refine Wp_vown Y_X5_widthOf (5, 0, r2) [vI x3] K_X5_widthOf KI_X5_widthOf q4310 rfl rfl rfl q4308 dL_law_1124 KS_X5_widthOf (zlt rfl) (Nat.le_of_ble_eq_true rfl) rfl (Call.toI h rfl fun x4 ν2 h => ?_)
  refine Wp_istore [0, 1, 2, 3, 4, 5, 6] (ls' := [(6, vI x4), (5, vI x2), (0, vP (209, t0, r0)), (1, vP (1, 0, r1)), (2, vP (5, 0, r2)), (3, vP (203, t3, r3)), (4, vI z4)]) dL_law_1127 (zlt rfl) rfl ?_
  refine Wp_aload_n 4 dL_law_1129 rfl rfl ?_
  refine Wp_vown Y_X5_thrown (5, 0, r2) [] K_X5_thrown KI_X5_thrown q4025 rfl rfl rfl q4023 dL_law_1130 KS_X5_thrown (zlt rfl) (Nat.le_of_ble_eq_true rfl) rfl (Call.toI h rfl fun x5 ν3 h => ?_)
  refine Wp_iload 1 dL_law_1133 rfl ?_
  refine Wp_icmp_eq (tgt := 1140) dL_law_1135 rfl (fun hc => ?_) (fun hc => ?_)
  · replace h := h.1 hc
    refine Wp_iload 1 dL_law_1140 rfl ?_
    refine Wp_if_ne (tgt := 1157) dL_law_1142 rfl (fun hc => ?_) (fun hc => ?_)
    · replace h := h.1 hc
      refine Wp_goto (tgt := 3106) dL_law_1157 rfl ?_
      refine Wp_iinc 6 [0, 3, 4, 5, 6] (ls' := [(4, vI (z4 + 6)), (0, vP (209, t0, r0)), (1, vP (1, 0, r1)), (2, vP (5, 0, r2)), (3, vP (203, t3, r3))]) dL_law_3106 rfl (v := 6) rfl (zlt rfl) rfl ?_
      refine Wp_goto (tgt := 23) dL_law_3109 rfl ?_
      exact Wp.lcl [1, 2, 3, 4, 0] rfl h
    · replace h := h.2 hc
      refine Wp_aload_n 5 dL_law_1145 rfl rfl ?_
      refine Wp_iconst dL_law_1146 (v := 0) rfl ?_
      obtain ⟨hi1, h⟩ := h
      obtain ⟨l1, e3, h⟩ := h
      refine Wg_lald dL_law_1147 rfl ⟨rfl, hi1, by decide⟩ e3 ?_
      refine Wp_iload 0 dL_law_1148 rfl ?_
      refine Wp_i2l dL_law_1150 ?_
      refine Wp_lcmp dL_law_1151 ?_
      refine Wp_if_eq (tgt := 1157) dL_law_1152 rfl (fun hc => ?_) (fun hc => ?_)
      · replace h := h.1 hc
        refine Wp_goto (tgt := 3106) dL_law_1157 rfl ?_
        refine Wp_iinc 6 [0, 3, 4, 5, 6] (ls' := [(4, vI (z4 + 6)), (0, vP (209, t0, r0)), (1, vP (1, 0, r1)), (2, vP (5, 0, r2)), (3, vP (203, t3, r3))]) dL_law_3106 rfl (v := 6) rfl (zlt rfl) rfl ?_
        refine Wp_goto (tgt := 23) dL_law_3109 rfl ?_
        exact Wp.lcl [1, 2, 3, 4, 0] rfl h
      · replace h := h.2 hc
        refine Wp_iconst dL_law_1155 (v := 0) rfl ?_
        exact Wp_ireturn dL_law_1156 rfl (by decide) h
  · replace h := h.2 hc
    refine Wp_iconst dL_law_1138 (v := 0) rfl ?_
    exact Wp_ireturn dL_law_1139 rfl (by decide) h
theorem B_L_law_1160 {G : ZG} {μ : ZM} {Q : Option ZV → ZM → Prop} {E : ZP → ZM → Prop} {t0 : Nat} {r0 : Nat} {r1 : Nat} {r2 : Nat} {t3 : Nat} {r3 : Nat} {z4 : Int32}
    (h : ∃ j1, zix (z4 + 1) j1 t0 ∧ ∃ x1, zai μ r0 j1 = x1 ∧ Call G Y_X0_postsOf [vP (1, 0, r1), vI x1, vP (203, t3, r3)] μ (rI fun x2 ν1 => ∃ j2, zix (z4 + 1) j2 t0 ∧ ∃ x3, zai ν1 r0 j2 = x3 ∧ Call G Y_X5_postsOf [vP (5, 0, r2), vI x3] ν1 (rI fun x4 ν2 => Call G Y_X5_thrown [vP (5, 0, r2)] ν2 (rI fun x5 ν3 => (x5 = x2 → ((¬ x2 = 0 → Wp G Y_L_law 23 [(0, vP (209, t0, r0)), (1, vP (1, 0, r1)), (2, vP (5, 0, r2)), (3, vP (203, t3, r3)), (4, vI (z4 + 6))] [] ν3 Q E) ∧ (x2 = 0 → (0 < t3 ∧ ∃ l1, zal ν3 r3 0 = l1 ∧ ((lg_cmp l1 x4.toInt64) = 0 → Wp G Y_L_law 23 [(0, vP (209, t0, r0)), (1, vP (1, 0, r1)), (2, vP (5, 0, r2)), (3, vP (203, t3, r3)), (4, vI (z4 + 6))] [] ν3 Q E) ∧ (¬ (lg_cmp l1 x4.toInt64) = 0 → Q (some (vI 0)) ν3))))) ∧ (¬ x5 = x2 → Q (some (vI 0)) ν3)) (fun q ν => zkc q.1 = true ∧ E q ν)) (fun q ν => zkc q.1 = true ∧ E q ν)) (fun q ν => zkc q.1 = true ∧ E q ν)) : Wp G Y_L_law 1160 [(0, vP (209, t0, r0)), (1, vP (1, 0, r1)), (2, vP (5, 0, r2)), (3, vP (203, t3, r3)), (4, vI z4)] [] μ Q E := by
  refine Wp_aload_n 1 dL_law_1160 rfl rfl ?_
  refine Wp_aload_n 0 dL_law_1161 rfl rfl ?_
  refine Wp_iload 4 dL_law_1162 rfl ?_
  refine Wp_iconst dL_law_1164 (v := 1) rfl ?_
  refine Wp_iadd dL_law_1165 ?_
  obtain ⟨j1, hj1, h⟩ := h
  obtain ⟨x1, e1, h⟩ := h
  refine Wg_iald dL_law_1166 rfl hj1 e1 ?_
  refine Wp_aload_n 3 dL_law_1167 rfl rfl ?_
  refine Wp_stat Y_X0_postsOf [vP (1, 0, r1), vI x1, vP (203, t3, r3)] K_X0_postsOf KS_X0_postsOf KT_X0_postsOf rfl q3552 dL_law_1168 (zlt rfl) (Nat.le_of_ble_eq_true rfl) rfl (Call.toI h rfl fun x2 ν1 h => ?_)
  refine Wp_istore [0, 1, 2, 3, 4, 5] (ls' := [(5, vI x2), (0, vP (209, t0, r0)), (1, vP (1, 0, r1)), (2, vP (5, 0, r2)), (3, vP (203, t3, r3)), (4, vI z4)]) dL_law_1171 (zlt rfl) rfl ?_
  refine Wp_aload_n 3 dL_law_1173 rfl rfl ?_
  refine Wp_aload_n 1 dL_law_1174 rfl rfl ?_
  refine Wp_iload 5 dL_law_1175 rfl ?_
  refine Wp_iconst dL_law_1177 (v := 1) rfl ?_
  refine Wp_iadd dL_law_1178 ?_
  obtain ⟨j2, hj2, h⟩ := h
  obtain ⟨x3, e2, h⟩ := h
  refine Wg_iald dL_law_1179 rfl hj2 e2 ?_
  refine Wp_vown Y_X5_postsOf (5, 0, r2) [vI x3] K_X5_postsOf KI_X5_postsOf q4322 rfl rfl rfl q4320 dL_law_1180 KS_X5_postsOf (zlt rfl) (Nat.le_of_ble_eq_true rfl) rfl (Call.toI h rfl fun x4 ν2 h => ?_)
  refine Wp_istore [0, 1, 2, 3, 4, 5, 6] (ls' := [(6, vI x4), (5, vI x2), (0, vP (209, t0, r0)), (1, vP (1, 0, r1)), (2, vP (5, 0, r2)), (3, vP (203, t3, r3)), (4, vI z4)]) dL_law_1183 (zlt rfl) rfl ?_
  refine Wp_aload_n 4 dL_law_1185 rfl rfl ?_
  refine Wp_vown Y_X5_thrown (5, 0, r2) [] K_X5_thrown KI_X5_thrown q4025 rfl rfl rfl q4023 dL_law_1186 KS_X5_thrown (zlt rfl) (Nat.le_of_ble_eq_true rfl) rfl (Call.toI h rfl fun x5 ν3 h => ?_)
  refine Wp_iload 1 dL_law_1189 rfl ?_
  refine Wp_icmp_eq (tgt := 1196) dL_law_1191 rfl (fun hc => ?_) (fun hc => ?_)
  · replace h := h.1 hc
    refine Wp_iload 1 dL_law_1196 rfl ?_
    refine Wp_if_ne (tgt := 1213) dL_law_1198 rfl (fun hc => ?_) (fun hc => ?_)
    · replace h := h.1 hc
      refine Wp_goto (tgt := 3106) dL_law_1213 rfl ?_
      refine Wp_iinc 6 [0, 3, 4, 5, 6] (ls' := [(4, vI (z4 + 6)), (0, vP (209, t0, r0)), (1, vP (1, 0, r1)), (2, vP (5, 0, r2)), (3, vP (203, t3, r3))]) dL_law_3106 rfl (v := 6) rfl (zlt rfl) rfl ?_
      refine Wp_goto (tgt := 23) dL_law_3109 rfl ?_
      exact Wp.lcl [1, 2, 3, 4, 0] rfl h
    · replace h := h.2 hc
      refine Wp_aload_n 5 dL_law_1201 rfl rfl ?_
      refine Wp_iconst dL_law_1202 (v := 0) rfl ?_
      obtain ⟨hi1, h⟩ := h
      obtain ⟨l1, e3, h⟩ := h
      refine Wg_lald dL_law_1203 rfl ⟨rfl, hi1, by decide⟩ e3 ?_
      refine Wp_iload 0 dL_law_1204 rfl ?_
      refine Wp_i2l dL_law_1206 ?_
      refine Wp_lcmp dL_law_1207 ?_
      refine Wp_if_eq (tgt := 1213) dL_law_1208 rfl (fun hc => ?_) (fun hc => ?_)
      · replace h := h.1 hc
        refine Wp_goto (tgt := 3106) dL_law_1213 rfl ?_
        refine Wp_iinc 6 [0, 3, 4, 5, 6] (ls' := [(4, vI (z4 + 6)), (0, vP (209, t0, r0)), (1, vP (1, 0, r1)), (2, vP (5, 0, r2)), (3, vP (203, t3, r3))]) dL_law_3106 rfl (v := 6) rfl (zlt rfl) rfl ?_
        refine Wp_goto (tgt := 23) dL_law_3109 rfl ?_
        exact Wp.lcl [1, 2, 3, 4, 0] rfl h
      · replace h := h.2 hc
        refine Wp_iconst dL_law_1211 (v := 0) rfl ?_
        exact Wp_ireturn dL_law_1212 rfl (by decide) h
  · replace h := h.2 hc
    refine Wp_iconst dL_law_1194 (v := 0) rfl ?_
    exact Wp_ireturn dL_law_1195 rfl (by decide) h
theorem B_L_law_1216 {G : ZG} {μ : ZM} {Q : Option ZV → ZM → Prop} {E : ZP → ZM → Prop} {t0 : Nat} {r0 : Nat} {r1 : Nat} {r2 : Nat} {t3 : Nat} {r3 : Nat} {z4 : Int32}
    (h : ∃ j1, zix (z4 + 1) j1 t0 ∧ ∃ x1, zai μ r0 j1 = x1 ∧ Call G Y_X0_wageOf [vP (1, 0, r1), vI x1, vP (203, t3, r3)] μ (rI fun x2 ν1 => ∃ j2, zix (z4 + 1) j2 t0 ∧ ∃ x3, zai ν1 r0 j2 = x3 ∧ Call G Y_X5_wageOf [vP (5, 0, r2), vI x3] ν1 (rI fun x4 ν2 => Call G Y_X5_thrown [vP (5, 0, r2)] ν2 (rI fun x5 ν3 => (x5 = x2 → ((¬ x2 = 0 → Wp G Y_L_law 23 [(0, vP (209, t0, r0)), (1, vP (1, 0, r1)), (2, vP (5, 0, r2)), (3, vP (203, t3, r3)), (4, vI (z4 + 6))] [] ν3 Q E) ∧ (x2 = 0 → (0 < t3 ∧ ∃ l1, zal ν3 r3 0 = l1 ∧ ((lg_cmp l1 x4.toInt64) = 0 → Wp G Y_L_law 23 [(0, vP (209, t0, r0)), (1, vP (1, 0, r1)), (2, vP (5, 0, r2)), (3, vP (203, t3, r3)), (4, vI (z4 + 6))] [] ν3 Q E) ∧ (¬ (lg_cmp l1 x4.toInt64) = 0 → Q (some (vI 0)) ν3))))) ∧ (¬ x5 = x2 → Q (some (vI 0)) ν3)) (fun q ν => zkc q.1 = true ∧ E q ν)) (fun q ν => zkc q.1 = true ∧ E q ν)) (fun q ν => zkc q.1 = true ∧ E q ν)) : Wp G Y_L_law 1216 [(0, vP (209, t0, r0)), (1, vP (1, 0, r1)), (2, vP (5, 0, r2)), (3, vP (203, t3, r3)), (4, vI z4)] [] μ Q E := by
  refine Wp_aload_n 1 dL_law_1216 rfl rfl ?_
  refine Wp_aload_n 0 dL_law_1217 rfl rfl ?_
  refine Wp_iload 4 dL_law_1218 rfl ?_
  refine Wp_iconst dL_law_1220 (v := 1) rfl ?_
  refine Wp_iadd dL_law_1221 ?_
  obtain ⟨j1, hj1, h⟩ := h
  obtain ⟨x1, e1, h⟩ := h
  refine Wg_iald dL_law_1222 rfl hj1 e1 ?_
  refine Wp_aload_n 3 dL_law_1223 rfl rfl ?_
  refine Wp_stat Y_X0_wageOf [vP (1, 0, r1), vI x1, vP (203, t3, r3)] K_X0_wageOf KS_X0_wageOf KT_X0_wageOf rfl q3559 dL_law_1224 (zlt rfl) (Nat.le_of_ble_eq_true rfl) rfl (Call.toI h rfl fun x2 ν1 h => ?_)
  refine Wp_istore [0, 1, 2, 3, 4, 5] (ls' := [(5, vI x2), (0, vP (209, t0, r0)), (1, vP (1, 0, r1)), (2, vP (5, 0, r2)), (3, vP (203, t3, r3)), (4, vI z4)]) dL_law_1227 (zlt rfl) rfl ?_
  refine Wp_aload_n 3 dL_law_1229 rfl rfl ?_
  refine Wp_aload_n 1 dL_law_1230 rfl rfl ?_
  refine Wp_iload 5 dL_law_1231 rfl ?_
  refine Wp_iconst dL_law_1233 (v := 1) rfl ?_
  refine Wp_iadd dL_law_1234 ?_
  obtain ⟨j2, hj2, h⟩ := h
  obtain ⟨x3, e2, h⟩ := h
  refine Wg_iald dL_law_1235 rfl hj2 e2 ?_
  refine Wp_vown Y_X5_wageOf (5, 0, r2) [vI x3] K_X5_wageOf KI_X5_wageOf q4326 rfl rfl rfl q4324 dL_law_1236 KS_X5_wageOf (zlt rfl) (Nat.le_of_ble_eq_true rfl) rfl (Call.toI h rfl fun x4 ν2 h => ?_)
  refine Wp_istore [0, 1, 2, 3, 4, 5, 6] (ls' := [(6, vI x4), (5, vI x2), (0, vP (209, t0, r0)), (1, vP (1, 0, r1)), (2, vP (5, 0, r2)), (3, vP (203, t3, r3)), (4, vI z4)]) dL_law_1239 (zlt rfl) rfl ?_
  refine Wp_aload_n 4 dL_law_1241 rfl rfl ?_
  refine Wp_vown Y_X5_thrown (5, 0, r2) [] K_X5_thrown KI_X5_thrown q4025 rfl rfl rfl q4023 dL_law_1242 KS_X5_thrown (zlt rfl) (Nat.le_of_ble_eq_true rfl) rfl (Call.toI h rfl fun x5 ν3 h => ?_)
  refine Wp_iload 1 dL_law_1245 rfl ?_
  refine Wp_icmp_eq (tgt := 1252) dL_law_1247 rfl (fun hc => ?_) (fun hc => ?_)
  · replace h := h.1 hc
    refine Wp_iload 1 dL_law_1252 rfl ?_
    refine Wp_if_ne (tgt := 1269) dL_law_1254 rfl (fun hc => ?_) (fun hc => ?_)
    · replace h := h.1 hc
      refine Wp_goto (tgt := 3106) dL_law_1269 rfl ?_
      refine Wp_iinc 6 [0, 3, 4, 5, 6] (ls' := [(4, vI (z4 + 6)), (0, vP (209, t0, r0)), (1, vP (1, 0, r1)), (2, vP (5, 0, r2)), (3, vP (203, t3, r3))]) dL_law_3106 rfl (v := 6) rfl (zlt rfl) rfl ?_
      refine Wp_goto (tgt := 23) dL_law_3109 rfl ?_
      exact Wp.lcl [1, 2, 3, 4, 0] rfl h
    · replace h := h.2 hc
      refine Wp_aload_n 5 dL_law_1257 rfl rfl ?_
      refine Wp_iconst dL_law_1258 (v := 0) rfl ?_
      obtain ⟨hi1, h⟩ := h
      obtain ⟨l1, e3, h⟩ := h
      refine Wg_lald dL_law_1259 rfl ⟨rfl, hi1, by decide⟩ e3 ?_
      refine Wp_iload 0 dL_law_1260 rfl ?_
      refine Wp_i2l dL_law_1262 ?_
      refine Wp_lcmp dL_law_1263 ?_
      refine Wp_if_eq (tgt := 1269) dL_law_1264 rfl (fun hc => ?_) (fun hc => ?_)
      · replace h := h.1 hc
        refine Wp_goto (tgt := 3106) dL_law_1269 rfl ?_
        refine Wp_iinc 6 [0, 3, 4, 5, 6] (ls' := [(4, vI (z4 + 6)), (0, vP (209, t0, r0)), (1, vP (1, 0, r1)), (2, vP (5, 0, r2)), (3, vP (203, t3, r3))]) dL_law_3106 rfl (v := 6) rfl (zlt rfl) rfl ?_
        refine Wp_goto (tgt := 23) dL_law_3109 rfl ?_
        exact Wp.lcl [1, 2, 3, 4, 0] rfl h
      · replace h := h.2 hc
        refine Wp_iconst dL_law_1267 (v := 0) rfl ?_
        exact Wp_ireturn dL_law_1268 rfl (by decide) h
  · replace h := h.2 hc
    refine Wp_iconst dL_law_1250 (v := 0) rfl ?_
    exact Wp_ireturn dL_law_1251 rfl (by decide) h
theorem B_L_law_1272 {G : ZG} {μ : ZM} {Q : Option ZV → ZM → Prop} {E : ZP → ZM → Prop} {t0 : Nat} {r0 : Nat} {r1 : Nat} {r2 : Nat} {t3 : Nat} {r3 : Nat} {z4 : Int32}
    (h : ∃ j1, zix (z4 + 1) j1 t0 ∧ ∃ x1, zai μ r0 j1 = x1 ∧ Call G Y_X0_purseOf [vP (1, 0, r1), vI x1, vP (203, t3, r3)] μ (rI fun x2 ν1 => ∃ j2, zix (z4 + 1) j2 t0 ∧ ∃ x3, zai ν1 r0 j2 = x3 ∧ Call G Y_X5_purseOf [vP (5, 0, r2), vI x3] ν1 (rI fun x4 ν2 => Call G Y_X5_thrown [vP (5, 0, r2)] ν2 (rI fun x5 ν3 => (x5 = x2 → ((¬ x2 = 0 → Wp G Y_L_law 23 [(0, vP (209, t0, r0)), (1, vP (1, 0, r1)), (2, vP (5, 0, r2)), (3, vP (203, t3, r3)), (4, vI (z4 + 6))] [] ν3 Q E) ∧ (x2 = 0 → (0 < t3 ∧ ∃ l1, zal ν3 r3 0 = l1 ∧ ((lg_cmp l1 x4.toInt64) = 0 → Wp G Y_L_law 23 [(0, vP (209, t0, r0)), (1, vP (1, 0, r1)), (2, vP (5, 0, r2)), (3, vP (203, t3, r3)), (4, vI (z4 + 6))] [] ν3 Q E) ∧ (¬ (lg_cmp l1 x4.toInt64) = 0 → Q (some (vI 0)) ν3))))) ∧ (¬ x5 = x2 → Q (some (vI 0)) ν3)) (fun q ν => zkc q.1 = true ∧ E q ν)) (fun q ν => zkc q.1 = true ∧ E q ν)) (fun q ν => zkc q.1 = true ∧ E q ν)) : Wp G Y_L_law 1272 [(0, vP (209, t0, r0)), (1, vP (1, 0, r1)), (2, vP (5, 0, r2)), (3, vP (203, t3, r3)), (4, vI z4)] [] μ Q E := by
  refine Wp_aload_n 1 dL_law_1272 rfl rfl ?_
  refine Wp_aload_n 0 dL_law_1273 rfl rfl ?_
  refine Wp_iload 4 dL_law_1274 rfl ?_
  refine Wp_iconst dL_law_1276 (v := 1) rfl ?_
  refine Wp_iadd dL_law_1277 ?_
  obtain ⟨j1, hj1, h⟩ := h
  obtain ⟨x1, e1, h⟩ := h
  refine Wg_iald dL_law_1278 rfl hj1 e1 ?_
  refine Wp_aload_n 3 dL_law_1279 rfl rfl ?_
  refine Wp_stat Y_X0_purseOf [vP (1, 0, r1), vI x1, vP (203, t3, r3)] K_X0_purseOf KS_X0_purseOf KT_X0_purseOf rfl q3566 dL_law_1280 (zlt rfl) (Nat.le_of_ble_eq_true rfl) rfl (Call.toI h rfl fun x2 ν1 h => ?_)
  refine Wp_istore [0, 1, 2, 3, 4, 5] (ls' := [(5, vI x2), (0, vP (209, t0, r0)), (1, vP (1, 0, r1)), (2, vP (5, 0, r2)), (3, vP (203, t3, r3)), (4, vI z4)]) dL_law_1283 (zlt rfl) rfl ?_
  refine Wp_aload_n 3 dL_law_1285 rfl rfl ?_
  refine Wp_aload_n 1 dL_law_1286 rfl rfl ?_
  refine Wp_iload 5 dL_law_1287 rfl ?_
  refine Wp_iconst dL_law_1289 (v := 1) rfl ?_
  refine Wp_iadd dL_law_1290 ?_
  obtain ⟨j2, hj2, h⟩ := h
  obtain ⟨x3, e2, h⟩ := h
  refine Wg_iald dL_law_1291 rfl hj2 e2 ?_
  refine Wp_vown Y_X5_purseOf (5, 0, r2) [vI x3] K_X5_purseOf KI_X5_purseOf q4330 rfl rfl rfl q4328 dL_law_1292 KS_X5_purseOf (zlt rfl) (Nat.le_of_ble_eq_true rfl) rfl (Call.toI h rfl fun x4 ν2 h => ?_)
  refine Wp_istore [0, 1, 2, 3, 4, 5, 6] (ls' := [(6, vI x4), (5, vI x2), (0, vP (209, t0, r0)), (1, vP (1, 0, r1)), (2, vP (5, 0, r2)), (3, vP (203, t3, r3)), (4, vI z4)]) dL_law_1295 (zlt rfl) rfl ?_
  refine Wp_aload_n 4 dL_law_1297 rfl rfl ?_
  refine Wp_vown Y_X5_thrown (5, 0, r2) [] K_X5_thrown KI_X5_thrown q4025 rfl rfl rfl q4023 dL_law_1298 KS_X5_thrown (zlt rfl) (Nat.le_of_ble_eq_true rfl) rfl (Call.toI h rfl fun x5 ν3 h => ?_)
  refine Wp_iload 1 dL_law_1301 rfl ?_
  refine Wp_icmp_eq (tgt := 1308) dL_law_1303 rfl (fun hc => ?_) (fun hc => ?_)
  · replace h := h.1 hc
    refine Wp_iload 1 dL_law_1308 rfl ?_
    refine Wp_if_ne (tgt := 1325) dL_law_1310 rfl (fun hc => ?_) (fun hc => ?_)
    · replace h := h.1 hc
      refine Wp_goto (tgt := 3106) dL_law_1325 rfl ?_
      refine Wp_iinc 6 [0, 3, 4, 5, 6] (ls' := [(4, vI (z4 + 6)), (0, vP (209, t0, r0)), (1, vP (1, 0, r1)), (2, vP (5, 0, r2)), (3, vP (203, t3, r3))]) dL_law_3106 rfl (v := 6) rfl (zlt rfl) rfl ?_
      refine Wp_goto (tgt := 23) dL_law_3109 rfl ?_
      exact Wp.lcl [1, 2, 3, 4, 0] rfl h
    · replace h := h.2 hc
      refine Wp_aload_n 5 dL_law_1313 rfl rfl ?_
      refine Wp_iconst dL_law_1314 (v := 0) rfl ?_
      obtain ⟨hi1, h⟩ := h
      obtain ⟨l1, e3, h⟩ := h
      refine Wg_lald dL_law_1315 rfl ⟨rfl, hi1, by decide⟩ e3 ?_
      refine Wp_iload 0 dL_law_1316 rfl ?_
      refine Wp_i2l dL_law_1318 ?_
      refine Wp_lcmp dL_law_1319 ?_
      refine Wp_if_eq (tgt := 1325) dL_law_1320 rfl (fun hc => ?_) (fun hc => ?_)
      · replace h := h.1 hc
        refine Wp_goto (tgt := 3106) dL_law_1325 rfl ?_
        refine Wp_iinc 6 [0, 3, 4, 5, 6] (ls' := [(4, vI (z4 + 6)), (0, vP (209, t0, r0)), (1, vP (1, 0, r1)), (2, vP (5, 0, r2)), (3, vP (203, t3, r3))]) dL_law_3106 rfl (v := 6) rfl (zlt rfl) rfl ?_
        refine Wp_goto (tgt := 23) dL_law_3109 rfl ?_
        exact Wp.lcl [1, 2, 3, 4, 0] rfl h
      · replace h := h.2 hc
        refine Wp_iconst dL_law_1323 (v := 0) rfl ?_
        exact Wp_ireturn dL_law_1324 rfl (by decide) h
  · replace h := h.2 hc
    refine Wp_iconst dL_law_1306 (v := 0) rfl ?_
    exact Wp_ireturn dL_law_1307 rfl (by decide) h
theorem B_L_law_1328 {G : ZG} {μ : ZM} {Q : Option ZV → ZM → Prop} {E : ZP → ZM → Prop} {t0 : Nat} {r0 : Nat} {r1 : Nat} {r2 : Nat} {t3 : Nat} {r3 : Nat} {z4 : Int32}
    (h : ∃ j1, zix (z4 + 1) j1 t0 ∧ ∃ x1, zai μ r0 j1 = x1 ∧ Call G Y_X0_staffCount [vP (1, 0, r1), vI x1, vP (203, t3, r3)] μ (rI fun x2 ν1 => ∃ j2, zix (z4 + 1) j2 t0 ∧ ∃ x3, zai ν1 r0 j2 = x3 ∧ Call G Y_X5_staffCount [vP (5, 0, r2), vI x3] ν1 (rI fun x4 ν2 => Call G Y_X5_thrown [vP (5, 0, r2)] ν2 (rI fun x5 ν3 => (x5 = x2 → ((¬ x2 = 0 → Wp G Y_L_law 23 [(0, vP (209, t0, r0)), (1, vP (1, 0, r1)), (2, vP (5, 0, r2)), (3, vP (203, t3, r3)), (4, vI (z4 + 6))] [] ν3 Q E) ∧ (x2 = 0 → (0 < t3 ∧ ∃ l1, zal ν3 r3 0 = l1 ∧ ((lg_cmp l1 x4.toInt64) = 0 → Wp G Y_L_law 23 [(0, vP (209, t0, r0)), (1, vP (1, 0, r1)), (2, vP (5, 0, r2)), (3, vP (203, t3, r3)), (4, vI (z4 + 6))] [] ν3 Q E) ∧ (¬ (lg_cmp l1 x4.toInt64) = 0 → Q (some (vI 0)) ν3))))) ∧ (¬ x5 = x2 → Q (some (vI 0)) ν3)) (fun q ν => zkc q.1 = true ∧ E q ν)) (fun q ν => zkc q.1 = true ∧ E q ν)) (fun q ν => zkc q.1 = true ∧ E q ν)) : Wp G Y_L_law 1328 [(0, vP (209, t0, r0)), (1, vP (1, 0, r1)), (2, vP (5, 0, r2)), (3, vP (203, t3, r3)), (4, vI z4)] [] μ Q E := by
  refine Wp_aload_n 1 dL_law_1328 rfl rfl ?_
  refine Wp_aload_n 0 dL_law_1329 rfl rfl ?_
  refine Wp_iload 4 dL_law_1330 rfl ?_
  refine Wp_iconst dL_law_1332 (v := 1) rfl ?_
  refine Wp_iadd dL_law_1333 ?_
  obtain ⟨j1, hj1, h⟩ := h
  obtain ⟨x1, e1, h⟩ := h
  refine Wg_iald dL_law_1334 rfl hj1 e1 ?_
  refine Wp_aload_n 3 dL_law_1335 rfl rfl ?_
  refine Wp_stat Y_X0_staffCount [vP (1, 0, r1), vI x1, vP (203, t3, r3)] K_X0_staffCount KS_X0_staffCount KT_X0_staffCount rfl q3573 dL_law_1336 (zlt rfl) (Nat.le_of_ble_eq_true rfl) rfl (Call.toI h rfl fun x2 ν1 h => ?_)
  refine Wp_istore [0, 1, 2, 3, 4, 5] (ls' := [(5, vI x2), (0, vP (209, t0, r0)), (1, vP (1, 0, r1)), (2, vP (5, 0, r2)), (3, vP (203, t3, r3)), (4, vI z4)]) dL_law_1339 (zlt rfl) rfl ?_
  refine Wp_aload_n 3 dL_law_1341 rfl rfl ?_
  refine Wp_aload_n 1 dL_law_1342 rfl rfl ?_
  refine Wp_iload 5 dL_law_1343 rfl ?_
  refine Wp_iconst dL_law_1345 (v := 1) rfl ?_
  refine Wp_iadd dL_law_1346 ?_
  obtain ⟨j2, hj2, h⟩ := h
  obtain ⟨x3, e2, h⟩ := h
  refine Wg_iald dL_law_1347 rfl hj2 e2 ?_
  refine Wp_vown Y_X5_staffCount (5, 0, r2) [vI x3] K_X5_staffCount KI_X5_staffCount q4334 rfl rfl rfl q4332 dL_law_1348 KS_X5_staffCount (zlt rfl) (Nat.le_of_ble_eq_true rfl) rfl (Call.toI h rfl fun x4 ν2 h => ?_)
  refine Wp_istore [0, 1, 2, 3, 4, 5, 6] (ls' := [(6, vI x4), (5, vI x2), (0, vP (209, t0, r0)), (1, vP (1, 0, r1)), (2, vP (5, 0, r2)), (3, vP (203, t3, r3)), (4, vI z4)]) dL_law_1351 (zlt rfl) rfl ?_
  refine Wp_aload_n 4 dL_law_1353 rfl rfl ?_
  refine Wp_vown Y_X5_thrown (5, 0, r2) [] K_X5_thrown KI_X5_thrown q4025 rfl rfl rfl q4023 dL_law_1354 KS_X5_thrown (zlt rfl) (Nat.le_of_ble_eq_true rfl) rfl (Call.toI h rfl fun x5 ν3 h => ?_)
  refine Wp_iload 1 dL_law_1357 rfl ?_
  refine Wp_icmp_eq (tgt := 1364) dL_law_1359 rfl (fun hc => ?_) (fun hc => ?_)
  · replace h := h.1 hc
    refine Wp_iload 1 dL_law_1364 rfl ?_
    refine Wp_if_ne (tgt := 1381) dL_law_1366 rfl (fun hc => ?_) (fun hc => ?_)
    · replace h := h.1 hc
      refine Wp_goto (tgt := 3106) dL_law_1381 rfl ?_
      refine Wp_iinc 6 [0, 3, 4, 5, 6] (ls' := [(4, vI (z4 + 6)), (0, vP (209, t0, r0)), (1, vP (1, 0, r1)), (2, vP (5, 0, r2)), (3, vP (203, t3, r3))]) dL_law_3106 rfl (v := 6) rfl (zlt rfl) rfl ?_
      refine Wp_goto (tgt := 23) dL_law_3109 rfl ?_
      exact Wp.lcl [1, 2, 3, 4, 0] rfl h
    · replace h := h.2 hc
      refine Wp_aload_n 5 dL_law_1369 rfl rfl ?_
      refine Wp_iconst dL_law_1370 (v := 0) rfl ?_
      obtain ⟨hi1, h⟩ := h
      obtain ⟨l1, e3, h⟩ := h
      refine Wg_lald dL_law_1371 rfl ⟨rfl, hi1, by decide⟩ e3 ?_
      refine Wp_iload 0 dL_law_1372 rfl ?_
      refine Wp_i2l dL_law_1374 ?_
      refine Wp_lcmp dL_law_1375 ?_
      refine Wp_if_eq (tgt := 1381) dL_law_1376 rfl (fun hc => ?_) (fun hc => ?_)
      · replace h := h.1 hc
        refine Wp_goto (tgt := 3106) dL_law_1381 rfl ?_
        refine Wp_iinc 6 [0, 3, 4, 5, 6] (ls' := [(4, vI (z4 + 6)), (0, vP (209, t0, r0)), (1, vP (1, 0, r1)), (2, vP (5, 0, r2)), (3, vP (203, t3, r3))]) dL_law_3106 rfl (v := 6) rfl (zlt rfl) rfl ?_
        refine Wp_goto (tgt := 23) dL_law_3109 rfl ?_
        exact Wp.lcl [1, 2, 3, 4, 0] rfl h
      · replace h := h.2 hc
        refine Wp_iconst dL_law_1379 (v := 0) rfl ?_
        exact Wp_ireturn dL_law_1380 rfl (by decide) h
  · replace h := h.2 hc
    refine Wp_iconst dL_law_1362 (v := 0) rfl ?_
    exact Wp_ireturn dL_law_1363 rfl (by decide) h
theorem B_L_law_1384 {G : ZG} {μ : ZM} {Q : Option ZV → ZM → Prop} {E : ZP → ZM → Prop} {t0 : Nat} {r0 : Nat} {r1 : Nat} {r2 : Nat} {t3 : Nat} {r3 : Nat} {z4 : Int32}
    (h : ∃ j1, zix (z4 + 1) j1 t0 ∧ ∃ x1, zai μ r0 j1 = x1 ∧ ∃ j2, zix (z4 + 2) j2 t0 ∧ ∃ x2, zai μ r0 j2 = x2 ∧ Call G Y_X0_staffMember [vP (1, 0, r1), vI x1, vI x2, vP (203, t3, r3)] μ (rI fun x3 ν1 => ∃ j3, zix (z4 + 1) j3 t0 ∧ ∃ x4, zai ν1 r0 j3 = x4 ∧ ∃ j4, zix (z4 + 2) j4 t0 ∧ ∃ x5, zai ν1 r0 j4 = x5 ∧ Call G Y_X5_staffMember [vP (5, 0, r2), vI x4, vI x5] ν1 (rI fun x6 ν2 => Call G Y_X5_thrown [vP (5, 0, r2)] ν2 (rI fun x7 ν3 => (x7 = x3 → ((¬ x3 = 0 → Wp G Y_L_law 23 [(0, vP (209, t0, r0)), (1, vP (1, 0, r1)), (2, vP (5, 0, r2)), (3, vP (203, t3, r3)), (4, vI (z4 + 6))] [] ν3 Q E) ∧ (x3 = 0 → (0 < t3 ∧ ∃ l1, zal ν3 r3 0 = l1 ∧ ((lg_cmp l1 x6.toInt64) = 0 → Wp G Y_L_law 23 [(0, vP (209, t0, r0)), (1, vP (1, 0, r1)), (2, vP (5, 0, r2)), (3, vP (203, t3, r3)), (4, vI (z4 + 6))] [] ν3 Q E) ∧ (¬ (lg_cmp l1 x6.toInt64) = 0 → Q (some (vI 0)) ν3))))) ∧ (¬ x7 = x3 → Q (some (vI 0)) ν3)) (fun q ν => zkc q.1 = true ∧ E q ν)) (fun q ν => zkc q.1 = true ∧ E q ν)) (fun q ν => zkc q.1 = true ∧ E q ν)) : Wp G Y_L_law 1384 [(0, vP (209, t0, r0)), (1, vP (1, 0, r1)), (2, vP (5, 0, r2)), (3, vP (203, t3, r3)), (4, vI z4)] [] μ Q E := by
  refine Wp_aload_n 1 dL_law_1384 rfl rfl ?_
  refine Wp_aload_n 0 dL_law_1385 rfl rfl ?_
  refine Wp_iload 4 dL_law_1386 rfl ?_
  refine Wp_iconst dL_law_1388 (v := 1) rfl ?_
  refine Wp_iadd dL_law_1389 ?_
  obtain ⟨j1, hj1, h⟩ := h
  obtain ⟨x1, e1, h⟩ := h
  refine Wg_iald dL_law_1390 rfl hj1 e1 ?_
  refine Wp_aload_n 0 dL_law_1391 rfl rfl ?_
  refine Wp_iload 4 dL_law_1392 rfl ?_
  refine Wp_iconst dL_law_1394 (v := 2) rfl ?_
  refine Wp_iadd dL_law_1395 ?_
  obtain ⟨j2, hj2, h⟩ := h
  obtain ⟨x2, e2, h⟩ := h
  refine Wg_iald dL_law_1396 rfl hj2 e2 ?_
  refine Wp_aload_n 3 dL_law_1397 rfl rfl ?_
  refine Wp_stat Y_X0_staffMember [vP (1, 0, r1), vI x1, vI x2, vP (203, t3, r3)] K_X0_staffMember KS_X0_staffMember KT_X0_staffMember rfl q3580 dL_law_1398 (zlt rfl) (Nat.le_of_ble_eq_true rfl) rfl (Call.toI h rfl fun x3 ν1 h => ?_)
  refine Wp_istore [0, 1, 2, 3, 4, 5] (ls' := [(5, vI x3), (0, vP (209, t0, r0)), (1, vP (1, 0, r1)), (2, vP (5, 0, r2)), (3, vP (203, t3, r3)), (4, vI z4)]) dL_law_1401 (zlt rfl) rfl ?_
  refine Wp_aload_n 3 dL_law_1403 rfl rfl ?_
  refine Wp_aload_n 1 dL_law_1404 rfl rfl ?_
  refine Wp_iload 5 dL_law_1405 rfl ?_
  refine Wp_iconst dL_law_1407 (v := 1) rfl ?_
  refine Wp_iadd dL_law_1408 ?_
  obtain ⟨j3, hj3, h⟩ := h
  obtain ⟨x4, e3, h⟩ := h
  refine Wg_iald dL_law_1409 rfl hj3 e3 ?_
  refine Wp_aload_n 1 dL_law_1410 rfl rfl ?_
  refine Wp_iload 5 dL_law_1411 rfl ?_
  refine Wp_iconst dL_law_1413 (v := 2) rfl ?_
  refine Wp_iadd dL_law_1414 ?_
  obtain ⟨j4, hj4, h⟩ := h
  obtain ⟨x5, e4, h⟩ := h
  refine Wg_iald dL_law_1415 rfl hj4 e4 ?_
  refine Wp_vown Y_X5_staffMember (5, 0, r2) [vI x4, vI x5] K_X5_staffMember KI_X5_staffMember q4338 rfl rfl rfl q4336 dL_law_1416 KS_X5_staffMember (zlt rfl) (Nat.le_of_ble_eq_true rfl) rfl (Call.toI h rfl fun x6 ν2 h => ?_)
  refine Wp_istore [0, 1, 2, 3, 4, 5, 6] (ls' := [(6, vI x6), (5, vI x3), (0, vP (209, t0, r0)), (1, vP (1, 0, r1)), (2, vP (5, 0, r2)), (3, vP (203, t3, r3)), (4, vI z4)]) dL_law_1419 (zlt rfl) rfl ?_
  refine Wp_aload_n 4 dL_law_1421 rfl rfl ?_
  refine Wp_vown Y_X5_thrown (5, 0, r2) [] K_X5_thrown KI_X5_thrown q4025 rfl rfl rfl q4023 dL_law_1422 KS_X5_thrown (zlt rfl) (Nat.le_of_ble_eq_true rfl) rfl (Call.toI h rfl fun x7 ν3 h => ?_)
  refine Wp_iload 1 dL_law_1425 rfl ?_
  refine Wp_icmp_eq (tgt := 1432) dL_law_1427 rfl (fun hc => ?_) (fun hc => ?_)
  · replace h := h.1 hc
    refine Wp_iload 1 dL_law_1432 rfl ?_
    refine Wp_if_ne (tgt := 1449) dL_law_1434 rfl (fun hc => ?_) (fun hc => ?_)
    · replace h := h.1 hc
      refine Wp_goto (tgt := 3106) dL_law_1449 rfl ?_
      refine Wp_iinc 6 [0, 3, 4, 5, 6] (ls' := [(4, vI (z4 + 6)), (0, vP (209, t0, r0)), (1, vP (1, 0, r1)), (2, vP (5, 0, r2)), (3, vP (203, t3, r3))]) dL_law_3106 rfl (v := 6) rfl (zlt rfl) rfl ?_
      refine Wp_goto (tgt := 23) dL_law_3109 rfl ?_
      exact Wp.lcl [1, 2, 3, 4, 0] rfl h
    · replace h := h.2 hc
      refine Wp_aload_n 5 dL_law_1437 rfl rfl ?_
      refine Wp_iconst dL_law_1438 (v := 0) rfl ?_
      obtain ⟨hi1, h⟩ := h
      obtain ⟨l1, e5, h⟩ := h
      refine Wg_lald dL_law_1439 rfl ⟨rfl, hi1, by decide⟩ e5 ?_
      refine Wp_iload 0 dL_law_1440 rfl ?_
      refine Wp_i2l dL_law_1442 ?_
      refine Wp_lcmp dL_law_1443 ?_
      refine Wp_if_eq (tgt := 1449) dL_law_1444 rfl (fun hc => ?_) (fun hc => ?_)
      · replace h := h.1 hc
        refine Wp_goto (tgt := 3106) dL_law_1449 rfl ?_
        refine Wp_iinc 6 [0, 3, 4, 5, 6] (ls' := [(4, vI (z4 + 6)), (0, vP (209, t0, r0)), (1, vP (1, 0, r1)), (2, vP (5, 0, r2)), (3, vP (203, t3, r3))]) dL_law_3106 rfl (v := 6) rfl (zlt rfl) rfl ?_
        refine Wp_goto (tgt := 23) dL_law_3109 rfl ?_
        exact Wp.lcl [1, 2, 3, 4, 0] rfl h
      · replace h := h.2 hc
        refine Wp_iconst dL_law_1447 (v := 0) rfl ?_
        exact Wp_ireturn dL_law_1448 rfl (by decide) h
  · replace h := h.2 hc
    refine Wp_iconst dL_law_1430 (v := 0) rfl ?_
    exact Wp_ireturn dL_law_1431 rfl (by decide) h
theorem B_L_law_1452 {G : ZG} {μ : ZM} {Q : Option ZV → ZM → Prop} {E : ZP → ZM → Prop} {t0 : Nat} {r0 : Nat} {r1 : Nat} {r2 : Nat} {t3 : Nat} {r3 : Nat} {z4 : Int32}
    (h : ∃ j1, zix (z4 + 1) j1 t0 ∧ ∃ x1, zai μ r0 j1 = x1 ∧ ∃ j2, zix (z4 + 2) j2 t0 ∧ ∃ x2, zai μ r0 j2 = x2 ∧ Call G Y_X0_isTested [vP (1, 0, r1), vI x1, vI x2, vP (203, t3, r3)] μ (rI fun x3 ν1 => ∃ j3, zix (z4 + 1) j3 t0 ∧ ∃ x4, zai ν1 r0 j3 = x4 ∧ ∃ j4, zix (z4 + 2) j4 t0 ∧ ∃ x5, zai ν1 r0 j4 = x5 ∧ Call G Y_X5_isTested [vP (5, 0, r2), vI x4, vI x5] ν1 (rI fun x6 ν2 => Call G Y_X5_thrown [vP (5, 0, r2)] ν2 (rI fun x7 ν3 => (x7 = x3 → ((¬ x3 = 0 → Wp G Y_L_law 23 [(0, vP (209, t0, r0)), (1, vP (1, 0, r1)), (2, vP (5, 0, r2)), (3, vP (203, t3, r3)), (4, vI (z4 + 6))] [] ν3 Q E) ∧ (x3 = 0 → (0 < t3 ∧ ∃ l1, zal ν3 r3 0 = l1 ∧ (x6 = 0 → (((lg_cmp l1 0) = 0 → Wp G Y_L_law 23 [(0, vP (209, t0, r0)), (1, vP (1, 0, r1)), (2, vP (5, 0, r2)), (3, vP (203, t3, r3)), (4, vI (z4 + 6))] [] ν3 Q E) ∧ (¬ (lg_cmp l1 0) = 0 → Q (some (vI 0)) ν3))) ∧ (¬ x6 = 0 → (((lg_cmp l1 1) = 0 → Wp G Y_L_law 23 [(0, vP (209, t0, r0)), (1, vP (1, 0, r1)), (2, vP (5, 0, r2)), (3, vP (203, t3, r3)), (4, vI (z4 + 6))] [] ν3 Q E) ∧ (¬ (lg_cmp l1 1) = 0 → Q (some (vI 0)) ν3))))))) ∧ (¬ x7 = x3 → Q (some (vI 0)) ν3)) (fun q ν => zkc q.1 = true ∧ E q ν)) (fun q ν => zkc q.1 = true ∧ E q ν)) (fun q ν => zkc q.1 = true ∧ E q ν)) : Wp G Y_L_law 1452 [(0, vP (209, t0, r0)), (1, vP (1, 0, r1)), (2, vP (5, 0, r2)), (3, vP (203, t3, r3)), (4, vI z4)] [] μ Q E := by
  refine Wp_aload_n 1 dL_law_1452 rfl rfl ?_
  refine Wp_aload_n 0 dL_law_1453 rfl rfl ?_
  refine Wp_iload 4 dL_law_1454 rfl ?_
  refine Wp_iconst dL_law_1456 (v := 1) rfl ?_
  refine Wp_iadd dL_law_1457 ?_
  obtain ⟨j1, hj1, h⟩ := h
  obtain ⟨x1, e1, h⟩ := h
  refine Wg_iald dL_law_1458 rfl hj1 e1 ?_
  refine Wp_aload_n 0 dL_law_1459 rfl rfl ?_
  refine Wp_iload 4 dL_law_1460 rfl ?_
  refine Wp_iconst dL_law_1462 (v := 2) rfl ?_
  refine Wp_iadd dL_law_1463 ?_
  obtain ⟨j2, hj2, h⟩ := h
  obtain ⟨x2, e2, h⟩ := h
  refine Wg_iald dL_law_1464 rfl hj2 e2 ?_
  refine Wp_aload_n 3 dL_law_1465 rfl rfl ?_
  refine Wp_stat Y_X0_isTested [vP (1, 0, r1), vI x1, vI x2, vP (203, t3, r3)] K_X0_isTested KS_X0_isTested KT_X0_isTested rfl q3587 dL_law_1466 (zlt rfl) (Nat.le_of_ble_eq_true rfl) rfl (Call.toI h rfl fun x3 ν1 h => ?_)
  refine Wp_istore [0, 1, 2, 3, 4, 5] (ls' := [(5, vI x3), (0, vP (209, t0, r0)), (1, vP (1, 0, r1)), (2, vP (5, 0, r2)), (3, vP (203, t3, r3)), (4, vI z4)]) dL_law_1469 (zlt rfl) rfl ?_
  refine Wp_aload_n 3 dL_law_1471 rfl rfl ?_
  refine Wp_aload_n 1 dL_law_1472 rfl rfl ?_
  refine Wp_iload 5 dL_law_1473 rfl ?_
  refine Wp_iconst dL_law_1475 (v := 1) rfl ?_
  refine Wp_iadd dL_law_1476 ?_
  obtain ⟨j3, hj3, h⟩ := h
  obtain ⟨x4, e3, h⟩ := h
  refine Wg_iald dL_law_1477 rfl hj3 e3 ?_
  refine Wp_aload_n 1 dL_law_1478 rfl rfl ?_
  refine Wp_iload 5 dL_law_1479 rfl ?_
  refine Wp_iconst dL_law_1481 (v := 2) rfl ?_
  refine Wp_iadd dL_law_1482 ?_
  obtain ⟨j4, hj4, h⟩ := h
  obtain ⟨x5, e4, h⟩ := h
  refine Wg_iald dL_law_1483 rfl hj4 e4 ?_
  refine Wp_vown Y_X5_isTested (5, 0, r2) [vI x4, vI x5] K_X5_isTested KI_X5_isTested q4342 rfl rfl rfl q4340 dL_law_1484 KS_X5_isTested (zlt rfl) (Nat.le_of_ble_eq_true rfl) rfl (Call.toI h rfl fun x6 ν2 h => ?_)
  refine Wp_istore [0, 1, 2, 3, 4, 5, 6] (ls' := [(6, vI x6), (5, vI x3), (0, vP (209, t0, r0)), (1, vP (1, 0, r1)), (2, vP (5, 0, r2)), (3, vP (203, t3, r3)), (4, vI z4)]) dL_law_1487 (zlt rfl) rfl ?_
  refine Wp_aload_n 4 dL_law_1489 rfl rfl ?_
  refine Wp_vown Y_X5_thrown (5, 0, r2) [] K_X5_thrown KI_X5_thrown q4025 rfl rfl rfl q4023 dL_law_1490 KS_X5_thrown (zlt rfl) (Nat.le_of_ble_eq_true rfl) rfl (Call.toI h rfl fun x7 ν3 h => ?_)
  refine Wp_iload 1 dL_law_1493 rfl ?_
  refine Wp_icmp_eq (tgt := 1500) dL_law_1495 rfl (fun hc => ?_) (fun hc => ?_)
  · replace h := h.1 hc
    refine Wp_iload 1 dL_law_1500 rfl ?_
    refine Wp_if_ne (tgt := 1524) dL_law_1502 rfl (fun hc => ?_) (fun hc => ?_)
    · replace h := h.1 hc
      refine Wp_goto (tgt := 3106) dL_law_1524 rfl ?_
      refine Wp_iinc 6 [0, 3, 4, 5, 6] (ls' := [(4, vI (z4 + 6)), (0, vP (209, t0, r0)), (1, vP (1, 0, r1)), (2, vP (5, 0, r2)), (3, vP (203, t3, r3))]) dL_law_3106 rfl (v := 6) rfl (zlt rfl) rfl ?_
      refine Wp_goto (tgt := 23) dL_law_3109 rfl ?_
      exact Wp.lcl [1, 2, 3, 4, 0] rfl h
    · replace h := h.2 hc
      refine Wp_aload_n 5 dL_law_1505 rfl rfl ?_
      refine Wp_iconst dL_law_1506 (v := 0) rfl ?_
      obtain ⟨hi1, h⟩ := h
      obtain ⟨l1, e5, h⟩ := h
      refine Wg_lald dL_law_1507 rfl ⟨rfl, hi1, by decide⟩ e5 ?_
      refine Wp_iload 0 dL_law_1508 rfl ?_
      refine Wp_if_eq (tgt := 1517) dL_law_1510 rfl (fun hc => ?_) (fun hc => ?_)
      · replace h := h.1 hc
        refine Wp_lconst dL_law_1517 (v := 0) rfl ?_
        refine Wp_lcmp dL_law_1518 ?_
        refine Wp_if_eq (tgt := 1524) dL_law_1519 rfl (fun hc => ?_) (fun hc => ?_)
        · replace h := h.1 hc
          refine Wp_goto (tgt := 3106) dL_law_1524 rfl ?_
          refine Wp_iinc 6 [0, 3, 4, 5, 6] (ls' := [(4, vI (z4 + 6)), (0, vP (209, t0, r0)), (1, vP (1, 0, r1)), (2, vP (5, 0, r2)), (3, vP (203, t3, r3))]) dL_law_3106 rfl (v := 6) rfl (zlt rfl) rfl ?_
          refine Wp_goto (tgt := 23) dL_law_3109 rfl ?_
          exact Wp.lcl [1, 2, 3, 4, 0] rfl h
        · replace h := h.2 hc
          refine Wp_iconst dL_law_1522 (v := 0) rfl ?_
          exact Wp_ireturn dL_law_1523 rfl (by decide) h
      · replace h := h.2 hc
        refine Wp_lconst dL_law_1513 (v := 1) rfl ?_
        refine Wp_goto (tgt := 1518) dL_law_1514 rfl ?_
        refine Wp_lcmp dL_law_1518 ?_
        refine Wp_if_eq (tgt := 1524) dL_law_1519 rfl (fun hc => ?_) (fun hc => ?_)
        · replace h := h.1 hc
          refine Wp_goto (tgt := 3106) dL_law_1524 rfl ?_
          refine Wp_iinc 6 [0, 3, 4, 5, 6] (ls' := [(4, vI (z4 + 6)), (0, vP (209, t0, r0)), (1, vP (1, 0, r1)), (2, vP (5, 0, r2)), (3, vP (203, t3, r3))]) dL_law_3106 rfl (v := 6) rfl (zlt rfl) rfl ?_
          refine Wp_goto (tgt := 23) dL_law_3109 rfl ?_
          exact Wp.lcl [1, 2, 3, 4, 0] rfl h
        · replace h := h.2 hc
          refine Wp_iconst dL_law_1522 (v := 0) rfl ?_
          exact Wp_ireturn dL_law_1523 rfl (by decide) h
  · replace h := h.2 hc
    refine Wp_iconst dL_law_1498 (v := 0) rfl ?_
    exact Wp_ireturn dL_law_1499 rfl (by decide) h
theorem B_L_law_1527 {G : ZG} {μ : ZM} {Q : Option ZV → ZM → Prop} {E : ZP → ZM → Prop} {t0 : Nat} {r0 : Nat} {r1 : Nat} {r2 : Nat} {t3 : Nat} {r3 : Nat} {z4 : Int32}
    (h : ∃ j1, zix (z4 + 1) j1 t0 ∧ ∃ x1, zai μ r0 j1 = x1 ∧ ∃ j2, zix (z4 + 2) j2 t0 ∧ ∃ x2, zai μ r0 j2 = x2 ∧ Call G Y_X0_seenScore [vP (1, 0, r1), vI x1, vI x2, vP (203, t3, r3)] μ (rI fun x3 ν1 => ∃ j3, zix (z4 + 1) j3 t0 ∧ ∃ x4, zai ν1 r0 j3 = x4 ∧ ∃ j4, zix (z4 + 2) j4 t0 ∧ ∃ x5, zai ν1 r0 j4 = x5 ∧ Call G Y_X5_seenScore [vP (5, 0, r2), vI x4, vI x5] ν1 (rI fun x6 ν2 => Call G Y_X5_thrown [vP (5, 0, r2)] ν2 (rI fun x7 ν3 => (x7 = x3 → ((¬ x3 = 0 → Wp G Y_L_law 23 [(0, vP (209, t0, r0)), (1, vP (1, 0, r1)), (2, vP (5, 0, r2)), (3, vP (203, t3, r3)), (4, vI (z4 + 6))] [] ν3 Q E) ∧ (x3 = 0 → (0 < t3 ∧ ∃ l1, zal ν3 r3 0 = l1 ∧ ((lg_cmp l1 x6.toInt64) = 0 → Wp G Y_L_law 23 [(0, vP (209, t0, r0)), (1, vP (1, 0, r1)), (2, vP (5, 0, r2)), (3, vP (203, t3, r3)), (4, vI (z4 + 6))] [] ν3 Q E) ∧ (¬ (lg_cmp l1 x6.toInt64) = 0 → Q (some (vI 0)) ν3))))) ∧ (¬ x7 = x3 → Q (some (vI 0)) ν3)) (fun q ν => zkc q.1 = true ∧ E q ν)) (fun q ν => zkc q.1 = true ∧ E q ν)) (fun q ν => zkc q.1 = true ∧ E q ν)) : Wp G Y_L_law 1527 [(0, vP (209, t0, r0)), (1, vP (1, 0, r1)), (2, vP (5, 0, r2)), (3, vP (203, t3, r3)), (4, vI z4)] [] μ Q E := by
  refine Wp_aload_n 1 dL_law_1527 rfl rfl ?_
  refine Wp_aload_n 0 dL_law_1528 rfl rfl ?_
  refine Wp_iload 4 dL_law_1529 rfl ?_
  refine Wp_iconst dL_law_1531 (v := 1) rfl ?_
  refine Wp_iadd dL_law_1532 ?_
  obtain ⟨j1, hj1, h⟩ := h
  obtain ⟨x1, e1, h⟩ := h
  refine Wg_iald dL_law_1533 rfl hj1 e1 ?_
  refine Wp_aload_n 0 dL_law_1534 rfl rfl ?_
  refine Wp_iload 4 dL_law_1535 rfl ?_
  refine Wp_iconst dL_law_1537 (v := 2) rfl ?_
  refine Wp_iadd dL_law_1538 ?_
  obtain ⟨j2, hj2, h⟩ := h
  obtain ⟨x2, e2, h⟩ := h
  refine Wg_iald dL_law_1539 rfl hj2 e2 ?_
  refine Wp_aload_n 3 dL_law_1540 rfl rfl ?_
  refine Wp_stat Y_X0_seenScore [vP (1, 0, r1), vI x1, vI x2, vP (203, t3, r3)] K_X0_seenScore KS_X0_seenScore KT_X0_seenScore rfl q3598 dL_law_1541 (zlt rfl) (Nat.le_of_ble_eq_true rfl) rfl (Call.toI h rfl fun x3 ν1 h => ?_)
  refine Wp_istore [0, 1, 2, 3, 4, 5] (ls' := [(5, vI x3), (0, vP (209, t0, r0)), (1, vP (1, 0, r1)), (2, vP (5, 0, r2)), (3, vP (203, t3, r3)), (4, vI z4)]) dL_law_1544 (zlt rfl) rfl ?_
  refine Wp_aload_n 3 dL_law_1546 rfl rfl ?_
  refine Wp_aload_n 1 dL_law_1547 rfl rfl ?_
  refine Wp_iload 5 dL_law_1548 rfl ?_
  refine Wp_iconst dL_law_1550 (v := 1) rfl ?_
  refine Wp_iadd dL_law_1551 ?_
  obtain ⟨j3, hj3, h⟩ := h
  obtain ⟨x4, e3, h⟩ := h
  refine Wg_iald dL_law_1552 rfl hj3 e3 ?_
  refine Wp_aload_n 1 dL_law_1553 rfl rfl ?_
  refine Wp_iload 5 dL_law_1554 rfl ?_
  refine Wp_iconst dL_law_1556 (v := 2) rfl ?_
  refine Wp_iadd dL_law_1557 ?_
  obtain ⟨j4, hj4, h⟩ := h
  obtain ⟨x5, e4, h⟩ := h
  refine Wg_iald dL_law_1558 rfl hj4 e4 ?_
  refine Wp_vown Y_X5_seenScore (5, 0, r2) [vI x4, vI x5] K_X5_seenScore KI_X5_seenScore q4350 rfl rfl rfl q4348 dL_law_1559 KS_X5_seenScore (zlt rfl) (Nat.le_of_ble_eq_true rfl) rfl (Call.toI h rfl fun x6 ν2 h => ?_)
  refine Wp_istore [0, 1, 2, 3, 4, 5, 6] (ls' := [(6, vI x6), (5, vI x3), (0, vP (209, t0, r0)), (1, vP (1, 0, r1)), (2, vP (5, 0, r2)), (3, vP (203, t3, r3)), (4, vI z4)]) dL_law_1562 (zlt rfl) rfl ?_
  refine Wp_aload_n 4 dL_law_1564 rfl rfl ?_
  refine Wp_vown Y_X5_thrown (5, 0, r2) [] K_X5_thrown KI_X5_thrown q4025 rfl rfl rfl q4023 dL_law_1565 KS_X5_thrown (zlt rfl) (Nat.le_of_ble_eq_true rfl) rfl (Call.toI h rfl fun x7 ν3 h => ?_)
  refine Wp_iload 1 dL_law_1568 rfl ?_
  refine Wp_icmp_eq (tgt := 1575) dL_law_1570 rfl (fun hc => ?_) (fun hc => ?_)
  · replace h := h.1 hc
    refine Wp_iload 1 dL_law_1575 rfl ?_
    refine Wp_if_ne (tgt := 1592) dL_law_1577 rfl (fun hc => ?_) (fun hc => ?_)
    · replace h := h.1 hc
      refine Wp_goto (tgt := 3106) dL_law_1592 rfl ?_
      refine Wp_iinc 6 [0, 3, 4, 5, 6] (ls' := [(4, vI (z4 + 6)), (0, vP (209, t0, r0)), (1, vP (1, 0, r1)), (2, vP (5, 0, r2)), (3, vP (203, t3, r3))]) dL_law_3106 rfl (v := 6) rfl (zlt rfl) rfl ?_
      refine Wp_goto (tgt := 23) dL_law_3109 rfl ?_
      exact Wp.lcl [1, 2, 3, 4, 0] rfl h
    · replace h := h.2 hc
      refine Wp_aload_n 5 dL_law_1580 rfl rfl ?_
      refine Wp_iconst dL_law_1581 (v := 0) rfl ?_
      obtain ⟨hi1, h⟩ := h
      obtain ⟨l1, e5, h⟩ := h
      refine Wg_lald dL_law_1582 rfl ⟨rfl, hi1, by decide⟩ e5 ?_
      refine Wp_iload 0 dL_law_1583 rfl ?_
      refine Wp_i2l dL_law_1585 ?_
      refine Wp_lcmp dL_law_1586 ?_
      refine Wp_if_eq (tgt := 1592) dL_law_1587 rfl (fun hc => ?_) (fun hc => ?_)
      · replace h := h.1 hc
        refine Wp_goto (tgt := 3106) dL_law_1592 rfl ?_
        refine Wp_iinc 6 [0, 3, 4, 5, 6] (ls' := [(4, vI (z4 + 6)), (0, vP (209, t0, r0)), (1, vP (1, 0, r1)), (2, vP (5, 0, r2)), (3, vP (203, t3, r3))]) dL_law_3106 rfl (v := 6) rfl (zlt rfl) rfl ?_
        refine Wp_goto (tgt := 23) dL_law_3109 rfl ?_
        exact Wp.lcl [1, 2, 3, 4, 0] rfl h
      · replace h := h.2 hc
        refine Wp_iconst dL_law_1590 (v := 0) rfl ?_
        exact Wp_ireturn dL_law_1591 rfl (by decide) h
  · replace h := h.2 hc
    refine Wp_iconst dL_law_1573 (v := 0) rfl ?_
    exact Wp_ireturn dL_law_1574 rfl (by decide) h
theorem B_L_law_1595 {G : ZG} {μ : ZM} {Q : Option ZV → ZM → Prop} {E : ZP → ZM → Prop} {t0 : Nat} {r0 : Nat} {r1 : Nat} {r2 : Nat} {t3 : Nat} {r3 : Nat} {z4 : Int32}
    (h : ∃ j1, zix (z4 + 1) j1 t0 ∧ ∃ x1, zai μ r0 j1 = x1 ∧ ∃ j2, zix (z4 + 2) j2 t0 ∧ ∃ x2, zai μ r0 j2 = x2 ∧ Call G Y_X0_pairReason [vP (1, 0, r1), vI x1, vI x2, vP (203, t3, r3)] μ (rI fun x3 ν1 => ∃ j3, zix (z4 + 1) j3 t0 ∧ ∃ x4, zai ν1 r0 j3 = x4 ∧ ∃ j4, zix (z4 + 2) j4 t0 ∧ ∃ x5, zai ν1 r0 j4 = x5 ∧ Call G Y_X5_pairReason [vP (5, 0, r2), vI x4, vI x5] ν1 (rI fun x6 ν2 => Call G Y_X5_thrown [vP (5, 0, r2)] ν2 (rI fun x7 ν3 => (x7 = x3 → ((¬ x3 = 0 → Wp G Y_L_law 23 [(0, vP (209, t0, r0)), (1, vP (1, 0, r1)), (2, vP (5, 0, r2)), (3, vP (203, t3, r3)), (4, vI (z4 + 6))] [] ν3 Q E) ∧ (x3 = 0 → (0 < t3 ∧ ∃ l1, zal ν3 r3 0 = l1 ∧ ((lg_cmp l1 x6.toInt64) = 0 → Wp G Y_L_law 23 [(0, vP (209, t0, r0)), (1, vP (1, 0, r1)), (2, vP (5, 0, r2)), (3, vP (203, t3, r3)), (4, vI (z4 + 6))] [] ν3 Q E) ∧ (¬ (lg_cmp l1 x6.toInt64) = 0 → Q (some (vI 0)) ν3))))) ∧ (¬ x7 = x3 → Q (some (vI 0)) ν3)) (fun q ν => zkc q.1 = true ∧ E q ν)) (fun q ν => zkc q.1 = true ∧ E q ν)) (fun q ν => zkc q.1 = true ∧ E q ν)) : Wp G Y_L_law 1595 [(0, vP (209, t0, r0)), (1, vP (1, 0, r1)), (2, vP (5, 0, r2)), (3, vP (203, t3, r3)), (4, vI z4)] [] μ Q E := by
  refine Wp_aload_n 1 dL_law_1595 rfl rfl ?_
  refine Wp_aload_n 0 dL_law_1596 rfl rfl ?_
  refine Wp_iload 4 dL_law_1597 rfl ?_
  refine Wp_iconst dL_law_1599 (v := 1) rfl ?_
  refine Wp_iadd dL_law_1600 ?_
  obtain ⟨j1, hj1, h⟩ := h
  obtain ⟨x1, e1, h⟩ := h
  refine Wg_iald dL_law_1601 rfl hj1 e1 ?_
  refine Wp_aload_n 0 dL_law_1602 rfl rfl ?_
  refine Wp_iload 4 dL_law_1603 rfl ?_
  refine Wp_iconst dL_law_1605 (v := 2) rfl ?_
  refine Wp_iadd dL_law_1606 ?_
  obtain ⟨j2, hj2, h⟩ := h
  obtain ⟨x2, e2, h⟩ := h
  refine Wg_iald dL_law_1607 rfl hj2 e2 ?_
  refine Wp_aload_n 3 dL_law_1608 rfl rfl ?_
  refine Wp_stat Y_X0_pairReason [vP (1, 0, r1), vI x1, vI x2, vP (203, t3, r3)] K_X0_pairReason KS_X0_pairReason KT_X0_pairReason rfl q3606 dL_law_1609 (zlt rfl) (Nat.le_of_ble_eq_true rfl) rfl (Call.toI h rfl fun x3 ν1 h => ?_)
  refine Wp_istore [0, 1, 2, 3, 4, 5] (ls' := [(5, vI x3), (0, vP (209, t0, r0)), (1, vP (1, 0, r1)), (2, vP (5, 0, r2)), (3, vP (203, t3, r3)), (4, vI z4)]) dL_law_1612 (zlt rfl) rfl ?_
  refine Wp_aload_n 3 dL_law_1614 rfl rfl ?_
  refine Wp_aload_n 1 dL_law_1615 rfl rfl ?_
  refine Wp_iload 5 dL_law_1616 rfl ?_
  refine Wp_iconst dL_law_1618 (v := 1) rfl ?_
  refine Wp_iadd dL_law_1619 ?_
  obtain ⟨j3, hj3, h⟩ := h
  obtain ⟨x4, e3, h⟩ := h
  refine Wg_iald dL_law_1620 rfl hj3 e3 ?_
  refine Wp_aload_n 1 dL_law_1621 rfl rfl ?_
  refine Wp_iload 5 dL_law_1622 rfl ?_
  refine Wp_iconst dL_law_1624 (v := 2) rfl ?_
  refine Wp_iadd dL_law_1625 ?_
  obtain ⟨j4, hj4, h⟩ := h
  obtain ⟨x5, e4, h⟩ := h
  refine Wg_iald dL_law_1626 rfl hj4 e4 ?_
  refine Wp_vown Y_X5_pairReason (5, 0, r2) [vI x4, vI x5] K_X5_pairReason KI_X5_pairReason q4354 rfl rfl rfl q4352 dL_law_1627 KS_X5_pairReason (zlt rfl) (Nat.le_of_ble_eq_true rfl) rfl (Call.toI h rfl fun x6 ν2 h => ?_)
  refine Wp_istore [0, 1, 2, 3, 4, 5, 6] (ls' := [(6, vI x6), (5, vI x3), (0, vP (209, t0, r0)), (1, vP (1, 0, r1)), (2, vP (5, 0, r2)), (3, vP (203, t3, r3)), (4, vI z4)]) dL_law_1630 (zlt rfl) rfl ?_
  refine Wp_aload_n 4 dL_law_1632 rfl rfl ?_
  refine Wp_vown Y_X5_thrown (5, 0, r2) [] K_X5_thrown KI_X5_thrown q4025 rfl rfl rfl q4023 dL_law_1633 KS_X5_thrown (zlt rfl) (Nat.le_of_ble_eq_true rfl) rfl (Call.toI h rfl fun x7 ν3 h => ?_)
  refine Wp_iload 1 dL_law_1636 rfl ?_
  refine Wp_icmp_eq (tgt := 1643) dL_law_1638 rfl (fun hc => ?_) (fun hc => ?_)
  · replace h := h.1 hc
    refine Wp_iload 1 dL_law_1643 rfl ?_
    refine Wp_if_ne (tgt := 1660) dL_law_1645 rfl (fun hc => ?_) (fun hc => ?_)
    · replace h := h.1 hc
      refine Wp_goto (tgt := 3106) dL_law_1660 rfl ?_
      refine Wp_iinc 6 [0, 3, 4, 5, 6] (ls' := [(4, vI (z4 + 6)), (0, vP (209, t0, r0)), (1, vP (1, 0, r1)), (2, vP (5, 0, r2)), (3, vP (203, t3, r3))]) dL_law_3106 rfl (v := 6) rfl (zlt rfl) rfl ?_
      refine Wp_goto (tgt := 23) dL_law_3109 rfl ?_
      exact Wp.lcl [1, 2, 3, 4, 0] rfl h
    · replace h := h.2 hc
      refine Wp_aload_n 5 dL_law_1648 rfl rfl ?_
      refine Wp_iconst dL_law_1649 (v := 0) rfl ?_
      obtain ⟨hi1, h⟩ := h
      obtain ⟨l1, e5, h⟩ := h
      refine Wg_lald dL_law_1650 rfl ⟨rfl, hi1, by decide⟩ e5 ?_
      refine Wp_iload 0 dL_law_1651 rfl ?_
      refine Wp_i2l dL_law_1653 ?_
      refine Wp_lcmp dL_law_1654 ?_
      refine Wp_if_eq (tgt := 1660) dL_law_1655 rfl (fun hc => ?_) (fun hc => ?_)
      · replace h := h.1 hc
        refine Wp_goto (tgt := 3106) dL_law_1660 rfl ?_
        refine Wp_iinc 6 [0, 3, 4, 5, 6] (ls' := [(4, vI (z4 + 6)), (0, vP (209, t0, r0)), (1, vP (1, 0, r1)), (2, vP (5, 0, r2)), (3, vP (203, t3, r3))]) dL_law_3106 rfl (v := 6) rfl (zlt rfl) rfl ?_
        refine Wp_goto (tgt := 23) dL_law_3109 rfl ?_
        exact Wp.lcl [1, 2, 3, 4, 0] rfl h
      · replace h := h.2 hc
        refine Wp_iconst dL_law_1658 (v := 0) rfl ?_
        exact Wp_ireturn dL_law_1659 rfl (by decide) h
  · replace h := h.2 hc
    refine Wp_iconst dL_law_1641 (v := 0) rfl ?_
    exact Wp_ireturn dL_law_1642 rfl (by decide) h
theorem B_L_law_1663 {G : ZG} {μ : ZM} {Q : Option ZV → ZM → Prop} {E : ZP → ZM → Prop} {t0 : Nat} {r0 : Nat} {r1 : Nat} {r2 : Nat} {t3 : Nat} {r3 : Nat} {z4 : Int32}
    (h : ∃ j1, zix (z4 + 1) j1 t0 ∧ ∃ x1, zai μ r0 j1 = x1 ∧ ∃ j2, zix (z4 + 2) j2 t0 ∧ ∃ x2, zai μ r0 j2 = x2 ∧ Call G Y_X0_preferredValley [vP (1, 0, r1), vI x1, vI x2, vP (203, t3, r3)] μ (rI fun x3 ν1 => ∃ j3, zix (z4 + 1) j3 t0 ∧ ∃ x4, zai ν1 r0 j3 = x4 ∧ ∃ j4, zix (z4 + 2) j4 t0 ∧ ∃ x5, zai ν1 r0 j4 = x5 ∧ Call G Y_X5_preferredValley [vP (5, 0, r2), vI x4, vI x5] ν1 (rI fun x6 ν2 => Call G Y_X5_thrown [vP (5, 0, r2)] ν2 (rI fun x7 ν3 => (x7 = x3 → ((¬ x3 = 0 → Wp G Y_L_law 23 [(0, vP (209, t0, r0)), (1, vP (1, 0, r1)), (2, vP (5, 0, r2)), (3, vP (203, t3, r3)), (4, vI (z4 + 6))] [] ν3 Q E) ∧ (x3 = 0 → (0 < t3 ∧ ∃ l1, zal ν3 r3 0 = l1 ∧ ((lg_cmp l1 x6.toInt64) = 0 → Wp G Y_L_law 23 [(0, vP (209, t0, r0)), (1, vP (1, 0, r1)), (2, vP (5, 0, r2)), (3, vP (203, t3, r3)), (4, vI (z4 + 6))] [] ν3 Q E) ∧ (¬ (lg_cmp l1 x6.toInt64) = 0 → Q (some (vI 0)) ν3))))) ∧ (¬ x7 = x3 → Q (some (vI 0)) ν3)) (fun q ν => zkc q.1 = true ∧ E q ν)) (fun q ν => zkc q.1 = true ∧ E q ν)) (fun q ν => zkc q.1 = true ∧ E q ν)) : Wp G Y_L_law 1663 [(0, vP (209, t0, r0)), (1, vP (1, 0, r1)), (2, vP (5, 0, r2)), (3, vP (203, t3, r3)), (4, vI z4)] [] μ Q E := by
  refine Wp_aload_n 1 dL_law_1663 rfl rfl ?_
  refine Wp_aload_n 0 dL_law_1664 rfl rfl ?_
  refine Wp_iload 4 dL_law_1665 rfl ?_
  refine Wp_iconst dL_law_1667 (v := 1) rfl ?_
  refine Wp_iadd dL_law_1668 ?_
  obtain ⟨j1, hj1, h⟩ := h
  obtain ⟨x1, e1, h⟩ := h
  refine Wg_iald dL_law_1669 rfl hj1 e1 ?_
  refine Wp_aload_n 0 dL_law_1670 rfl rfl ?_
  refine Wp_iload 4 dL_law_1671 rfl ?_
  refine Wp_iconst dL_law_1673 (v := 2) rfl ?_
  refine Wp_iadd dL_law_1674 ?_
  obtain ⟨j2, hj2, h⟩ := h
  obtain ⟨x2, e2, h⟩ := h
  refine Wg_iald dL_law_1675 rfl hj2 e2 ?_
  refine Wp_aload_n 3 dL_law_1676 rfl rfl ?_
  refine Wp_stat Y_X0_preferredValley [vP (1, 0, r1), vI x1, vI x2, vP (203, t3, r3)] K_X0_preferredValley KS_X0_preferredValley KT_X0_preferredValley rfl q3613 dL_law_1677 (zlt rfl) (Nat.le_of_ble_eq_true rfl) rfl (Call.toI h rfl fun x3 ν1 h => ?_)
  refine Wp_istore [0, 1, 2, 3, 4, 5] (ls' := [(5, vI x3), (0, vP (209, t0, r0)), (1, vP (1, 0, r1)), (2, vP (5, 0, r2)), (3, vP (203, t3, r3)), (4, vI z4)]) dL_law_1680 (zlt rfl) rfl ?_
  refine Wp_aload_n 3 dL_law_1682 rfl rfl ?_
  refine Wp_aload_n 1 dL_law_1683 rfl rfl ?_
  refine Wp_iload 5 dL_law_1684 rfl ?_
  refine Wp_iconst dL_law_1686 (v := 1) rfl ?_
  refine Wp_iadd dL_law_1687 ?_
  obtain ⟨j3, hj3, h⟩ := h
  obtain ⟨x4, e3, h⟩ := h
  refine Wg_iald dL_law_1688 rfl hj3 e3 ?_
  refine Wp_aload_n 1 dL_law_1689 rfl rfl ?_
  refine Wp_iload 5 dL_law_1690 rfl ?_
  refine Wp_iconst dL_law_1692 (v := 2) rfl ?_
  refine Wp_iadd dL_law_1693 ?_
  obtain ⟨j4, hj4, h⟩ := h
  obtain ⟨x5, e4, h⟩ := h
  refine Wg_iald dL_law_1694 rfl hj4 e4 ?_
  refine Wp_vown Y_X5_preferredValley (5, 0, r2) [vI x4, vI x5] K_X5_preferredValley KI_X5_preferredValley q4358 rfl rfl rfl q4356 dL_law_1695 KS_X5_preferredValley (zlt rfl) (Nat.le_of_ble_eq_true rfl) rfl (Call.toI h rfl fun x6 ν2 h => ?_)
  refine Wp_istore [0, 1, 2, 3, 4, 5, 6] (ls' := [(6, vI x6), (5, vI x3), (0, vP (209, t0, r0)), (1, vP (1, 0, r1)), (2, vP (5, 0, r2)), (3, vP (203, t3, r3)), (4, vI z4)]) dL_law_1698 (zlt rfl) rfl ?_
  refine Wp_aload_n 4 dL_law_1700 rfl rfl ?_
  refine Wp_vown Y_X5_thrown (5, 0, r2) [] K_X5_thrown KI_X5_thrown q4025 rfl rfl rfl q4023 dL_law_1701 KS_X5_thrown (zlt rfl) (Nat.le_of_ble_eq_true rfl) rfl (Call.toI h rfl fun x7 ν3 h => ?_)
  refine Wp_iload 1 dL_law_1704 rfl ?_
  refine Wp_icmp_eq (tgt := 1711) dL_law_1706 rfl (fun hc => ?_) (fun hc => ?_)
  · replace h := h.1 hc
    refine Wp_iload 1 dL_law_1711 rfl ?_
    refine Wp_if_ne (tgt := 1728) dL_law_1713 rfl (fun hc => ?_) (fun hc => ?_)
    · replace h := h.1 hc
      refine Wp_goto (tgt := 3106) dL_law_1728 rfl ?_
      refine Wp_iinc 6 [0, 3, 4, 5, 6] (ls' := [(4, vI (z4 + 6)), (0, vP (209, t0, r0)), (1, vP (1, 0, r1)), (2, vP (5, 0, r2)), (3, vP (203, t3, r3))]) dL_law_3106 rfl (v := 6) rfl (zlt rfl) rfl ?_
      refine Wp_goto (tgt := 23) dL_law_3109 rfl ?_
      exact Wp.lcl [1, 2, 3, 4, 0] rfl h
    · replace h := h.2 hc
      refine Wp_aload_n 5 dL_law_1716 rfl rfl ?_
      refine Wp_iconst dL_law_1717 (v := 0) rfl ?_
      obtain ⟨hi1, h⟩ := h
      obtain ⟨l1, e5, h⟩ := h
      refine Wg_lald dL_law_1718 rfl ⟨rfl, hi1, by decide⟩ e5 ?_
      refine Wp_iload 0 dL_law_1719 rfl ?_
      refine Wp_i2l dL_law_1721 ?_
      refine Wp_lcmp dL_law_1722 ?_
      refine Wp_if_eq (tgt := 1728) dL_law_1723 rfl (fun hc => ?_) (fun hc => ?_)
      · replace h := h.1 hc
        refine Wp_goto (tgt := 3106) dL_law_1728 rfl ?_
        refine Wp_iinc 6 [0, 3, 4, 5, 6] (ls' := [(4, vI (z4 + 6)), (0, vP (209, t0, r0)), (1, vP (1, 0, r1)), (2, vP (5, 0, r2)), (3, vP (203, t3, r3))]) dL_law_3106 rfl (v := 6) rfl (zlt rfl) rfl ?_
        refine Wp_goto (tgt := 23) dL_law_3109 rfl ?_
        exact Wp.lcl [1, 2, 3, 4, 0] rfl h
      · replace h := h.2 hc
        refine Wp_iconst dL_law_1726 (v := 0) rfl ?_
        exact Wp_ireturn dL_law_1727 rfl (by decide) h
  · replace h := h.2 hc
    refine Wp_iconst dL_law_1709 (v := 0) rfl ?_
    exact Wp_ireturn dL_law_1710 rfl (by decide) h
theorem B_L_law_1731 {G : ZG} {μ : ZM} {Q : Option ZV → ZM → Prop} {E : ZP → ZM → Prop} {t0 : Nat} {r0 : Nat} {r1 : Nat} {r2 : Nat} {t3 : Nat} {r3 : Nat} {z4 : Int32}
    (h : ∃ j1, zix (z4 + 1) j1 t0 ∧ ∃ x1, zai μ r0 j1 = x1 ∧ ∃ j2, zix (z4 + 2) j2 t0 ∧ ∃ x2, zai μ r0 j2 = x2 ∧ Call G Y_X0_preferredEcho [vP (1, 0, r1), vI x1, vI x2, vP (203, t3, r3)] μ (rI fun x3 ν1 => ∃ j3, zix (z4 + 1) j3 t0 ∧ ∃ x4, zai ν1 r0 j3 = x4 ∧ ∃ j4, zix (z4 + 2) j4 t0 ∧ ∃ x5, zai ν1 r0 j4 = x5 ∧ Call G Y_X5_preferredEcho [vP (5, 0, r2), vI x4, vI x5] ν1 (rI fun x6 ν2 => Call G Y_X5_thrown [vP (5, 0, r2)] ν2 (rI fun x7 ν3 => (x7 = x3 → ((¬ x3 = 0 → Wp G Y_L_law 23 [(0, vP (209, t0, r0)), (1, vP (1, 0, r1)), (2, vP (5, 0, r2)), (3, vP (203, t3, r3)), (4, vI (z4 + 6))] [] ν3 Q E) ∧ (x3 = 0 → (0 < t3 ∧ ∃ l1, zal ν3 r3 0 = l1 ∧ ((lg_cmp l1 x6.toInt64) = 0 → Wp G Y_L_law 23 [(0, vP (209, t0, r0)), (1, vP (1, 0, r1)), (2, vP (5, 0, r2)), (3, vP (203, t3, r3)), (4, vI (z4 + 6))] [] ν3 Q E) ∧ (¬ (lg_cmp l1 x6.toInt64) = 0 → Q (some (vI 0)) ν3))))) ∧ (¬ x7 = x3 → Q (some (vI 0)) ν3)) (fun q ν => zkc q.1 = true ∧ E q ν)) (fun q ν => zkc q.1 = true ∧ E q ν)) (fun q ν => zkc q.1 = true ∧ E q ν)) : Wp G Y_L_law 1731 [(0, vP (209, t0, r0)), (1, vP (1, 0, r1)), (2, vP (5, 0, r2)), (3, vP (203, t3, r3)), (4, vI z4)] [] μ Q E := by
  refine Wp_aload_n 1 dL_law_1731 rfl rfl ?_
  refine Wp_aload_n 0 dL_law_1732 rfl rfl ?_
  refine Wp_iload 4 dL_law_1733 rfl ?_
  refine Wp_iconst dL_law_1735 (v := 1) rfl ?_
  refine Wp_iadd dL_law_1736 ?_
  obtain ⟨j1, hj1, h⟩ := h
  obtain ⟨x1, e1, h⟩ := h
  refine Wg_iald dL_law_1737 rfl hj1 e1 ?_
  refine Wp_aload_n 0 dL_law_1738 rfl rfl ?_
  refine Wp_iload 4 dL_law_1739 rfl ?_
  refine Wp_iconst dL_law_1741 (v := 2) rfl ?_
  refine Wp_iadd dL_law_1742 ?_
  obtain ⟨j2, hj2, h⟩ := h
  obtain ⟨x2, e2, h⟩ := h
  refine Wg_iald dL_law_1743 rfl hj2 e2 ?_
  refine Wp_aload_n 3 dL_law_1744 rfl rfl ?_
  refine Wp_stat Y_X0_preferredEcho [vP (1, 0, r1), vI x1, vI x2, vP (203, t3, r3)] K_X0_preferredEcho KS_X0_preferredEcho KT_X0_preferredEcho rfl q3620 dL_law_1745 (zlt rfl) (Nat.le_of_ble_eq_true rfl) rfl (Call.toI h rfl fun x3 ν1 h => ?_)
  refine Wp_istore [0, 1, 2, 3, 4, 5] (ls' := [(5, vI x3), (0, vP (209, t0, r0)), (1, vP (1, 0, r1)), (2, vP (5, 0, r2)), (3, vP (203, t3, r3)), (4, vI z4)]) dL_law_1748 (zlt rfl) rfl ?_
  refine Wp_aload_n 3 dL_law_1750 rfl rfl ?_
  refine Wp_aload_n 1 dL_law_1751 rfl rfl ?_
  refine Wp_iload 5 dL_law_1752 rfl ?_
  refine Wp_iconst dL_law_1754 (v := 1) rfl ?_
  refine Wp_iadd dL_law_1755 ?_
  obtain ⟨j3, hj3, h⟩ := h
  obtain ⟨x4, e3, h⟩ := h
  refine Wg_iald dL_law_1756 rfl hj3 e3 ?_
  refine Wp_aload_n 1 dL_law_1757 rfl rfl ?_
  refine Wp_iload 5 dL_law_1758 rfl ?_
  refine Wp_iconst dL_law_1760 (v := 2) rfl ?_
  refine Wp_iadd dL_law_1761 ?_
  obtain ⟨j4, hj4, h⟩ := h
  obtain ⟨x5, e4, h⟩ := h
  refine Wg_iald dL_law_1762 rfl hj4 e4 ?_
  refine Wp_vown Y_X5_preferredEcho (5, 0, r2) [vI x4, vI x5] K_X5_preferredEcho KI_X5_preferredEcho q4369 rfl rfl rfl q4367 dL_law_1763 KS_X5_preferredEcho (zlt rfl) (Nat.le_of_ble_eq_true rfl) rfl (Call.toI h rfl fun x6 ν2 h => ?_)
  refine Wp_istore [0, 1, 2, 3, 4, 5, 6] (ls' := [(6, vI x6), (5, vI x3), (0, vP (209, t0, r0)), (1, vP (1, 0, r1)), (2, vP (5, 0, r2)), (3, vP (203, t3, r3)), (4, vI z4)]) dL_law_1766 (zlt rfl) rfl ?_
  refine Wp_aload_n 4 dL_law_1768 rfl rfl ?_
  refine Wp_vown Y_X5_thrown (5, 0, r2) [] K_X5_thrown KI_X5_thrown q4025 rfl rfl rfl q4023 dL_law_1769 KS_X5_thrown (zlt rfl) (Nat.le_of_ble_eq_true rfl) rfl (Call.toI h rfl fun x7 ν3 h => ?_)
  refine Wp_iload 1 dL_law_1772 rfl ?_
  refine Wp_icmp_eq (tgt := 1779) dL_law_1774 rfl (fun hc => ?_) (fun hc => ?_)
  · replace h := h.1 hc
    refine Wp_iload 1 dL_law_1779 rfl ?_
    refine Wp_if_ne (tgt := 1796) dL_law_1781 rfl (fun hc => ?_) (fun hc => ?_)
    · replace h := h.1 hc
      refine Wp_goto (tgt := 3106) dL_law_1796 rfl ?_
      refine Wp_iinc 6 [0, 3, 4, 5, 6] (ls' := [(4, vI (z4 + 6)), (0, vP (209, t0, r0)), (1, vP (1, 0, r1)), (2, vP (5, 0, r2)), (3, vP (203, t3, r3))]) dL_law_3106 rfl (v := 6) rfl (zlt rfl) rfl ?_
      refine Wp_goto (tgt := 23) dL_law_3109 rfl ?_
      exact Wp.lcl [1, 2, 3, 4, 0] rfl h
    · replace h := h.2 hc
      refine Wp_aload_n 5 dL_law_1784 rfl rfl ?_
      refine Wp_iconst dL_law_1785 (v := 0) rfl ?_
      obtain ⟨hi1, h⟩ := h
      obtain ⟨l1, e5, h⟩ := h
      refine Wg_lald dL_law_1786 rfl ⟨rfl, hi1, by decide⟩ e5 ?_
      refine Wp_iload 0 dL_law_1787 rfl ?_
      refine Wp_i2l dL_law_1789 ?_
      refine Wp_lcmp dL_law_1790 ?_
      refine Wp_if_eq (tgt := 1796) dL_law_1791 rfl (fun hc => ?_) (fun hc => ?_)
      · replace h := h.1 hc
        refine Wp_goto (tgt := 3106) dL_law_1796 rfl ?_
        refine Wp_iinc 6 [0, 3, 4, 5, 6] (ls' := [(4, vI (z4 + 6)), (0, vP (209, t0, r0)), (1, vP (1, 0, r1)), (2, vP (5, 0, r2)), (3, vP (203, t3, r3))]) dL_law_3106 rfl (v := 6) rfl (zlt rfl) rfl ?_
        refine Wp_goto (tgt := 23) dL_law_3109 rfl ?_
        exact Wp.lcl [1, 2, 3, 4, 0] rfl h
      · replace h := h.2 hc
        refine Wp_iconst dL_law_1794 (v := 0) rfl ?_
        exact Wp_ireturn dL_law_1795 rfl (by decide) h
  · replace h := h.2 hc
    refine Wp_iconst dL_law_1777 (v := 0) rfl ?_
    exact Wp_ireturn dL_law_1778 rfl (by decide) h
theorem B_L_law_1799 {G : ZG} {μ : ZM} {Q : Option ZV → ZM → Prop} {E : ZP → ZM → Prop} {t0 : Nat} {r0 : Nat} {r1 : Nat} {r2 : Nat} {t3 : Nat} {r3 : Nat} {z4 : Int32}
    (h : Call G Y_X1_blockingPairs [vP (1, 0, r1)] μ (rI fun x1 ν1 => Call G Y_X5_blockingPairs [vP (5, 0, r2)] ν1 (rI fun x2 ν2 => (x1 = x2 → Wp G Y_L_law 23 [(0, vP (209, t0, r0)), (1, vP (1, 0, r1)), (2, vP (5, 0, r2)), (3, vP (203, t3, r3)), (4, vI (z4 + 6))] [] ν2 Q E) ∧ (¬ x1 = x2 → Q (some (vI 0)) ν2)) (fun q ν => zkc q.1 = true ∧ E q ν)) (fun q ν => zkc q.1 = true ∧ E q ν)) : Wp G Y_L_law 1799 [(0, vP (209, t0, r0)), (1, vP (1, 0, r1)), (2, vP (5, 0, r2)), (3, vP (203, t3, r3)), (4, vI z4)] [] μ Q E := by
  refine Wp_aload_n 1 dL_law_1799 rfl rfl ?_
  refine Wp_vown Y_X1_blockingPairs (1, 0, r1) [] K_X1_blockingPairs KI_X1_blockingPairs q1566 rfl rfl rfl q1564 dL_law_1800 KS_X1_blockingPairs (zlt rfl) (Nat.le_of_ble_eq_true rfl) rfl (Call.toI h rfl fun x1 ν1 h => ?_)
  refine Wp_aload_n 2 dL_law_1803 rfl rfl ?_
  refine Wp_vown Y_X5_blockingPairs (5, 0, r2) [] K_X5_blockingPairs KI_X5_blockingPairs q4377 rfl rfl rfl q4375 dL_law_1804 KS_X5_blockingPairs (zlt rfl) (Nat.le_of_ble_eq_true rfl) rfl (Call.toI h rfl fun x2 ν2 h => ?_)
  refine Wp_icmp_eq (tgt := 3106) dL_law_1807 rfl (fun hc => ?_) (fun hc => ?_)
  · replace h := h.1 hc
    refine Wp_iinc 4 [0, 1, 2, 3, 4] (ls' := [(4, vI (z4 + 6)), (0, vP (209, t0, r0)), (1, vP (1, 0, r1)), (2, vP (5, 0, r2)), (3, vP (203, t3, r3))]) dL_law_3106 rfl (v := 6) rfl (zlt rfl) rfl ?_
    refine Wp_goto (tgt := 23) dL_law_3109 rfl ?_
    exact Wp.lcl [1, 2, 3, 4, 0] rfl h
  · replace h := h.2 hc
    refine Wp_iconst dL_law_1810 (v := 0) rfl ?_
    exact Wp_ireturn dL_law_1811 rfl (by decide) h
theorem B_L_law_1812 {G : ZG} {μ : ZM} {Q : Option ZV → ZM → Prop} {E : ZP → ZM → Prop} {t0 : Nat} {r0 : Nat} {r1 : Nat} {r2 : Nat} {t3 : Nat} {r3 : Nat} {z4 : Int32}
    (h : ∃ j1, zix (z4 + 1) j1 t0 ∧ ∃ x1, zai μ r0 j1 = x1 ∧ Call G Y_X0_fairResult [vP (1, 0, r1), vI x1, vP (203, t3, r3)] μ (rI fun x2 ν1 => ∃ j2, zix (z4 + 1) j2 t0 ∧ ∃ x3, zai ν1 r0 j2 = x3 ∧ Call G Y_X5_fairResult [vP (5, 0, r2), vI x3] ν1 (rI fun x4 ν2 => Call G Y_X5_thrown [vP (5, 0, r2)] ν2 (rI fun x5 ν3 => (x5 = x2 → ((¬ x2 = 0 → Wp G Y_L_law 23 [(0, vP (209, t0, r0)), (1, vP (1, 0, r1)), (2, vP (5, 0, r2)), (3, vP (203, t3, r3)), (4, vI (z4 + 6))] [] ν3 Q E) ∧ (x2 = 0 → (0 < t3 ∧ ∃ l1, zal ν3 r3 0 = l1 ∧ ((lg_cmp l1 x4.toInt64) = 0 → Wp G Y_L_law 23 [(0, vP (209, t0, r0)), (1, vP (1, 0, r1)), (2, vP (5, 0, r2)), (3, vP (203, t3, r3)), (4, vI (z4 + 6))] [] ν3 Q E) ∧ (¬ (lg_cmp l1 x4.toInt64) = 0 → Q (some (vI 0)) ν3))))) ∧ (¬ x5 = x2 → Q (some (vI 0)) ν3)) (fun q ν => zkc q.1 = true ∧ E q ν)) (fun q ν => zkc q.1 = true ∧ E q ν)) (fun q ν => zkc q.1 = true ∧ E q ν)) : Wp G Y_L_law 1812 [(0, vP (209, t0, r0)), (1, vP (1, 0, r1)), (2, vP (5, 0, r2)), (3, vP (203, t3, r3)), (4, vI z4)] [] μ Q E := by
  refine Wp_aload_n 1 dL_law_1812 rfl rfl ?_
  refine Wp_aload_n 0 dL_law_1813 rfl rfl ?_
  refine Wp_iload 4 dL_law_1814 rfl ?_
  refine Wp_iconst dL_law_1816 (v := 1) rfl ?_
  refine Wp_iadd dL_law_1817 ?_
  obtain ⟨j1, hj1, h⟩ := h
  obtain ⟨x1, e1, h⟩ := h
  refine Wg_iald dL_law_1818 rfl hj1 e1 ?_
  refine Wp_aload_n 3 dL_law_1819 rfl rfl ?_
  refine Wp_stat Y_X0_fairResult [vP (1, 0, r1), vI x1, vP (203, t3, r3)] K_X0_fairResult KS_X0_fairResult KT_X0_fairResult rfl q3627 dL_law_1820 (zlt rfl) (Nat.le_of_ble_eq_true rfl) rfl (Call.toI h rfl fun x2 ν1 h => ?_)
  refine Wp_istore [0, 1, 2, 3, 4, 5] (ls' := [(5, vI x2), (0, vP (209, t0, r0)), (1, vP (1, 0, r1)), (2, vP (5, 0, r2)), (3, vP (203, t3, r3)), (4, vI z4)]) dL_law_1823 (zlt rfl) rfl ?_
  refine Wp_aload_n 3 dL_law_1825 rfl rfl ?_
  refine Wp_aload_n 1 dL_law_1826 rfl rfl ?_
  refine Wp_iload 5 dL_law_1827 rfl ?_
  refine Wp_iconst dL_law_1829 (v := 1) rfl ?_
  refine Wp_iadd dL_law_1830 ?_
  obtain ⟨j2, hj2, h⟩ := h
  obtain ⟨x3, e2, h⟩ := h
  refine Wg_iald dL_law_1831 rfl hj2 e2 ?_
  refine Wp_vown Y_X5_fairResult (5, 0, r2) [vI x3] K_X5_fairResult KI_X5_fairResult q4393 rfl rfl rfl q4391 dL_law_1832 KS_X5_fairResult (zlt rfl) (Nat.le_of_ble_eq_true rfl) rfl (Call.toI h rfl fun x4 ν2 h => ?_)
  refine Wp_istore [0, 1, 2, 3, 4, 5, 6] (ls' := [(6, vI x4), (5, vI x2), (0, vP (209, t0, r0)), (1, vP (1, 0, r1)), (2, vP (5, 0, r2)), (3, vP (203, t3, r3)), (4, vI z4)]) dL_law_1835 (zlt rfl) rfl ?_
  refine Wp_aload_n 4 dL_law_1837 rfl rfl ?_
  refine Wp_vown Y_X5_thrown (5, 0, r2) [] K_X5_thrown KI_X5_thrown q4025 rfl rfl rfl q4023 dL_law_1838 KS_X5_thrown (zlt rfl) (Nat.le_of_ble_eq_true rfl) rfl (Call.toI h rfl fun x5 ν3 h => ?_)
  refine Wp_iload 1 dL_law_1841 rfl ?_
  refine Wp_icmp_eq (tgt := 1848) dL_law_1843 rfl (fun hc => ?_) (fun hc => ?_)
  · replace h := h.1 hc
    refine Wp_iload 1 dL_law_1848 rfl ?_
    refine Wp_if_ne (tgt := 1865) dL_law_1850 rfl (fun hc => ?_) (fun hc => ?_)
    · replace h := h.1 hc
      refine Wp_goto (tgt := 3106) dL_law_1865 rfl ?_
      refine Wp_iinc 6 [0, 3, 4, 5, 6] (ls' := [(4, vI (z4 + 6)), (0, vP (209, t0, r0)), (1, vP (1, 0, r1)), (2, vP (5, 0, r2)), (3, vP (203, t3, r3))]) dL_law_3106 rfl (v := 6) rfl (zlt rfl) rfl ?_
      refine Wp_goto (tgt := 23) dL_law_3109 rfl ?_
      exact Wp.lcl [1, 2, 3, 4, 0] rfl h
    · replace h := h.2 hc
      refine Wp_aload_n 5 dL_law_1853 rfl rfl ?_
      refine Wp_iconst dL_law_1854 (v := 0) rfl ?_
      obtain ⟨hi1, h⟩ := h
      obtain ⟨l1, e3, h⟩ := h
      refine Wg_lald dL_law_1855 rfl ⟨rfl, hi1, by decide⟩ e3 ?_
      refine Wp_iload 0 dL_law_1856 rfl ?_
      refine Wp_i2l dL_law_1858 ?_
      refine Wp_lcmp dL_law_1859 ?_
      refine Wp_if_eq (tgt := 1865) dL_law_1860 rfl (fun hc => ?_) (fun hc => ?_)
      · replace h := h.1 hc
        refine Wp_goto (tgt := 3106) dL_law_1865 rfl ?_
        refine Wp_iinc 6 [0, 3, 4, 5, 6] (ls' := [(4, vI (z4 + 6)), (0, vP (209, t0, r0)), (1, vP (1, 0, r1)), (2, vP (5, 0, r2)), (3, vP (203, t3, r3))]) dL_law_3106 rfl (v := 6) rfl (zlt rfl) rfl ?_
        refine Wp_goto (tgt := 23) dL_law_3109 rfl ?_
        exact Wp.lcl [1, 2, 3, 4, 0] rfl h
      · replace h := h.2 hc
        refine Wp_iconst dL_law_1863 (v := 0) rfl ?_
        exact Wp_ireturn dL_law_1864 rfl (by decide) h
  · replace h := h.2 hc
    refine Wp_iconst dL_law_1846 (v := 0) rfl ?_
    exact Wp_ireturn dL_law_1847 rfl (by decide) h
theorem B_L_law_1868 {G : ZG} {μ : ZM} {Q : Option ZV → ZM → Prop} {E : ZP → ZM → Prop} {t0 : Nat} {r0 : Nat} {r1 : Nat} {r2 : Nat} {t3 : Nat} {r3 : Nat} {z4 : Int32}
    (h : ∃ j1, zix (z4 + 1) j1 t0 ∧ ∃ x1, zai μ r0 j1 = x1 ∧ ∃ j2, zix (z4 + 2) j2 t0 ∧ ∃ x2, zai μ r0 j2 = x2 ∧ Call G Y_X0_savingsAfter [vP (1, 0, r1), vI x1, vI x2, vP (203, t3, r3)] μ (rI fun x3 ν1 => ∃ j3, zix (z4 + 1) j3 t0 ∧ ∃ x4, zai ν1 r0 j3 = x4 ∧ ∃ j4, zix (z4 + 2) j4 t0 ∧ ∃ x5, zai ν1 r0 j4 = x5 ∧ Call G Y_X5_savingsAfter [vP (5, 0, r2), vI x4, vI x5] ν1 (rI fun x6 ν2 => Call G Y_X5_thrown [vP (5, 0, r2)] ν2 (rI fun x7 ν3 => (x7 = x3 → ((¬ x3 = 0 → Wp G Y_L_law 23 [(0, vP (209, t0, r0)), (1, vP (1, 0, r1)), (2, vP (5, 0, r2)), (3, vP (203, t3, r3)), (4, vI (z4 + 6))] [] ν3 Q E) ∧ (x3 = 0 → (0 < t3 ∧ ∃ l1, zal ν3 r3 0 = l1 ∧ ((lg_cmp l1 x6.toInt64) = 0 → Wp G Y_L_law 23 [(0, vP (209, t0, r0)), (1, vP (1, 0, r1)), (2, vP (5, 0, r2)), (3, vP (203, t3, r3)), (4, vI (z4 + 6))] [] ν3 Q E) ∧ (¬ (lg_cmp l1 x6.toInt64) = 0 → Q (some (vI 0)) ν3))))) ∧ (¬ x7 = x3 → Q (some (vI 0)) ν3)) (fun q ν => zkc q.1 = true ∧ E q ν)) (fun q ν => zkc q.1 = true ∧ E q ν)) (fun q ν => zkc q.1 = true ∧ E q ν)) : Wp G Y_L_law 1868 [(0, vP (209, t0, r0)), (1, vP (1, 0, r1)), (2, vP (5, 0, r2)), (3, vP (203, t3, r3)), (4, vI z4)] [] μ Q E := by
  refine Wp_aload_n 1 dL_law_1868 rfl rfl ?_
  refine Wp_aload_n 0 dL_law_1869 rfl rfl ?_
  refine Wp_iload 4 dL_law_1870 rfl ?_
  refine Wp_iconst dL_law_1872 (v := 1) rfl ?_
  refine Wp_iadd dL_law_1873 ?_
  obtain ⟨j1, hj1, h⟩ := h
  obtain ⟨x1, e1, h⟩ := h
  refine Wg_iald dL_law_1874 rfl hj1 e1 ?_
  refine Wp_aload_n 0 dL_law_1875 rfl rfl ?_
  refine Wp_iload 4 dL_law_1876 rfl ?_
  refine Wp_iconst dL_law_1878 (v := 2) rfl ?_
  refine Wp_iadd dL_law_1879 ?_
  obtain ⟨j2, hj2, h⟩ := h
  obtain ⟨x2, e2, h⟩ := h
  refine Wg_iald dL_law_1880 rfl hj2 e2 ?_
  refine Wp_aload_n 3 dL_law_1881 rfl rfl ?_
  refine Wp_stat Y_X0_savingsAfter [vP (1, 0, r1), vI x1, vI x2, vP (203, t3, r3)] K_X0_savingsAfter KS_X0_savingsAfter KT_X0_savingsAfter rfl q3637 dL_law_1882 (zlt rfl) (Nat.le_of_ble_eq_true rfl) rfl (Call.toI h rfl fun x3 ν1 h => ?_)
  refine Wp_istore [0, 1, 2, 3, 4, 5] (ls' := [(5, vI x3), (0, vP (209, t0, r0)), (1, vP (1, 0, r1)), (2, vP (5, 0, r2)), (3, vP (203, t3, r3)), (4, vI z4)]) dL_law_1885 (zlt rfl) rfl ?_
  refine Wp_aload_n 3 dL_law_1887 rfl rfl ?_
  refine Wp_aload_n 1 dL_law_1888 rfl rfl ?_
  refine Wp_iload 5 dL_law_1889 rfl ?_
  refine Wp_iconst dL_law_1891 (v := 1) rfl ?_
  refine Wp_iadd dL_law_1892 ?_
  obtain ⟨j3, hj3, h⟩ := h
  obtain ⟨x4, e3, h⟩ := h
  refine Wg_iald dL_law_1893 rfl hj3 e3 ?_
  refine Wp_aload_n 1 dL_law_1894 rfl rfl ?_
  refine Wp_iload 5 dL_law_1895 rfl ?_
  refine Wp_iconst dL_law_1897 (v := 2) rfl ?_
  refine Wp_iadd dL_law_1898 ?_
  obtain ⟨j4, hj4, h⟩ := h
  obtain ⟨x5, e4, h⟩ := h
  refine Wg_iald dL_law_1899 rfl hj4 e4 ?_
  refine Wp_vown Y_X5_savingsAfter (5, 0, r2) [vI x4, vI x5] K_X5_savingsAfter KI_X5_savingsAfter q4409 rfl rfl rfl q4407 dL_law_1900 KS_X5_savingsAfter (zlt rfl) (Nat.le_of_ble_eq_true rfl) rfl (Call.toI h rfl fun x6 ν2 h => ?_)
  refine Wp_istore [0, 1, 2, 3, 4, 5, 6] (ls' := [(6, vI x6), (5, vI x3), (0, vP (209, t0, r0)), (1, vP (1, 0, r1)), (2, vP (5, 0, r2)), (3, vP (203, t3, r3)), (4, vI z4)]) dL_law_1903 (zlt rfl) rfl ?_
  refine Wp_aload_n 4 dL_law_1905 rfl rfl ?_
  refine Wp_vown Y_X5_thrown (5, 0, r2) [] K_X5_thrown KI_X5_thrown q4025 rfl rfl rfl q4023 dL_law_1906 KS_X5_thrown (zlt rfl) (Nat.le_of_ble_eq_true rfl) rfl (Call.toI h rfl fun x7 ν3 h => ?_)
  refine Wp_iload 1 dL_law_1909 rfl ?_
  refine Wp_icmp_eq (tgt := 1916) dL_law_1911 rfl (fun hc => ?_) (fun hc => ?_)
  · replace h := h.1 hc
    refine Wp_iload 1 dL_law_1916 rfl ?_
    refine Wp_if_ne (tgt := 1933) dL_law_1918 rfl (fun hc => ?_) (fun hc => ?_)
    · replace h := h.1 hc
      refine Wp_goto (tgt := 3106) dL_law_1933 rfl ?_
      refine Wp_iinc 6 [0, 3, 4, 5, 6] (ls' := [(4, vI (z4 + 6)), (0, vP (209, t0, r0)), (1, vP (1, 0, r1)), (2, vP (5, 0, r2)), (3, vP (203, t3, r3))]) dL_law_3106 rfl (v := 6) rfl (zlt rfl) rfl ?_
      refine Wp_goto (tgt := 23) dL_law_3109 rfl ?_
      exact Wp.lcl [1, 2, 3, 4, 0] rfl h
    · replace h := h.2 hc
      refine Wp_aload_n 5 dL_law_1921 rfl rfl ?_
      refine Wp_iconst dL_law_1922 (v := 0) rfl ?_
      obtain ⟨hi1, h⟩ := h
      obtain ⟨l1, e5, h⟩ := h
      refine Wg_lald dL_law_1923 rfl ⟨rfl, hi1, by decide⟩ e5 ?_
      refine Wp_iload 0 dL_law_1924 rfl ?_
      refine Wp_i2l dL_law_1926 ?_
      refine Wp_lcmp dL_law_1927 ?_
      refine Wp_if_eq (tgt := 1933) dL_law_1928 rfl (fun hc => ?_) (fun hc => ?_)
      · replace h := h.1 hc
        refine Wp_goto (tgt := 3106) dL_law_1933 rfl ?_
        refine Wp_iinc 6 [0, 3, 4, 5, 6] (ls' := [(4, vI (z4 + 6)), (0, vP (209, t0, r0)), (1, vP (1, 0, r1)), (2, vP (5, 0, r2)), (3, vP (203, t3, r3))]) dL_law_3106 rfl (v := 6) rfl (zlt rfl) rfl ?_
        refine Wp_goto (tgt := 23) dL_law_3109 rfl ?_
        exact Wp.lcl [1, 2, 3, 4, 0] rfl h
      · replace h := h.2 hc
        refine Wp_iconst dL_law_1931 (v := 0) rfl ?_
        exact Wp_ireturn dL_law_1932 rfl (by decide) h
  · replace h := h.2 hc
    refine Wp_iconst dL_law_1914 (v := 0) rfl ?_
    exact Wp_ireturn dL_law_1915 rfl (by decide) h
theorem B_L_law_1936 {G : ZG} {μ : ZM} {Q : Option ZV → ZM → Prop} {E : ZP → ZM → Prop} {t0 : Nat} {r0 : Nat} {r1 : Nat} {r2 : Nat} {t3 : Nat} {r3 : Nat} {z4 : Int32}
    (h : ∃ j1, zix (z4 + 1) j1 t0 ∧ ∃ x1, zai μ r0 j1 = x1 ∧ ∃ j2, zix (z4 + 2) j2 t0 ∧ ∃ x2, zai μ r0 j2 = x2 ∧ Call G Y_X0_purseAfter [vP (1, 0, r1), vI x1, vI x2, vP (203, t3, r3)] μ (rI fun x3 ν1 => ∃ j3, zix (z4 + 1) j3 t0 ∧ ∃ x4, zai ν1 r0 j3 = x4 ∧ ∃ j4, zix (z4 + 2) j4 t0 ∧ ∃ x5, zai ν1 r0 j4 = x5 ∧ Call G Y_X5_purseAfter [vP (5, 0, r2), vI x4, vI x5] ν1 (rI fun x6 ν2 => Call G Y_X5_thrown [vP (5, 0, r2)] ν2 (rI fun x7 ν3 => (x7 = x3 → ((¬ x3 = 0 → Wp G Y_L_law 23 [(0, vP (209, t0, r0)), (1, vP (1, 0, r1)), (2, vP (5, 0, r2)), (3, vP (203, t3, r3)), (4, vI (z4 + 6))] [] ν3 Q E) ∧ (x3 = 0 → (0 < t3 ∧ ∃ l1, zal ν3 r3 0 = l1 ∧ ((lg_cmp l1 x6.toInt64) = 0 → Wp G Y_L_law 23 [(0, vP (209, t0, r0)), (1, vP (1, 0, r1)), (2, vP (5, 0, r2)), (3, vP (203, t3, r3)), (4, vI (z4 + 6))] [] ν3 Q E) ∧ (¬ (lg_cmp l1 x6.toInt64) = 0 → Q (some (vI 0)) ν3))))) ∧ (¬ x7 = x3 → Q (some (vI 0)) ν3)) (fun q ν => zkc q.1 = true ∧ E q ν)) (fun q ν => zkc q.1 = true ∧ E q ν)) (fun q ν => zkc q.1 = true ∧ E q ν)) : Wp G Y_L_law 1936 [(0, vP (209, t0, r0)), (1, vP (1, 0, r1)), (2, vP (5, 0, r2)), (3, vP (203, t3, r3)), (4, vI z4)] [] μ Q E := by
  refine Wp_aload_n 1 dL_law_1936 rfl rfl ?_
  refine Wp_aload_n 0 dL_law_1937 rfl rfl ?_
  refine Wp_iload 4 dL_law_1938 rfl ?_
  refine Wp_iconst dL_law_1940 (v := 1) rfl ?_
  refine Wp_iadd dL_law_1941 ?_
  obtain ⟨j1, hj1, h⟩ := h
  obtain ⟨x1, e1, h⟩ := h
  refine Wg_iald dL_law_1942 rfl hj1 e1 ?_
  refine Wp_aload_n 0 dL_law_1943 rfl rfl ?_
  refine Wp_iload 4 dL_law_1944 rfl ?_
  refine Wp_iconst dL_law_1946 (v := 2) rfl ?_
  refine Wp_iadd dL_law_1947 ?_
  obtain ⟨j2, hj2, h⟩ := h
  obtain ⟨x2, e2, h⟩ := h
  refine Wg_iald dL_law_1948 rfl hj2 e2 ?_
  refine Wp_aload_n 3 dL_law_1949 rfl rfl ?_
  refine Wp_stat Y_X0_purseAfter [vP (1, 0, r1), vI x1, vI x2, vP (203, t3, r3)] K_X0_purseAfter KS_X0_purseAfter KT_X0_purseAfter rfl q3650 dL_law_1950 (zlt rfl) (Nat.le_of_ble_eq_true rfl) rfl (Call.toI h rfl fun x3 ν1 h => ?_)
  refine Wp_istore [0, 1, 2, 3, 4, 5] (ls' := [(5, vI x3), (0, vP (209, t0, r0)), (1, vP (1, 0, r1)), (2, vP (5, 0, r2)), (3, vP (203, t3, r3)), (4, vI z4)]) dL_law_1953 (zlt rfl) rfl ?_
  refine Wp_aload_n 3 dL_law_1955 rfl rfl ?_
  refine Wp_aload_n 1 dL_law_1956 rfl rfl ?_
  refine Wp_iload 5 dL_law_1957 rfl ?_
  refine Wp_iconst dL_law_1959 (v := 1) rfl ?_
  refine Wp_iadd dL_law_1960 ?_
  obtain ⟨j3, hj3, h⟩ := h
  obtain ⟨x4, e3, h⟩ := h
  refine Wg_iald dL_law_1961 rfl hj3 e3 ?_
  refine Wp_aload_n 1 dL_law_1962 rfl rfl ?_
  refine Wp_iload 5 dL_law_1963 rfl ?_
  refine Wp_iconst dL_law_1965 (v := 2) rfl ?_
  refine Wp_iadd dL_law_1966 ?_
  obtain ⟨j4, hj4, h⟩ := h
  obtain ⟨x5, e4, h⟩ := h
  refine Wg_iald dL_law_1967 rfl hj4 e4 ?_
  refine Wp_vown Y_X5_purseAfter (5, 0, r2) [vI x4, vI x5] K_X5_purseAfter KI_X5_purseAfter q4421 rfl rfl rfl q4419 dL_law_1968 KS_X5_purseAfter (zlt rfl) (Nat.le_of_ble_eq_true rfl) rfl (Call.toI h rfl fun x6 ν2 h => ?_)
  refine Wp_istore [0, 1, 2, 3, 4, 5, 6] (ls' := [(6, vI x6), (5, vI x3), (0, vP (209, t0, r0)), (1, vP (1, 0, r1)), (2, vP (5, 0, r2)), (3, vP (203, t3, r3)), (4, vI z4)]) dL_law_1971 (zlt rfl) rfl ?_
  refine Wp_aload_n 4 dL_law_1973 rfl rfl ?_
  refine Wp_vown Y_X5_thrown (5, 0, r2) [] K_X5_thrown KI_X5_thrown q4025 rfl rfl rfl q4023 dL_law_1974 KS_X5_thrown (zlt rfl) (Nat.le_of_ble_eq_true rfl) rfl (Call.toI h rfl fun x7 ν3 h => ?_)
  refine Wp_iload 1 dL_law_1977 rfl ?_
  refine Wp_icmp_eq (tgt := 1984) dL_law_1979 rfl (fun hc => ?_) (fun hc => ?_)
  · replace h := h.1 hc
    refine Wp_iload 1 dL_law_1984 rfl ?_
    refine Wp_if_ne (tgt := 2001) dL_law_1986 rfl (fun hc => ?_) (fun hc => ?_)
    · replace h := h.1 hc
      refine Wp_goto (tgt := 3106) dL_law_2001 rfl ?_
      refine Wp_iinc 6 [0, 3, 4, 5, 6] (ls' := [(4, vI (z4 + 6)), (0, vP (209, t0, r0)), (1, vP (1, 0, r1)), (2, vP (5, 0, r2)), (3, vP (203, t3, r3))]) dL_law_3106 rfl (v := 6) rfl (zlt rfl) rfl ?_
      refine Wp_goto (tgt := 23) dL_law_3109 rfl ?_
      exact Wp.lcl [1, 2, 3, 4, 0] rfl h
    · replace h := h.2 hc
      refine Wp_aload_n 5 dL_law_1989 rfl rfl ?_
      refine Wp_iconst dL_law_1990 (v := 0) rfl ?_
      obtain ⟨hi1, h⟩ := h
      obtain ⟨l1, e5, h⟩ := h
      refine Wg_lald dL_law_1991 rfl ⟨rfl, hi1, by decide⟩ e5 ?_
      refine Wp_iload 0 dL_law_1992 rfl ?_
      refine Wp_i2l dL_law_1994 ?_
      refine Wp_lcmp dL_law_1995 ?_
      refine Wp_if_eq (tgt := 2001) dL_law_1996 rfl (fun hc => ?_) (fun hc => ?_)
      · replace h := h.1 hc
        refine Wp_goto (tgt := 3106) dL_law_2001 rfl ?_
        refine Wp_iinc 6 [0, 3, 4, 5, 6] (ls' := [(4, vI (z4 + 6)), (0, vP (209, t0, r0)), (1, vP (1, 0, r1)), (2, vP (5, 0, r2)), (3, vP (203, t3, r3))]) dL_law_3106 rfl (v := 6) rfl (zlt rfl) rfl ?_
        refine Wp_goto (tgt := 23) dL_law_3109 rfl ?_
        exact Wp.lcl [1, 2, 3, 4, 0] rfl h
      · replace h := h.2 hc
        refine Wp_iconst dL_law_1999 (v := 0) rfl ?_
        exact Wp_ireturn dL_law_2000 rfl (by decide) h
  · replace h := h.2 hc
    refine Wp_iconst dL_law_1982 (v := 0) rfl ?_
    exact Wp_ireturn dL_law_1983 rfl (by decide) h
theorem B_L_law_2004 {G : ZG} {μ : ZM} {Q : Option ZV → ZM → Prop} {E : ZP → ZM → Prop} {t0 : Nat} {r0 : Nat} {r1 : Nat} {r2 : Nat} {t3 : Nat} {r3 : Nat} {z4 : Int32}
    (h : ∃ j1, zix (z4 + 1) j1 t0 ∧ ∃ x1, zai μ r0 j1 = x1 ∧ Call G Y_X0_desertsIn [vP (1, 0, r1), vI x1, vP (203, t3, r3)] μ (rI fun x2 ν1 => ∃ j2, zix (z4 + 1) j2 t0 ∧ ∃ x3, zai ν1 r0 j2 = x3 ∧ Call G Y_X5_desertsIn [vP (5, 0, r2), vI x3] ν1 (rI fun x4 ν2 => Call G Y_X5_thrown [vP (5, 0, r2)] ν2 (rI fun x5 ν3 => (x5 = x2 → ((¬ x2 = 0 → Wp G Y_L_law 23 [(0, vP (209, t0, r0)), (1, vP (1, 0, r1)), (2, vP (5, 0, r2)), (3, vP (203, t3, r3)), (4, vI (z4 + 6))] [] ν3 Q E) ∧ (x2 = 0 → (0 < t3 ∧ ∃ l1, zal ν3 r3 0 = l1 ∧ ((lg_cmp l1 x4.toInt64) = 0 → Wp G Y_L_law 23 [(0, vP (209, t0, r0)), (1, vP (1, 0, r1)), (2, vP (5, 0, r2)), (3, vP (203, t3, r3)), (4, vI (z4 + 6))] [] ν3 Q E) ∧ (¬ (lg_cmp l1 x4.toInt64) = 0 → Q (some (vI 0)) ν3))))) ∧ (¬ x5 = x2 → Q (some (vI 0)) ν3)) (fun q ν => zkc q.1 = true ∧ E q ν)) (fun q ν => zkc q.1 = true ∧ E q ν)) (fun q ν => zkc q.1 = true ∧ E q ν)) : Wp G Y_L_law 2004 [(0, vP (209, t0, r0)), (1, vP (1, 0, r1)), (2, vP (5, 0, r2)), (3, vP (203, t3, r3)), (4, vI z4)] [] μ Q E := by
  refine Wp_aload_n 1 dL_law_2004 rfl rfl ?_
  refine Wp_aload_n 0 dL_law_2005 rfl rfl ?_
  refine Wp_iload 4 dL_law_2006 rfl ?_
  refine Wp_iconst dL_law_2008 (v := 1) rfl ?_
  refine Wp_iadd dL_law_2009 ?_
  obtain ⟨j1, hj1, h⟩ := h
  obtain ⟨x1, e1, h⟩ := h
  refine Wg_iald dL_law_2010 rfl hj1 e1 ?_
  refine Wp_aload_n 3 dL_law_2011 rfl rfl ?_
  refine Wp_stat Y_X0_desertsIn [vP (1, 0, r1), vI x1, vP (203, t3, r3)] K_X0_desertsIn KS_X0_desertsIn KT_X0_desertsIn rfl q3657 dL_law_2012 (zlt rfl) (Nat.le_of_ble_eq_true rfl) rfl (Call.toI h rfl fun x2 ν1 h => ?_)
  refine Wp_istore [0, 1, 2, 3, 4, 5] (ls' := [(5, vI x2), (0, vP (209, t0, r0)), (1, vP (1, 0, r1)), (2, vP (5, 0, r2)), (3, vP (203, t3, r3)), (4, vI z4)]) dL_law_2015 (zlt rfl) rfl ?_
  refine Wp_aload_n 3 dL_law_2017 rfl rfl ?_
  refine Wp_aload_n 1 dL_law_2018 rfl rfl ?_
  refine Wp_iload 5 dL_law_2019 rfl ?_
  refine Wp_iconst dL_law_2021 (v := 1) rfl ?_
  refine Wp_iadd dL_law_2022 ?_
  obtain ⟨j2, hj2, h⟩ := h
  obtain ⟨x3, e2, h⟩ := h
  refine Wg_iald dL_law_2023 rfl hj2 e2 ?_
  refine Wp_vown Y_X5_desertsIn (5, 0, r2) [vI x3] K_X5_desertsIn KI_X5_desertsIn q4425 rfl rfl rfl q4423 dL_law_2024 KS_X5_desertsIn (zlt rfl) (Nat.le_of_ble_eq_true rfl) rfl (Call.toI h rfl fun x4 ν2 h => ?_)
  refine Wp_istore [0, 1, 2, 3, 4, 5, 6] (ls' := [(6, vI x4), (5, vI x2), (0, vP (209, t0, r0)), (1, vP (1, 0, r1)), (2, vP (5, 0, r2)), (3, vP (203, t3, r3)), (4, vI z4)]) dL_law_2027 (zlt rfl) rfl ?_
  refine Wp_aload_n 4 dL_law_2029 rfl rfl ?_
  refine Wp_vown Y_X5_thrown (5, 0, r2) [] K_X5_thrown KI_X5_thrown q4025 rfl rfl rfl q4023 dL_law_2030 KS_X5_thrown (zlt rfl) (Nat.le_of_ble_eq_true rfl) rfl (Call.toI h rfl fun x5 ν3 h => ?_)
  refine Wp_iload 1 dL_law_2033 rfl ?_
  refine Wp_icmp_eq (tgt := 2040) dL_law_2035 rfl (fun hc => ?_) (fun hc => ?_)
  · replace h := h.1 hc
    refine Wp_iload 1 dL_law_2040 rfl ?_
    refine Wp_if_ne (tgt := 2057) dL_law_2042 rfl (fun hc => ?_) (fun hc => ?_)
    · replace h := h.1 hc
      refine Wp_goto (tgt := 3106) dL_law_2057 rfl ?_
      refine Wp_iinc 6 [0, 3, 4, 5, 6] (ls' := [(4, vI (z4 + 6)), (0, vP (209, t0, r0)), (1, vP (1, 0, r1)), (2, vP (5, 0, r2)), (3, vP (203, t3, r3))]) dL_law_3106 rfl (v := 6) rfl (zlt rfl) rfl ?_
      refine Wp_goto (tgt := 23) dL_law_3109 rfl ?_
      exact Wp.lcl [1, 2, 3, 4, 0] rfl h
    · replace h := h.2 hc
      refine Wp_aload_n 5 dL_law_2045 rfl rfl ?_
      refine Wp_iconst dL_law_2046 (v := 0) rfl ?_
      obtain ⟨hi1, h⟩ := h
      obtain ⟨l1, e3, h⟩ := h
      refine Wg_lald dL_law_2047 rfl ⟨rfl, hi1, by decide⟩ e3 ?_
      refine Wp_iload 0 dL_law_2048 rfl ?_
      refine Wp_i2l dL_law_2050 ?_
      refine Wp_lcmp dL_law_2051 ?_
      refine Wp_if_eq (tgt := 2057) dL_law_2052 rfl (fun hc => ?_) (fun hc => ?_)
      · replace h := h.1 hc
        refine Wp_goto (tgt := 3106) dL_law_2057 rfl ?_
        refine Wp_iinc 6 [0, 3, 4, 5, 6] (ls' := [(4, vI (z4 + 6)), (0, vP (209, t0, r0)), (1, vP (1, 0, r1)), (2, vP (5, 0, r2)), (3, vP (203, t3, r3))]) dL_law_3106 rfl (v := 6) rfl (zlt rfl) rfl ?_
        refine Wp_goto (tgt := 23) dL_law_3109 rfl ?_
        exact Wp.lcl [1, 2, 3, 4, 0] rfl h
      · replace h := h.2 hc
        refine Wp_iconst dL_law_2055 (v := 0) rfl ?_
        exact Wp_ireturn dL_law_2056 rfl (by decide) h
  · replace h := h.2 hc
    refine Wp_iconst dL_law_2038 (v := 0) rfl ?_
    exact Wp_ireturn dL_law_2039 rfl (by decide) h
theorem B_L_law_2060 {G : ZG} {μ : ZM} {Q : Option ZV → ZM → Prop} {E : ZP → ZM → Prop} {t0 : Nat} {r0 : Nat} {r1 : Nat} {r2 : Nat} {t3 : Nat} {r3 : Nat} {z4 : Int32}
    (h : ∃ j1, zix (z4 + 1) j1 t0 ∧ ∃ x1, zai μ r0 j1 = x1 ∧ ∃ j2, zix (z4 + 2) j2 t0 ∧ ∃ x2, zai μ r0 j2 = x2 ∧ Call G Y_X0_leastWage [vP (1, 0, r1), vI x1, vI x2, vP (203, t3, r3)] μ (rI fun x3 ν1 => ∃ j3, zix (z4 + 1) j3 t0 ∧ ∃ x4, zai ν1 r0 j3 = x4 ∧ ∃ j4, zix (z4 + 2) j4 t0 ∧ ∃ x5, zai ν1 r0 j4 = x5 ∧ Call G Y_X5_leastWage [vP (5, 0, r2), vI x4, vI x5] ν1 (rI fun x6 ν2 => Call G Y_X5_thrown [vP (5, 0, r2)] ν2 (rI fun x7 ν3 => (x7 = x3 → ((¬ x3 = 0 → Wp G Y_L_law 23 [(0, vP (209, t0, r0)), (1, vP (1, 0, r1)), (2, vP (5, 0, r2)), (3, vP (203, t3, r3)), (4, vI (z4 + 6))] [] ν3 Q E) ∧ (x3 = 0 → (0 < t3 ∧ ∃ l1, zal ν3 r3 0 = l1 ∧ ((lg_cmp l1 x6.toInt64) = 0 → Wp G Y_L_law 23 [(0, vP (209, t0, r0)), (1, vP (1, 0, r1)), (2, vP (5, 0, r2)), (3, vP (203, t3, r3)), (4, vI (z4 + 6))] [] ν3 Q E) ∧ (¬ (lg_cmp l1 x6.toInt64) = 0 → Q (some (vI 0)) ν3))))) ∧ (¬ x7 = x3 → Q (some (vI 0)) ν3)) (fun q ν => zkc q.1 = true ∧ E q ν)) (fun q ν => zkc q.1 = true ∧ E q ν)) (fun q ν => zkc q.1 = true ∧ E q ν)) : Wp G Y_L_law 2060 [(0, vP (209, t0, r0)), (1, vP (1, 0, r1)), (2, vP (5, 0, r2)), (3, vP (203, t3, r3)), (4, vI z4)] [] μ Q E := by
  refine Wp_aload_n 1 dL_law_2060 rfl rfl ?_
  refine Wp_aload_n 0 dL_law_2061 rfl rfl ?_
  refine Wp_iload 4 dL_law_2062 rfl ?_
  refine Wp_iconst dL_law_2064 (v := 1) rfl ?_
  refine Wp_iadd dL_law_2065 ?_
  obtain ⟨j1, hj1, h⟩ := h
  obtain ⟨x1, e1, h⟩ := h
  refine Wg_iald dL_law_2066 rfl hj1 e1 ?_
  refine Wp_aload_n 0 dL_law_2067 rfl rfl ?_
  refine Wp_iload 4 dL_law_2068 rfl ?_
  refine Wp_iconst dL_law_2070 (v := 2) rfl ?_
  refine Wp_iadd dL_law_2071 ?_
  obtain ⟨j2, hj2, h⟩ := h
  obtain ⟨x2, e2, h⟩ := h
  refine Wg_iald dL_law_2072 rfl hj2 e2 ?_
  refine Wp_aload_n 3 dL_law_2073 rfl rfl ?_
  refine Wp_stat Y_X0_leastWage [vP (1, 0, r1), vI x1, vI x2, vP (203, t3, r3)] K_X0_leastWage KS_X0_leastWage KT_X0_leastWage rfl q3665 dL_law_2074 (zlt rfl) (Nat.le_of_ble_eq_true rfl) rfl (Call.toI h rfl fun x3 ν1 h => ?_)
  refine Wp_istore [0, 1, 2, 3, 4, 5] (ls' := [(5, vI x3), (0, vP (209, t0, r0)), (1, vP (1, 0, r1)), (2, vP (5, 0, r2)), (3, vP (203, t3, r3)), (4, vI z4)]) dL_law_2077 (zlt rfl) rfl ?_
  refine Wp_aload_n 3 dL_law_2079 rfl rfl ?_
  refine Wp_aload_n 1 dL_law_2080 rfl rfl ?_
  refine Wp_iload 5 dL_law_2081 rfl ?_
  refine Wp_iconst dL_law_2083 (v := 1) rfl ?_
  refine Wp_iadd dL_law_2084 ?_
  obtain ⟨j3, hj3, h⟩ := h
  obtain ⟨x4, e3, h⟩ := h
  refine Wg_iald dL_law_2085 rfl hj3 e3 ?_
  refine Wp_aload_n 1 dL_law_2086 rfl rfl ?_
  refine Wp_iload 5 dL_law_2087 rfl ?_
  refine Wp_iconst dL_law_2089 (v := 2) rfl ?_
  refine Wp_iadd dL_law_2090 ?_
  obtain ⟨j4, hj4, h⟩ := h
  obtain ⟨x5, e4, h⟩ := h
  refine Wg_iald dL_law_2091 rfl hj4 e4 ?_
  refine Wp_vown Y_X5_leastWage (5, 0, r2) [vI x4, vI x5] K_X5_leastWage KI_X5_leastWage q4429 rfl rfl rfl q4427 dL_law_2092 KS_X5_leastWage (zlt rfl) (Nat.le_of_ble_eq_true rfl) rfl (Call.toI h rfl fun x6 ν2 h => ?_)
  refine Wp_istore [0, 1, 2, 3, 4, 5, 6] (ls' := [(6, vI x6), (5, vI x3), (0, vP (209, t0, r0)), (1, vP (1, 0, r1)), (2, vP (5, 0, r2)), (3, vP (203, t3, r3)), (4, vI z4)]) dL_law_2095 (zlt rfl) rfl ?_
  refine Wp_aload_n 4 dL_law_2097 rfl rfl ?_
  refine Wp_vown Y_X5_thrown (5, 0, r2) [] K_X5_thrown KI_X5_thrown q4025 rfl rfl rfl q4023 dL_law_2098 KS_X5_thrown (zlt rfl) (Nat.le_of_ble_eq_true rfl) rfl (Call.toI h rfl fun x7 ν3 h => ?_)
  refine Wp_iload 1 dL_law_2101 rfl ?_
  refine Wp_icmp_eq (tgt := 2108) dL_law_2103 rfl (fun hc => ?_) (fun hc => ?_)
  · replace h := h.1 hc
    refine Wp_iload 1 dL_law_2108 rfl ?_
    refine Wp_if_ne (tgt := 2125) dL_law_2110 rfl (fun hc => ?_) (fun hc => ?_)
    · replace h := h.1 hc
      refine Wp_goto (tgt := 3106) dL_law_2125 rfl ?_
      refine Wp_iinc 6 [0, 3, 4, 5, 6] (ls' := [(4, vI (z4 + 6)), (0, vP (209, t0, r0)), (1, vP (1, 0, r1)), (2, vP (5, 0, r2)), (3, vP (203, t3, r3))]) dL_law_3106 rfl (v := 6) rfl (zlt rfl) rfl ?_
      refine Wp_goto (tgt := 23) dL_law_3109 rfl ?_
      exact Wp.lcl [1, 2, 3, 4, 0] rfl h
    · replace h := h.2 hc
      refine Wp_aload_n 5 dL_law_2113 rfl rfl ?_
      refine Wp_iconst dL_law_2114 (v := 0) rfl ?_
      obtain ⟨hi1, h⟩ := h
      obtain ⟨l1, e5, h⟩ := h
      refine Wg_lald dL_law_2115 rfl ⟨rfl, hi1, by decide⟩ e5 ?_
      refine Wp_iload 0 dL_law_2116 rfl ?_
      refine Wp_i2l dL_law_2118 ?_
      refine Wp_lcmp dL_law_2119 ?_
      refine Wp_if_eq (tgt := 2125) dL_law_2120 rfl (fun hc => ?_) (fun hc => ?_)
      · replace h := h.1 hc
        refine Wp_goto (tgt := 3106) dL_law_2125 rfl ?_
        refine Wp_iinc 6 [0, 3, 4, 5, 6] (ls' := [(4, vI (z4 + 6)), (0, vP (209, t0, r0)), (1, vP (1, 0, r1)), (2, vP (5, 0, r2)), (3, vP (203, t3, r3))]) dL_law_3106 rfl (v := 6) rfl (zlt rfl) rfl ?_
        refine Wp_goto (tgt := 23) dL_law_3109 rfl ?_
        exact Wp.lcl [1, 2, 3, 4, 0] rfl h
      · replace h := h.2 hc
        refine Wp_iconst dL_law_2123 (v := 0) rfl ?_
        exact Wp_ireturn dL_law_2124 rfl (by decide) h
  · replace h := h.2 hc
    refine Wp_iconst dL_law_2106 (v := 0) rfl ?_
    exact Wp_ireturn dL_law_2107 rfl (by decide) h
theorem B_L_law_2128 {G : ZG} {μ : ZM} {Q : Option ZV → ZM → Prop} {E : ZP → ZM → Prop} {t0 : Nat} {r0 : Nat} {r1 : Nat} {r2 : Nat} {t3 : Nat} {r3 : Nat} {z4 : Int32}
    (h : ∃ j1, zix (z4 + 1) j1 t0 ∧ ∃ x1, zai μ r0 j1 = x1 ∧ Call G Y_X0_bestTest [vP (1, 0, r1), vI x1, vP (203, t3, r3)] μ (rI fun x2 ν1 => ∃ j2, zix (z4 + 1) j2 t0 ∧ ∃ x3, zai ν1 r0 j2 = x3 ∧ Call G Y_X5_bestTest [vP (5, 0, r2), vI x3] ν1 (rI fun x4 ν2 => Call G Y_X5_thrown [vP (5, 0, r2)] ν2 (rI fun x5 ν3 => (x5 = x2 → ((¬ x2 = 0 → Wp G Y_L_law 23 [(0, vP (209, t0, r0)), (1, vP (1, 0, r1)), (2, vP (5, 0, r2)), (3, vP (203, t3, r3)), (4, vI (z4 + 6))] [] ν3 Q E) ∧ (x2 = 0 → (0 < t3 ∧ ∃ l1, zal ν3 r3 0 = l1 ∧ ((lg_cmp l1 x4.toInt64) = 0 → Wp G Y_L_law 23 [(0, vP (209, t0, r0)), (1, vP (1, 0, r1)), (2, vP (5, 0, r2)), (3, vP (203, t3, r3)), (4, vI (z4 + 6))] [] ν3 Q E) ∧ (¬ (lg_cmp l1 x4.toInt64) = 0 → Q (some (vI 0)) ν3))))) ∧ (¬ x5 = x2 → Q (some (vI 0)) ν3)) (fun q ν => zkc q.1 = true ∧ E q ν)) (fun q ν => zkc q.1 = true ∧ E q ν)) (fun q ν => zkc q.1 = true ∧ E q ν)) : Wp G Y_L_law 2128 [(0, vP (209, t0, r0)), (1, vP (1, 0, r1)), (2, vP (5, 0, r2)), (3, vP (203, t3, r3)), (4, vI z4)] [] μ Q E := by
  refine Wp_aload_n 1 dL_law_2128 rfl rfl ?_
  refine Wp_aload_n 0 dL_law_2129 rfl rfl ?_
  refine Wp_iload 4 dL_law_2130 rfl ?_
  refine Wp_iconst dL_law_2132 (v := 1) rfl ?_
  refine Wp_iadd dL_law_2133 ?_
  obtain ⟨j1, hj1, h⟩ := h
  obtain ⟨x1, e1, h⟩ := h
  refine Wg_iald dL_law_2134 rfl hj1 e1 ?_
  refine Wp_aload_n 3 dL_law_2135 rfl rfl ?_
  refine Wp_stat Y_X0_bestTest [vP (1, 0, r1), vI x1, vP (203, t3, r3)] K_X0_bestTest KS_X0_bestTest KT_X0_bestTest rfl q3677 dL_law_2136 (zlt rfl) (Nat.le_of_ble_eq_true rfl) rfl (Call.toI h rfl fun x2 ν1 h => ?_)
  refine Wp_istore [0, 1, 2, 3, 4, 5] (ls' := [(5, vI x2), (0, vP (209, t0, r0)), (1, vP (1, 0, r1)), (2, vP (5, 0, r2)), (3, vP (203, t3, r3)), (4, vI z4)]) dL_law_2139 (zlt rfl) rfl ?_
  refine Wp_aload_n 3 dL_law_2141 rfl rfl ?_
  refine Wp_aload_n 1 dL_law_2142 rfl rfl ?_
  refine Wp_iload 5 dL_law_2143 rfl ?_
  refine Wp_iconst dL_law_2145 (v := 1) rfl ?_
  refine Wp_iadd dL_law_2146 ?_
  obtain ⟨j2, hj2, h⟩ := h
  obtain ⟨x3, e2, h⟩ := h
  refine Wg_iald dL_law_2147 rfl hj2 e2 ?_
  refine Wp_vown Y_X5_bestTest (5, 0, r2) [vI x3] K_X5_bestTest KI_X5_bestTest q4433 rfl rfl rfl q4431 dL_law_2148 KS_X5_bestTest (zlt rfl) (Nat.le_of_ble_eq_true rfl) rfl (Call.toI h rfl fun x4 ν2 h => ?_)
  refine Wp_istore [0, 1, 2, 3, 4, 5, 6] (ls' := [(6, vI x4), (5, vI x2), (0, vP (209, t0, r0)), (1, vP (1, 0, r1)), (2, vP (5, 0, r2)), (3, vP (203, t3, r3)), (4, vI z4)]) dL_law_2151 (zlt rfl) rfl ?_
  refine Wp_aload_n 4 dL_law_2153 rfl rfl ?_
  refine Wp_vown Y_X5_thrown (5, 0, r2) [] K_X5_thrown KI_X5_thrown q4025 rfl rfl rfl q4023 dL_law_2154 KS_X5_thrown (zlt rfl) (Nat.le_of_ble_eq_true rfl) rfl (Call.toI h rfl fun x5 ν3 h => ?_)
  refine Wp_iload 1 dL_law_2157 rfl ?_
  refine Wp_icmp_eq (tgt := 2164) dL_law_2159 rfl (fun hc => ?_) (fun hc => ?_)
  · replace h := h.1 hc
    refine Wp_iload 1 dL_law_2164 rfl ?_
    refine Wp_if_ne (tgt := 2181) dL_law_2166 rfl (fun hc => ?_) (fun hc => ?_)
    · replace h := h.1 hc
      refine Wp_goto (tgt := 3106) dL_law_2181 rfl ?_
      refine Wp_iinc 6 [0, 3, 4, 5, 6] (ls' := [(4, vI (z4 + 6)), (0, vP (209, t0, r0)), (1, vP (1, 0, r1)), (2, vP (5, 0, r2)), (3, vP (203, t3, r3))]) dL_law_3106 rfl (v := 6) rfl (zlt rfl) rfl ?_
      refine Wp_goto (tgt := 23) dL_law_3109 rfl ?_
      exact Wp.lcl [1, 2, 3, 4, 0] rfl h
    · replace h := h.2 hc
      refine Wp_aload_n 5 dL_law_2169 rfl rfl ?_
      refine Wp_iconst dL_law_2170 (v := 0) rfl ?_
      obtain ⟨hi1, h⟩ := h
      obtain ⟨l1, e3, h⟩ := h
      refine Wg_lald dL_law_2171 rfl ⟨rfl, hi1, by decide⟩ e3 ?_
      refine Wp_iload 0 dL_law_2172 rfl ?_
      refine Wp_i2l dL_law_2174 ?_
      refine Wp_lcmp dL_law_2175 ?_
      refine Wp_if_eq (tgt := 2181) dL_law_2176 rfl (fun hc => ?_) (fun hc => ?_)
      · replace h := h.1 hc
        refine Wp_goto (tgt := 3106) dL_law_2181 rfl ?_
        refine Wp_iinc 6 [0, 3, 4, 5, 6] (ls' := [(4, vI (z4 + 6)), (0, vP (209, t0, r0)), (1, vP (1, 0, r1)), (2, vP (5, 0, r2)), (3, vP (203, t3, r3))]) dL_law_3106 rfl (v := 6) rfl (zlt rfl) rfl ?_
        refine Wp_goto (tgt := 23) dL_law_3109 rfl ?_
        exact Wp.lcl [1, 2, 3, 4, 0] rfl h
      · replace h := h.2 hc
        refine Wp_iconst dL_law_2179 (v := 0) rfl ?_
        exact Wp_ireturn dL_law_2180 rfl (by decide) h
  · replace h := h.2 hc
    refine Wp_iconst dL_law_2162 (v := 0) rfl ?_
    exact Wp_ireturn dL_law_2163 rfl (by decide) h
theorem B_L_law_2184 {G : ZG} {μ : ZM} {Q : Option ZV → ZM → Prop} {E : ZP → ZM → Prop} {t0 : Nat} {r0 : Nat} {r1 : Nat} {r2 : Nat} {t3 : Nat} {r3 : Nat} {z4 : Int32}
    (h : Call G Y_X1_richestEcho [vP (1, 0, r1)] μ (rI fun x1 ν1 => Call G Y_X5_richestEcho [vP (5, 0, r2)] ν1 (rI fun x2 ν2 => (x1 = x2 → Wp G Y_L_law 23 [(0, vP (209, t0, r0)), (1, vP (1, 0, r1)), (2, vP (5, 0, r2)), (3, vP (203, t3, r3)), (4, vI (z4 + 6))] [] ν2 Q E) ∧ (¬ x1 = x2 → Q (some (vI 0)) ν2)) (fun q ν => zkc q.1 = true ∧ E q ν)) (fun q ν => zkc q.1 = true ∧ E q ν)) : Wp G Y_L_law 2184 [(0, vP (209, t0, r0)), (1, vP (1, 0, r1)), (2, vP (5, 0, r2)), (3, vP (203, t3, r3)), (4, vI z4)] [] μ Q E := by
  refine Wp_aload_n 1 dL_law_2184 rfl rfl ?_
  refine Wp_vown Y_X1_richestEcho (1, 0, r1) [] K_X1_richestEcho KI_X1_richestEcho q2026 rfl rfl rfl q2024 dL_law_2185 KS_X1_richestEcho (zlt rfl) (Nat.le_of_ble_eq_true rfl) rfl (Call.toI h rfl fun x1 ν1 h => ?_)
  refine Wp_aload_n 2 dL_law_2188 rfl rfl ?_
  refine Wp_vown Y_X5_richestEcho (5, 0, r2) [] K_X5_richestEcho KI_X5_richestEcho q4437 rfl rfl rfl q4435 dL_law_2189 KS_X5_richestEcho (zlt rfl) (Nat.le_of_ble_eq_true rfl) rfl (Call.toI h rfl fun x2 ν2 h => ?_)
  refine Wp_icmp_eq (tgt := 3106) dL_law_2192 rfl (fun hc => ?_) (fun hc => ?_)
  · replace h := h.1 hc
    refine Wp_iinc 4 [0, 1, 2, 3, 4] (ls' := [(4, vI (z4 + 6)), (0, vP (209, t0, r0)), (1, vP (1, 0, r1)), (2, vP (5, 0, r2)), (3, vP (203, t3, r3))]) dL_law_3106 rfl (v := 6) rfl (zlt rfl) rfl ?_
    refine Wp_goto (tgt := 23) dL_law_3109 rfl ?_
    exact Wp.lcl [1, 2, 3, 4, 0] rfl h
  · replace h := h.2 hc
    refine Wp_iconst dL_law_2195 (v := 0) rfl ?_
    exact Wp_ireturn dL_law_2196 rfl (by decide) h
theorem B_L_law_2197 {G : ZG} {μ : ZM} {Q : Option ZV → ZM → Prop} {E : ZP → ZM → Prop} {t0 : Nat} {r0 : Nat} {r1 : Nat} {r2 : Nat} {t3 : Nat} {r3 : Nat} {z4 : Int32}
    (h : ∃ j1, zix (z4 + 1) j1 t0 ∧ ∃ x1, zai μ r0 j1 = x1 ∧ ∃ j2, zix (z4 + 2) j2 t0 ∧ ∃ x2, zai μ r0 j2 = x2 ∧ Call G Y_X0_daysServed [vP (1, 0, r1), vI x1, vI x2, vP (203, t3, r3)] μ (rI fun x3 ν1 => ∃ j3, zix (z4 + 1) j3 t0 ∧ ∃ x4, zai ν1 r0 j3 = x4 ∧ ∃ j4, zix (z4 + 2) j4 t0 ∧ ∃ x5, zai ν1 r0 j4 = x5 ∧ Call G Y_X5_daysServed [vP (5, 0, r2), vI x4, vI x5] ν1 (rI fun x6 ν2 => Call G Y_X5_thrown [vP (5, 0, r2)] ν2 (rI fun x7 ν3 => (x7 = x3 → ((¬ x3 = 0 → Wp G Y_L_law 23 [(0, vP (209, t0, r0)), (1, vP (1, 0, r1)), (2, vP (5, 0, r2)), (3, vP (203, t3, r3)), (4, vI (z4 + 6))] [] ν3 Q E) ∧ (x3 = 0 → (0 < t3 ∧ ∃ l1, zal ν3 r3 0 = l1 ∧ ((lg_cmp l1 x6.toInt64) = 0 → Wp G Y_L_law 23 [(0, vP (209, t0, r0)), (1, vP (1, 0, r1)), (2, vP (5, 0, r2)), (3, vP (203, t3, r3)), (4, vI (z4 + 6))] [] ν3 Q E) ∧ (¬ (lg_cmp l1 x6.toInt64) = 0 → Q (some (vI 0)) ν3))))) ∧ (¬ x7 = x3 → Q (some (vI 0)) ν3)) (fun q ν => zkc q.1 = true ∧ E q ν)) (fun q ν => zkc q.1 = true ∧ E q ν)) (fun q ν => zkc q.1 = true ∧ E q ν)) : Wp G Y_L_law 2197 [(0, vP (209, t0, r0)), (1, vP (1, 0, r1)), (2, vP (5, 0, r2)), (3, vP (203, t3, r3)), (4, vI z4)] [] μ Q E := by
  refine Wp_aload_n 1 dL_law_2197 rfl rfl ?_
  refine Wp_aload_n 0 dL_law_2198 rfl rfl ?_
  refine Wp_iload 4 dL_law_2199 rfl ?_
  refine Wp_iconst dL_law_2201 (v := 1) rfl ?_
  refine Wp_iadd dL_law_2202 ?_
  obtain ⟨j1, hj1, h⟩ := h
  obtain ⟨x1, e1, h⟩ := h
  refine Wg_iald dL_law_2203 rfl hj1 e1 ?_
  refine Wp_aload_n 0 dL_law_2204 rfl rfl ?_
  refine Wp_iload 4 dL_law_2205 rfl ?_
  refine Wp_iconst dL_law_2207 (v := 2) rfl ?_
  refine Wp_iadd dL_law_2208 ?_
  obtain ⟨j2, hj2, h⟩ := h
  obtain ⟨x2, e2, h⟩ := h
  refine Wg_iald dL_law_2209 rfl hj2 e2 ?_
  refine Wp_aload_n 3 dL_law_2210 rfl rfl ?_
  refine Wp_stat Y_X0_daysServed [vP (1, 0, r1), vI x1, vI x2, vP (203, t3, r3)] K_X0_daysServed KS_X0_daysServed KT_X0_daysServed rfl q3685 dL_law_2211 (zlt rfl) (Nat.le_of_ble_eq_true rfl) rfl (Call.toI h rfl fun x3 ν1 h => ?_)
  refine Wp_istore [0, 1, 2, 3, 4, 5] (ls' := [(5, vI x3), (0, vP (209, t0, r0)), (1, vP (1, 0, r1)), (2, vP (5, 0, r2)), (3, vP (203, t3, r3)), (4, vI z4)]) dL_law_2214 (zlt rfl) rfl ?_
  refine Wp_aload_n 3 dL_law_2216 rfl rfl ?_
  refine Wp_aload_n 1 dL_law_2217 rfl rfl ?_
  refine Wp_iload 5 dL_law_2218 rfl ?_
  refine Wp_iconst dL_law_2220 (v := 1) rfl ?_
  refine Wp_iadd dL_law_2221 ?_
  obtain ⟨j3, hj3, h⟩ := h
  obtain ⟨x4, e3, h⟩ := h
  refine Wg_iald dL_law_2222 rfl hj3 e3 ?_
  refine Wp_aload_n 1 dL_law_2223 rfl rfl ?_
  refine Wp_iload 5 dL_law_2224 rfl ?_
  refine Wp_iconst dL_law_2226 (v := 2) rfl ?_
  refine Wp_iadd dL_law_2227 ?_
  obtain ⟨j4, hj4, h⟩ := h
  obtain ⟨x5, e4, h⟩ := h
  refine Wg_iald dL_law_2228 rfl hj4 e4 ?_
  refine Wp_vown Y_X5_daysServed (5, 0, r2) [vI x4, vI x5] K_X5_daysServed KI_X5_daysServed q4441 rfl rfl rfl q4439 dL_law_2229 KS_X5_daysServed (zlt rfl) (Nat.le_of_ble_eq_true rfl) rfl (Call.toI h rfl fun x6 ν2 h => ?_)
  refine Wp_istore [0, 1, 2, 3, 4, 5, 6] (ls' := [(6, vI x6), (5, vI x3), (0, vP (209, t0, r0)), (1, vP (1, 0, r1)), (2, vP (5, 0, r2)), (3, vP (203, t3, r3)), (4, vI z4)]) dL_law_2232 (zlt rfl) rfl ?_
  refine Wp_aload_n 4 dL_law_2234 rfl rfl ?_
  refine Wp_vown Y_X5_thrown (5, 0, r2) [] K_X5_thrown KI_X5_thrown q4025 rfl rfl rfl q4023 dL_law_2235 KS_X5_thrown (zlt rfl) (Nat.le_of_ble_eq_true rfl) rfl (Call.toI h rfl fun x7 ν3 h => ?_)
  refine Wp_iload 1 dL_law_2238 rfl ?_
  refine Wp_icmp_eq (tgt := 2245) dL_law_2240 rfl (fun hc => ?_) (fun hc => ?_)
  · replace h := h.1 hc
    refine Wp_iload 1 dL_law_2245 rfl ?_
    refine Wp_if_ne (tgt := 2262) dL_law_2247 rfl (fun hc => ?_) (fun hc => ?_)
    · replace h := h.1 hc
      refine Wp_goto (tgt := 3106) dL_law_2262 rfl ?_
      refine Wp_iinc 6 [0, 3, 4, 5, 6] (ls' := [(4, vI (z4 + 6)), (0, vP (209, t0, r0)), (1, vP (1, 0, r1)), (2, vP (5, 0, r2)), (3, vP (203, t3, r3))]) dL_law_3106 rfl (v := 6) rfl (zlt rfl) rfl ?_
      refine Wp_goto (tgt := 23) dL_law_3109 rfl ?_
      exact Wp.lcl [1, 2, 3, 4, 0] rfl h
    · replace h := h.2 hc
      refine Wp_aload_n 5 dL_law_2250 rfl rfl ?_
      refine Wp_iconst dL_law_2251 (v := 0) rfl ?_
      obtain ⟨hi1, h⟩ := h
      obtain ⟨l1, e5, h⟩ := h
      refine Wg_lald dL_law_2252 rfl ⟨rfl, hi1, by decide⟩ e5 ?_
      refine Wp_iload 0 dL_law_2253 rfl ?_
      refine Wp_i2l dL_law_2255 ?_
      refine Wp_lcmp dL_law_2256 ?_
      refine Wp_if_eq (tgt := 2262) dL_law_2257 rfl (fun hc => ?_) (fun hc => ?_)
      · replace h := h.1 hc
        refine Wp_goto (tgt := 3106) dL_law_2262 rfl ?_
        refine Wp_iinc 6 [0, 3, 4, 5, 6] (ls' := [(4, vI (z4 + 6)), (0, vP (209, t0, r0)), (1, vP (1, 0, r1)), (2, vP (5, 0, r2)), (3, vP (203, t3, r3))]) dL_law_3106 rfl (v := 6) rfl (zlt rfl) rfl ?_
        refine Wp_goto (tgt := 23) dL_law_3109 rfl ?_
        exact Wp.lcl [1, 2, 3, 4, 0] rfl h
      · replace h := h.2 hc
        refine Wp_iconst dL_law_2260 (v := 0) rfl ?_
        exact Wp_ireturn dL_law_2261 rfl (by decide) h
  · replace h := h.2 hc
    refine Wp_iconst dL_law_2243 (v := 0) rfl ?_
    exact Wp_ireturn dL_law_2244 rfl (by decide) h
theorem B_L_law_2265 {G : ZG} {μ : ZM} {Q : Option ZV → ZM → Prop} {E : ZP → ZM → Prop} {t0 : Nat} {r0 : Nat} {r1 : Nat} {r2 : Nat} {t3 : Nat} {r3 : Nat} {z4 : Int32}
    (h : Call G Y_X1_contractsMade [vP (1, 0, r1)] μ (rI fun x1 ν1 => Call G Y_X5_contractsMade [vP (5, 0, r2)] ν1 (rI fun x2 ν2 => (x1 = x2 → Wp G Y_L_law 23 [(0, vP (209, t0, r0)), (1, vP (1, 0, r1)), (2, vP (5, 0, r2)), (3, vP (203, t3, r3)), (4, vI (z4 + 6))] [] ν2 Q E) ∧ (¬ x1 = x2 → Q (some (vI 0)) ν2)) (fun q ν => zkc q.1 = true ∧ E q ν)) (fun q ν => zkc q.1 = true ∧ E q ν)) : Wp G Y_L_law 2265 [(0, vP (209, t0, r0)), (1, vP (1, 0, r1)), (2, vP (5, 0, r2)), (3, vP (203, t3, r3)), (4, vI z4)] [] μ Q E := by
  refine Wp_aload_n 1 dL_law_2265 rfl rfl ?_
  refine Wp_vown Y_X1_contractsMade (1, 0, r1) [] K_X1_contractsMade KI_X1_contractsMade q2030 rfl rfl rfl q2028 dL_law_2266 KS_X1_contractsMade (zlt rfl) (Nat.le_of_ble_eq_true rfl) rfl (Call.toI h rfl fun x1 ν1 h => ?_)
  refine Wp_aload_n 2 dL_law_2269 rfl rfl ?_
  refine Wp_vown Y_X5_contractsMade (5, 0, r2) [] K_X5_contractsMade KI_X5_contractsMade q4445 rfl rfl rfl q4443 dL_law_2270 KS_X5_contractsMade (zlt rfl) (Nat.le_of_ble_eq_true rfl) rfl (Call.toI h rfl fun x2 ν2 h => ?_)
  refine Wp_icmp_eq (tgt := 3106) dL_law_2273 rfl (fun hc => ?_) (fun hc => ?_)
  · replace h := h.1 hc
    refine Wp_iinc 4 [0, 1, 2, 3, 4] (ls' := [(4, vI (z4 + 6)), (0, vP (209, t0, r0)), (1, vP (1, 0, r1)), (2, vP (5, 0, r2)), (3, vP (203, t3, r3))]) dL_law_3106 rfl (v := 6) rfl (zlt rfl) rfl ?_
    refine Wp_goto (tgt := 23) dL_law_3109 rfl ?_
    exact Wp.lcl [1, 2, 3, 4, 0] rfl h
  · replace h := h.2 hc
    refine Wp_iconst dL_law_2276 (v := 0) rfl ?_
    exact Wp_ireturn dL_law_2277 rfl (by decide) h
theorem B_L_law_2278 {G : ZG} {μ : ZM} {Q : Option ZV → ZM → Prop} {E : ZP → ZM → Prop} {t0 : Nat} {r0 : Nat} {r1 : Nat} {r2 : Nat} {t3 : Nat} {r3 : Nat} {z4 : Int32}
    (h : Call G Y_X1_contractsEnded [vP (1, 0, r1)] μ (rI fun x1 ν1 => Call G Y_X5_contractsEnded [vP (5, 0, r2)] ν1 (rI fun x2 ν2 => (x1 = x2 → Wp G Y_L_law 23 [(0, vP (209, t0, r0)), (1, vP (1, 0, r1)), (2, vP (5, 0, r2)), (3, vP (203, t3, r3)), (4, vI (z4 + 6))] [] ν2 Q E) ∧ (¬ x1 = x2 → Q (some (vI 0)) ν2)) (fun q ν => zkc q.1 = true ∧ E q ν)) (fun q ν => zkc q.1 = true ∧ E q ν)) : Wp G Y_L_law 2278 [(0, vP (209, t0, r0)), (1, vP (1, 0, r1)), (2, vP (5, 0, r2)), (3, vP (203, t3, r3)), (4, vI z4)] [] μ Q E := by
  refine Wp_aload_n 1 dL_law_2278 rfl rfl ?_
  refine Wp_vown Y_X1_contractsEnded (1, 0, r1) [] K_X1_contractsEnded KI_X1_contractsEnded q2034 rfl rfl rfl q2032 dL_law_2279 KS_X1_contractsEnded (zlt rfl) (Nat.le_of_ble_eq_true rfl) rfl (Call.toI h rfl fun x1 ν1 h => ?_)
  refine Wp_aload_n 2 dL_law_2282 rfl rfl ?_
  refine Wp_vown Y_X5_contractsEnded (5, 0, r2) [] K_X5_contractsEnded KI_X5_contractsEnded q4449 rfl rfl rfl q4447 dL_law_2283 KS_X5_contractsEnded (zlt rfl) (Nat.le_of_ble_eq_true rfl) rfl (Call.toI h rfl fun x2 ν2 h => ?_)
  refine Wp_icmp_eq (tgt := 3106) dL_law_2286 rfl (fun hc => ?_) (fun hc => ?_)
  · replace h := h.1 hc
    refine Wp_iinc 4 [0, 1, 2, 3, 4] (ls' := [(4, vI (z4 + 6)), (0, vP (209, t0, r0)), (1, vP (1, 0, r1)), (2, vP (5, 0, r2)), (3, vP (203, t3, r3))]) dL_law_3106 rfl (v := 6) rfl (zlt rfl) rfl ?_
    refine Wp_goto (tgt := 23) dL_law_3109 rfl ?_
    exact Wp.lcl [1, 2, 3, 4, 0] rfl h
  · replace h := h.2 hc
    refine Wp_iconst dL_law_2289 (v := 0) rfl ?_
    exact Wp_ireturn dL_law_2290 rfl (by decide) h
theorem B_L_law_2291 {G : ZG} {μ : ZM} {Q : Option ZV → ZM → Prop} {E : ZP → ZM → Prop} {t0 : Nat} {r0 : Nat} {r1 : Nat} {r2 : Nat} {t3 : Nat} {r3 : Nat} {z4 : Int32}
    (h : ∃ j1, zix (z4 + 1) j1 t0 ∧ ∃ x1, zai μ r0 j1 = x1 ∧ Call G Y_X0_desertions [vP (1, 0, r1), vI x1, vP (203, t3, r3)] μ (rI fun x2 ν1 => ∃ j2, zix (z4 + 1) j2 t0 ∧ ∃ x3, zai ν1 r0 j2 = x3 ∧ Call G Y_X5_desertions [vP (5, 0, r2), vI x3] ν1 (rI fun x4 ν2 => Call G Y_X5_thrown [vP (5, 0, r2)] ν2 (rI fun x5 ν3 => (x5 = x2 → ((¬ x2 = 0 → Wp G Y_L_law 23 [(0, vP (209, t0, r0)), (1, vP (1, 0, r1)), (2, vP (5, 0, r2)), (3, vP (203, t3, r3)), (4, vI (z4 + 6))] [] ν3 Q E) ∧ (x2 = 0 → (0 < t3 ∧ ∃ l1, zal ν3 r3 0 = l1 ∧ ((lg_cmp l1 x4.toInt64) = 0 → Wp G Y_L_law 23 [(0, vP (209, t0, r0)), (1, vP (1, 0, r1)), (2, vP (5, 0, r2)), (3, vP (203, t3, r3)), (4, vI (z4 + 6))] [] ν3 Q E) ∧ (¬ (lg_cmp l1 x4.toInt64) = 0 → Q (some (vI 0)) ν3))))) ∧ (¬ x5 = x2 → Q (some (vI 0)) ν3)) (fun q ν => zkc q.1 = true ∧ E q ν)) (fun q ν => zkc q.1 = true ∧ E q ν)) (fun q ν => zkc q.1 = true ∧ E q ν)) : Wp G Y_L_law 2291 [(0, vP (209, t0, r0)), (1, vP (1, 0, r1)), (2, vP (5, 0, r2)), (3, vP (203, t3, r3)), (4, vI z4)] [] μ Q E := by
  refine Wp_aload_n 1 dL_law_2291 rfl rfl ?_
  refine Wp_aload_n 0 dL_law_2292 rfl rfl ?_
  refine Wp_iload 4 dL_law_2293 rfl ?_
  refine Wp_iconst dL_law_2295 (v := 1) rfl ?_
  refine Wp_iadd dL_law_2296 ?_
  obtain ⟨j1, hj1, h⟩ := h
  obtain ⟨x1, e1, h⟩ := h
  refine Wg_iald dL_law_2297 rfl hj1 e1 ?_
  refine Wp_aload_n 3 dL_law_2298 rfl rfl ?_
  refine Wp_stat Y_X0_desertions [vP (1, 0, r1), vI x1, vP (203, t3, r3)] K_X0_desertions KS_X0_desertions KT_X0_desertions rfl q3697 dL_law_2299 (zlt rfl) (Nat.le_of_ble_eq_true rfl) rfl (Call.toI h rfl fun x2 ν1 h => ?_)
  refine Wp_istore [0, 1, 2, 3, 4, 5] (ls' := [(5, vI x2), (0, vP (209, t0, r0)), (1, vP (1, 0, r1)), (2, vP (5, 0, r2)), (3, vP (203, t3, r3)), (4, vI z4)]) dL_law_2302 (zlt rfl) rfl ?_
  refine Wp_aload_n 3 dL_law_2304 rfl rfl ?_
  refine Wp_aload_n 1 dL_law_2305 rfl rfl ?_
  refine Wp_iload 5 dL_law_2306 rfl ?_
  refine Wp_iconst dL_law_2308 (v := 1) rfl ?_
  refine Wp_iadd dL_law_2309 ?_
  obtain ⟨j2, hj2, h⟩ := h
  obtain ⟨x3, e2, h⟩ := h
  refine Wg_iald dL_law_2310 rfl hj2 e2 ?_
  refine Wp_vown Y_X5_desertions (5, 0, r2) [vI x3] K_X5_desertions KI_X5_desertions q4453 rfl rfl rfl q4451 dL_law_2311 KS_X5_desertions (zlt rfl) (Nat.le_of_ble_eq_true rfl) rfl (Call.toI h rfl fun x4 ν2 h => ?_)
  refine Wp_istore [0, 1, 2, 3, 4, 5, 6] (ls' := [(6, vI x4), (5, vI x2), (0, vP (209, t0, r0)), (1, vP (1, 0, r1)), (2, vP (5, 0, r2)), (3, vP (203, t3, r3)), (4, vI z4)]) dL_law_2314 (zlt rfl) rfl ?_
  refine Wp_aload_n 4 dL_law_2316 rfl rfl ?_
  refine Wp_vown Y_X5_thrown (5, 0, r2) [] K_X5_thrown KI_X5_thrown q4025 rfl rfl rfl q4023 dL_law_2317 KS_X5_thrown (zlt rfl) (Nat.le_of_ble_eq_true rfl) rfl (Call.toI h rfl fun x5 ν3 h => ?_)
  refine Wp_iload 1 dL_law_2320 rfl ?_
  refine Wp_icmp_eq (tgt := 2327) dL_law_2322 rfl (fun hc => ?_) (fun hc => ?_)
  · replace h := h.1 hc
    refine Wp_iload 1 dL_law_2327 rfl ?_
    refine Wp_if_ne (tgt := 2344) dL_law_2329 rfl (fun hc => ?_) (fun hc => ?_)
    · replace h := h.1 hc
      refine Wp_goto (tgt := 3106) dL_law_2344 rfl ?_
      refine Wp_iinc 6 [0, 3, 4, 5, 6] (ls' := [(4, vI (z4 + 6)), (0, vP (209, t0, r0)), (1, vP (1, 0, r1)), (2, vP (5, 0, r2)), (3, vP (203, t3, r3))]) dL_law_3106 rfl (v := 6) rfl (zlt rfl) rfl ?_
      refine Wp_goto (tgt := 23) dL_law_3109 rfl ?_
      exact Wp.lcl [1, 2, 3, 4, 0] rfl h
    · replace h := h.2 hc
      refine Wp_aload_n 5 dL_law_2332 rfl rfl ?_
      refine Wp_iconst dL_law_2333 (v := 0) rfl ?_
      obtain ⟨hi1, h⟩ := h
      obtain ⟨l1, e3, h⟩ := h
      refine Wg_lald dL_law_2334 rfl ⟨rfl, hi1, by decide⟩ e3 ?_
      refine Wp_iload 0 dL_law_2335 rfl ?_
      refine Wp_i2l dL_law_2337 ?_
      refine Wp_lcmp dL_law_2338 ?_
      refine Wp_if_eq (tgt := 2344) dL_law_2339 rfl (fun hc => ?_) (fun hc => ?_)
      · replace h := h.1 hc
        refine Wp_goto (tgt := 3106) dL_law_2344 rfl ?_
        refine Wp_iinc 6 [0, 3, 4, 5, 6] (ls' := [(4, vI (z4 + 6)), (0, vP (209, t0, r0)), (1, vP (1, 0, r1)), (2, vP (5, 0, r2)), (3, vP (203, t3, r3))]) dL_law_3106 rfl (v := 6) rfl (zlt rfl) rfl ?_
        refine Wp_goto (tgt := 23) dL_law_3109 rfl ?_
        exact Wp.lcl [1, 2, 3, 4, 0] rfl h
      · replace h := h.2 hc
        refine Wp_iconst dL_law_2342 (v := 0) rfl ?_
        exact Wp_ireturn dL_law_2343 rfl (by decide) h
  · replace h := h.2 hc
    refine Wp_iconst dL_law_2325 (v := 0) rfl ?_
    exact Wp_ireturn dL_law_2326 rfl (by decide) h
theorem B_L_law_2347 {G : ZG} {μ : ZM} {Q : Option ZV → ZM → Prop} {E : ZP → ZM → Prop} {t0 : Nat} {r0 : Nat} {r1 : Nat} {r2 : Nat} {t3 : Nat} {r3 : Nat} {z4 : Int32}
    (h : ∃ j1, zix (z4 + 1) j1 t0 ∧ ∃ x1, zai μ r0 j1 = x1 ∧ Call G Y_X0_repliesHeard [vP (1, 0, r1), vI x1, vP (203, t3, r3)] μ (rI fun x2 ν1 => ∃ j2, zix (z4 + 1) j2 t0 ∧ ∃ x3, zai ν1 r0 j2 = x3 ∧ Call G Y_X5_repliesHeard [vP (5, 0, r2), vI x3] ν1 (rI fun x4 ν2 => Call G Y_X5_thrown [vP (5, 0, r2)] ν2 (rI fun x5 ν3 => (x5 = x2 → ((¬ x2 = 0 → Wp G Y_L_law 23 [(0, vP (209, t0, r0)), (1, vP (1, 0, r1)), (2, vP (5, 0, r2)), (3, vP (203, t3, r3)), (4, vI (z4 + 6))] [] ν3 Q E) ∧ (x2 = 0 → (0 < t3 ∧ ∃ l1, zal ν3 r3 0 = l1 ∧ ((lg_cmp l1 x4.toInt64) = 0 → Wp G Y_L_law 23 [(0, vP (209, t0, r0)), (1, vP (1, 0, r1)), (2, vP (5, 0, r2)), (3, vP (203, t3, r3)), (4, vI (z4 + 6))] [] ν3 Q E) ∧ (¬ (lg_cmp l1 x4.toInt64) = 0 → Q (some (vI 0)) ν3))))) ∧ (¬ x5 = x2 → Q (some (vI 0)) ν3)) (fun q ν => zkc q.1 = true ∧ E q ν)) (fun q ν => zkc q.1 = true ∧ E q ν)) (fun q ν => zkc q.1 = true ∧ E q ν)) : Wp G Y_L_law 2347 [(0, vP (209, t0, r0)), (1, vP (1, 0, r1)), (2, vP (5, 0, r2)), (3, vP (203, t3, r3)), (4, vI z4)] [] μ Q E := by
  refine Wp_aload_n 1 dL_law_2347 rfl rfl ?_
  refine Wp_aload_n 0 dL_law_2348 rfl rfl ?_
  refine Wp_iload 4 dL_law_2349 rfl ?_
  refine Wp_iconst dL_law_2351 (v := 1) rfl ?_
  refine Wp_iadd dL_law_2352 ?_
  obtain ⟨j1, hj1, h⟩ := h
  obtain ⟨x1, e1, h⟩ := h
  refine Wg_iald dL_law_2353 rfl hj1 e1 ?_
  refine Wp_aload_n 3 dL_law_2354 rfl rfl ?_
  refine Wp_stat Y_X0_repliesHeard [vP (1, 0, r1), vI x1, vP (203, t3, r3)] K_X0_repliesHeard KS_X0_repliesHeard KT_X0_repliesHeard rfl q3704 dL_law_2355 (zlt rfl) (Nat.le_of_ble_eq_true rfl) rfl (Call.toI h rfl fun x2 ν1 h => ?_)
  refine Wp_istore [0, 1, 2, 3, 4, 5] (ls' := [(5, vI x2), (0, vP (209, t0, r0)), (1, vP (1, 0, r1)), (2, vP (5, 0, r2)), (3, vP (203, t3, r3)), (4, vI z4)]) dL_law_2358 (zlt rfl) rfl ?_
  refine Wp_aload_n 3 dL_law_2360 rfl rfl ?_
  refine Wp_aload_n 1 dL_law_2361 rfl rfl ?_
  refine Wp_iload 5 dL_law_2362 rfl ?_
  refine Wp_iconst dL_law_2364 (v := 1) rfl ?_
  refine Wp_iadd dL_law_2365 ?_
  obtain ⟨j2, hj2, h⟩ := h
  obtain ⟨x3, e2, h⟩ := h
  refine Wg_iald dL_law_2366 rfl hj2 e2 ?_
  refine Wp_vown Y_X5_repliesHeard (5, 0, r2) [vI x3] K_X5_repliesHeard KI_X5_repliesHeard q4457 rfl rfl rfl q4455 dL_law_2367 KS_X5_repliesHeard (zlt rfl) (Nat.le_of_ble_eq_true rfl) rfl (Call.toI h rfl fun x4 ν2 h => ?_)
  refine Wp_istore [0, 1, 2, 3, 4, 5, 6] (ls' := [(6, vI x4), (5, vI x2), (0, vP (209, t0, r0)), (1, vP (1, 0, r1)), (2, vP (5, 0, r2)), (3, vP (203, t3, r3)), (4, vI z4)]) dL_law_2370 (zlt rfl) rfl ?_
  refine Wp_aload_n 4 dL_law_2372 rfl rfl ?_
  refine Wp_vown Y_X5_thrown (5, 0, r2) [] K_X5_thrown KI_X5_thrown q4025 rfl rfl rfl q4023 dL_law_2373 KS_X5_thrown (zlt rfl) (Nat.le_of_ble_eq_true rfl) rfl (Call.toI h rfl fun x5 ν3 h => ?_)
  refine Wp_iload 1 dL_law_2376 rfl ?_
  refine Wp_icmp_eq (tgt := 2383) dL_law_2378 rfl (fun hc => ?_) (fun hc => ?_)
  · replace h := h.1 hc
    refine Wp_iload 1 dL_law_2383 rfl ?_
    refine Wp_if_ne (tgt := 2400) dL_law_2385 rfl (fun hc => ?_) (fun hc => ?_)
    · replace h := h.1 hc
      refine Wp_goto (tgt := 3106) dL_law_2400 rfl ?_
      refine Wp_iinc 6 [0, 3, 4, 5, 6] (ls' := [(4, vI (z4 + 6)), (0, vP (209, t0, r0)), (1, vP (1, 0, r1)), (2, vP (5, 0, r2)), (3, vP (203, t3, r3))]) dL_law_3106 rfl (v := 6) rfl (zlt rfl) rfl ?_
      refine Wp_goto (tgt := 23) dL_law_3109 rfl ?_
      exact Wp.lcl [1, 2, 3, 4, 0] rfl h
    · replace h := h.2 hc
      refine Wp_aload_n 5 dL_law_2388 rfl rfl ?_
      refine Wp_iconst dL_law_2389 (v := 0) rfl ?_
      obtain ⟨hi1, h⟩ := h
      obtain ⟨l1, e3, h⟩ := h
      refine Wg_lald dL_law_2390 rfl ⟨rfl, hi1, by decide⟩ e3 ?_
      refine Wp_iload 0 dL_law_2391 rfl ?_
      refine Wp_i2l dL_law_2393 ?_
      refine Wp_lcmp dL_law_2394 ?_
      refine Wp_if_eq (tgt := 2400) dL_law_2395 rfl (fun hc => ?_) (fun hc => ?_)
      · replace h := h.1 hc
        refine Wp_goto (tgt := 3106) dL_law_2400 rfl ?_
        refine Wp_iinc 6 [0, 3, 4, 5, 6] (ls' := [(4, vI (z4 + 6)), (0, vP (209, t0, r0)), (1, vP (1, 0, r1)), (2, vP (5, 0, r2)), (3, vP (203, t3, r3))]) dL_law_3106 rfl (v := 6) rfl (zlt rfl) rfl ?_
        refine Wp_goto (tgt := 23) dL_law_3109 rfl ?_
        exact Wp.lcl [1, 2, 3, 4, 0] rfl h
      · replace h := h.2 hc
        refine Wp_iconst dL_law_2398 (v := 0) rfl ?_
        exact Wp_ireturn dL_law_2399 rfl (by decide) h
  · replace h := h.2 hc
    refine Wp_iconst dL_law_2381 (v := 0) rfl ?_
    exact Wp_ireturn dL_law_2382 rfl (by decide) h
theorem B_L_law_2403 {G : ZG} {μ : ZM} {Q : Option ZV → ZM → Prop} {E : ZP → ZM → Prop} {t0 : Nat} {r0 : Nat} {r1 : Nat} {r2 : Nat} {t3 : Nat} {r3 : Nat} {z4 : Int32}
    (h : ∃ j1, zix (z4 + 1) j1 t0 ∧ ∃ x1, zai μ r0 j1 = x1 ∧ Call G Y_X0_wagesPaid [vP (1, 0, r1), vI x1, vP (203, t3, r3)] μ (rI fun x2 ν1 => ∃ j2, zix (z4 + 1) j2 t0 ∧ ∃ x3, zai ν1 r0 j2 = x3 ∧ Call G Y_X5_wagesPaid [vP (5, 0, r2), vI x3] ν1 (rI fun x4 ν2 => Call G Y_X5_thrown [vP (5, 0, r2)] ν2 (rI fun x5 ν3 => (x5 = x2 → ((¬ x2 = 0 → Wp G Y_L_law 23 [(0, vP (209, t0, r0)), (1, vP (1, 0, r1)), (2, vP (5, 0, r2)), (3, vP (203, t3, r3)), (4, vI (z4 + 6))] [] ν3 Q E) ∧ (x2 = 0 → (0 < t3 ∧ ∃ l1, zal ν3 r3 0 = l1 ∧ ((lg_cmp l1 x4.toInt64) = 0 → Wp G Y_L_law 23 [(0, vP (209, t0, r0)), (1, vP (1, 0, r1)), (2, vP (5, 0, r2)), (3, vP (203, t3, r3)), (4, vI (z4 + 6))] [] ν3 Q E) ∧ (¬ (lg_cmp l1 x4.toInt64) = 0 → Q (some (vI 0)) ν3))))) ∧ (¬ x5 = x2 → Q (some (vI 0)) ν3)) (fun q ν => zkc q.1 = true ∧ E q ν)) (fun q ν => zkc q.1 = true ∧ E q ν)) (fun q ν => zkc q.1 = true ∧ E q ν)) : Wp G Y_L_law 2403 [(0, vP (209, t0, r0)), (1, vP (1, 0, r1)), (2, vP (5, 0, r2)), (3, vP (203, t3, r3)), (4, vI z4)] [] μ Q E := by
  refine Wp_aload_n 1 dL_law_2403 rfl rfl ?_
  refine Wp_aload_n 0 dL_law_2404 rfl rfl ?_
  refine Wp_iload 4 dL_law_2405 rfl ?_
  refine Wp_iconst dL_law_2407 (v := 1) rfl ?_
  refine Wp_iadd dL_law_2408 ?_
  obtain ⟨j1, hj1, h⟩ := h
  obtain ⟨x1, e1, h⟩ := h
  refine Wg_iald dL_law_2409 rfl hj1 e1 ?_
  refine Wp_aload_n 3 dL_law_2410 rfl rfl ?_
  refine Wp_stat Y_X0_wagesPaid [vP (1, 0, r1), vI x1, vP (203, t3, r3)] K_X0_wagesPaid KS_X0_wagesPaid KT_X0_wagesPaid rfl q3711 dL_law_2411 (zlt rfl) (Nat.le_of_ble_eq_true rfl) rfl (Call.toI h rfl fun x2 ν1 h => ?_)
  refine Wp_istore [0, 1, 2, 3, 4, 5] (ls' := [(5, vI x2), (0, vP (209, t0, r0)), (1, vP (1, 0, r1)), (2, vP (5, 0, r2)), (3, vP (203, t3, r3)), (4, vI z4)]) dL_law_2414 (zlt rfl) rfl ?_
  refine Wp_aload_n 3 dL_law_2416 rfl rfl ?_
  refine Wp_aload_n 1 dL_law_2417 rfl rfl ?_
  refine Wp_iload 5 dL_law_2418 rfl ?_
  refine Wp_iconst dL_law_2420 (v := 1) rfl ?_
  refine Wp_iadd dL_law_2421 ?_
  obtain ⟨j2, hj2, h⟩ := h
  obtain ⟨x3, e2, h⟩ := h
  refine Wg_iald dL_law_2422 rfl hj2 e2 ?_
  refine Wp_vown Y_X5_wagesPaid (5, 0, r2) [vI x3] K_X5_wagesPaid KI_X5_wagesPaid q4461 rfl rfl rfl q4459 dL_law_2423 KS_X5_wagesPaid (zlt rfl) (Nat.le_of_ble_eq_true rfl) rfl (Call.toI h rfl fun x4 ν2 h => ?_)
  refine Wp_istore [0, 1, 2, 3, 4, 5, 6] (ls' := [(6, vI x4), (5, vI x2), (0, vP (209, t0, r0)), (1, vP (1, 0, r1)), (2, vP (5, 0, r2)), (3, vP (203, t3, r3)), (4, vI z4)]) dL_law_2426 (zlt rfl) rfl ?_
  refine Wp_aload_n 4 dL_law_2428 rfl rfl ?_
  refine Wp_vown Y_X5_thrown (5, 0, r2) [] K_X5_thrown KI_X5_thrown q4025 rfl rfl rfl q4023 dL_law_2429 KS_X5_thrown (zlt rfl) (Nat.le_of_ble_eq_true rfl) rfl (Call.toI h rfl fun x5 ν3 h => ?_)
  refine Wp_iload 1 dL_law_2432 rfl ?_
  refine Wp_icmp_eq (tgt := 2439) dL_law_2434 rfl (fun hc => ?_) (fun hc => ?_)
  · replace h := h.1 hc
    refine Wp_iload 1 dL_law_2439 rfl ?_
    refine Wp_if_ne (tgt := 2456) dL_law_2441 rfl (fun hc => ?_) (fun hc => ?_)
    · replace h := h.1 hc
      refine Wp_goto (tgt := 3106) dL_law_2456 rfl ?_
      refine Wp_iinc 6 [0, 3, 4, 5, 6] (ls' := [(4, vI (z4 + 6)), (0, vP (209, t0, r0)), (1, vP (1, 0, r1)), (2, vP (5, 0, r2)), (3, vP (203, t3, r3))]) dL_law_3106 rfl (v := 6) rfl (zlt rfl) rfl ?_
      refine Wp_goto (tgt := 23) dL_law_3109 rfl ?_
      exact Wp.lcl [1, 2, 3, 4, 0] rfl h
    · replace h := h.2 hc
      refine Wp_aload_n 5 dL_law_2444 rfl rfl ?_
      refine Wp_iconst dL_law_2445 (v := 0) rfl ?_
      obtain ⟨hi1, h⟩ := h
      obtain ⟨l1, e3, h⟩ := h
      refine Wg_lald dL_law_2446 rfl ⟨rfl, hi1, by decide⟩ e3 ?_
      refine Wp_iload 0 dL_law_2447 rfl ?_
      refine Wp_i2l dL_law_2449 ?_
      refine Wp_lcmp dL_law_2450 ?_
      refine Wp_if_eq (tgt := 2456) dL_law_2451 rfl (fun hc => ?_) (fun hc => ?_)
      · replace h := h.1 hc
        refine Wp_goto (tgt := 3106) dL_law_2456 rfl ?_
        refine Wp_iinc 6 [0, 3, 4, 5, 6] (ls' := [(4, vI (z4 + 6)), (0, vP (209, t0, r0)), (1, vP (1, 0, r1)), (2, vP (5, 0, r2)), (3, vP (203, t3, r3))]) dL_law_3106 rfl (v := 6) rfl (zlt rfl) rfl ?_
        refine Wp_goto (tgt := 23) dL_law_3109 rfl ?_
        exact Wp.lcl [1, 2, 3, 4, 0] rfl h
      · replace h := h.2 hc
        refine Wp_iconst dL_law_2454 (v := 0) rfl ?_
        exact Wp_ireturn dL_law_2455 rfl (by decide) h
  · replace h := h.2 hc
    refine Wp_iconst dL_law_2437 (v := 0) rfl ?_
    exact Wp_ireturn dL_law_2438 rfl (by decide) h
theorem B_L_law_2459 {G : ZG} {μ : ZM} {Q : Option ZV → ZM → Prop} {E : ZP → ZM → Prop} {t0 : Nat} {r0 : Nat} {r1 : Nat} {r2 : Nat} {t3 : Nat} {r3 : Nat} {z4 : Int32}
    (h : Call G Y_X1_moneyImbalance [vP (1, 0, r1)] μ (rI fun x1 ν1 => Call G Y_X5_moneyImbalance [vP (5, 0, r2)] ν1 (rI fun x2 ν2 => (x1 = x2 → Wp G Y_L_law 23 [(0, vP (209, t0, r0)), (1, vP (1, 0, r1)), (2, vP (5, 0, r2)), (3, vP (203, t3, r3)), (4, vI (z4 + 6))] [] ν2 Q E) ∧ (¬ x1 = x2 → Q (some (vI 0)) ν2)) (fun q ν => zkc q.1 = true ∧ E q ν)) (fun q ν => zkc q.1 = true ∧ E q ν)) : Wp G Y_L_law 2459 [(0, vP (209, t0, r0)), (1, vP (1, 0, r1)), (2, vP (5, 0, r2)), (3, vP (203, t3, r3)), (4, vI z4)] [] μ Q E := by
  refine Wp_aload_n 1 dL_law_2459 rfl rfl ?_
  refine Wp_vown Y_X1_moneyImbalance (1, 0, r1) [] K_X1_moneyImbalance KI_X1_moneyImbalance q2038 rfl rfl rfl q2036 dL_law_2460 KS_X1_moneyImbalance (zlt rfl) (Nat.le_of_ble_eq_true rfl) rfl (Call.toI h rfl fun x1 ν1 h => ?_)
  refine Wp_aload_n 2 dL_law_2463 rfl rfl ?_
  refine Wp_vown Y_X5_moneyImbalance (5, 0, r2) [] K_X5_moneyImbalance KI_X5_moneyImbalance q4465 rfl rfl rfl q4463 dL_law_2464 KS_X5_moneyImbalance (zlt rfl) (Nat.le_of_ble_eq_true rfl) rfl (Call.toI h rfl fun x2 ν2 h => ?_)
  refine Wp_icmp_eq (tgt := 3106) dL_law_2467 rfl (fun hc => ?_) (fun hc => ?_)
  · replace h := h.1 hc
    refine Wp_iinc 4 [0, 1, 2, 3, 4] (ls' := [(4, vI (z4 + 6)), (0, vP (209, t0, r0)), (1, vP (1, 0, r1)), (2, vP (5, 0, r2)), (3, vP (203, t3, r3))]) dL_law_3106 rfl (v := 6) rfl (zlt rfl) rfl ?_
    refine Wp_goto (tgt := 23) dL_law_3109 rfl ?_
    exact Wp.lcl [1, 2, 3, 4, 0] rfl h
  · replace h := h.2 hc
    refine Wp_iconst dL_law_2470 (v := 0) rfl ?_
    exact Wp_ireturn dL_law_2471 rfl (by decide) h
theorem B_L_law_2472 {G : ZG} {μ : ZM} {Q : Option ZV → ZM → Prop} {E : ZP → ZM → Prop} {t0 : Nat} {r0 : Nat} {r1 : Nat} {r2 : Nat} {t3 : Nat} {r3 : Nat} {z4 : Int32}
    (h : Call G Y_X1_contractImbalance [vP (1, 0, r1)] μ (rI fun x1 ν1 => Call G Y_X5_contractImbalance [vP (5, 0, r2)] ν1 (rI fun x2 ν2 => (x1 = x2 → Wp G Y_L_law 23 [(0, vP (209, t0, r0)), (1, vP (1, 0, r1)), (2, vP (5, 0, r2)), (3, vP (203, t3, r3)), (4, vI (z4 + 6))] [] ν2 Q E) ∧ (¬ x1 = x2 → Q (some (vI 0)) ν2)) (fun q ν => zkc q.1 = true ∧ E q ν)) (fun q ν => zkc q.1 = true ∧ E q ν)) : Wp G Y_L_law 2472 [(0, vP (209, t0, r0)), (1, vP (1, 0, r1)), (2, vP (5, 0, r2)), (3, vP (203, t3, r3)), (4, vI z4)] [] μ Q E := by
  refine Wp_aload_n 1 dL_law_2472 rfl rfl ?_
  refine Wp_vown Y_X1_contractImbalance (1, 0, r1) [] K_X1_contractImbalance KI_X1_contractImbalance q2181 rfl rfl rfl q2179 dL_law_2473 KS_X1_contractImbalance (zlt rfl) (Nat.le_of_ble_eq_true rfl) rfl (Call.toI h rfl fun x1 ν1 h => ?_)
  refine Wp_aload_n 2 dL_law_2476 rfl rfl ?_
  refine Wp_vown Y_X5_contractImbalance (5, 0, r2) [] K_X5_contractImbalance KI_X5_contractImbalance q4477 rfl rfl rfl q4475 dL_law_2477 KS_X5_contractImbalance (zlt rfl) (Nat.le_of_ble_eq_true rfl) rfl (Call.toI h rfl fun x2 ν2 h => ?_)
  refine Wp_icmp_eq (tgt := 3106) dL_law_2480 rfl (fun hc => ?_) (fun hc => ?_)
  · replace h := h.1 hc
    refine Wp_iinc 4 [0, 1, 2, 3, 4] (ls' := [(4, vI (z4 + 6)), (0, vP (209, t0, r0)), (1, vP (1, 0, r1)), (2, vP (5, 0, r2)), (3, vP (203, t3, r3))]) dL_law_3106 rfl (v := 6) rfl (zlt rfl) rfl ?_
    refine Wp_goto (tgt := 23) dL_law_3109 rfl ?_
    exact Wp.lcl [1, 2, 3, 4, 0] rfl h
  · replace h := h.2 hc
    refine Wp_iconst dL_law_2483 (v := 0) rfl ?_
    exact Wp_ireturn dL_law_2484 rfl (by decide) h
theorem B_L_law_2485 {G : ZG} {μ : ZM} {Q : Option ZV → ZM → Prop} {E : ZP → ZM → Prop} {t0 : Nat} {r0 : Nat} {r1 : Nat} {r2 : Nat} {t3 : Nat} {r3 : Nat} {z4 : Int32}
    (h : Call G Y_X1_doubleServants [vP (1, 0, r1)] μ (rI fun x1 ν1 => Call G Y_X5_doubleServants [vP (5, 0, r2)] ν1 (rI fun x2 ν2 => (x1 = x2 → Wp G Y_L_law 23 [(0, vP (209, t0, r0)), (1, vP (1, 0, r1)), (2, vP (5, 0, r2)), (3, vP (203, t3, r3)), (4, vI (z4 + 6))] [] ν2 Q E) ∧ (¬ x1 = x2 → Q (some (vI 0)) ν2)) (fun q ν => zkc q.1 = true ∧ E q ν)) (fun q ν => zkc q.1 = true ∧ E q ν)) : Wp G Y_L_law 2485 [(0, vP (209, t0, r0)), (1, vP (1, 0, r1)), (2, vP (5, 0, r2)), (3, vP (203, t3, r3)), (4, vI z4)] [] μ Q E := by
  refine Wp_aload_n 1 dL_law_2485 rfl rfl ?_
  refine Wp_vown Y_X1_doubleServants (1, 0, r1) [] K_X1_doubleServants KI_X1_doubleServants q2189 rfl rfl rfl q2187 dL_law_2486 KS_X1_doubleServants (zlt rfl) (Nat.le_of_ble_eq_true rfl) rfl (Call.toI h rfl fun x1 ν1 h => ?_)
  refine Wp_aload_n 2 dL_law_2489 rfl rfl ?_
  refine Wp_vown Y_X5_doubleServants (5, 0, r2) [] K_X5_doubleServants KI_X5_doubleServants q4485 rfl rfl rfl q4483 dL_law_2490 KS_X5_doubleServants (zlt rfl) (Nat.le_of_ble_eq_true rfl) rfl (Call.toI h rfl fun x2 ν2 h => ?_)
  refine Wp_icmp_eq (tgt := 3106) dL_law_2493 rfl (fun hc => ?_) (fun hc => ?_)
  · replace h := h.1 hc
    refine Wp_iinc 4 [0, 1, 2, 3, 4] (ls' := [(4, vI (z4 + 6)), (0, vP (209, t0, r0)), (1, vP (1, 0, r1)), (2, vP (5, 0, r2)), (3, vP (203, t3, r3))]) dL_law_3106 rfl (v := 6) rfl (zlt rfl) rfl ?_
    refine Wp_goto (tgt := 23) dL_law_3109 rfl ?_
    exact Wp.lcl [1, 2, 3, 4, 0] rfl h
  · replace h := h.2 hc
    refine Wp_iconst dL_law_2496 (v := 0) rfl ?_
    exact Wp_ireturn dL_law_2497 rfl (by decide) h
theorem B_L_law_2498 {G : ZG} {μ : ZM} {Q : Option ZV → ZM → Prop} {E : ZP → ZM → Prop} {t0 : Nat} {r0 : Nat} {r1 : Nat} {r2 : Nat} {t3 : Nat} {r3 : Nat} {z4 : Int32}
    (h : Call G Y_X1_meanSavings [vP (1, 0, r1)] μ (rD fun d1 ν1 => Call G Y_X5_meanSavings [vP (5, 0, r2)] ν1 (rD fun d2 ν2 => ((Op.cmpValue (FP.dcmp d1 d2) .l) = 0 → Wp G Y_L_law 23 [(0, vP (209, t0, r0)), (1, vP (1, 0, r1)), (2, vP (5, 0, r2)), (3, vP (203, t3, r3)), (4, vI (z4 + 6))] [] ν2 Q E) ∧ (¬ (Op.cmpValue (FP.dcmp d1 d2) .l) = 0 → (((Op.cmpValue (FP.dcmp d1 d1) .l) = 0 → Q (some (vI 0)) ν2) ∧ (¬ (Op.cmpValue (FP.dcmp d1 d1) .l) = 0 → ((¬ (Op.cmpValue (FP.dcmp d2 d2) .l) = 0 → Wp G Y_L_law 23 [(0, vP (209, t0, r0)), (1, vP (1, 0, r1)), (2, vP (5, 0, r2)), (3, vP (203, t3, r3)), (4, vI (z4 + 6))] [] ν2 Q E) ∧ ((Op.cmpValue (FP.dcmp d2 d2) .l) = 0 → Q (some (vI 0)) ν2)))))) (fun q ν => zkc q.1 = true ∧ E q ν)) (fun q ν => zkc q.1 = true ∧ E q ν)) : Wp G Y_L_law 2498 [(0, vP (209, t0, r0)), (1, vP (1, 0, r1)), (2, vP (5, 0, r2)), (3, vP (203, t3, r3)), (4, vI z4)] [] μ Q E := by
  refine Wp_aload_n 1 dL_law_2498 rfl rfl ?_
  refine Wp_vown Y_X1_meanSavings (1, 0, r1) [] K_X1_meanSavings KI_X1_meanSavings q2197 rfl rfl rfl q2195 dL_law_2499 KS_X1_meanSavings (zlt rfl) (Nat.le_of_ble_eq_true rfl) rfl (Call.toD h rfl fun d1 ν1 h => ?_)
  refine Wp_dstore [0, 1, 2, 3, 4, 5] (ls' := [(5, vD d1), (0, vP (209, t0, r0)), (1, vP (1, 0, r1)), (2, vP (5, 0, r2)), (3, vP (203, t3, r3)), (4, vI z4)]) dL_law_2502 (zlt rfl) rfl ?_
  refine Wp_aload_n 3 dL_law_2504 rfl rfl ?_
  refine Wp_vown Y_X5_meanSavings (5, 0, r2) [] K_X5_meanSavings KI_X5_meanSavings q4493 rfl rfl rfl q4491 dL_law_2505 KS_X5_meanSavings (zlt rfl) (Nat.le_of_ble_eq_true rfl) rfl (Call.toD h rfl fun d2 ν2 h => ?_)
  refine Wp_dstore [0, 1, 2, 3, 4, 5, 6] (ls' := [(7, vD d2), (5, vD d1), (0, vP (209, t0, r0)), (1, vP (1, 0, r1)), (2, vP (5, 0, r2)), (3, vP (203, t3, r3)), (4, vI z4)]) dL_law_2508 (zlt rfl) rfl ?_
  refine Wp_dload 1 dL_law_2510 rfl ?_
  refine Wp_dload 0 dL_law_2512 rfl ?_
  refine Wp_dcmp dL_law_2514 ?_
  refine Wp_if_eq (tgt := 2536) dL_law_2515 rfl (fun hc => ?_) (fun hc => ?_)
  · replace h := h.1 hc
    refine Wp_goto (tgt := 3106) dL_law_2536 rfl ?_
    refine Wp_iinc 6 [0, 3, 4, 5, 6] (ls' := [(4, vI (z4 + 6)), (0, vP (209, t0, r0)), (1, vP (1, 0, r1)), (2, vP (5, 0, r2)), (3, vP (203, t3, r3))]) dL_law_3106 rfl (v := 6) rfl (zlt rfl) rfl ?_
    refine Wp_goto (tgt := 23) dL_law_3109 rfl ?_
    exact Wp.lcl [1, 2, 3, 4, 0] rfl h
  · replace h := h.2 hc
    refine Wp_dload 1 dL_law_2518 rfl ?_
    refine Wp_dload 1 dL_law_2520 rfl ?_
    refine Wp_dcmp dL_law_2522 ?_
    refine Wp_if_eq (tgt := 2534) dL_law_2523 rfl (fun hc => ?_) (fun hc => ?_)
    · replace h := h.1 hc
      refine Wp_iconst dL_law_2534 (v := 0) rfl ?_
      exact Wp_ireturn dL_law_2535 rfl (by decide) h
    · replace h := h.2 hc
      refine Wp_dload 0 dL_law_2526 rfl ?_
      refine Wp_dload 0 dL_law_2528 rfl ?_
      refine Wp_dcmp dL_law_2530 ?_
      refine Wp_if_ne (tgt := 2536) dL_law_2531 rfl (fun hc => ?_) (fun hc => ?_)
      · replace h := h.1 hc
        refine Wp_goto (tgt := 3106) dL_law_2536 rfl ?_
        refine Wp_iinc 6 [0, 3, 4, 5, 6] (ls' := [(4, vI (z4 + 6)), (0, vP (209, t0, r0)), (1, vP (1, 0, r1)), (2, vP (5, 0, r2)), (3, vP (203, t3, r3))]) dL_law_3106 rfl (v := 6) rfl (zlt rfl) rfl ?_
        refine Wp_goto (tgt := 23) dL_law_3109 rfl ?_
        exact Wp.lcl [1, 2, 3, 4, 0] rfl h
      · replace h := h.2 hc
        refine Wp_iconst dL_law_2534 (v := 0) rfl ?_
        exact Wp_ireturn dL_law_2535 rfl (by decide) h
theorem B_L_law_2539 {G : ZG} {μ : ZM} {Q : Option ZV → ZM → Prop} {E : ZP → ZM → Prop} {t0 : Nat} {r0 : Nat} {r1 : Nat} {r2 : Nat} {t3 : Nat} {r3 : Nat} {z4 : Int32}
    (h : Call G Y_X1_employmentRate [vP (1, 0, r1)] μ (rF fun f1 ν1 => vf_n64 (FP.f2d f1) ∧ Call G Y_X5_employmentRate [vP (5, 0, r2)] ν1 (rF fun f2 ν2 => vf_n64 (FP.f2d f2) ∧ ((Op.cmpValue (FP.dcmp (FP.f2d f1) (FP.f2d f2)) .l) = 0 → Wp G Y_L_law 23 [(0, vP (209, t0, r0)), (1, vP (1, 0, r1)), (2, vP (5, 0, r2)), (3, vP (203, t3, r3)), (4, vI (z4 + 6))] [] ν2 Q E) ∧ (¬ (Op.cmpValue (FP.dcmp (FP.f2d f1) (FP.f2d f2)) .l) = 0 → (((Op.cmpValue (FP.dcmp (FP.f2d f1) (FP.f2d f1)) .l) = 0 → Q (some (vI 0)) ν2) ∧ (¬ (Op.cmpValue (FP.dcmp (FP.f2d f1) (FP.f2d f1)) .l) = 0 → ((¬ (Op.cmpValue (FP.dcmp (FP.f2d f2) (FP.f2d f2)) .l) = 0 → Wp G Y_L_law 23 [(0, vP (209, t0, r0)), (1, vP (1, 0, r1)), (2, vP (5, 0, r2)), (3, vP (203, t3, r3)), (4, vI (z4 + 6))] [] ν2 Q E) ∧ ((Op.cmpValue (FP.dcmp (FP.f2d f2) (FP.f2d f2)) .l) = 0 → Q (some (vI 0)) ν2)))))) (fun q ν => zkc q.1 = true ∧ E q ν)) (fun q ν => zkc q.1 = true ∧ E q ν)) : Wp G Y_L_law 2539 [(0, vP (209, t0, r0)), (1, vP (1, 0, r1)), (2, vP (5, 0, r2)), (3, vP (203, t3, r3)), (4, vI z4)] [] μ Q E := by
  refine Wp_aload_n 1 dL_law_2539 rfl rfl ?_
  refine Wp_vown Y_X1_employmentRate (1, 0, r1) [] K_X1_employmentRate KI_X1_employmentRate q2201 rfl rfl rfl q2199 dL_law_2540 KS_X1_employmentRate (zlt rfl) (Nat.le_of_ble_eq_true rfl) rfl (Call.toF h rfl fun f1 ν1 h => ?_)
  obtain ⟨h0, h⟩ := h
  refine Wp_f2d dL_law_2543 h0 ?_
  refine Wp_dstore [0, 1, 2, 3, 4, 5] (ls' := [(5, vD (FP.f2d f1)), (0, vP (209, t0, r0)), (1, vP (1, 0, r1)), (2, vP (5, 0, r2)), (3, vP (203, t3, r3)), (4, vI z4)]) dL_law_2544 (zlt rfl) rfl ?_
  refine Wp_aload_n 3 dL_law_2546 rfl rfl ?_
  refine Wp_vown Y_X5_employmentRate (5, 0, r2) [] K_X5_employmentRate KI_X5_employmentRate q4497 rfl rfl rfl q4495 dL_law_2547 KS_X5_employmentRate (zlt rfl) (Nat.le_of_ble_eq_true rfl) rfl (Call.toF h rfl fun f2 ν2 h => ?_)
  obtain ⟨h0, h⟩ := h
  refine Wp_f2d dL_law_2550 h0 ?_
  refine Wp_dstore [0, 1, 2, 3, 4, 5, 6] (ls' := [(7, vD (FP.f2d f2)), (5, vD (FP.f2d f1)), (0, vP (209, t0, r0)), (1, vP (1, 0, r1)), (2, vP (5, 0, r2)), (3, vP (203, t3, r3)), (4, vI z4)]) dL_law_2551 (zlt rfl) rfl ?_
  refine Wp_dload 1 dL_law_2553 rfl ?_
  refine Wp_dload 0 dL_law_2555 rfl ?_
  refine Wp_dcmp dL_law_2557 ?_
  refine Wp_if_eq (tgt := 2579) dL_law_2558 rfl (fun hc => ?_) (fun hc => ?_)
  · replace h := h.1 hc
    refine Wp_goto (tgt := 3106) dL_law_2579 rfl ?_
    refine Wp_iinc 6 [0, 3, 4, 5, 6] (ls' := [(4, vI (z4 + 6)), (0, vP (209, t0, r0)), (1, vP (1, 0, r1)), (2, vP (5, 0, r2)), (3, vP (203, t3, r3))]) dL_law_3106 rfl (v := 6) rfl (zlt rfl) rfl ?_
    refine Wp_goto (tgt := 23) dL_law_3109 rfl ?_
    exact Wp.lcl [1, 2, 3, 4, 0] rfl h
  · replace h := h.2 hc
    refine Wp_dload 1 dL_law_2561 rfl ?_
    refine Wp_dload 1 dL_law_2563 rfl ?_
    refine Wp_dcmp dL_law_2565 ?_
    refine Wp_if_eq (tgt := 2577) dL_law_2566 rfl (fun hc => ?_) (fun hc => ?_)
    · replace h := h.1 hc
      refine Wp_iconst dL_law_2577 (v := 0) rfl ?_
      exact Wp_ireturn dL_law_2578 rfl (by decide) h
    · replace h := h.2 hc
      refine Wp_dload 0 dL_law_2569 rfl ?_
      refine Wp_dload 0 dL_law_2571 rfl ?_
      refine Wp_dcmp dL_law_2573 ?_
      refine Wp_if_ne (tgt := 2579) dL_law_2574 rfl (fun hc => ?_) (fun hc => ?_)
      · replace h := h.1 hc
        refine Wp_goto (tgt := 3106) dL_law_2579 rfl ?_
        refine Wp_iinc 6 [0, 3, 4, 5, 6] (ls' := [(4, vI (z4 + 6)), (0, vP (209, t0, r0)), (1, vP (1, 0, r1)), (2, vP (5, 0, r2)), (3, vP (203, t3, r3))]) dL_law_3106 rfl (v := 6) rfl (zlt rfl) rfl ?_
        refine Wp_goto (tgt := 23) dL_law_3109 rfl ?_
        exact Wp.lcl [1, 2, 3, 4, 0] rfl h
      · replace h := h.2 hc
        refine Wp_iconst dL_law_2577 (v := 0) rfl ?_
        exact Wp_ireturn dL_law_2578 rfl (by decide) h
theorem B_L_law_2582 {G : ZG} {μ : ZM} {Q : Option ZV → ZM → Prop} {E : ZP → ZM → Prop} {t0 : Nat} {r0 : Nat} {r1 : Nat} {r2 : Nat} {t3 : Nat} {r3 : Nat} {z4 : Int32}
    (h : ∃ j1, zix (z4 + 1) j1 t0 ∧ ∃ x1, zai μ r0 j1 = x1 ∧ Call G Y_X0_passDays [vP (1, 0, r1), vI x1, vP (203, t3, r3)] μ (rI fun x2 ν1 => ∃ j2, zix (z4 + 1) j2 t0 ∧ ∃ x3, zai ν1 r0 j2 = x3 ∧ Call G Y_X5_passDays [vP (5, 0, r2), vI x3] ν1 (rI fun x4 ν2 => Call G Y_X5_thrown [vP (5, 0, r2)] ν2 (rI fun x5 ν3 => (x5 = x2 → ((¬ x2 = 0 → Wp G Y_L_law 23 [(0, vP (209, t0, r0)), (1, vP (1, 0, r1)), (2, vP (5, 0, r2)), (3, vP (203, t3, r3)), (4, vI (z4 + 6))] [] ν3 Q E) ∧ (x2 = 0 → (0 < t3 ∧ ∃ l1, zal ν3 r3 0 = l1 ∧ ((lg_cmp l1 x4.toInt64) = 0 → Wp G Y_L_law 23 [(0, vP (209, t0, r0)), (1, vP (1, 0, r1)), (2, vP (5, 0, r2)), (3, vP (203, t3, r3)), (4, vI (z4 + 6))] [] ν3 Q E) ∧ (¬ (lg_cmp l1 x4.toInt64) = 0 → Q (some (vI 0)) ν3))))) ∧ (¬ x5 = x2 → Q (some (vI 0)) ν3)) (fun q ν => zkc q.1 = true ∧ E q ν)) (fun q ν => zkc q.1 = true ∧ E q ν)) (fun q ν => zkc q.1 = true ∧ E q ν)) : Wp G Y_L_law 2582 [(0, vP (209, t0, r0)), (1, vP (1, 0, r1)), (2, vP (5, 0, r2)), (3, vP (203, t3, r3)), (4, vI z4)] [] μ Q E := by
  refine Wp_aload_n 1 dL_law_2582 rfl rfl ?_
  refine Wp_aload_n 0 dL_law_2583 rfl rfl ?_
  refine Wp_iload 4 dL_law_2584 rfl ?_
  refine Wp_iconst dL_law_2586 (v := 1) rfl ?_
  refine Wp_iadd dL_law_2587 ?_
  obtain ⟨j1, hj1, h⟩ := h
  obtain ⟨x1, e1, h⟩ := h
  refine Wg_iald dL_law_2588 rfl hj1 e1 ?_
  refine Wp_aload_n 3 dL_law_2589 rfl rfl ?_
  refine Wp_stat Y_X0_passDays [vP (1, 0, r1), vI x1, vP (203, t3, r3)] K_X0_passDays KS_X0_passDays KT_X0_passDays rfl q3718 dL_law_2590 (zlt rfl) (Nat.le_of_ble_eq_true rfl) rfl (Call.toI h rfl fun x2 ν1 h => ?_)
  refine Wp_istore [0, 1, 2, 3, 4, 5] (ls' := [(5, vI x2), (0, vP (209, t0, r0)), (1, vP (1, 0, r1)), (2, vP (5, 0, r2)), (3, vP (203, t3, r3)), (4, vI z4)]) dL_law_2593 (zlt rfl) rfl ?_
  refine Wp_aload_n 3 dL_law_2595 rfl rfl ?_
  refine Wp_aload_n 1 dL_law_2596 rfl rfl ?_
  refine Wp_iload 5 dL_law_2597 rfl ?_
  refine Wp_iconst dL_law_2599 (v := 1) rfl ?_
  refine Wp_iadd dL_law_2600 ?_
  obtain ⟨j2, hj2, h⟩ := h
  obtain ⟨x3, e2, h⟩ := h
  refine Wg_iald dL_law_2601 rfl hj2 e2 ?_
  refine Wp_vown Y_X5_passDays (5, 0, r2) [vI x3] K_X5_passDays KI_X5_passDays q4501 rfl rfl rfl q4499 dL_law_2602 KS_X5_passDays (zlt rfl) (Nat.le_of_ble_eq_true rfl) rfl (Call.toI h rfl fun x4 ν2 h => ?_)
  refine Wp_istore [0, 1, 2, 3, 4, 5, 6] (ls' := [(6, vI x4), (5, vI x2), (0, vP (209, t0, r0)), (1, vP (1, 0, r1)), (2, vP (5, 0, r2)), (3, vP (203, t3, r3)), (4, vI z4)]) dL_law_2605 (zlt rfl) rfl ?_
  refine Wp_aload_n 4 dL_law_2607 rfl rfl ?_
  refine Wp_vown Y_X5_thrown (5, 0, r2) [] K_X5_thrown KI_X5_thrown q4025 rfl rfl rfl q4023 dL_law_2608 KS_X5_thrown (zlt rfl) (Nat.le_of_ble_eq_true rfl) rfl (Call.toI h rfl fun x5 ν3 h => ?_)
  refine Wp_iload 1 dL_law_2611 rfl ?_
  refine Wp_icmp_eq (tgt := 2618) dL_law_2613 rfl (fun hc => ?_) (fun hc => ?_)
  · replace h := h.1 hc
    refine Wp_iload 1 dL_law_2618 rfl ?_
    refine Wp_if_ne (tgt := 2635) dL_law_2620 rfl (fun hc => ?_) (fun hc => ?_)
    · replace h := h.1 hc
      refine Wp_goto (tgt := 3106) dL_law_2635 rfl ?_
      refine Wp_iinc 6 [0, 3, 4, 5, 6] (ls' := [(4, vI (z4 + 6)), (0, vP (209, t0, r0)), (1, vP (1, 0, r1)), (2, vP (5, 0, r2)), (3, vP (203, t3, r3))]) dL_law_3106 rfl (v := 6) rfl (zlt rfl) rfl ?_
      refine Wp_goto (tgt := 23) dL_law_3109 rfl ?_
      exact Wp.lcl [1, 2, 3, 4, 0] rfl h
    · replace h := h.2 hc
      refine Wp_aload_n 5 dL_law_2623 rfl rfl ?_
      refine Wp_iconst dL_law_2624 (v := 0) rfl ?_
      obtain ⟨hi1, h⟩ := h
      obtain ⟨l1, e3, h⟩ := h
      refine Wg_lald dL_law_2625 rfl ⟨rfl, hi1, by decide⟩ e3 ?_
      refine Wp_iload 0 dL_law_2626 rfl ?_
      refine Wp_i2l dL_law_2628 ?_
      refine Wp_lcmp dL_law_2629 ?_
      refine Wp_if_eq (tgt := 2635) dL_law_2630 rfl (fun hc => ?_) (fun hc => ?_)
      · replace h := h.1 hc
        refine Wp_goto (tgt := 3106) dL_law_2635 rfl ?_
        refine Wp_iinc 6 [0, 3, 4, 5, 6] (ls' := [(4, vI (z4 + 6)), (0, vP (209, t0, r0)), (1, vP (1, 0, r1)), (2, vP (5, 0, r2)), (3, vP (203, t3, r3))]) dL_law_3106 rfl (v := 6) rfl (zlt rfl) rfl ?_
        refine Wp_goto (tgt := 23) dL_law_3109 rfl ?_
        exact Wp.lcl [1, 2, 3, 4, 0] rfl h
      · replace h := h.2 hc
        refine Wp_iconst dL_law_2633 (v := 0) rfl ?_
        exact Wp_ireturn dL_law_2634 rfl (by decide) h
  · replace h := h.2 hc
    refine Wp_iconst dL_law_2616 (v := 0) rfl ?_
    exact Wp_ireturn dL_law_2617 rfl (by decide) h
theorem B_L_law_2638 {G : ZG} {μ : ZM} {Q : Option ZV → ZM → Prop} {E : ZP → ZM → Prop} {t0 : Nat} {r0 : Nat} {r1 : Nat} {r2 : Nat} {t3 : Nat} {r3 : Nat} {z4 : Int32}
    (h : Call G Y_X1_holdFair [vP (1, 0, r1)] μ (rI fun x1 ν1 => Call G Y_X5_holdFair [vP (5, 0, r2)] ν1 (rI fun x2 ν2 => (x1 = x2 → Wp G Y_L_law 23 [(0, vP (209, t0, r0)), (1, vP (1, 0, r1)), (2, vP (5, 0, r2)), (3, vP (203, t3, r3)), (4, vI (z4 + 6))] [] ν2 Q E) ∧ (¬ x1 = x2 → Q (some (vI 0)) ν2)) (fun q ν => zkc q.1 = true ∧ E q ν)) (fun q ν => zkc q.1 = true ∧ E q ν)) : Wp G Y_L_law 2638 [(0, vP (209, t0, r0)), (1, vP (1, 0, r1)), (2, vP (5, 0, r2)), (3, vP (203, t3, r3)), (4, vI z4)] [] μ Q E := by
  refine Wp_aload_n 1 dL_law_2638 rfl rfl ?_
  refine Wp_vown Y_X1_holdFair (1, 0, r1) [] K_X1_holdFair KI_X1_holdFair q2205 rfl rfl rfl q2203 dL_law_2639 KS_X1_holdFair (zlt rfl) (Nat.le_of_ble_eq_true rfl) rfl (Call.toI h rfl fun x1 ν1 h => ?_)
  refine Wp_aload_n 2 dL_law_2642 rfl rfl ?_
  refine Wp_vown Y_X5_holdFair (5, 0, r2) [] K_X5_holdFair KI_X5_holdFair q4514 rfl rfl rfl q4512 dL_law_2643 KS_X5_holdFair (zlt rfl) (Nat.le_of_ble_eq_true rfl) rfl (Call.toI h rfl fun x2 ν2 h => ?_)
  refine Wp_icmp_eq (tgt := 3106) dL_law_2646 rfl (fun hc => ?_) (fun hc => ?_)
  · replace h := h.1 hc
    refine Wp_iinc 4 [0, 1, 2, 3, 4] (ls' := [(4, vI (z4 + 6)), (0, vP (209, t0, r0)), (1, vP (1, 0, r1)), (2, vP (5, 0, r2)), (3, vP (203, t3, r3))]) dL_law_3106 rfl (v := 6) rfl (zlt rfl) rfl ?_
    refine Wp_goto (tgt := 23) dL_law_3109 rfl ?_
    exact Wp.lcl [1, 2, 3, 4, 0] rfl h
  · replace h := h.2 hc
    refine Wp_iconst dL_law_2649 (v := 0) rfl ?_
    exact Wp_ireturn dL_law_2650 rfl (by decide) h
theorem B_L_law_2651 {G : ZG} {μ : ZM} {Q : Option ZV → ZM → Prop} {E : ZP → ZM → Prop} {t0 : Nat} {r0 : Nat} {r1 : Nat} {r2 : Nat} {t3 : Nat} {r3 : Nat} {z4 : Int32}
    (h : ∃ j1, zix (z4 + 1) j1 t0 ∧ ∃ x1, zai μ r0 j1 = x1 ∧ ∃ j2, zix (z4 + 2) j2 t0 ∧ ∃ x2, zai μ r0 j2 = x2 ∧ Call G Y_X0_test [vP (1, 0, r1), vI x1, vI x2, vP (203, t3, r3)] μ (rI fun x3 ν1 => ∃ j3, zix (z4 + 1) j3 t0 ∧ ∃ x4, zai ν1 r0 j3 = x4 ∧ ∃ j4, zix (z4 + 2) j4 t0 ∧ ∃ x5, zai ν1 r0 j4 = x5 ∧ Call G Y_X5_test [vP (5, 0, r2), vI x4, vI x5] ν1 (rI fun x6 ν2 => Call G Y_X5_thrown [vP (5, 0, r2)] ν2 (rI fun x7 ν3 => (x7 = x3 → ((¬ x3 = 0 → Wp G Y_L_law 23 [(0, vP (209, t0, r0)), (1, vP (1, 0, r1)), (2, vP (5, 0, r2)), (3, vP (203, t3, r3)), (4, vI (z4 + 6))] [] ν3 Q E) ∧ (x3 = 0 → (0 < t3 ∧ ∃ l1, zal ν3 r3 0 = l1 ∧ ((lg_cmp l1 x6.toInt64) = 0 → Wp G Y_L_law 23 [(0, vP (209, t0, r0)), (1, vP (1, 0, r1)), (2, vP (5, 0, r2)), (3, vP (203, t3, r3)), (4, vI (z4 + 6))] [] ν3 Q E) ∧ (¬ (lg_cmp l1 x6.toInt64) = 0 → Q (some (vI 0)) ν3))))) ∧ (¬ x7 = x3 → Q (some (vI 0)) ν3)) (fun q ν => zkc q.1 = true ∧ E q ν)) (fun q ν => zkc q.1 = true ∧ E q ν)) (fun q ν => zkc q.1 = true ∧ E q ν)) : Wp G Y_L_law 2651 [(0, vP (209, t0, r0)), (1, vP (1, 0, r1)), (2, vP (5, 0, r2)), (3, vP (203, t3, r3)), (4, vI z4)] [] μ Q E := by
  refine Wp_aload_n 1 dL_law_2651 rfl rfl ?_
  refine Wp_aload_n 0 dL_law_2652 rfl rfl ?_
  refine Wp_iload 4 dL_law_2653 rfl ?_
  refine Wp_iconst dL_law_2655 (v := 1) rfl ?_
  refine Wp_iadd dL_law_2656 ?_
  obtain ⟨j1, hj1, h⟩ := h
  obtain ⟨x1, e1, h⟩ := h
  refine Wg_iald dL_law_2657 rfl hj1 e1 ?_
  refine Wp_aload_n 0 dL_law_2658 rfl rfl ?_
  refine Wp_iload 4 dL_law_2659 rfl ?_
  refine Wp_iconst dL_law_2661 (v := 2) rfl ?_
  refine Wp_iadd dL_law_2662 ?_
  obtain ⟨j2, hj2, h⟩ := h
  obtain ⟨x2, e2, h⟩ := h
  refine Wg_iald dL_law_2663 rfl hj2 e2 ?_
  refine Wp_aload_n 3 dL_law_2664 rfl rfl ?_
  refine Wp_stat Y_X0_test [vP (1, 0, r1), vI x1, vI x2, vP (203, t3, r3)] K_X0_test KS_X0_test KT_X0_test rfl q3729 dL_law_2665 (zlt rfl) (Nat.le_of_ble_eq_true rfl) rfl (Call.toI h rfl fun x3 ν1 h => ?_)
  refine Wp_istore [0, 1, 2, 3, 4, 5] (ls' := [(5, vI x3), (0, vP (209, t0, r0)), (1, vP (1, 0, r1)), (2, vP (5, 0, r2)), (3, vP (203, t3, r3)), (4, vI z4)]) dL_law_2668 (zlt rfl) rfl ?_
  refine Wp_aload_n 3 dL_law_2670 rfl rfl ?_
  refine Wp_aload_n 1 dL_law_2671 rfl rfl ?_
  refine Wp_iload 5 dL_law_2672 rfl ?_
  refine Wp_iconst dL_law_2674 (v := 1) rfl ?_
  refine Wp_iadd dL_law_2675 ?_
  obtain ⟨j3, hj3, h⟩ := h
  obtain ⟨x4, e3, h⟩ := h
  refine Wg_iald dL_law_2676 rfl hj3 e3 ?_
  refine Wp_aload_n 1 dL_law_2677 rfl rfl ?_
  refine Wp_iload 5 dL_law_2678 rfl ?_
  refine Wp_iconst dL_law_2680 (v := 2) rfl ?_
  refine Wp_iadd dL_law_2681 ?_
  obtain ⟨j4, hj4, h⟩ := h
  obtain ⟨x5, e4, h⟩ := h
  refine Wg_iald dL_law_2682 rfl hj4 e4 ?_
  refine Wp_vown Y_X5_test (5, 0, r2) [vI x4, vI x5] K_X5_test KI_X5_test q4518 rfl rfl rfl q4516 dL_law_2683 KS_X5_test (zlt rfl) (Nat.le_of_ble_eq_true rfl) rfl (Call.toI h rfl fun x6 ν2 h => ?_)
  refine Wp_istore [0, 1, 2, 3, 4, 5, 6] (ls' := [(6, vI x6), (5, vI x3), (0, vP (209, t0, r0)), (1, vP (1, 0, r1)), (2, vP (5, 0, r2)), (3, vP (203, t3, r3)), (4, vI z4)]) dL_law_2686 (zlt rfl) rfl ?_
  refine Wp_aload_n 4 dL_law_2688 rfl rfl ?_
  refine Wp_vown Y_X5_thrown (5, 0, r2) [] K_X5_thrown KI_X5_thrown q4025 rfl rfl rfl q4023 dL_law_2689 KS_X5_thrown (zlt rfl) (Nat.le_of_ble_eq_true rfl) rfl (Call.toI h rfl fun x7 ν3 h => ?_)
  refine Wp_iload 1 dL_law_2692 rfl ?_
  refine Wp_icmp_eq (tgt := 2699) dL_law_2694 rfl (fun hc => ?_) (fun hc => ?_)
  · replace h := h.1 hc
    refine Wp_iload 1 dL_law_2699 rfl ?_
    refine Wp_if_ne (tgt := 2716) dL_law_2701 rfl (fun hc => ?_) (fun hc => ?_)
    · replace h := h.1 hc
      refine Wp_goto (tgt := 3106) dL_law_2716 rfl ?_
      refine Wp_iinc 6 [0, 3, 4, 5, 6] (ls' := [(4, vI (z4 + 6)), (0, vP (209, t0, r0)), (1, vP (1, 0, r1)), (2, vP (5, 0, r2)), (3, vP (203, t3, r3))]) dL_law_3106 rfl (v := 6) rfl (zlt rfl) rfl ?_
      refine Wp_goto (tgt := 23) dL_law_3109 rfl ?_
      exact Wp.lcl [1, 2, 3, 4, 0] rfl h
    · replace h := h.2 hc
      refine Wp_aload_n 5 dL_law_2704 rfl rfl ?_
      refine Wp_iconst dL_law_2705 (v := 0) rfl ?_
      obtain ⟨hi1, h⟩ := h
      obtain ⟨l1, e5, h⟩ := h
      refine Wg_lald dL_law_2706 rfl ⟨rfl, hi1, by decide⟩ e5 ?_
      refine Wp_iload 0 dL_law_2707 rfl ?_
      refine Wp_i2l dL_law_2709 ?_
      refine Wp_lcmp dL_law_2710 ?_
      refine Wp_if_eq (tgt := 2716) dL_law_2711 rfl (fun hc => ?_) (fun hc => ?_)
      · replace h := h.1 hc
        refine Wp_goto (tgt := 3106) dL_law_2716 rfl ?_
        refine Wp_iinc 6 [0, 3, 4, 5, 6] (ls' := [(4, vI (z4 + 6)), (0, vP (209, t0, r0)), (1, vP (1, 0, r1)), (2, vP (5, 0, r2)), (3, vP (203, t3, r3))]) dL_law_3106 rfl (v := 6) rfl (zlt rfl) rfl ?_
        refine Wp_goto (tgt := 23) dL_law_3109 rfl ?_
        exact Wp.lcl [1, 2, 3, 4, 0] rfl h
      · replace h := h.2 hc
        refine Wp_iconst dL_law_2714 (v := 0) rfl ?_
        exact Wp_ireturn dL_law_2715 rfl (by decide) h
  · replace h := h.2 hc
    refine Wp_iconst dL_law_2697 (v := 0) rfl ?_
    exact Wp_ireturn dL_law_2698 rfl (by decide) h
theorem B_L_law_2719 {G : ZG} {μ : ZM} {Q : Option ZV → ZM → Prop} {E : ZP → ZM → Prop} {t0 : Nat} {r0 : Nat} {r1 : Nat} {r2 : Nat} {t3 : Nat} {r3 : Nat} {z4 : Int32}
    (h : ∃ j1, zix (z4 + 1) j1 t0 ∧ ∃ x1, zai μ r0 j1 = x1 ∧ Call G Y_X0_dismiss [vP (1, 0, r1), vI x1, vP (203, t3, r3)] μ (rI fun x2 ν1 => ∃ j2, zix (z4 + 1) j2 t0 ∧ ∃ x3, zai ν1 r0 j2 = x3 ∧ Call G Y_X5_dismiss [vP (5, 0, r2), vI x3] ν1 (rI fun x4 ν2 => Call G Y_X5_thrown [vP (5, 0, r2)] ν2 (rI fun x5 ν3 => (x5 = x2 → ((¬ x2 = 0 → Wp G Y_L_law 23 [(0, vP (209, t0, r0)), (1, vP (1, 0, r1)), (2, vP (5, 0, r2)), (3, vP (203, t3, r3)), (4, vI (z4 + 6))] [] ν3 Q E) ∧ (x2 = 0 → (0 < t3 ∧ ∃ l1, zal ν3 r3 0 = l1 ∧ ((lg_cmp l1 x4.toInt64) = 0 → Wp G Y_L_law 23 [(0, vP (209, t0, r0)), (1, vP (1, 0, r1)), (2, vP (5, 0, r2)), (3, vP (203, t3, r3)), (4, vI (z4 + 6))] [] ν3 Q E) ∧ (¬ (lg_cmp l1 x4.toInt64) = 0 → Q (some (vI 0)) ν3))))) ∧ (¬ x5 = x2 → Q (some (vI 0)) ν3)) (fun q ν => zkc q.1 = true ∧ E q ν)) (fun q ν => zkc q.1 = true ∧ E q ν)) (fun q ν => zkc q.1 = true ∧ E q ν)) : Wp G Y_L_law 2719 [(0, vP (209, t0, r0)), (1, vP (1, 0, r1)), (2, vP (5, 0, r2)), (3, vP (203, t3, r3)), (4, vI z4)] [] μ Q E := by
  refine Wp_aload_n 1 dL_law_2719 rfl rfl ?_
  refine Wp_aload_n 0 dL_law_2720 rfl rfl ?_
  refine Wp_iload 4 dL_law_2721 rfl ?_
  refine Wp_iconst dL_law_2723 (v := 1) rfl ?_
  refine Wp_iadd dL_law_2724 ?_
  obtain ⟨j1, hj1, h⟩ := h
  obtain ⟨x1, e1, h⟩ := h
  refine Wg_iald dL_law_2725 rfl hj1 e1 ?_
  refine Wp_aload_n 3 dL_law_2726 rfl rfl ?_
  refine Wp_stat Y_X0_dismiss [vP (1, 0, r1), vI x1, vP (203, t3, r3)] K_X0_dismiss KS_X0_dismiss KT_X0_dismiss rfl q3739 dL_law_2727 (zlt rfl) (Nat.le_of_ble_eq_true rfl) rfl (Call.toI h rfl fun x2 ν1 h => ?_)
  refine Wp_istore [0, 1, 2, 3, 4, 5] (ls' := [(5, vI x2), (0, vP (209, t0, r0)), (1, vP (1, 0, r1)), (2, vP (5, 0, r2)), (3, vP (203, t3, r3)), (4, vI z4)]) dL_law_2730 (zlt rfl) rfl ?_
  refine Wp_aload_n 3 dL_law_2732 rfl rfl ?_
  refine Wp_aload_n 1 dL_law_2733 rfl rfl ?_
  refine Wp_iload 5 dL_law_2734 rfl ?_
  refine Wp_iconst dL_law_2736 (v := 1) rfl ?_
  refine Wp_iadd dL_law_2737 ?_
  obtain ⟨j2, hj2, h⟩ := h
  obtain ⟨x3, e2, h⟩ := h
  refine Wg_iald dL_law_2738 rfl hj2 e2 ?_
  refine Wp_vown Y_X5_dismiss (5, 0, r2) [vI x3] K_X5_dismiss KI_X5_dismiss q4522 rfl rfl rfl q4520 dL_law_2739 KS_X5_dismiss (zlt rfl) (Nat.le_of_ble_eq_true rfl) rfl (Call.toI h rfl fun x4 ν2 h => ?_)
  refine Wp_istore [0, 1, 2, 3, 4, 5, 6] (ls' := [(6, vI x4), (5, vI x2), (0, vP (209, t0, r0)), (1, vP (1, 0, r1)), (2, vP (5, 0, r2)), (3, vP (203, t3, r3)), (4, vI z4)]) dL_law_2742 (zlt rfl) rfl ?_
  refine Wp_aload_n 4 dL_law_2744 rfl rfl ?_
  refine Wp_vown Y_X5_thrown (5, 0, r2) [] K_X5_thrown KI_X5_thrown q4025 rfl rfl rfl q4023 dL_law_2745 KS_X5_thrown (zlt rfl) (Nat.le_of_ble_eq_true rfl) rfl (Call.toI h rfl fun x5 ν3 h => ?_)
  refine Wp_iload 1 dL_law_2748 rfl ?_
  refine Wp_icmp_eq (tgt := 2755) dL_law_2750 rfl (fun hc => ?_) (fun hc => ?_)
  · replace h := h.1 hc
    refine Wp_iload 1 dL_law_2755 rfl ?_
    refine Wp_if_ne (tgt := 2772) dL_law_2757 rfl (fun hc => ?_) (fun hc => ?_)
    · replace h := h.1 hc
      refine Wp_goto (tgt := 3106) dL_law_2772 rfl ?_
      refine Wp_iinc 6 [0, 3, 4, 5, 6] (ls' := [(4, vI (z4 + 6)), (0, vP (209, t0, r0)), (1, vP (1, 0, r1)), (2, vP (5, 0, r2)), (3, vP (203, t3, r3))]) dL_law_3106 rfl (v := 6) rfl (zlt rfl) rfl ?_
      refine Wp_goto (tgt := 23) dL_law_3109 rfl ?_
      exact Wp.lcl [1, 2, 3, 4, 0] rfl h
    · replace h := h.2 hc
      refine Wp_aload_n 5 dL_law_2760 rfl rfl ?_
      refine Wp_iconst dL_law_2761 (v := 0) rfl ?_
      obtain ⟨hi1, h⟩ := h
      obtain ⟨l1, e3, h⟩ := h
      refine Wg_lald dL_law_2762 rfl ⟨rfl, hi1, by decide⟩ e3 ?_
      refine Wp_iload 0 dL_law_2763 rfl ?_
      refine Wp_i2l dL_law_2765 ?_
      refine Wp_lcmp dL_law_2766 ?_
      refine Wp_if_eq (tgt := 2772) dL_law_2767 rfl (fun hc => ?_) (fun hc => ?_)
      · replace h := h.1 hc
        refine Wp_goto (tgt := 3106) dL_law_2772 rfl ?_
        refine Wp_iinc 6 [0, 3, 4, 5, 6] (ls' := [(4, vI (z4 + 6)), (0, vP (209, t0, r0)), (1, vP (1, 0, r1)), (2, vP (5, 0, r2)), (3, vP (203, t3, r3))]) dL_law_3106 rfl (v := 6) rfl (zlt rfl) rfl ?_
        refine Wp_goto (tgt := 23) dL_law_3109 rfl ?_
        exact Wp.lcl [1, 2, 3, 4, 0] rfl h
      · replace h := h.2 hc
        refine Wp_iconst dL_law_2770 (v := 0) rfl ?_
        exact Wp_ireturn dL_law_2771 rfl (by decide) h
  · replace h := h.2 hc
    refine Wp_iconst dL_law_2753 (v := 0) rfl ?_
    exact Wp_ireturn dL_law_2754 rfl (by decide) h
theorem B_L_law_2775 {G : ZG} {μ : ZM} {Q : Option ZV → ZM → Prop} {E : ZP → ZM → Prop} {t0 : Nat} {r0 : Nat} {r1 : Nat} {r2 : Nat} {t3 : Nat} {r3 : Nat} {z4 : Int32}
    (h : ∃ j1, zix (z4 + 1) j1 t0 ∧ ∃ x1, zai μ r0 j1 = x1 ∧ ∃ j2, zix (z4 + 2) j2 t0 ∧ ∃ x2, zai μ r0 j2 = x2 ∧ Call G Y_X0_setWage [vP (1, 0, r1), vI x1, vI x2, vP (203, t3, r3)] μ (rI fun x3 ν1 => ∃ j3, zix (z4 + 1) j3 t0 ∧ ∃ x4, zai ν1 r0 j3 = x4 ∧ ∃ j4, zix (z4 + 2) j4 t0 ∧ ∃ x5, zai ν1 r0 j4 = x5 ∧ Call G Y_X5_setWage [vP (5, 0, r2), vI x4, vI x5] ν1 (rI fun x6 ν2 => Call G Y_X5_thrown [vP (5, 0, r2)] ν2 (rI fun x7 ν3 => (x7 = x3 → ((¬ x3 = 0 → Wp G Y_L_law 23 [(0, vP (209, t0, r0)), (1, vP (1, 0, r1)), (2, vP (5, 0, r2)), (3, vP (203, t3, r3)), (4, vI (z4 + 6))] [] ν3 Q E) ∧ (x3 = 0 → (0 < t3 ∧ ∃ l1, zal ν3 r3 0 = l1 ∧ ((lg_cmp l1 x6.toInt64) = 0 → Wp G Y_L_law 23 [(0, vP (209, t0, r0)), (1, vP (1, 0, r1)), (2, vP (5, 0, r2)), (3, vP (203, t3, r3)), (4, vI (z4 + 6))] [] ν3 Q E) ∧ (¬ (lg_cmp l1 x6.toInt64) = 0 → Q (some (vI 0)) ν3))))) ∧ (¬ x7 = x3 → Q (some (vI 0)) ν3)) (fun q ν => zkc q.1 = true ∧ E q ν)) (fun q ν => zkc q.1 = true ∧ E q ν)) (fun q ν => zkc q.1 = true ∧ E q ν)) : Wp G Y_L_law 2775 [(0, vP (209, t0, r0)), (1, vP (1, 0, r1)), (2, vP (5, 0, r2)), (3, vP (203, t3, r3)), (4, vI z4)] [] μ Q E := by
  refine Wp_aload_n 1 dL_law_2775 rfl rfl ?_
  refine Wp_aload_n 0 dL_law_2776 rfl rfl ?_
  refine Wp_iload 4 dL_law_2777 rfl ?_
  refine Wp_iconst dL_law_2779 (v := 1) rfl ?_
  refine Wp_iadd dL_law_2780 ?_
  obtain ⟨j1, hj1, h⟩ := h
  obtain ⟨x1, e1, h⟩ := h
  refine Wg_iald dL_law_2781 rfl hj1 e1 ?_
  refine Wp_aload_n 0 dL_law_2782 rfl rfl ?_
  refine Wp_iload 4 dL_law_2783 rfl ?_
  refine Wp_iconst dL_law_2785 (v := 2) rfl ?_
  refine Wp_iadd dL_law_2786 ?_
  obtain ⟨j2, hj2, h⟩ := h
  obtain ⟨x2, e2, h⟩ := h
  refine Wg_iald dL_law_2787 rfl hj2 e2 ?_
  refine Wp_aload_n 3 dL_law_2788 rfl rfl ?_
  refine Wp_stat Y_X0_setWage [vP (1, 0, r1), vI x1, vI x2, vP (203, t3, r3)] K_X0_setWage KS_X0_setWage KT_X0_setWage rfl q3749 dL_law_2789 (zlt rfl) (Nat.le_of_ble_eq_true rfl) rfl (Call.toI h rfl fun x3 ν1 h => ?_)
  refine Wp_istore [0, 1, 2, 3, 4, 5] (ls' := [(5, vI x3), (0, vP (209, t0, r0)), (1, vP (1, 0, r1)), (2, vP (5, 0, r2)), (3, vP (203, t3, r3)), (4, vI z4)]) dL_law_2792 (zlt rfl) rfl ?_
  refine Wp_aload_n 3 dL_law_2794 rfl rfl ?_
  refine Wp_aload_n 1 dL_law_2795 rfl rfl ?_
  refine Wp_iload 5 dL_law_2796 rfl ?_
  refine Wp_iconst dL_law_2798 (v := 1) rfl ?_
  refine Wp_iadd dL_law_2799 ?_
  obtain ⟨j3, hj3, h⟩ := h
  obtain ⟨x4, e3, h⟩ := h
  refine Wg_iald dL_law_2800 rfl hj3 e3 ?_
  refine Wp_aload_n 1 dL_law_2801 rfl rfl ?_
  refine Wp_iload 5 dL_law_2802 rfl ?_
  refine Wp_iconst dL_law_2804 (v := 2) rfl ?_
  refine Wp_iadd dL_law_2805 ?_
  obtain ⟨j4, hj4, h⟩ := h
  obtain ⟨x5, e4, h⟩ := h
  refine Wg_iald dL_law_2806 rfl hj4 e4 ?_
  refine Wp_vown Y_X5_setWage (5, 0, r2) [vI x4, vI x5] K_X5_setWage KI_X5_setWage q4526 rfl rfl rfl q4524 dL_law_2807 KS_X5_setWage (zlt rfl) (Nat.le_of_ble_eq_true rfl) rfl (Call.toI h rfl fun x6 ν2 h => ?_)
  refine Wp_istore [0, 1, 2, 3, 4, 5, 6] (ls' := [(6, vI x6), (5, vI x3), (0, vP (209, t0, r0)), (1, vP (1, 0, r1)), (2, vP (5, 0, r2)), (3, vP (203, t3, r3)), (4, vI z4)]) dL_law_2810 (zlt rfl) rfl ?_
  refine Wp_aload_n 4 dL_law_2812 rfl rfl ?_
  refine Wp_vown Y_X5_thrown (5, 0, r2) [] K_X5_thrown KI_X5_thrown q4025 rfl rfl rfl q4023 dL_law_2813 KS_X5_thrown (zlt rfl) (Nat.le_of_ble_eq_true rfl) rfl (Call.toI h rfl fun x7 ν3 h => ?_)
  refine Wp_iload 1 dL_law_2816 rfl ?_
  refine Wp_icmp_eq (tgt := 2823) dL_law_2818 rfl (fun hc => ?_) (fun hc => ?_)
  · replace h := h.1 hc
    refine Wp_iload 1 dL_law_2823 rfl ?_
    refine Wp_if_ne (tgt := 2840) dL_law_2825 rfl (fun hc => ?_) (fun hc => ?_)
    · replace h := h.1 hc
      refine Wp_goto (tgt := 3106) dL_law_2840 rfl ?_
      refine Wp_iinc 6 [0, 3, 4, 5, 6] (ls' := [(4, vI (z4 + 6)), (0, vP (209, t0, r0)), (1, vP (1, 0, r1)), (2, vP (5, 0, r2)), (3, vP (203, t3, r3))]) dL_law_3106 rfl (v := 6) rfl (zlt rfl) rfl ?_
      refine Wp_goto (tgt := 23) dL_law_3109 rfl ?_
      exact Wp.lcl [1, 2, 3, 4, 0] rfl h
    · replace h := h.2 hc
      refine Wp_aload_n 5 dL_law_2828 rfl rfl ?_
      refine Wp_iconst dL_law_2829 (v := 0) rfl ?_
      obtain ⟨hi1, h⟩ := h
      obtain ⟨l1, e5, h⟩ := h
      refine Wg_lald dL_law_2830 rfl ⟨rfl, hi1, by decide⟩ e5 ?_
      refine Wp_iload 0 dL_law_2831 rfl ?_
      refine Wp_i2l dL_law_2833 ?_
      refine Wp_lcmp dL_law_2834 ?_
      refine Wp_if_eq (tgt := 2840) dL_law_2835 rfl (fun hc => ?_) (fun hc => ?_)
      · replace h := h.1 hc
        refine Wp_goto (tgt := 3106) dL_law_2840 rfl ?_
        refine Wp_iinc 6 [0, 3, 4, 5, 6] (ls' := [(4, vI (z4 + 6)), (0, vP (209, t0, r0)), (1, vP (1, 0, r1)), (2, vP (5, 0, r2)), (3, vP (203, t3, r3))]) dL_law_3106 rfl (v := 6) rfl (zlt rfl) rfl ?_
        refine Wp_goto (tgt := 23) dL_law_3109 rfl ?_
        exact Wp.lcl [1, 2, 3, 4, 0] rfl h
      · replace h := h.2 hc
        refine Wp_iconst dL_law_2838 (v := 0) rfl ?_
        exact Wp_ireturn dL_law_2839 rfl (by decide) h
  · replace h := h.2 hc
    refine Wp_iconst dL_law_2821 (v := 0) rfl ?_
    exact Wp_ireturn dL_law_2822 rfl (by decide) h
theorem B_L_law_2843 {G : ZG} {μ : ZM} {Q : Option ZV → ZM → Prop} {E : ZP → ZM → Prop} {t0 : Nat} {r0 : Nat} {r1 : Nat} {r2 : Nat} {t3 : Nat} {r3 : Nat} {z4 : Int32}
    (h : ∃ j1, zix (z4 + 1) j1 t0 ∧ ∃ x1, zai μ r0 j1 = x1 ∧ ∃ j2, zix (z4 + 2) j2 t0 ∧ ∃ x2, zai μ r0 j2 = x2 ∧ Call G Y_X0_fund [vP (1, 0, r1), vI x1, vI x2, vP (203, t3, r3)] μ (rI fun x3 ν1 => ∃ j3, zix (z4 + 1) j3 t0 ∧ ∃ x4, zai ν1 r0 j3 = x4 ∧ ∃ j4, zix (z4 + 2) j4 t0 ∧ ∃ x5, zai ν1 r0 j4 = x5 ∧ Call G Y_X5_fund [vP (5, 0, r2), vI x4, vI x5] ν1 (rI fun x6 ν2 => Call G Y_X5_thrown [vP (5, 0, r2)] ν2 (rI fun x7 ν3 => (x7 = x3 → ((¬ x3 = 0 → Wp G Y_L_law 23 [(0, vP (209, t0, r0)), (1, vP (1, 0, r1)), (2, vP (5, 0, r2)), (3, vP (203, t3, r3)), (4, vI (z4 + 6))] [] ν3 Q E) ∧ (x3 = 0 → (0 < t3 ∧ ∃ l1, zal ν3 r3 0 = l1 ∧ ((lg_cmp l1 x6.toInt64) = 0 → Wp G Y_L_law 23 [(0, vP (209, t0, r0)), (1, vP (1, 0, r1)), (2, vP (5, 0, r2)), (3, vP (203, t3, r3)), (4, vI (z4 + 6))] [] ν3 Q E) ∧ (¬ (lg_cmp l1 x6.toInt64) = 0 → Q (some (vI 0)) ν3))))) ∧ (¬ x7 = x3 → Q (some (vI 0)) ν3)) (fun q ν => zkc q.1 = true ∧ E q ν)) (fun q ν => zkc q.1 = true ∧ E q ν)) (fun q ν => zkc q.1 = true ∧ E q ν)) : Wp G Y_L_law 2843 [(0, vP (209, t0, r0)), (1, vP (1, 0, r1)), (2, vP (5, 0, r2)), (3, vP (203, t3, r3)), (4, vI z4)] [] μ Q E := by
  refine Wp_aload_n 1 dL_law_2843 rfl rfl ?_
  refine Wp_aload_n 0 dL_law_2844 rfl rfl ?_
  refine Wp_iload 4 dL_law_2845 rfl ?_
  refine Wp_iconst dL_law_2847 (v := 1) rfl ?_
  refine Wp_iadd dL_law_2848 ?_
  obtain ⟨j1, hj1, h⟩ := h
  obtain ⟨x1, e1, h⟩ := h
  refine Wg_iald dL_law_2849 rfl hj1 e1 ?_
  refine Wp_aload_n 0 dL_law_2850 rfl rfl ?_
  refine Wp_iload 4 dL_law_2851 rfl ?_
  refine Wp_iconst dL_law_2853 (v := 2) rfl ?_
  refine Wp_iadd dL_law_2854 ?_
  obtain ⟨j2, hj2, h⟩ := h
  obtain ⟨x2, e2, h⟩ := h
  refine Wg_iald dL_law_2855 rfl hj2 e2 ?_
  refine Wp_aload_n 3 dL_law_2856 rfl rfl ?_
  refine Wp_stat Y_X0_fund [vP (1, 0, r1), vI x1, vI x2, vP (203, t3, r3)] K_X0_fund KS_X0_fund KT_X0_fund rfl q3760 dL_law_2857 (zlt rfl) (Nat.le_of_ble_eq_true rfl) rfl (Call.toI h rfl fun x3 ν1 h => ?_)
  refine Wp_istore [0, 1, 2, 3, 4, 5] (ls' := [(5, vI x3), (0, vP (209, t0, r0)), (1, vP (1, 0, r1)), (2, vP (5, 0, r2)), (3, vP (203, t3, r3)), (4, vI z4)]) dL_law_2860 (zlt rfl) rfl ?_
  refine Wp_aload_n 3 dL_law_2862 rfl rfl ?_
  refine Wp_aload_n 1 dL_law_2863 rfl rfl ?_
  refine Wp_iload 5 dL_law_2864 rfl ?_
  refine Wp_iconst dL_law_2866 (v := 1) rfl ?_
  refine Wp_iadd dL_law_2867 ?_
  obtain ⟨j3, hj3, h⟩ := h
  obtain ⟨x4, e3, h⟩ := h
  refine Wg_iald dL_law_2868 rfl hj3 e3 ?_
  refine Wp_aload_n 1 dL_law_2869 rfl rfl ?_
  refine Wp_iload 5 dL_law_2870 rfl ?_
  refine Wp_iconst dL_law_2872 (v := 2) rfl ?_
  refine Wp_iadd dL_law_2873 ?_
  obtain ⟨j4, hj4, h⟩ := h
  obtain ⟨x5, e4, h⟩ := h
  refine Wg_iald dL_law_2874 rfl hj4 e4 ?_
  refine Wp_vown Y_X5_fund (5, 0, r2) [vI x4, vI x5] K_X5_fund KI_X5_fund q4531 rfl rfl rfl q4529 dL_law_2875 KS_X5_fund (zlt rfl) (Nat.le_of_ble_eq_true rfl) rfl (Call.toI h rfl fun x6 ν2 h => ?_)
  refine Wp_istore [0, 1, 2, 3, 4, 5, 6] (ls' := [(6, vI x6), (5, vI x3), (0, vP (209, t0, r0)), (1, vP (1, 0, r1)), (2, vP (5, 0, r2)), (3, vP (203, t3, r3)), (4, vI z4)]) dL_law_2878 (zlt rfl) rfl ?_
  refine Wp_aload_n 4 dL_law_2880 rfl rfl ?_
  refine Wp_vown Y_X5_thrown (5, 0, r2) [] K_X5_thrown KI_X5_thrown q4025 rfl rfl rfl q4023 dL_law_2881 KS_X5_thrown (zlt rfl) (Nat.le_of_ble_eq_true rfl) rfl (Call.toI h rfl fun x7 ν3 h => ?_)
  refine Wp_iload 1 dL_law_2884 rfl ?_
  refine Wp_icmp_eq (tgt := 2891) dL_law_2886 rfl (fun hc => ?_) (fun hc => ?_)
  · replace h := h.1 hc
    refine Wp_iload 1 dL_law_2891 rfl ?_
    refine Wp_if_ne (tgt := 2908) dL_law_2893 rfl (fun hc => ?_) (fun hc => ?_)
    · replace h := h.1 hc
      refine Wp_goto (tgt := 3106) dL_law_2908 rfl ?_
      refine Wp_iinc 6 [0, 3, 4, 5, 6] (ls' := [(4, vI (z4 + 6)), (0, vP (209, t0, r0)), (1, vP (1, 0, r1)), (2, vP (5, 0, r2)), (3, vP (203, t3, r3))]) dL_law_3106 rfl (v := 6) rfl (zlt rfl) rfl ?_
      refine Wp_goto (tgt := 23) dL_law_3109 rfl ?_
      exact Wp.lcl [1, 2, 3, 4, 0] rfl h
    · replace h := h.2 hc
      refine Wp_aload_n 5 dL_law_2896 rfl rfl ?_
      refine Wp_iconst dL_law_2897 (v := 0) rfl ?_
      obtain ⟨hi1, h⟩ := h
      obtain ⟨l1, e5, h⟩ := h
      refine Wg_lald dL_law_2898 rfl ⟨rfl, hi1, by decide⟩ e5 ?_
      refine Wp_iload 0 dL_law_2899 rfl ?_
      refine Wp_i2l dL_law_2901 ?_
      refine Wp_lcmp dL_law_2902 ?_
      refine Wp_if_eq (tgt := 2908) dL_law_2903 rfl (fun hc => ?_) (fun hc => ?_)
      · replace h := h.1 hc
        refine Wp_goto (tgt := 3106) dL_law_2908 rfl ?_
        refine Wp_iinc 6 [0, 3, 4, 5, 6] (ls' := [(4, vI (z4 + 6)), (0, vP (209, t0, r0)), (1, vP (1, 0, r1)), (2, vP (5, 0, r2)), (3, vP (203, t3, r3))]) dL_law_3106 rfl (v := 6) rfl (zlt rfl) rfl ?_
        refine Wp_goto (tgt := 23) dL_law_3109 rfl ?_
        exact Wp.lcl [1, 2, 3, 4, 0] rfl h
      · replace h := h.2 hc
        refine Wp_iconst dL_law_2906 (v := 0) rfl ?_
        exact Wp_ireturn dL_law_2907 rfl (by decide) h
  · replace h := h.2 hc
    refine Wp_iconst dL_law_2889 (v := 0) rfl ?_
    exact Wp_ireturn dL_law_2890 rfl (by decide) h
theorem B_L_law_2911 {G : ZG} {μ : ZM} {Q : Option ZV → ZM → Prop} {E : ZP → ZM → Prop} {t0 : Nat} {r0 : Nat} {r1 : Nat} {r2 : Nat} {t3 : Nat} {r3 : Nat} {z4 : Int32}
    (h : ∃ j1, zix (z4 + 1) j1 t0 ∧ ∃ x1, zai μ r0 j1 = x1 ∧ Call G Y_X0_train [vP (1, 0, r1), vI x1, vP (203, t3, r3)] μ (rI fun x2 ν1 => ∃ j2, zix (z4 + 1) j2 t0 ∧ ∃ x3, zai ν1 r0 j2 = x3 ∧ Call G Y_X5_train [vP (5, 0, r2), vI x3] ν1 (rI fun x4 ν2 => Call G Y_X5_thrown [vP (5, 0, r2)] ν2 (rI fun x5 ν3 => (x5 = x2 → ((¬ x2 = 0 → Wp G Y_L_law 23 [(0, vP (209, t0, r0)), (1, vP (1, 0, r1)), (2, vP (5, 0, r2)), (3, vP (203, t3, r3)), (4, vI (z4 + 6))] [] ν3 Q E) ∧ (x2 = 0 → (0 < t3 ∧ ∃ l1, zal ν3 r3 0 = l1 ∧ ((lg_cmp l1 x4.toInt64) = 0 → Wp G Y_L_law 23 [(0, vP (209, t0, r0)), (1, vP (1, 0, r1)), (2, vP (5, 0, r2)), (3, vP (203, t3, r3)), (4, vI (z4 + 6))] [] ν3 Q E) ∧ (¬ (lg_cmp l1 x4.toInt64) = 0 → Q (some (vI 0)) ν3))))) ∧ (¬ x5 = x2 → Q (some (vI 0)) ν3)) (fun q ν => zkc q.1 = true ∧ E q ν)) (fun q ν => zkc q.1 = true ∧ E q ν)) (fun q ν => zkc q.1 = true ∧ E q ν)) : Wp G Y_L_law 2911 [(0, vP (209, t0, r0)), (1, vP (1, 0, r1)), (2, vP (5, 0, r2)), (3, vP (203, t3, r3)), (4, vI z4)] [] μ Q E := by
  refine Wp_aload_n 1 dL_law_2911 rfl rfl ?_
  refine Wp_aload_n 0 dL_law_2912 rfl rfl ?_
  refine Wp_iload 4 dL_law_2913 rfl ?_
  refine Wp_iconst dL_law_2915 (v := 1) rfl ?_
  refine Wp_iadd dL_law_2916 ?_
  obtain ⟨j1, hj1, h⟩ := h
  obtain ⟨x1, e1, h⟩ := h
  refine Wg_iald dL_law_2917 rfl hj1 e1 ?_
  refine Wp_aload_n 3 dL_law_2918 rfl rfl ?_
  refine Wp_stat Y_X0_train [vP (1, 0, r1), vI x1, vP (203, t3, r3)] K_X0_train KS_X0_train KT_X0_train rfl q3771 dL_law_2919 (zlt rfl) (Nat.le_of_ble_eq_true rfl) rfl (Call.toI h rfl fun x2 ν1 h => ?_)
  refine Wp_istore [0, 1, 2, 3, 4, 5] (ls' := [(5, vI x2), (0, vP (209, t0, r0)), (1, vP (1, 0, r1)), (2, vP (5, 0, r2)), (3, vP (203, t3, r3)), (4, vI z4)]) dL_law_2922 (zlt rfl) rfl ?_
  refine Wp_aload_n 3 dL_law_2924 rfl rfl ?_
  refine Wp_aload_n 1 dL_law_2925 rfl rfl ?_
  refine Wp_iload 5 dL_law_2926 rfl ?_
  refine Wp_iconst dL_law_2928 (v := 1) rfl ?_
  refine Wp_iadd dL_law_2929 ?_
  obtain ⟨j2, hj2, h⟩ := h
  obtain ⟨x3, e2, h⟩ := h
  refine Wg_iald dL_law_2930 rfl hj2 e2 ?_
  refine Wp_vown Y_X5_train (5, 0, r2) [vI x3] K_X5_train KI_X5_train q4536 rfl rfl rfl q4534 dL_law_2931 KS_X5_train (zlt rfl) (Nat.le_of_ble_eq_true rfl) rfl (Call.toI h rfl fun x4 ν2 h => ?_)
  refine Wp_istore [0, 1, 2, 3, 4, 5, 6] (ls' := [(6, vI x4), (5, vI x2), (0, vP (209, t0, r0)), (1, vP (1, 0, r1)), (2, vP (5, 0, r2)), (3, vP (203, t3, r3)), (4, vI z4)]) dL_law_2934 (zlt rfl) rfl ?_
  refine Wp_aload_n 4 dL_law_2936 rfl rfl ?_
  refine Wp_vown Y_X5_thrown (5, 0, r2) [] K_X5_thrown KI_X5_thrown q4025 rfl rfl rfl q4023 dL_law_2937 KS_X5_thrown (zlt rfl) (Nat.le_of_ble_eq_true rfl) rfl (Call.toI h rfl fun x5 ν3 h => ?_)
  refine Wp_iload 1 dL_law_2940 rfl ?_
  refine Wp_icmp_eq (tgt := 2947) dL_law_2942 rfl (fun hc => ?_) (fun hc => ?_)
  · replace h := h.1 hc
    refine Wp_iload 1 dL_law_2947 rfl ?_
    refine Wp_if_ne (tgt := 2964) dL_law_2949 rfl (fun hc => ?_) (fun hc => ?_)
    · replace h := h.1 hc
      refine Wp_goto (tgt := 3106) dL_law_2964 rfl ?_
      refine Wp_iinc 6 [0, 3, 4, 5, 6] (ls' := [(4, vI (z4 + 6)), (0, vP (209, t0, r0)), (1, vP (1, 0, r1)), (2, vP (5, 0, r2)), (3, vP (203, t3, r3))]) dL_law_3106 rfl (v := 6) rfl (zlt rfl) rfl ?_
      refine Wp_goto (tgt := 23) dL_law_3109 rfl ?_
      exact Wp.lcl [1, 2, 3, 4, 0] rfl h
    · replace h := h.2 hc
      refine Wp_aload_n 5 dL_law_2952 rfl rfl ?_
      refine Wp_iconst dL_law_2953 (v := 0) rfl ?_
      obtain ⟨hi1, h⟩ := h
      obtain ⟨l1, e3, h⟩ := h
      refine Wg_lald dL_law_2954 rfl ⟨rfl, hi1, by decide⟩ e3 ?_
      refine Wp_iload 0 dL_law_2955 rfl ?_
      refine Wp_i2l dL_law_2957 ?_
      refine Wp_lcmp dL_law_2958 ?_
      refine Wp_if_eq (tgt := 2964) dL_law_2959 rfl (fun hc => ?_) (fun hc => ?_)
      · replace h := h.1 hc
        refine Wp_goto (tgt := 3106) dL_law_2964 rfl ?_
        refine Wp_iinc 6 [0, 3, 4, 5, 6] (ls' := [(4, vI (z4 + 6)), (0, vP (209, t0, r0)), (1, vP (1, 0, r1)), (2, vP (5, 0, r2)), (3, vP (203, t3, r3))]) dL_law_3106 rfl (v := 6) rfl (zlt rfl) rfl ?_
        refine Wp_goto (tgt := 23) dL_law_3109 rfl ?_
        exact Wp.lcl [1, 2, 3, 4, 0] rfl h
      · replace h := h.2 hc
        refine Wp_iconst dL_law_2962 (v := 0) rfl ?_
        exact Wp_ireturn dL_law_2963 rfl (by decide) h
  · replace h := h.2 hc
    refine Wp_iconst dL_law_2945 (v := 0) rfl ?_
    exact Wp_ireturn dL_law_2946 rfl (by decide) h
theorem B_L_law_2967 {G : ZG} {μ : ZM} {Q : Option ZV → ZM → Prop} {E : ZP → ZM → Prop} {t0 : Nat} {r0 : Nat} {r1 : Nat} {r2 : Nat} {t3 : Nat} {r3 : Nat} {z4 : Int32}
    (h : Call G Y_X0_undo [vP (1, 0, r1), vP (203, t3, r3)] μ (rI fun x1 ν1 => Call G Y_X5_undo [vP (5, 0, r2)] ν1 (rI fun x2 ν2 => Call G Y_X5_thrown [vP (5, 0, r2)] ν2 (rI fun x3 ν3 => (x3 = x1 → ((¬ x1 = 0 → Wp G Y_L_law 23 [(0, vP (209, t0, r0)), (1, vP (1, 0, r1)), (2, vP (5, 0, r2)), (3, vP (203, t3, r3)), (4, vI (z4 + 6))] [] ν3 Q E) ∧ (x1 = 0 → (0 < t3 ∧ ∃ l1, zal ν3 r3 0 = l1 ∧ ((lg_cmp l1 x2.toInt64) = 0 → Wp G Y_L_law 23 [(0, vP (209, t0, r0)), (1, vP (1, 0, r1)), (2, vP (5, 0, r2)), (3, vP (203, t3, r3)), (4, vI (z4 + 6))] [] ν3 Q E) ∧ (¬ (lg_cmp l1 x2.toInt64) = 0 → Q (some (vI 0)) ν3))))) ∧ (¬ x3 = x1 → Q (some (vI 0)) ν3)) (fun q ν => zkc q.1 = true ∧ E q ν)) (fun q ν => zkc q.1 = true ∧ E q ν)) (fun q ν => zkc q.1 = true ∧ E q ν)) : Wp G Y_L_law 2967 [(0, vP (209, t0, r0)), (1, vP (1, 0, r1)), (2, vP (5, 0, r2)), (3, vP (203, t3, r3)), (4, vI z4)] [] μ Q E := by
  refine Wp_aload_n 1 dL_law_2967 rfl rfl ?_
  refine Wp_aload_n 3 dL_law_2968 rfl rfl ?_
  refine Wp_stat Y_X0_undo [vP (1, 0, r1), vP (203, t3, r3)] K_X0_undo KS_X0_undo KT_X0_undo rfl q3781 dL_law_2969 (zlt rfl) (Nat.le_of_ble_eq_true rfl) rfl (Call.toI h rfl fun x1 ν1 h => ?_)
  refine Wp_istore [0, 1, 2, 3, 4, 5] (ls' := [(5, vI x1), (0, vP (209, t0, r0)), (1, vP (1, 0, r1)), (2, vP (5, 0, r2)), (3, vP (203, t3, r3)), (4, vI z4)]) dL_law_2972 (zlt rfl) rfl ?_
  refine Wp_aload_n 3 dL_law_2974 rfl rfl ?_
  refine Wp_vown Y_X5_undo (5, 0, r2) [] K_X5_undo KI_X5_undo q4540 rfl rfl rfl q4538 dL_law_2975 KS_X5_undo (zlt rfl) (Nat.le_of_ble_eq_true rfl) rfl (Call.toI h rfl fun x2 ν2 h => ?_)
  refine Wp_istore [0, 1, 2, 3, 4, 5, 6] (ls' := [(6, vI x2), (5, vI x1), (0, vP (209, t0, r0)), (1, vP (1, 0, r1)), (2, vP (5, 0, r2)), (3, vP (203, t3, r3)), (4, vI z4)]) dL_law_2978 (zlt rfl) rfl ?_
  refine Wp_aload_n 4 dL_law_2980 rfl rfl ?_
  refine Wp_vown Y_X5_thrown (5, 0, r2) [] K_X5_thrown KI_X5_thrown q4025 rfl rfl rfl q4023 dL_law_2981 KS_X5_thrown (zlt rfl) (Nat.le_of_ble_eq_true rfl) rfl (Call.toI h rfl fun x3 ν3 h => ?_)
  refine Wp_iload 1 dL_law_2984 rfl ?_
  refine Wp_icmp_eq (tgt := 2991) dL_law_2986 rfl (fun hc => ?_) (fun hc => ?_)
  · replace h := h.1 hc
    refine Wp_iload 1 dL_law_2991 rfl ?_
    refine Wp_if_ne (tgt := 3008) dL_law_2993 rfl (fun hc => ?_) (fun hc => ?_)
    · replace h := h.1 hc
      refine Wp_goto (tgt := 3106) dL_law_3008 rfl ?_
      refine Wp_iinc 6 [0, 3, 4, 5, 6] (ls' := [(4, vI (z4 + 6)), (0, vP (209, t0, r0)), (1, vP (1, 0, r1)), (2, vP (5, 0, r2)), (3, vP (203, t3, r3))]) dL_law_3106 rfl (v := 6) rfl (zlt rfl) rfl ?_
      refine Wp_goto (tgt := 23) dL_law_3109 rfl ?_
      exact Wp.lcl [1, 2, 3, 4, 0] rfl h
    · replace h := h.2 hc
      refine Wp_aload_n 5 dL_law_2996 rfl rfl ?_
      refine Wp_iconst dL_law_2997 (v := 0) rfl ?_
      obtain ⟨hi1, h⟩ := h
      obtain ⟨l1, e1, h⟩ := h
      refine Wg_lald dL_law_2998 rfl ⟨rfl, hi1, by decide⟩ e1 ?_
      refine Wp_iload 0 dL_law_2999 rfl ?_
      refine Wp_i2l dL_law_3001 ?_
      refine Wp_lcmp dL_law_3002 ?_
      refine Wp_if_eq (tgt := 3008) dL_law_3003 rfl (fun hc => ?_) (fun hc => ?_)
      · replace h := h.1 hc
        refine Wp_goto (tgt := 3106) dL_law_3008 rfl ?_
        refine Wp_iinc 6 [0, 3, 4, 5, 6] (ls' := [(4, vI (z4 + 6)), (0, vP (209, t0, r0)), (1, vP (1, 0, r1)), (2, vP (5, 0, r2)), (3, vP (203, t3, r3))]) dL_law_3106 rfl (v := 6) rfl (zlt rfl) rfl ?_
        refine Wp_goto (tgt := 23) dL_law_3109 rfl ?_
        exact Wp.lcl [1, 2, 3, 4, 0] rfl h
      · replace h := h.2 hc
        refine Wp_iconst dL_law_3006 (v := 0) rfl ?_
        exact Wp_ireturn dL_law_3007 rfl (by decide) h
  · replace h := h.2 hc
    refine Wp_iconst dL_law_2989 (v := 0) rfl ?_
    exact Wp_ireturn dL_law_2990 rfl (by decide) h
theorem B_L_law_3011 {G : ZG} {μ : ZM} {Q : Option ZV → ZM → Prop} {E : ZP → ZM → Prop} {t0 : Nat} {r0 : Nat} {r1 : Nat} {r2 : Nat} {t3 : Nat} {r3 : Nat} {z4 : Int32}
    (h : Call G Y_X1_save [vP (1, 0, r1)] μ (rI fun x1 ν1 => Call G Y_X5_save [vP (5, 0, r2)] ν1 (rI fun x2 ν2 => (x1 = x2 → Wp G Y_L_law 23 [(0, vP (209, t0, r0)), (1, vP (1, 0, r1)), (2, vP (5, 0, r2)), (3, vP (203, t3, r3)), (4, vI (z4 + 6))] [] ν2 Q E) ∧ (¬ x1 = x2 → Q (some (vI 0)) ν2)) (fun q ν => zkc q.1 = true ∧ E q ν)) (fun q ν => zkc q.1 = true ∧ E q ν)) : Wp G Y_L_law 3011 [(0, vP (209, t0, r0)), (1, vP (1, 0, r1)), (2, vP (5, 0, r2)), (3, vP (203, t3, r3)), (4, vI z4)] [] μ Q E := by
  refine Wp_aload_n 1 dL_law_3011 rfl rfl ?_
  refine Wp_vown Y_X1_save (1, 0, r1) [] K_X1_save KI_X1_save q2953 rfl rfl rfl q2951 dL_law_3012 KS_X1_save (zlt rfl) (Nat.le_of_ble_eq_true rfl) rfl (Call.toI h rfl fun x1 ν1 h => ?_)
  refine Wp_aload_n 2 dL_law_3015 rfl rfl ?_
  refine Wp_vown Y_X5_save (5, 0, r2) [] K_X5_save KI_X5_save q4544 rfl rfl rfl q4542 dL_law_3016 KS_X5_save (zlt rfl) (Nat.le_of_ble_eq_true rfl) rfl (Call.toI h rfl fun x2 ν2 h => ?_)
  refine Wp_icmp_eq (tgt := 3106) dL_law_3019 rfl (fun hc => ?_) (fun hc => ?_)
  · replace h := h.1 hc
    refine Wp_iinc 4 [0, 1, 2, 3, 4] (ls' := [(4, vI (z4 + 6)), (0, vP (209, t0, r0)), (1, vP (1, 0, r1)), (2, vP (5, 0, r2)), (3, vP (203, t3, r3))]) dL_law_3106 rfl (v := 6) rfl (zlt rfl) rfl ?_
    refine Wp_goto (tgt := 23) dL_law_3109 rfl ?_
    exact Wp.lcl [1, 2, 3, 4, 0] rfl h
  · replace h := h.2 hc
    refine Wp_iconst dL_law_3022 (v := 0) rfl ?_
    exact Wp_ireturn dL_law_3023 rfl (by decide) h
theorem B_L_law_3024 {G : ZG} {μ : ZM} {Q : Option ZV → ZM → Prop} {E : ZP → ZM → Prop} {t0 : Nat} {r0 : Nat} {r1 : Nat} {r2 : Nat} {t3 : Nat} {r3 : Nat} {z4 : Int32}
    (h : Call G Y_X0_restore [vP (1, 0, r1), vP (203, t3, r3)] μ (rI fun x1 ν1 => Call G Y_X5_restore [vP (5, 0, r2)] ν1 (rI fun x2 ν2 => Call G Y_X5_thrown [vP (5, 0, r2)] ν2 (rI fun x3 ν3 => (x3 = x1 → ((¬ x1 = 0 → Wp G Y_L_law 23 [(0, vP (209, t0, r0)), (1, vP (1, 0, r1)), (2, vP (5, 0, r2)), (3, vP (203, t3, r3)), (4, vI (z4 + 6))] [] ν3 Q E) ∧ (x1 = 0 → (0 < t3 ∧ ∃ l1, zal ν3 r3 0 = l1 ∧ ((lg_cmp l1 x2.toInt64) = 0 → Wp G Y_L_law 23 [(0, vP (209, t0, r0)), (1, vP (1, 0, r1)), (2, vP (5, 0, r2)), (3, vP (203, t3, r3)), (4, vI (z4 + 6))] [] ν3 Q E) ∧ (¬ (lg_cmp l1 x2.toInt64) = 0 → Q (some (vI 0)) ν3))))) ∧ (¬ x3 = x1 → Q (some (vI 0)) ν3)) (fun q ν => zkc q.1 = true ∧ E q ν)) (fun q ν => zkc q.1 = true ∧ E q ν)) (fun q ν => zkc q.1 = true ∧ E q ν)) : Wp G Y_L_law 3024 [(0, vP (209, t0, r0)), (1, vP (1, 0, r1)), (2, vP (5, 0, r2)), (3, vP (203, t3, r3)), (4, vI z4)] [] μ Q E := by
  refine Wp_aload_n 1 dL_law_3024 rfl rfl ?_
  refine Wp_aload_n 3 dL_law_3025 rfl rfl ?_
  refine Wp_stat Y_X0_restore [vP (1, 0, r1), vP (203, t3, r3)] K_X0_restore KS_X0_restore KT_X0_restore rfl q3800 dL_law_3026 (zlt rfl) (Nat.le_of_ble_eq_true rfl) rfl (Call.toI h rfl fun x1 ν1 h => ?_)
  refine Wp_istore [0, 1, 2, 3, 4, 5] (ls' := [(5, vI x1), (0, vP (209, t0, r0)), (1, vP (1, 0, r1)), (2, vP (5, 0, r2)), (3, vP (203, t3, r3)), (4, vI z4)]) dL_law_3029 (zlt rfl) rfl ?_
  refine Wp_aload_n 3 dL_law_3031 rfl rfl ?_
  refine Wp_vown Y_X5_restore (5, 0, r2) [] K_X5_restore KI_X5_restore q4548 rfl rfl rfl q4546 dL_law_3032 KS_X5_restore (zlt rfl) (Nat.le_of_ble_eq_true rfl) rfl (Call.toI h rfl fun x2 ν2 h => ?_)
  refine Wp_istore [0, 1, 2, 3, 4, 5, 6] (ls' := [(6, vI x2), (5, vI x1), (0, vP (209, t0, r0)), (1, vP (1, 0, r1)), (2, vP (5, 0, r2)), (3, vP (203, t3, r3)), (4, vI z4)]) dL_law_3035 (zlt rfl) rfl ?_
  refine Wp_aload_n 4 dL_law_3037 rfl rfl ?_
  refine Wp_vown Y_X5_thrown (5, 0, r2) [] K_X5_thrown KI_X5_thrown q4025 rfl rfl rfl q4023 dL_law_3038 KS_X5_thrown (zlt rfl) (Nat.le_of_ble_eq_true rfl) rfl (Call.toI h rfl fun x3 ν3 h => ?_)
  refine Wp_iload 1 dL_law_3041 rfl ?_
  refine Wp_icmp_eq (tgt := 3048) dL_law_3043 rfl (fun hc => ?_) (fun hc => ?_)
  · replace h := h.1 hc
    refine Wp_iload 1 dL_law_3048 rfl ?_
    refine Wp_if_ne (tgt := 3065) dL_law_3050 rfl (fun hc => ?_) (fun hc => ?_)
    · replace h := h.1 hc
      refine Wp_goto (tgt := 3106) dL_law_3065 rfl ?_
      refine Wp_iinc 6 [0, 3, 4, 5, 6] (ls' := [(4, vI (z4 + 6)), (0, vP (209, t0, r0)), (1, vP (1, 0, r1)), (2, vP (5, 0, r2)), (3, vP (203, t3, r3))]) dL_law_3106 rfl (v := 6) rfl (zlt rfl) rfl ?_
      refine Wp_goto (tgt := 23) dL_law_3109 rfl ?_
      exact Wp.lcl [1, 2, 3, 4, 0] rfl h
    · replace h := h.2 hc
      refine Wp_aload_n 5 dL_law_3053 rfl rfl ?_
      refine Wp_iconst dL_law_3054 (v := 0) rfl ?_
      obtain ⟨hi1, h⟩ := h
      obtain ⟨l1, e1, h⟩ := h
      refine Wg_lald dL_law_3055 rfl ⟨rfl, hi1, by decide⟩ e1 ?_
      refine Wp_iload 0 dL_law_3056 rfl ?_
      refine Wp_i2l dL_law_3058 ?_
      refine Wp_lcmp dL_law_3059 ?_
      refine Wp_if_eq (tgt := 3065) dL_law_3060 rfl (fun hc => ?_) (fun hc => ?_)
      · replace h := h.1 hc
        refine Wp_goto (tgt := 3106) dL_law_3065 rfl ?_
        refine Wp_iinc 6 [0, 3, 4, 5, 6] (ls' := [(4, vI (z4 + 6)), (0, vP (209, t0, r0)), (1, vP (1, 0, r1)), (2, vP (5, 0, r2)), (3, vP (203, t3, r3))]) dL_law_3106 rfl (v := 6) rfl (zlt rfl) rfl ?_
        refine Wp_goto (tgt := 23) dL_law_3109 rfl ?_
        exact Wp.lcl [1, 2, 3, 4, 0] rfl h
      · replace h := h.2 hc
        refine Wp_iconst dL_law_3063 (v := 0) rfl ?_
        exact Wp_ireturn dL_law_3064 rfl (by decide) h
  · replace h := h.2 hc
    refine Wp_iconst dL_law_3046 (v := 0) rfl ?_
    exact Wp_ireturn dL_law_3047 rfl (by decide) h
theorem B_L_law_3068 {G : ZG} {μ : ZM} {Q : Option ZV → ZM → Prop} {E : ZP → ZM → Prop} {t0 : Nat} {r0 : Nat} {r1 : Nat} {r2 : Nat} {t3 : Nat} {r3 : Nat} {z4 : Int32}
    (h : Call G Y_X1_formatContracts [vP (1, 0, r1)] μ (rI fun x1 ν1 => Call G Y_X5_formatContracts [vP (5, 0, r2)] ν1 (rI fun x2 ν2 => (x1 = x2 → Wp G Y_L_law 23 [(0, vP (209, t0, r0)), (1, vP (1, 0, r1)), (2, vP (5, 0, r2)), (3, vP (203, t3, r3)), (4, vI (z4 + 6))] [] ν2 Q E) ∧ (¬ x1 = x2 → Q (some (vI 0)) ν2)) (fun q ν => zkc q.1 = true ∧ E q ν)) (fun q ν => zkc q.1 = true ∧ E q ν)) : Wp G Y_L_law 3068 [(0, vP (209, t0, r0)), (1, vP (1, 0, r1)), (2, vP (5, 0, r2)), (3, vP (203, t3, r3)), (4, vI z4)] [] μ Q E := by
  refine Wp_aload_n 1 dL_law_3068 rfl rfl ?_
  refine Wp_vown Y_X1_formatContracts (1, 0, r1) [] K_X1_formatContracts KI_X1_formatContracts q2957 rfl rfl rfl q2955 dL_law_3069 KS_X1_formatContracts (zlt rfl) (Nat.le_of_ble_eq_true rfl) rfl (Call.toI h rfl fun x1 ν1 h => ?_)
  refine Wp_aload_n 2 dL_law_3072 rfl rfl ?_
  refine Wp_vown Y_X5_formatContracts (5, 0, r2) [] K_X5_formatContracts KI_X5_formatContracts q4552 rfl rfl rfl q4550 dL_law_3073 KS_X5_formatContracts (zlt rfl) (Nat.le_of_ble_eq_true rfl) rfl (Call.toI h rfl fun x2 ν2 h => ?_)
  refine Wp_icmp_eq (tgt := 3106) dL_law_3076 rfl (fun hc => ?_) (fun hc => ?_)
  · replace h := h.1 hc
    refine Wp_iinc 4 [0, 1, 2, 3, 4] (ls' := [(4, vI (z4 + 6)), (0, vP (209, t0, r0)), (1, vP (1, 0, r1)), (2, vP (5, 0, r2)), (3, vP (203, t3, r3))]) dL_law_3106 rfl (v := 6) rfl (zlt rfl) rfl ?_
    refine Wp_goto (tgt := 23) dL_law_3109 rfl ?_
    exact Wp.lcl [1, 2, 3, 4, 0] rfl h
  · replace h := h.2 hc
    refine Wp_iconst dL_law_3079 (v := 0) rfl ?_
    exact Wp_ireturn dL_law_3080 rfl (by decide) h
theorem B_L_law_3081 {G : ZG} {μ : ZM} {Q : Option ZV → ZM → Prop} {E : ZP → ZM → Prop} {t0 : Nat} {r0 : Nat} {r1 : Nat} {r2 : Nat} {t3 : Nat} {r3 : Nat} {z4 : Int32}
    (h : ∃ j1, zix (z4 + 1) j1 t0 ∧ ∃ x1, zai μ r0 j1 = x1 ∧ Call G Y_X1_outputByte [vP (1, 0, r1), vI x1] μ (rI fun x2 ν1 => ∃ j2, zix (z4 + 1) j2 t0 ∧ ∃ x3, zai ν1 r0 j2 = x3 ∧ Call G Y_X5_outputByte [vP (5, 0, r2), vI x3] ν1 (rI fun x4 ν2 => (x2 = x4 → Wp G Y_L_law 23 [(0, vP (209, t0, r0)), (1, vP (1, 0, r1)), (2, vP (5, 0, r2)), (3, vP (203, t3, r3)), (4, vI (z4 + 6))] [] ν2 Q E) ∧ (¬ x2 = x4 → Q (some (vI 0)) ν2)) (fun q ν => zkc q.1 = true ∧ E q ν)) (fun q ν => zkc q.1 = true ∧ E q ν)) : Wp G Y_L_law 3081 [(0, vP (209, t0, r0)), (1, vP (1, 0, r1)), (2, vP (5, 0, r2)), (3, vP (203, t3, r3)), (4, vI z4)] [] μ Q E := by
  refine Wp_aload_n 1 dL_law_3081 rfl rfl ?_
  refine Wp_aload_n 0 dL_law_3082 rfl rfl ?_
  refine Wp_iload 4 dL_law_3083 rfl ?_
  refine Wp_iconst dL_law_3085 (v := 1) rfl ?_
  refine Wp_iadd dL_law_3086 ?_
  obtain ⟨j1, hj1, h⟩ := h
  obtain ⟨x1, e1, h⟩ := h
  refine Wg_iald dL_law_3087 rfl hj1 e1 ?_
  refine Wp_vown Y_X1_outputByte (1, 0, r1) [vI x1] K_X1_outputByte KI_X1_outputByte q3031 rfl rfl rfl q3029 dL_law_3088 KS_X1_outputByte (zlt rfl) (Nat.le_of_ble_eq_true rfl) rfl (Call.toI h rfl fun x2 ν1 h => ?_)
  refine Wp_aload_n 2 dL_law_3091 rfl rfl ?_
  refine Wp_aload_n 0 dL_law_3092 rfl rfl ?_
  refine Wp_iload 4 dL_law_3093 rfl ?_
  refine Wp_iconst dL_law_3095 (v := 1) rfl ?_
  refine Wp_iadd dL_law_3096 ?_
  obtain ⟨j2, hj2, h⟩ := h
  obtain ⟨x3, e2, h⟩ := h
  refine Wg_iald dL_law_3097 rfl hj2 e2 ?_
  refine Wp_vown Y_X5_outputByte (5, 0, r2) [vI x3] K_X5_outputByte KI_X5_outputByte q4564 rfl rfl rfl q4562 dL_law_3098 KS_X5_outputByte (zlt rfl) (Nat.le_of_ble_eq_true rfl) rfl (Call.toI h rfl fun x4 ν2 h => ?_)
  refine Wp_icmp_eq (tgt := 3106) dL_law_3101 rfl (fun hc => ?_) (fun hc => ?_)
  · replace h := h.1 hc
    refine Wp_iinc 4 [0, 1, 2, 3, 4] (ls' := [(4, vI (z4 + 6)), (0, vP (209, t0, r0)), (1, vP (1, 0, r1)), (2, vP (5, 0, r2)), (3, vP (203, t3, r3))]) dL_law_3106 rfl (v := 6) rfl (zlt rfl) rfl ?_
    refine Wp_goto (tgt := 23) dL_law_3109 rfl ?_
    exact Wp.lcl [1, 2, 3, 4, 0] rfl h
  · replace h := h.2 hc
    refine Wp_iconst dL_law_3104 (v := 0) rfl ?_
    exact Wp_ireturn dL_law_3105 rfl (by decide) h
