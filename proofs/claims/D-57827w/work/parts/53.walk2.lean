set_option maxRecDepth 100000
/-! WALKS, 2: byte arrays of constants -/
theorem S_J15_charAt_208 {G : ZG} {μ : ZM} {Q : Option ZV → ZM → Prop} {E : ZP → ZM → Prop} {p0 : ZP} {z1 : Int32}
    (h : zis 202 p0 ∧ Call G Y_J9_checkIndex [vI z1, vI (nI p0.2.1)] μ (rV fun ν1 => ∃ j1, zix z1 j1 p0.2.1 ∧ ∃ x1, zai ν1 p0.2.2 j1 = x1 ∧ narrow .char (.int (((x1 &&& 255).toUInt32 % 65536).toInt32)) = .int (((x1 &&& 255).toUInt32 % 65536).toInt32) ∧ Q (some (vI (((x1 &&& 255).toUInt32 % 65536).toInt32))) ν1) (fun q ν => zkc q.1 = true ∧ E q ν)) : Call G Y_J15_charAt [vP p0, vI z1] μ Q E := by
  refine Call.of (Y := Y_J15_charAt) rfl (Nat.le_of_ble_eq_true rfl) ?_
  show Wp G Y_J15_charAt 0 [(0, vP p0), (1, vI z1)] [] μ Q E
  obtain ⟨hz_p0, h⟩ := h
  refine Wp_iload_n 1 dJ15_charAt_0 rfl rfl ?_
  refine Wp_aload_n 0 dJ15_charAt_1 rfl rfl ?_
  refine Wm_alen dJ15_charAt_2 hz_p0 ?_
  refine Wp_stat Y_J9_checkIndex [vI z1, vI (nI p0.2.1)] K_J9_checkIndex KS_J9_checkIndex KT_J9_checkIndex rfl q906 dJ15_charAt_3 (zlt rfl) (Nat.le_of_ble_eq_true rfl) rfl (Call.toV h rfl fun ν1 h => ?_)
  refine Wp_aload_n 0 dJ15_charAt_6 rfl rfl ?_
  refine Wp_iload_n 1 dJ15_charAt_7 rfl rfl ?_
  obtain ⟨j1, hj1, h⟩ := h
  obtain ⟨x1, e1, h⟩ := h
  refine Wm_bald dJ15_charAt_8 hz_p0 hj1 e1 ?_
  refine Wp_sipush dJ15_charAt_9 (v := 255) rfl ?_
  refine Wp_iand dJ15_charAt_12 ?_
  refine Wp_i2c dJ15_charAt_13 ?_
  exact Wp_ireturn dJ15_charAt_14 rfl h.1 h.2
theorem S_J15_equals_208 {G : ZG} {μ : ZM} {Q : Option ZV → ZM → Prop} {E : ZP → ZM → Prop} {p0 : ZP} {p1 : ZP}
    (h : zis 202 p0 ∧ zis 202 p1 ∧ (¬ (nI p0.2.1) = (nI p1.2.1) → Q (some (vI 0)) μ) ∧ ((nI p0.2.1) = (nI p1.2.1) → Wp G Y_J15_equals 9 [(0, vP p0), (1, vP p1), (2, vI 0)] [] μ Q E)) : Call G Y_J15_equals [vP p0, vP p1] μ Q E := by
  refine Call.of (Y := Y_J15_equals) rfl (Nat.le_of_ble_eq_true rfl) ?_
  show Wp G Y_J15_equals 0 [(0, vP p0), (1, vP p1)] [] μ Q E
  obtain ⟨hz_p0, h⟩ := h
  obtain ⟨hz_p1, h⟩ := h
  refine Wp_aload_n 0 dJ15_equals_0 rfl rfl ?_
  refine Wm_alen dJ15_equals_1 hz_p0 ?_
  refine Wp_aload_n 1 dJ15_equals_2 rfl rfl ?_
  refine Wm_alen dJ15_equals_3 hz_p1 ?_
  refine Wp_icmp_ne (tgt := 34) dJ15_equals_4 rfl (fun hc => ?_) (fun hc => ?_)
  · replace h := h.1 hc
    refine Wp_iconst dJ15_equals_34 (v := 0) rfl ?_
    exact Wp_ireturn dJ15_equals_35 rfl (by decide) h
  · replace h := h.2 hc
    refine Wp_iconst dJ15_equals_7 (v := 0) rfl ?_
    refine Wp_istore_n [0, 1, 2] (ls' := [(2, vI 0), (0, vP p0), (1, vP p1)]) dJ15_equals_8 rfl (zlt rfl) rfl ?_
    exact Wp.lcl [1, 2, 0] rfl h
theorem B_J15_equals_208_9 {G : ZG} {μ : ZM} {Q : Option ZV → ZM → Prop} {E : ZP → ZM → Prop} {p0 : ZP} {p1 : ZP} {z2 : Int32}
    (h : zis 202 p0 ∧ zis 202 p1 ∧ (¬ z2 < (nI p0.2.1) → Q (some (vI 1)) μ) ∧ (z2 < (nI p0.2.1) → (∃ j1, zix z2 j1 p0.2.1 ∧ ∃ x1, zai μ p0.2.2 j1 = x1 ∧ ∃ j2, zix z2 j2 p1.2.1 ∧ ∃ x2, zai μ p1.2.2 j2 = x2 ∧ (x1 = x2 → Wp G Y_J15_equals 9 [(0, vP p0), (1, vP p1), (2, vI (z2 + 1))] [] μ Q E) ∧ (¬ x1 = x2 → Q (some (vI 0)) μ)))) : Wp G Y_J15_equals 9 [(0, vP p0), (1, vP p1), (2, vI z2)] [] μ Q E := by
  obtain ⟨hz_p0, h⟩ := h
  obtain ⟨hz_p1, h⟩ := h
  refine Wp_iload_n 2 dJ15_equals_9 rfl rfl ?_
  refine Wp_aload_n 0 dJ15_equals_10 rfl rfl ?_
  refine Wm_alen dJ15_equals_11 hz_p0 ?_
  refine Wp_icmp_ge (tgt := 32) dJ15_equals_12 rfl (fun hc => ?_) (fun hc => ?_)
  · replace h := h.1 (Int32.not_lt.mpr hc)
    refine Wp_iconst dJ15_equals_32 (v := 1) rfl ?_
    exact Wp_ireturn dJ15_equals_33 rfl (by decide) h
  · replace h := h.2 (Int32.not_le.mp hc)
    refine Wp_aload_n 0 dJ15_equals_15 rfl rfl ?_
    refine Wp_iload_n 2 dJ15_equals_16 rfl rfl ?_
    obtain ⟨j1, hj1, h⟩ := h
    obtain ⟨x1, e1, h⟩ := h
    refine Wm_bald dJ15_equals_17 hz_p0 hj1 e1 ?_
    refine Wp_aload_n 1 dJ15_equals_18 rfl rfl ?_
    refine Wp_iload_n 2 dJ15_equals_19 rfl rfl ?_
    obtain ⟨j2, hj2, h⟩ := h
    obtain ⟨x2, e2, h⟩ := h
    refine Wm_bald dJ15_equals_20 hz_p1 hj2 e2 ?_
    refine Wp_icmp_eq (tgt := 26) dJ15_equals_21 rfl (fun hc => ?_) (fun hc => ?_)
    · replace h := h.1 hc
      refine Wp_iinc 2 [0, 1, 2] (ls' := [(2, vI (z2 + 1)), (0, vP p0), (1, vP p1)]) dJ15_equals_26 rfl (v := 1) rfl (zlt rfl) rfl ?_
      refine Wp_goto (tgt := 9) dJ15_equals_29 rfl ?_
      exact Wp.lcl [1, 2, 0] rfl h
    · replace h := h.2 hc
      refine Wp_iconst dJ15_equals_24 (v := 0) rfl ?_
      exact Wp_ireturn dJ15_equals_25 rfl (by decide) h
