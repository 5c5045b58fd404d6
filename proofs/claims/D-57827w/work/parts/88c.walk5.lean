set_option maxRecDepth 100000
/-! WALKS, 3: lambdas and ceil -/
theorem nS_J22_putMapEntries_14 {G : ZG} {μ : ZM} {Q : Option ZV → ZM → Prop} {E : ZP → ZM → Prop} {r0 : Nat} {r1 : Nat} {z2 : Int32}
    (h : Call G Y_J22_size [vP (14, 0, r1)] μ (rI fun x1 ν1 => (¬ 0 < x1 → Q none ν1) ∧ (0 < x1 → (∃ q1, zfr ν1 107 r0 = q1 ∧ ((q1 = zN ∧ (∃ x2, zfi ν1 112 r0 = x2 ∧ vf_n64 (FP.f2d x2.toUInt32) ∧ vf_n64 (FP.ddiv (FP.i2d x1) (FP.f2d x2.toUInt32)) ∧ zclP (FP.ddiv (FP.i2d x1) (FP.f2d x2.toUInt32)) ∧ (¬ (Op.cmpValue (FP.dcmp (zceil (FP.ddiv (FP.i2d x1) (FP.f2d x2.toUInt32))) 4742290407621132288) .g) < 0 → Wp G Y_J22_putMapEntries 48 [(0, vP (14, 0, r0)), (1, vP (14, 0, r1)), (2, vI z2)] [vI 1073741824] ν1 Q E) ∧ ((Op.cmpValue (FP.dcmp (zceil (FP.ddiv (FP.i2d x1) (FP.f2d x2.toUInt32))) 4742290407621132288) .g) < 0 → Wp G Y_J22_putMapEntries 48 [(0, vP (14, 0, r0)), (1, vP (14, 0, r1)), (2, vI z2)] [vI (FP.d2i (zceil (FP.ddiv (FP.i2d x1) (FP.f2d x2.toUInt32))))] ν1 Q E))) ∨ (∃ m1 b1, q1 = (205, m1, b1) ∧ Wp G Y_J22_putMapEntries 71 [(0, vP (14, 0, r0)), (1, vP (14, 0, r1)), (2, vI z2), (3, vI x1)] [] ν1 Q E))))) (fun q ν => zkc q.1 = true ∧ E q ν)) : Call G Y_J22_putMapEntries [vP (14, 0, r0), vP (14, 0, r1), vI z2] μ Q E := by
  refine Call.of (Y := Y_J22_putMapEntries) rfl (Nat.le_of_ble_eq_true rfl) ?_
  show Wp G Y_J22_putMapEntries 0 [(0, vP (14, 0, r0)), (1, vP (14, 0, r1)), (2, vI z2)] [] μ Q E
  refine Wp_aload_n 1 dJ22_putMapEntries_0 rfl rfl ?_
  refine Wp_vif Y_J22_size ⟨"java/util/Map", "size", "()I"⟩ (14, 0, r1) [] K_J22_size KI_J22_size q2830 q2828 q2827 q2833 q2831 q2829 ⟨by decide, by decide⟩ rfl rfl rfl rfl q2826 dJ22_putMapEntries_1 (zlt rfl) (Nat.le_of_ble_eq_true rfl) rfl (Call.toI h rfl fun x1 ν1 h => ?_)
  refine Wp_istore_n [0, 1, 2, 3] (ls' := [(3, vI x1), (0, vP (14, 0, r0)), (1, vP (14, 0, r1)), (2, vI z2)]) dJ22_putMapEntries_6 rfl (zlt rfl) rfl ?_
  refine Wp_iload_n 0 dJ22_putMapEntries_7 rfl rfl ?_
  refine Wp_if_le (tgt := 169) dJ22_putMapEntries_8 rfl (fun hc => ?_) (fun hc => ?_)
  · replace h := h.1 (Int32.not_lt.mpr hc)
    exact Wp_return dJ22_putMapEntries_169 rfl h
  · replace h := h.2 (Int32.not_le.mp hc)
    refine Wp_aload_n 1 dJ22_putMapEntries_11 rfl rfl ?_
    obtain ⟨q1, e1, h⟩ := h
    refine Wg_P 107 q1138 dJ22_putMapEntries_12 rfl sp_107 rfl rfl e1 ?_
    rcases h with ⟨rfl, h⟩ | ⟨m1, b1, rfl, h⟩
    · refine Wp_ifnonnull (tgt := 71) dJ22_putMapEntries_15 rfl (fun hx => absurd rfl hx) (fun _ => ?_)
      refine Wp_iload_n 0 dJ22_putMapEntries_18 rfl rfl ?_
      refine Wp_i2d dJ22_putMapEntries_19 ?_
      refine Wp_aload_n 1 dJ22_putMapEntries_20 rfl rfl ?_
      obtain ⟨x2, e2, h⟩ := h
      refine Wg_F 112 q1150 dJ22_putMapEntries_21 rfl sp_112 rfl rfl e2 ?_
      obtain ⟨h0, h⟩ := h
      refine Wp_f2d dJ22_putMapEntries_24 h0 ?_
      obtain ⟨h0, h⟩ := h
      refine Wp_ddiv dJ22_putMapEntries_25 h0 ?_
      obtain ⟨h0, h⟩ := h
      refine Wp_ceil rfl q2838 dJ22_putMapEntries_26 h0 (Nat.le_of_ble_eq_true rfl) (Nat.le_of_ble_eq_true rfl) ?_
      refine Wp_dstore [0, 2, 3, 4] (ls' := [(4, vD (zceil (FP.ddiv (FP.i2d x1) (FP.f2d x2.toUInt32)))), (0, vP (14, 0, r0)), (1, vP (14, 0, r1)), (2, vI z2)]) dJ22_putMapEntries_29 (zlt rfl) rfl ?_
      refine Wp_dload 0 dJ22_putMapEntries_31 rfl ?_
      refine Wp_ldc2d rfl q2864 dJ22_putMapEntries_33 ?_
      refine Wp_dcmp dJ22_putMapEntries_36 ?_
      refine Wp_if_ge (tgt := 46) dJ22_putMapEntries_37 rfl (fun hc => ?_) (fun hc => ?_)
      · replace h := h.1 (Int32.not_lt.mpr hc)
        refine Wp_ldc rfl q632 dJ22_putMapEntries_46 ?_
        exact Wp.lcl [1, 2, 3] rfl h
      · replace h := h.2 (Int32.not_le.mp hc)
        refine Wp_dload 0 dJ22_putMapEntries_40 rfl ?_
        refine Wp_d2i dJ22_putMapEntries_42 ?_
        refine Wp_goto (tgt := 48) dJ22_putMapEntries_43 rfl ?_
        exact Wp.lcl [1, 2, 3] rfl h
    · refine Wp_ifnonnull (tgt := 71) dJ22_putMapEntries_15 rfl (fun _ => ?_) (fun hx => absurd hx (Nat.ne_of_beq_eq_false rfl))
      exact Wp.lcl [1, 2, 3, 0] rfl h
theorem nB_J22_putMapEntries_14_48 {G : ZG} {μ : ZM} {Q : Option ZV → ZM → Prop} {E : ZP → ZM → Prop} {r0 : Nat} {r1 : Nat} {z2 : Int32} {zs0 : Int32}
    (h : ∃ x1, zfi μ 111 r0 = x1 ∧ (¬ x1 < zs0 → (Call G Y_J22_entrySet [vP (14, 0, r1)] μ (rP fun q1 ν1 => ∃ b1, q1 = (18, 0, b1) ∧ Call G Y_J49_iterator [vP (18, 0, b1)] ν1 (rP fun q2 ν2 => ∃ b2, q2 = (19, 0, b2) ∧ Wp G Y_J22_putMapEntries 110 [(0, vP (14, 0, r0)), (2, vI z2), (4, vP (19, 0, b2))] [] ν2 Q E) (fun q ν => zkc q.1 = true ∧ E q ν)) (fun q ν => zkc q.1 = true ∧ E q ν))) ∧ (x1 < zs0 → (Call G Y_J22_tableSizeFor [vI zs0] μ (rI fun x2 ν3 => Call G Y_J22_entrySet [vP (14, 0, r1)] (zFi ν3 111 r0 x2) (rP fun q3 ν4 => ∃ b3, q3 = (18, 0, b3) ∧ Call G Y_J49_iterator [vP (18, 0, b3)] ν4 (rP fun q4 ν5 => ∃ b4, q4 = (19, 0, b4) ∧ Wp G Y_J22_putMapEntries 110 [(0, vP (14, 0, r0)), (2, vI z2), (4, vP (19, 0, b4))] [] ν5 Q E) (fun q ν => zkc q.1 = true ∧ E q ν)) (fun q ν => zkc q.1 = true ∧ E q ν)) (fun q ν => zkc q.1 = true ∧ E q ν)))) : Wp G Y_J22_putMapEntries 48 [(0, vP (14, 0, r0)), (1, vP (14, 0, r1)), (2, vI z2)] [vI zs0] μ Q E := by
  refine Wp_istore [0, 1, 2, 3] (ls' := [(6, vI zs0), (0, vP (14, 0, r0)), (1, vP (14, 0, r1)), (2, vI z2)]) dJ22_putMapEntries_48 (zlt rfl) rfl ?_
  refine Wp_iload 0 dJ22_putMapEntries_50 rfl ?_
  refine Wp_aload_n 1 dJ22_putMapEntries_52 rfl rfl ?_
  obtain ⟨x1, e1, h⟩ := h
  refine Wg_I 111 q1149 dJ22_putMapEntries_53 rfl sp_111 rfl rfl e1 ?_
  refine Wp_icmp_le (tgt := 68) dJ22_putMapEntries_56 rfl (fun hc => ?_) (fun hc => ?_)
  · replace h := h.1 (Int32.not_lt.mpr hc)
    refine Wp_goto (tgt := 97) dJ22_putMapEntries_68 rfl ?_
    refine Wp_aload_n 2 dJ22_putMapEntries_97 rfl rfl ?_
    refine Wp_vif Y_J22_entrySet ⟨"java/util/Map", "entrySet", "()Ljava/util/Set;"⟩ (14, 0, r1) [] K_J22_entrySet KI_J22_entrySet q2869 q2868 q2867 q2872 q2870 q2829 ⟨by decide, by decide⟩ rfl rfl rfl rfl q2866 dJ22_putMapEntries_98 (zlt rfl) (Nat.le_of_ble_eq_true rfl) rfl (Call.toP h rfl fun q1 ν1 h => ?_)
    obtain ⟨b1, rfl, h⟩ := h
    refine Wp_vif Y_J49_iterator ⟨"java/util/Set", "iterator", "()Ljava/util/Iterator;"⟩ (18, 0, b1) [] K_J49_iterator KI_J49_iterator q2574 q2572 q2571 q2433 q2431 q2573 ⟨by decide, by decide⟩ rfl rfl rfl rfl q2907 dJ22_putMapEntries_103 (zlt rfl) (Nat.le_of_ble_eq_true rfl) rfl (Call.toP h rfl fun q2 ν2 h => ?_)
    obtain ⟨b2, rfl, h⟩ := h
    refine Wp_astore [0, 2, 4] (ls' := [(4, vP (19, 0, b2)), (0, vP (14, 0, r0)), (2, vI z2)]) dJ22_putMapEntries_108 (zlt rfl) rfl ?_
    exact Wp.lcl [1, 2, 0] rfl h
  · replace h := h.2 (Int32.not_le.mp hc)
    refine Wp_aload_n 1 dJ22_putMapEntries_59 rfl rfl ?_
    refine Wp_iload 0 dJ22_putMapEntries_60 rfl ?_
    refine Wp_stat Y_J22_tableSizeFor [vI zs0] K_J22_tableSizeFor KS_J22_tableSizeFor KT_J22_tableSizeFor rfl q1127 dJ22_putMapEntries_62 (zlt rfl) (Nat.le_of_ble_eq_true rfl) rfl (Call.toI h rfl fun x2 ν3 h => ?_)
    refine Wg_putI 111 q1149 dJ22_putMapEntries_65 rfl sp_111 rfl (by decide) rfl (by decide) (znr_int _) ?_
    refine Wp_goto (tgt := 97) dJ22_putMapEntries_68 rfl ?_
    refine Wp_aload_n 2 dJ22_putMapEntries_97 rfl rfl ?_
    refine Wp_vif Y_J22_entrySet ⟨"java/util/Map", "entrySet", "()Ljava/util/Set;"⟩ (14, 0, r1) [] K_J22_entrySet KI_J22_entrySet q2869 q2868 q2867 q2872 q2870 q2829 ⟨by decide, by decide⟩ rfl rfl rfl rfl q2866 dJ22_putMapEntries_98 (zlt rfl) (Nat.le_of_ble_eq_true rfl) rfl (Call.toP h rfl fun q3 ν4 h => ?_)
    obtain ⟨b3, rfl, h⟩ := h
    refine Wp_vif Y_J49_iterator ⟨"java/util/Set", "iterator", "()Ljava/util/Iterator;"⟩ (18, 0, b3) [] K_J49_iterator KI_J49_iterator q2574 q2572 q2571 q2433 q2431 q2573 ⟨by decide, by decide⟩ rfl rfl rfl rfl q2907 dJ22_putMapEntries_103 (zlt rfl) (Nat.le_of_ble_eq_true rfl) rfl (Call.toP h rfl fun q4 ν5 h => ?_)
    obtain ⟨b4, rfl, h⟩ := h
    refine Wp_astore [0, 2, 4] (ls' := [(4, vP (19, 0, b4)), (0, vP (14, 0, r0)), (2, vI z2)]) dJ22_putMapEntries_108 (zlt rfl) rfl ?_
    exact Wp.lcl [1, 2, 0] rfl h
theorem nB_J22_putMapEntries_14_71 {G : ZG} {μ : ZM} {Q : Option ZV → ZM → Prop} {E : ZP → ZM → Prop} {r0 : Nat} {r1 : Nat} {z2 : Int32} {z3 : Int32}
    (h : ∃ x1, zfi μ 111 r0 = x1 ∧ (¬ x1 < z3 → (Call G Y_J22_entrySet [vP (14, 0, r1)] μ (rP fun q1 ν1 => ∃ b1, q1 = (18, 0, b1) ∧ Call G Y_J49_iterator [vP (18, 0, b1)] ν1 (rP fun q2 ν2 => ∃ b2, q2 = (19, 0, b2) ∧ Wp G Y_J22_putMapEntries 110 [(0, vP (14, 0, r0)), (2, vI z2), (4, vP (19, 0, b2))] [] ν2 Q E) (fun q ν => zkc q.1 = true ∧ E q ν)) (fun q ν => zkc q.1 = true ∧ E q ν))) ∧ (x1 < z3 → (∃ q3, zfr μ 107 r0 = q3 ∧ ∃ m1 b3, q3 = (205, m1, b3) ∧ (¬ (nI m1) < 1073741824 → (Call G Y_J22_entrySet [vP (14, 0, r1)] μ (rP fun q4 ν3 => ∃ b4, q4 = (18, 0, b4) ∧ Call G Y_J49_iterator [vP (18, 0, b4)] ν3 (rP fun q5 ν4 => ∃ b5, q5 = (19, 0, b5) ∧ Wp G Y_J22_putMapEntries 110 [(0, vP (14, 0, r0)), (2, vI z2), (4, vP (19, 0, b5))] [] ν4 Q E) (fun q ν => zkc q.1 = true ∧ E q ν)) (fun q ν => zkc q.1 = true ∧ E q ν))) ∧ ((nI m1) < 1073741824 → (Call G Y_J22_resize [vP (14, 0, r0)] μ (rP fun q6 ν5 => ∃ m2 b6, q6 = (205, m2, b6) ∧ Wp G Y_J22_putMapEntries 71 [(0, vP (14, 0, r0)), (1, vP (14, 0, r1)), (2, vI z2), (3, vI z3)] [] ν5 Q E) (fun q ν => zkc q.1 = true ∧ E q ν)))))) : Wp G Y_J22_putMapEntries 71 [(0, vP (14, 0, r0)), (1, vP (14, 0, r1)), (2, vI z2), (3, vI z3)] [] μ Q E := by
  refine Wp_iload_n 3 dJ22_putMapEntries_71 rfl rfl ?_
  refine Wp_aload_n 0 dJ22_putMapEntries_72 rfl rfl ?_
  obtain ⟨x1, e1, h⟩ := h
  refine Wg_I 111 q1149 dJ22_putMapEntries_73 rfl sp_111 rfl rfl e1 ?_
  refine Wp_icmp_le (tgt := 97) dJ22_putMapEntries_76 rfl (fun hc => ?_) (fun hc => ?_)
  · replace h := h.1 (Int32.not_lt.mpr hc)
    refine Wp_aload_n 1 dJ22_putMapEntries_97 rfl rfl ?_
    refine Wp_vif Y_J22_entrySet ⟨"java/util/Map", "entrySet", "()Ljava/util/Set;"⟩ (14, 0, r1) [] K_J22_entrySet KI_J22_entrySet q2869 q2868 q2867 q2872 q2870 q2829 ⟨by decide, by decide⟩ rfl rfl rfl rfl q2866 dJ22_putMapEntries_98 (zlt rfl) (Nat.le_of_ble_eq_true rfl) rfl (Call.toP h rfl fun q1 ν1 h => ?_)
    obtain ⟨b1, rfl, h⟩ := h
    refine Wp_vif Y_J49_iterator ⟨"java/util/Set", "iterator", "()Ljava/util/Iterator;"⟩ (18, 0, b1) [] K_J49_iterator KI_J49_iterator q2574 q2572 q2571 q2433 q2431 q2573 ⟨by decide, by decide⟩ rfl rfl rfl rfl q2907 dJ22_putMapEntries_103 (zlt rfl) (Nat.le_of_ble_eq_true rfl) rfl (Call.toP h rfl fun q2 ν2 h => ?_)
    obtain ⟨b2, rfl, h⟩ := h
    refine Wp_astore [0, 1, 3] (ls' := [(4, vP (19, 0, b2)), (0, vP (14, 0, r0)), (2, vI z2)]) dJ22_putMapEntries_108 (zlt rfl) rfl ?_
    exact Wp.lcl [1, 2, 0] rfl h
  · replace h := h.2 (Int32.not_le.mp hc)
    refine Wp_aload_n 0 dJ22_putMapEntries_79 rfl rfl ?_
    obtain ⟨q3, e2, h⟩ := h
    refine Wg_P 107 q1138 dJ22_putMapEntries_80 rfl sp_107 rfl rfl e2 ?_
    obtain ⟨m1, b3, rfl, h⟩ := h
    refine Wg_alen dJ22_putMapEntries_83 rfl ?_
    refine Wp_ldc rfl q632 dJ22_putMapEntries_84 ?_
    refine Wp_icmp_ge (tgt := 97) dJ22_putMapEntries_86 rfl (fun hc => ?_) (fun hc => ?_)
    · replace h := h.1 (Int32.not_lt.mpr hc)
      refine Wp_aload_n 1 dJ22_putMapEntries_97 rfl rfl ?_
      refine Wp_vif Y_J22_entrySet ⟨"java/util/Map", "entrySet", "()Ljava/util/Set;"⟩ (14, 0, r1) [] K_J22_entrySet KI_J22_entrySet q2869 q2868 q2867 q2872 q2870 q2829 ⟨by decide, by decide⟩ rfl rfl rfl rfl q2866 dJ22_putMapEntries_98 (zlt rfl) (Nat.le_of_ble_eq_true rfl) rfl (Call.toP h rfl fun q4 ν3 h => ?_)
      obtain ⟨b4, rfl, h⟩ := h
      refine Wp_vif Y_J49_iterator ⟨"java/util/Set", "iterator", "()Ljava/util/Iterator;"⟩ (18, 0, b4) [] K_J49_iterator KI_J49_iterator q2574 q2572 q2571 q2433 q2431 q2573 ⟨by decide, by decide⟩ rfl rfl rfl rfl q2907 dJ22_putMapEntries_103 (zlt rfl) (Nat.le_of_ble_eq_true rfl) rfl (Call.toP h rfl fun q5 ν4 h => ?_)
      obtain ⟨b5, rfl, h⟩ := h
      refine Wp_astore [0, 1, 3] (ls' := [(4, vP (19, 0, b5)), (0, vP (14, 0, r0)), (2, vI z2)]) dJ22_putMapEntries_108 (zlt rfl) rfl ?_
      exact Wp.lcl [1, 2, 0] rfl h
    · replace h := h.2 (Int32.not_le.mp hc)
      refine Wp_aload_n 0 dJ22_putMapEntries_89 rfl rfl ?_
      refine Wp_vup Y_J22_resize ⟨"java/util/HashMap", "resize", "()[Ljava/util/HashMap$Node;"⟩ (14, 0, r0) [] K_J22_resize KI_J22_resize q2618 q2619 (Or.inr ⟨q2617, _, _, _, q2621⟩) ⟨by decide, by decide⟩ rfl rfl rfl rfl q2616 dJ22_putMapEntries_90 (zlt rfl) (Nat.le_of_ble_eq_true rfl) rfl (Call.toP h rfl fun q6 ν5 h => ?_)
      obtain ⟨m2, b6, rfl, h⟩ := h
      refine Wp_pop dJ22_putMapEntries_93 rfl ?_
      refine Wp_goto (tgt := 71) dJ22_putMapEntries_94 rfl ?_
      exact Wp.lcl [0, 1, 2, 3] rfl h
theorem nB_J22_putMapEntries_14_110 {G : ZG} {μ : ZM} {Q : Option ZV → ZM → Prop} {E : ZP → ZM → Prop} {r0 : Nat} {z2 : Int32} {r4 : Nat}
    (h : Call G Y_J40_hasNext [vP (19, 0, r4)] μ (rI fun x1 ν1 => (x1 = 0 → Q none ν1) ∧ (¬ x1 = 0 → (Call G Y_J41_next [vP (19, 0, r4)] ν1 (rP fun q1 ν2 => ∃ b1, q1 = (16, 0, b1) ∧ Call G Y_J36_getKey [vP (16, 0, b1)] ν2 (rP fun q2 ν3 => ∃ b2, q2 = (9, 0, b2) ∧ Call G Y_J36_getValue [vP (16, 0, b1)] ν3 (rP fun q3 ν4 => zis 24 q3 ∧ Call G Y_J22_hash [vP (9, 0, b2)] ν4 (rI fun x2 ν5 => Call G Y_J22_putVal [vP (14, 0, r0), vI x2, vP (9, 0, b2), vP q3, vI 0, vI z2] ν5 (rP fun q4 ν6 => Wp G Y_J22_putMapEntries 110 [(0, vP (14, 0, r0)), (2, vI z2), (4, vP (19, 0, r4))] [] ν6 Q E) (fun q ν => zkc q.1 = true ∧ E q ν)) (fun q ν => zkc q.1 = true ∧ E q ν)) (fun q ν => zkc q.1 = true ∧ E q ν)) (fun q ν => zkc q.1 = true ∧ E q ν)) (fun q ν => zkc q.1 = true ∧ E q ν)))) (fun q ν => zkc q.1 = true ∧ E q ν)) : Wp G Y_J22_putMapEntries 110 [(0, vP (14, 0, r0)), (2, vI z2), (4, vP (19, 0, r4))] [] μ Q E := by
  refine Wp_aload 2 dJ22_putMapEntries_110 rfl ?_
  refine Wp_vif Y_J40_hasNext ⟨"java/util/Iterator", "hasNext", "()Z"⟩ (19, 0, r4) [] K_J40_hasNext KI_J40_hasNext q2085 q2071 q2070 q2088 q2086 q2084 ⟨by decide, by decide⟩ rfl rfl rfl rfl q2909 dJ22_putMapEntries_112 (zlt rfl) (Nat.le_of_ble_eq_true rfl) rfl (Call.toI h rfl fun x1 ν1 h => ?_)
  refine Wp_if_eq (tgt := 169) dJ22_putMapEntries_117 rfl (fun hc => ?_) (fun hc => ?_)
  · replace h := h.1 hc
    exact Wp_return dJ22_putMapEntries_169 rfl h
  · replace h := h.2 hc
    refine Wp_aload 2 dJ22_putMapEntries_120 rfl ?_
    refine Wp_vif Y_J41_next ⟨"java/util/Iterator", "next", "()Ljava/lang/Object;"⟩ (19, 0, r4) [] K_J41_next KI_J41_next q2126 q2105 q2104 q2129 q2127 q2084 ⟨by decide, by decide⟩ rfl rfl rfl rfl q2911 dJ22_putMapEntries_122 (zlt rfl) (Nat.le_of_ble_eq_true rfl) rfl (Call.toP h rfl fun q1 ν2 h => ?_)
    obtain ⟨b1, rfl, h⟩ := h
    refine Wp_cast rfl q2912 dJ22_putMapEntries_127 (Or.inr ⟨rfl, Or.inr q2917⟩) ?_
    refine Wp_astore [0, 1, 2, 3] (ls' := [(5, vP (16, 0, b1)), (0, vP (14, 0, r0)), (2, vI z2), (4, vP (19, 0, r4))]) dJ22_putMapEntries_130 (zlt rfl) rfl ?_
    refine Wp_aload 0 dJ22_putMapEntries_132 rfl ?_
    refine Wp_vif Y_J36_getKey ⟨"java/util/Map$Entry", "getKey", "()Ljava/lang/Object;"⟩ (16, 0, b1) [] K_J36_getKey KI_J36_getKey q2918 q2916 q2915 q2920 q2919 q2917 ⟨by decide, by decide⟩ rfl rfl rfl rfl q2914 dJ22_putMapEntries_134 (zlt rfl) (Nat.le_of_ble_eq_true rfl) rfl (Call.toP h rfl fun q2 ν3 h => ?_)
    obtain ⟨b2, rfl, h⟩ := h
    refine Wp_astore [0, 1, 2, 3, 4] (ls' := [(6, vP (9, 0, b2)), (5, vP (16, 0, b1)), (0, vP (14, 0, r0)), (2, vI z2), (4, vP (19, 0, r4))]) dJ22_putMapEntries_139 (zlt rfl) rfl ?_
    refine Wp_aload 1 dJ22_putMapEntries_141 rfl ?_
    refine Wp_vif Y_J36_getValue ⟨"java/util/Map$Entry", "getValue", "()Ljava/lang/Object;"⟩ (16, 0, b1) [] K_J36_getValue KI_J36_getValue q2931 q2930 q2929 q2934 q2932 q2917 ⟨by decide, by decide⟩ rfl rfl rfl rfl q2928 dJ22_putMapEntries_143 (zlt rfl) (Nat.le_of_ble_eq_true rfl) rfl (Call.toP h rfl fun q3 ν4 h => ?_)
    obtain ⟨hz_q3, h⟩ := h
    refine Wp_astore [0, 1, 3, 4, 5] (ls' := [(7, vP q3), (6, vP (9, 0, b2)), (0, vP (14, 0, r0)), (2, vI z2), (4, vP (19, 0, r4))]) dJ22_putMapEntries_148 (zlt rfl) rfl ?_
    refine Wp_aload_n 2 dJ22_putMapEntries_150 rfl rfl ?_
    refine Wp_aload 1 dJ22_putMapEntries_151 rfl ?_
    refine Wp_stat Y_J22_hash [vP (9, 0, b2)] K_J22_hash KS_J22_hash KT_J22_hash rfl q1635 dJ22_putMapEntries_153 (zlt rfl) (Nat.le_of_ble_eq_true rfl) rfl (Call.toI h rfl fun x2 ν5 h => ?_)
    refine Wp_aload 1 dJ22_putMapEntries_156 rfl ?_
    refine Wp_aload 0 dJ22_putMapEntries_158 rfl ?_
    refine Wp_iconst dJ22_putMapEntries_160 (v := 0) rfl ?_
    refine Wp_iload_n 3 dJ22_putMapEntries_161 rfl rfl ?_
    refine Wp_vup Y_J22_putVal ⟨"java/util/HashMap", "putVal", "(ILjava/lang/Object;Ljava/lang/Object;ZZ)Ljava/lang/Object;"⟩ (14, 0, r0) [vI x2, vP (9, 0, b2), vP q3, vI 0, vI z2] K_J22_putVal KI_J22_putVal q2612 q2613 (Or.inr ⟨q2611, _, _, _, q2615⟩) ⟨by decide, by decide⟩ rfl rfl rfl rfl q2610 dJ22_putMapEntries_162 (zlt rfl) (Nat.le_of_ble_eq_true rfl) rfl (Call.toP h rfl fun q4 ν6 h => ?_)
    refine Wp_pop dJ22_putMapEntries_165 rfl ?_
    refine Wp_goto (tgt := 110) dJ22_putMapEntries_166 rfl ?_
    exact Wp.lcl [2, 3, 4] rfl h
theorem cl_fp : ∀ s : Fin 97, 0 < s.val → vf_n64 (FP.f2d ((1061158912 : UInt32).toInt32).toUInt32) ∧ vf_n64 (FP.ddiv (FP.i2d (nI s.val)) (FP.f2d ((1061158912 : UInt32).toInt32).toUInt32)) ∧ zclP (FP.ddiv (FP.i2d (nI s.val)) (FP.f2d ((1061158912 : UInt32).toInt32).toUInt32)) ∧ (Op.cmpValue (FP.dcmp (zceil (FP.ddiv (FP.i2d (nI s.val)) (FP.f2d ((1061158912 : UInt32).toInt32).toUInt32))) 4742290407621132288) .g) < 0 ∧ FP.d2i (zceil (FP.ddiv (FP.i2d (nI s.val)) (FP.f2d ((1061158912 : UInt32).toInt32).toUInt32))) = nI ((4 * s.val + 2) / 3) := by
  unfold zclP vf_n64
  decide +kernel
