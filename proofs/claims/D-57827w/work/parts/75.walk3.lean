set_option maxRecDepth 100000
/-! WALKS, 3: lambdas and ceil -/
theorem nS_X6_dismissCommand {G : ZG} {μ : ZM} {Q : Option ZV → ZM → Prop} {E : ZP → ZM → Prop} {r0 : Nat} {z1 : Int32}
    (h : Q (some (vP (304, 1, zsz μ))) (zAi (zNew μ 304 1 1) (zsz μ) 0 z1)) : Call G Y_X6_dismissCommand [vP (6, 0, r0), vI z1] μ Q E := by
  refine Call.of (Y := Y_X6_dismissCommand) rfl (Nat.le_of_ble_eq_true rfl) ?_
  show Wp G Y_X6_dismissCommand 0 [(0, vP (6, 0, r0)), (1, vI z1)] [] μ Q E
  refine Wp_iload_n 1 dX6_dismissCommand_0 rfl rfl ?_
  refine Wp_lam1 4 rfl rfl rfl rfl dX6_dismissCommand_1 (Nat.le_of_ble_eq_true rfl) ?_
  exact Wp_areturn dX6_dismissCommand_6 rfl (Or.inl ⟨_, rfl⟩) h
theorem nS_X6_fundCommand {G : ZG} {μ : ZM} {Q : Option ZV → ZM → Prop} {E : ZP → ZM → Prop} {r0 : Nat} {z1 : Int32}
    (h : Call G Y_X6_number [vP (6, 0, r0), vI 1, vI 999] μ (rI fun x1 ν1 => Q (some (vP (306, 2, zsz ν1))) (zAi (zAi (zNew ν1 306 2 2) (zsz ν1) 0 z1) (zsz ν1) 1 x1)) (fun q ν => zkc q.1 = true ∧ E q ν)) : Call G Y_X6_fundCommand [vP (6, 0, r0), vI z1] μ Q E := by
  refine Call.of (Y := Y_X6_fundCommand) rfl (Nat.le_of_ble_eq_true rfl) ?_
  show Wp G Y_X6_fundCommand 0 [(0, vP (6, 0, r0)), (1, vI z1)] [] μ Q E
  refine Wp_aload_n 0 dX6_fundCommand_0 rfl rfl ?_
  refine Wp_iconst dX6_fundCommand_1 (v := 1) rfl ?_
  refine Wp_sipush dX6_fundCommand_2 (v := 999) rfl ?_
  refine Wp_vown Y_X6_number (6, 0, r0) [vI 1, vI 999] K_X6_number KI_X6_number qs39 rfl rfl rfl q3180 dX6_fundCommand_5 KS_X6_number (zlt rfl) (Nat.le_of_ble_eq_true rfl) rfl (Call.toI h rfl fun x1 ν1 h => ?_)
  refine Wp_istore_n [0, 2] (ls' := [(2, vI x1), (1, vI z1)]) dX6_fundCommand_8 rfl (zlt rfl) rfl ?_
  refine Wp_iload_n 1 dX6_fundCommand_9 rfl rfl ?_
  refine Wp_iload_n 0 dX6_fundCommand_10 rfl rfl ?_
  refine Wp_lam2 6 rfl rfl rfl rfl dX6_fundCommand_11 (Nat.le_of_ble_eq_true rfl) ?_
  exact Wp_areturn dX6_fundCommand_16 rfl (Or.inl ⟨_, rfl⟩) h
theorem nS_X6_passCommand {G : ZG} {μ : ZM} {Q : Option ZV → ZM → Prop} {E : ZP → ZM → Prop} {r0 : Nat} {z1 : Int32}
    (h : Q (some (vP (301, 1, zsz μ))) (zAi (zNew μ 301 1 1) (zsz μ) 0 z1)) : Call G Y_X6_passCommand [vP (6, 0, r0), vI z1] μ Q E := by
  refine Call.of (Y := Y_X6_passCommand) rfl (Nat.le_of_ble_eq_true rfl) ?_
  show Wp G Y_X6_passCommand 0 [(0, vP (6, 0, r0)), (1, vI z1)] [] μ Q E
  refine Wp_iload_n 1 dX6_passCommand_0 rfl rfl ?_
  refine Wp_lam1 1 rfl rfl rfl rfl dX6_passCommand_1 (Nat.le_of_ble_eq_true rfl) ?_
  exact Wp_areturn dX6_passCommand_6 rfl (Or.inl ⟨_, rfl⟩) h
theorem nS_X6_testCommand {G : ZG} {μ : ZM} {Q : Option ZV → ZM → Prop} {E : ZP → ZM → Prop} {r0 : Nat} {z1 : Int32}
    (h : ∃ a1, zfr μ 74 r0 = (1, 0, a1) ∧ ∃ a2, zfr μ 0 a1 = (2, 0, a2) ∧ Call G Y_X6_echo [vP (6, 0, r0), vP (2, 0, a2)] μ (rI fun x1 ν1 => Q (some (vP (303, 2, zsz ν1))) (zAi (zAi (zNew ν1 303 2 2) (zsz ν1) 0 z1) (zsz ν1) 1 x1)) (fun q ν => zkc q.1 = true ∧ E q ν)) : Call G Y_X6_testCommand [vP (6, 0, r0), vI z1] μ Q E := by
  refine Call.of (Y := Y_X6_testCommand) rfl (Nat.le_of_ble_eq_true rfl) ?_
  show Wp G Y_X6_testCommand 0 [(0, vP (6, 0, r0)), (1, vI z1)] [] μ Q E
  refine Wp_aload_n 0 dX6_testCommand_0 rfl rfl ?_
  refine Wp_aload_n 0 dX6_testCommand_1 rfl rfl ?_
  obtain ⟨a1, e1, h⟩ := h
  refine Wg_P 74 q3122 dX6_testCommand_2 rfl sp_74 rfl rfl e1 ?_
  obtain ⟨a2, e2, h⟩ := h
  refine Wg_NP 0 q1460 dX6_testCommand_5 rfl sp_0 rfl rfl e2 ?_
  refine Wp_vown Y_X6_echo (6, 0, r0) [vP (2, 0, a2)] K_X6_echo KI_X6_echo qs51 rfl rfl rfl q3248 dX6_testCommand_8 KS_X6_echo (zlt rfl) (Nat.le_of_ble_eq_true rfl) rfl (Call.toI h rfl fun x1 ν1 h => ?_)
  refine Wp_istore_n [0, 2] (ls' := [(2, vI x1), (1, vI z1)]) dX6_testCommand_11 rfl (zlt rfl) rfl ?_
  refine Wp_iload_n 1 dX6_testCommand_12 rfl rfl ?_
  refine Wp_iload_n 0 dX6_testCommand_13 rfl rfl ?_
  refine Wp_lam2 3 rfl rfl rfl rfl dX6_testCommand_14 (Nat.le_of_ble_eq_true rfl) ?_
  exact Wp_areturn dX6_testCommand_19 rfl (Or.inl ⟨_, rfl⟩) h
theorem nS_X6_trainCommand {G : ZG} {μ : ZM} {Q : Option ZV → ZM → Prop} {E : ZP → ZM → Prop} {r0 : Nat} {z1 : Int32}
    (h : Q (some (vP (307, 1, zsz μ))) (zAi (zNew μ 307 1 1) (zsz μ) 0 z1)) : Call G Y_X6_trainCommand [vP (6, 0, r0), vI z1] μ Q E := by
  refine Call.of (Y := Y_X6_trainCommand) rfl (Nat.le_of_ble_eq_true rfl) ?_
  show Wp G Y_X6_trainCommand 0 [(0, vP (6, 0, r0)), (1, vI z1)] [] μ Q E
  refine Wp_iload_n 1 dX6_trainCommand_0 rfl rfl ?_
  refine Wp_lam1 7 rfl rfl rfl rfl dX6_trainCommand_1 (Nat.le_of_ble_eq_true rfl) ?_
  exact Wp_areturn dX6_trainCommand_6 rfl (Or.inl ⟨_, rfl⟩) h
theorem nS_X6_wageCommand {G : ZG} {μ : ZM} {Q : Option ZV → ZM → Prop} {E : ZP → ZM → Prop} {r0 : Nat} {z1 : Int32}
    (h : Call G Y_X6_number [vP (6, 0, r0), vI 1, vI 99] μ (rI fun x1 ν1 => Q (some (vP (305, 2, zsz ν1))) (zAi (zAi (zNew ν1 305 2 2) (zsz ν1) 0 z1) (zsz ν1) 1 x1)) (fun q ν => zkc q.1 = true ∧ E q ν)) : Call G Y_X6_wageCommand [vP (6, 0, r0), vI z1] μ Q E := by
  refine Call.of (Y := Y_X6_wageCommand) rfl (Nat.le_of_ble_eq_true rfl) ?_
  show Wp G Y_X6_wageCommand 0 [(0, vP (6, 0, r0)), (1, vI z1)] [] μ Q E
  refine Wp_aload_n 0 dX6_wageCommand_0 rfl rfl ?_
  refine Wp_iconst dX6_wageCommand_1 (v := 1) rfl ?_
  refine Wp_bipush dX6_wageCommand_2 (v := 99) rfl ?_
  refine Wp_vown Y_X6_number (6, 0, r0) [vI 1, vI 99] K_X6_number KI_X6_number qs39 rfl rfl rfl q3180 dX6_wageCommand_4 KS_X6_number (zlt rfl) (Nat.le_of_ble_eq_true rfl) rfl (Call.toI h rfl fun x1 ν1 h => ?_)
  refine Wp_istore_n [0, 2] (ls' := [(2, vI x1), (1, vI z1)]) dX6_wageCommand_7 rfl (zlt rfl) rfl ?_
  refine Wp_iload_n 1 dX6_wageCommand_8 rfl rfl ?_
  refine Wp_iload_n 0 dX6_wageCommand_9 rfl rfl ?_
  refine Wp_lam2 5 rfl rfl rfl rfl dX6_wageCommand_10 (Nat.le_of_ble_eq_true rfl) ?_
  exact Wp_areturn dX6_wageCommand_15 rfl (Or.inl ⟨_, rfl⟩) h
theorem nS_X6_command {G : ZG} {μ : ZM} {Q : Option ZV → ZM → Prop} {E : ZP → ZM → Prop} {r0 : Nat}
    (h : ∃ q1, zfr μ 72 r0 = q1 ∧ zis 23 q1 ∧ Call G Y_X6_advance [vP (6, 0, r0)] μ (rV fun ν1 => Call G Y_J9_hashCode [vP q1] ν1 (rI fun x1 ν2 => (x1 = 3135268 → (Call G Y_J9_equals [vP q1, vP (zgS G 108)] ν2 (rI fun x2 ν3 => (x2 = 0 → Wp G Y_X6_command 157 [(0, vP (6, 0, r0)), (3, vI (-1))] [] ν3 Q E) ∧ (¬ x2 = 0 → Wp G Y_X6_command 157 [(0, vP (6, 0, r0)), (3, vI 1)] [] ν3 Q E)) (fun q ν => zkc q.1 = true ∧ E q ν))) ∧ (x1 = 3154629 → (Call G Y_J9_equals [vP q1, vP (zgS G 117)] ν2 (rI fun x3 ν4 => (x3 = 0 → Wp G Y_X6_command 157 [(0, vP (6, 0, r0)), (3, vI (-1))] [] ν4 Q E) ∧ (¬ x3 = 0 → Wp G Y_X6_command 157 [(0, vP (6, 0, r0)), (3, vI 5)] [] ν4 Q E)) (fun q ν => zkc q.1 = true ∧ E q ν))) ∧ (x1 = 3433489 → (Call G Y_J9_equals [vP q1, vP (zgS G 113)] ν2 (rI fun x4 ν5 => (x4 = 0 → Wp G Y_X6_command 157 [(0, vP (6, 0, r0)), (3, vI (-1))] [] ν5 Q E) ∧ (¬ x4 = 0 → Wp G Y_X6_command 157 [(0, vP (6, 0, r0)), (3, vI 0)] [] ν5 Q E)) (fun q ν => zkc q.1 = true ∧ E q ν))) ∧ (x1 = 3556498 → (Call G Y_J9_equals [vP q1, vP (zgS G 114)] ν2 (rI fun x5 ν6 => (x5 = 0 → Wp G Y_X6_command 157 [(0, vP (6, 0, r0)), (3, vI (-1))] [] ν6 Q E) ∧ (¬ x5 = 0 → Wp G Y_X6_command 157 [(0, vP (6, 0, r0)), (3, vI 2)] [] ν6 Q E)) (fun q ν => zkc q.1 = true ∧ E q ν))) ∧ (x1 = 3641640 → (Call G Y_J9_equals [vP q1, vP (zgS G 116)] ν2 (rI fun x6 ν7 => (x6 = 0 → Wp G Y_X6_command 157 [(0, vP (6, 0, r0)), (3, vI (-1))] [] ν7 Q E) ∧ (¬ x6 = 0 → Wp G Y_X6_command 157 [(0, vP (6, 0, r0)), (3, vI 4)] [] ν7 Q E)) (fun q ν => zkc q.1 = true ∧ E q ν))) ∧ (x1 = 1671672458 → (Call G Y_J9_equals [vP q1, vP (zgS G 115)] ν2 (rI fun x7 ν8 => (x7 = 0 → Wp G Y_X6_command 157 [(0, vP (6, 0, r0)), (3, vI (-1))] [] ν8 Q E) ∧ (¬ x7 = 0 → Wp G Y_X6_command 157 [(0, vP (6, 0, r0)), (3, vI 3)] [] ν8 Q E)) (fun q ν => zkc q.1 = true ∧ E q ν))) ∧ (¬ x1 = 3135268 → ¬ x1 = 3154629 → ¬ x1 = 3433489 → ¬ x1 = 3556498 → ¬ x1 = 3641640 → ¬ x1 = 1671672458 → Wp G Y_X6_command 157 [(0, vP (6, 0, r0)), (3, vI (-1))] [] ν2 Q E)) (fun q ν => zkc q.1 = true ∧ E q ν)) (fun q ν => zkc q.1 = true ∧ E q ν)) : Call G Y_X6_command [vP (6, 0, r0)] μ Q E := by
  refine Call.of (Y := Y_X6_command) rfl (Nat.le_of_ble_eq_true rfl) ?_
  show Wp G Y_X6_command 0 [(0, vP (6, 0, r0))] [] μ Q E
  refine Wp_aload_n 0 dX6_command_0 rfl rfl ?_
  obtain ⟨q1, e1, hz_q1, h⟩ := h
  refine Wg_P 72 q3120 dX6_command_1 rfl sp_72 rfl rfl e1 ?_
  refine Wp_astore_n [0, 1] (ls' := [(1, vP q1), (0, vP (6, 0, r0))]) dX6_command_4 rfl (zlt rfl) rfl ?_
  refine Wp_aload_n 1 dX6_command_5 rfl rfl ?_
  refine Wp_vown Y_X6_advance (6, 0, r0) [] K_X6_advance KI_X6_advance q3093 rfl rfl rfl q3091 dX6_command_6 KS_X6_advance (zlt rfl) (Nat.le_of_ble_eq_true rfl) rfl (Call.toV h rfl fun ν1 h => ?_)
  refine Wp_aload_n 0 dX6_command_9 rfl rfl ?_
  refine Wp_astore_n [0, 2] (ls' := [(2, vP q1), (0, vP (6, 0, r0))]) dX6_command_10 rfl (zlt rfl) rfl ?_
  refine Wp_iconst dX6_command_11 (v := (-1)) rfl ?_
  refine Wp_istore_n [0, 1, 2] (ls' := [(3, vI (-1)), (2, vP q1), (0, vP (6, 0, r0))]) dX6_command_12 rfl (zlt rfl) rfl ?_
  refine Wp_aload_n 1 dX6_command_13 rfl rfl ?_
  refine Wp_vown Y_J9_hashCode q1 [] K_J9_hashCode KI_J9_hashCode q4590 (zis_kc hz_q1 rfl) (zis_cls hz_q1 rfl rfl) rfl q3204 dX6_command_14 KS_J9_hashCode (zlt rfl) (Nat.le_of_ble_eq_true rfl) rfl (Call.toI h rfl fun x1 ν2 h => ?_)
  obtain ⟨h0, h1, h2, h3, h4, h5, h6⟩ := h
  by_cases c0 : x1 = 3135268
  · replace h := h0 c0
    refine Wp_lookup (off := 73) (tgt := 90) dX6_command_17 (by decide) (by rw [c0]; rfl) rfl ?_
    refine Wp_aload_n 1 dX6_command_90 rfl rfl ?_
    refine Wg_ldcs 9 8 dX6_command_91 rfl rfl (fun hz_c108 => ?_)
    refine Wp_vown Y_J9_equals q1 [vP (zgS G 108)] K_J9_equals KI_J9_equals q1549 (zis_kc hz_q1 rfl) (zis_cls hz_q1 rfl rfl) rfl q3147 dX6_command_93 KS_J9_equals (zlt rfl) (Nat.le_of_ble_eq_true rfl) rfl (Call.toI h rfl fun x2 ν3 h => ?_)
    refine Wp_if_eq (tgt := 157) dX6_command_96 rfl (fun hc => ?_) (fun hc => ?_)
    · replace h := h.1 hc
      exact Wp.lcl [2, 0] rfl h
    · replace h := h.2 hc
      refine Wp_iconst dX6_command_99 (v := 1) rfl ?_
      refine Wp_istore_n [0, 2] (ls' := [(3, vI 1), (0, vP (6, 0, r0))]) dX6_command_100 rfl (zlt rfl) rfl ?_
      refine Wp_goto (tgt := 157) dX6_command_101 rfl ?_
      exact Wp.lcl [1, 0] rfl h
  by_cases c1 : x1 = 3154629
  · replace h := h1 c1
    refine Wp_lookup (off := 129) (tgt := 146) dX6_command_17 (by decide) (by rw [c1]; rfl) rfl ?_
    refine Wp_aload_n 1 dX6_command_146 rfl rfl ?_
    refine Wg_ldcs 25 17 dX6_command_147 rfl rfl (fun hz_c117 => ?_)
    refine Wp_vown Y_J9_equals q1 [vP (zgS G 117)] K_J9_equals KI_J9_equals q1549 (zis_kc hz_q1 rfl) (zis_cls hz_q1 rfl rfl) rfl q3147 dX6_command_149 KS_J9_equals (zlt rfl) (Nat.le_of_ble_eq_true rfl) rfl (Call.toI h rfl fun x3 ν4 h => ?_)
    refine Wp_if_eq (tgt := 157) dX6_command_152 rfl (fun hc => ?_) (fun hc => ?_)
    · replace h := h.1 hc
      exact Wp.lcl [2, 0] rfl h
    · replace h := h.2 hc
      refine Wp_iconst dX6_command_155 (v := 5) rfl ?_
      refine Wp_istore_n [0, 2] (ls' := [(3, vI 5), (0, vP (6, 0, r0))]) dX6_command_156 rfl (zlt rfl) rfl ?_
      exact Wp.lcl [1, 0] rfl h
  by_cases c2 : x1 = 3433489
  · replace h := h2 c2
    refine Wp_lookup (off := 59) (tgt := 76) dX6_command_17 (by decide) (by rw [c2]; rfl) rfl ?_
    refine Wp_aload_n 1 dX6_command_76 rfl rfl ?_
    refine Wg_ldcs 21 13 dX6_command_77 rfl rfl (fun hz_c113 => ?_)
    refine Wp_vown Y_J9_equals q1 [vP (zgS G 113)] K_J9_equals KI_J9_equals q1549 (zis_kc hz_q1 rfl) (zis_cls hz_q1 rfl rfl) rfl q3147 dX6_command_79 KS_J9_equals (zlt rfl) (Nat.le_of_ble_eq_true rfl) rfl (Call.toI h rfl fun x4 ν5 h => ?_)
    refine Wp_if_eq (tgt := 157) dX6_command_82 rfl (fun hc => ?_) (fun hc => ?_)
    · replace h := h.1 hc
      exact Wp.lcl [2, 0] rfl h
    · replace h := h.2 hc
      refine Wp_iconst dX6_command_85 (v := 0) rfl ?_
      refine Wp_istore_n [0, 2] (ls' := [(3, vI 0), (0, vP (6, 0, r0))]) dX6_command_86 rfl (zlt rfl) rfl ?_
      refine Wp_goto (tgt := 157) dX6_command_87 rfl ?_
      exact Wp.lcl [1, 0] rfl h
  by_cases c3 : x1 = 3556498
  · replace h := h3 c3
    refine Wp_lookup (off := 87) (tgt := 104) dX6_command_17 (by decide) (by rw [c3]; rfl) rfl ?_
    refine Wp_aload_n 1 dX6_command_104 rfl rfl ?_
    refine Wg_ldcs 22 14 dX6_command_105 rfl rfl (fun hz_c114 => ?_)
    refine Wp_vown Y_J9_equals q1 [vP (zgS G 114)] K_J9_equals KI_J9_equals q1549 (zis_kc hz_q1 rfl) (zis_cls hz_q1 rfl rfl) rfl q3147 dX6_command_107 KS_J9_equals (zlt rfl) (Nat.le_of_ble_eq_true rfl) rfl (Call.toI h rfl fun x5 ν6 h => ?_)
    refine Wp_if_eq (tgt := 157) dX6_command_110 rfl (fun hc => ?_) (fun hc => ?_)
    · replace h := h.1 hc
      exact Wp.lcl [2, 0] rfl h
    · replace h := h.2 hc
      refine Wp_iconst dX6_command_113 (v := 2) rfl ?_
      refine Wp_istore_n [0, 2] (ls' := [(3, vI 2), (0, vP (6, 0, r0))]) dX6_command_114 rfl (zlt rfl) rfl ?_
      refine Wp_goto (tgt := 157) dX6_command_115 rfl ?_
      exact Wp.lcl [1, 0] rfl h
  by_cases c4 : x1 = 3641640
  · replace h := h4 c4
    refine Wp_lookup (off := 115) (tgt := 132) dX6_command_17 (by decide) (by rw [c4]; rfl) rfl ?_
    refine Wp_aload_n 1 dX6_command_132 rfl rfl ?_
    refine Wg_ldcs 24 16 dX6_command_133 rfl rfl (fun hz_c116 => ?_)
    refine Wp_vown Y_J9_equals q1 [vP (zgS G 116)] K_J9_equals KI_J9_equals q1549 (zis_kc hz_q1 rfl) (zis_cls hz_q1 rfl rfl) rfl q3147 dX6_command_135 KS_J9_equals (zlt rfl) (Nat.le_of_ble_eq_true rfl) rfl (Call.toI h rfl fun x6 ν7 h => ?_)
    refine Wp_if_eq (tgt := 157) dX6_command_138 rfl (fun hc => ?_) (fun hc => ?_)
    · replace h := h.1 hc
      exact Wp.lcl [2, 0] rfl h
    · replace h := h.2 hc
      refine Wp_iconst dX6_command_141 (v := 4) rfl ?_
      refine Wp_istore_n [0, 2] (ls' := [(3, vI 4), (0, vP (6, 0, r0))]) dX6_command_142 rfl (zlt rfl) rfl ?_
      refine Wp_goto (tgt := 157) dX6_command_143 rfl ?_
      exact Wp.lcl [1, 0] rfl h
  by_cases c5 : x1 = 1671672458
  · replace h := h5 c5
    refine Wp_lookup (off := 101) (tgt := 118) dX6_command_17 (by decide) (by rw [c5]; rfl) rfl ?_
    refine Wp_aload_n 1 dX6_command_118 rfl rfl ?_
    refine Wg_ldcs 23 15 dX6_command_119 rfl rfl (fun hz_c115 => ?_)
    refine Wp_vown Y_J9_equals q1 [vP (zgS G 115)] K_J9_equals KI_J9_equals q1549 (zis_kc hz_q1 rfl) (zis_cls hz_q1 rfl rfl) rfl q3147 dX6_command_121 KS_J9_equals (zlt rfl) (Nat.le_of_ble_eq_true rfl) rfl (Call.toI h rfl fun x7 ν8 h => ?_)
    refine Wp_if_eq (tgt := 157) dX6_command_124 rfl (fun hc => ?_) (fun hc => ?_)
    · replace h := h.1 hc
      exact Wp.lcl [2, 0] rfl h
    · replace h := h.2 hc
      refine Wp_iconst dX6_command_127 (v := 3) rfl ?_
      refine Wp_istore_n [0, 2] (ls' := [(3, vI 3), (0, vP (6, 0, r0))]) dX6_command_128 rfl (zlt rfl) rfl ?_
      refine Wp_goto (tgt := 157) dX6_command_129 rfl ?_
      exact Wp.lcl [1, 0] rfl h
  replace h := h6 c0 c1 c2 c3 c4 c5
  refine Wp_lookup (off := 140) (tgt := 157) dX6_command_17 (by decide) (zlk_dflt _ _ _ (by intro p hp; simp only [List.mem_cons, List.not_mem_nil, or_false] at hp; exact (hp.elim (fun e => by rw [e]; exact fun e => c0 (Int32.toInt_inj.mp (by rw [← e]; rfl))) (fun hp => (hp.elim (fun e => by rw [e]; exact fun e => c1 (Int32.toInt_inj.mp (by rw [← e]; rfl))) (fun hp => (hp.elim (fun e => by rw [e]; exact fun e => c2 (Int32.toInt_inj.mp (by rw [← e]; rfl))) (fun hp => (hp.elim (fun e => by rw [e]; exact fun e => c3 (Int32.toInt_inj.mp (by rw [← e]; rfl))) (fun hp => (hp.elim (fun e => by rw [e]; exact fun e => c4 (Int32.toInt_inj.mp (by rw [← e]; rfl))) (fun hp => ((fun e => by rw [e]; exact fun e => c5 (Int32.toInt_inj.mp (by rw [← e]; rfl))) hp))))))))))))) rfl ?_
  exact Wp.lcl [2, 0] rfl h
theorem nB_X6_command_157 {G : ZG} {μ : ZM} {Q : Option ZV → ZM → Prop} {E : ZP → ZM → Prop} {r0 : Nat} {z3 : Int32}
    (h : (z3 = 0 → (Call G Y_X6_number [vP (6, 0, r0), vI 1, vI 60] μ (rI fun x1 ν1 => Call G Y_X6_passCommand [vP (6, 0, r0), vI x1] ν1 (rP fun q1 ν2 => Q (some (vP q1)) ν2) (fun q ν => zkc q.1 = true ∧ E q ν)) (fun q ν => zkc q.1 = true ∧ E q ν))) ∧ (z3 = 1 → (∃ a1, zgS G 202 = (302, 0, a1) ∧ Q (some (vP (302, 0, a1))) μ)) ∧ (z3 = 2 → (∃ a2, zfr μ 74 r0 = (1, 0, a2) ∧ ∃ a3, zfr μ 0 a2 = (2, 0, a3) ∧ Call G Y_X6_valley [vP (6, 0, r0), vP (2, 0, a3)] μ (rI fun x2 ν3 => Call G Y_X6_testCommand [vP (6, 0, r0), vI x2] ν3 (rP fun q2 ν4 => Q (some (vP q2)) ν4) (fun q ν => zkc q.1 = true ∧ E q ν)) (fun q ν => zkc q.1 = true ∧ E q ν))) ∧ (z3 = 3 → (∃ a4, zfr μ 74 r0 = (1, 0, a4) ∧ ∃ a5, zfr μ 0 a4 = (2, 0, a5) ∧ Call G Y_X6_echo [vP (6, 0, r0), vP (2, 0, a5)] μ (rI fun x3 ν5 => Call G Y_X6_dismissCommand [vP (6, 0, r0), vI x3] ν5 (rP fun q3 ν6 => Q (some (vP q3)) ν6) (fun q ν => zkc q.1 = true ∧ E q ν)) (fun q ν => zkc q.1 = true ∧ E q ν))) ∧ (z3 = 4 → (∃ a6, zfr μ 74 r0 = (1, 0, a6) ∧ ∃ a7, zfr μ 0 a6 = (2, 0, a7) ∧ Call G Y_X6_valley [vP (6, 0, r0), vP (2, 0, a7)] μ (rI fun x4 ν7 => Call G Y_X6_wageCommand [vP (6, 0, r0), vI x4] ν7 (rP fun q4 ν8 => Q (some (vP q4)) ν8) (fun q ν => zkc q.1 = true ∧ E q ν)) (fun q ν => zkc q.1 = true ∧ E q ν))) ∧ (z3 = 5 → (∃ a8, zfr μ 74 r0 = (1, 0, a8) ∧ ∃ a9, zfr μ 0 a8 = (2, 0, a9) ∧ Call G Y_X6_valley [vP (6, 0, r0), vP (2, 0, a9)] μ (rI fun x5 ν9 => Call G Y_X6_fundCommand [vP (6, 0, r0), vI x5] ν9 (rP fun q5 ν10 => Q (some (vP q5)) ν10) (fun q ν => zkc q.1 = true ∧ E q ν)) (fun q ν => zkc q.1 = true ∧ E q ν))) ∧ (z3.toInt < 0 ∨ 5 < z3.toInt → (∃ a10, zfr μ 74 r0 = (1, 0, a10) ∧ ∃ a11, zfr μ 0 a10 = (2, 0, a11) ∧ Call G Y_X6_echo [vP (6, 0, r0), vP (2, 0, a11)] μ (rI fun x6 ν11 => Call G Y_X6_trainCommand [vP (6, 0, r0), vI x6] ν11 (rP fun q6 ν12 => Q (some (vP q6)) ν12) (fun q ν => zkc q.1 = true ∧ E q ν)) (fun q ν => zkc q.1 = true ∧ E q ν)))) : Wp G Y_X6_command 157 [(0, vP (6, 0, r0)), (3, vI z3)] [] μ Q E := by
  refine Wp_iload_n 1 dX6_command_157 rfl rfl ?_
  obtain ⟨h0, h1, h2, h3, h4, h5, h6⟩ := h
  by_cases c0 : z3 = 0
  · replace h := h0 c0
    refine Wp_tableIn (off := 38) (tgt := 196) dX6_command_158 (by rw [c0]; decide) (by rw [c0]; decide) (by rw [c0]; rfl) rfl ?_
    refine Wp_aload_n 0 dX6_command_196 rfl rfl ?_
    refine Wp_aload_n 0 dX6_command_197 rfl rfl ?_
    refine Wp_iconst dX6_command_198 (v := 1) rfl ?_
    refine Wp_bipush dX6_command_199 (v := 60) rfl ?_
    refine Wp_vown Y_X6_number (6, 0, r0) [vI 1, vI 60] K_X6_number KI_X6_number qs39 rfl rfl rfl q3180 dX6_command_201 KS_X6_number (zlt rfl) (Nat.le_of_ble_eq_true rfl) rfl (Call.toI h rfl fun x1 ν1 h => ?_)
    refine Wp_vown Y_X6_passCommand (6, 0, r0) [vI x1] K_X6_passCommand KI_X6_passCommand qs55 rfl rfl rfl q3310 dX6_command_204 KS_X6_passCommand (zlt rfl) (Nat.le_of_ble_eq_true rfl) rfl (Call.toP h rfl fun q1 ν2 h => ?_)
    refine Wp_goto (tgt := 305) dX6_command_207 rfl ?_
    exact Wp_areturn dX6_command_305 rfl (Or.inl ⟨_, rfl⟩) h
  by_cases c1 : z3 = 1
  · replace h := h1 c1
    refine Wp_tableIn (off := 52) (tgt := 210) dX6_command_158 (by rw [c1]; decide) (by rw [c1]; decide) (by rw [c1]; rfl) rfl ?_
    obtain ⟨a1, e1, h⟩ := h
    refine Wp_lamK 2 rfl rfl rfl rfl dX6_command_210 e1 (Nat.le_of_ble_eq_true rfl) ?_
    refine Wp_goto (tgt := 305) dX6_command_215 rfl ?_
    exact Wp_areturn dX6_command_305 rfl (Or.inl ⟨_, rfl⟩) h
  by_cases c2 : z3 = 2
  · replace h := h2 c2
    refine Wp_tableIn (off := 60) (tgt := 218) dX6_command_158 (by rw [c2]; decide) (by rw [c2]; decide) (by rw [c2]; rfl) rfl ?_
    refine Wp_aload_n 0 dX6_command_218 rfl rfl ?_
    refine Wp_aload_n 0 dX6_command_219 rfl rfl ?_
    refine Wp_aload_n 0 dX6_command_220 rfl rfl ?_
    obtain ⟨a2, e2, h⟩ := h
    refine Wg_P 74 q3122 dX6_command_221 rfl sp_74 rfl rfl e2 ?_
    obtain ⟨a3, e3, h⟩ := h
    refine Wg_NP 0 q1460 dX6_command_224 rfl sp_0 rfl rfl e3 ?_
    refine Wp_vown Y_X6_valley (6, 0, r0) [vP (2, 0, a3)] K_X6_valley KI_X6_valley qs49 rfl rfl rfl q3239 dX6_command_227 KS_X6_valley (zlt rfl) (Nat.le_of_ble_eq_true rfl) rfl (Call.toI h rfl fun x2 ν3 h => ?_)
    refine Wp_vown Y_X6_testCommand (6, 0, r0) [vI x2] K_X6_testCommand KI_X6_testCommand qs60 rfl rfl rfl q3400 dX6_command_230 KS_X6_testCommand (zlt rfl) (Nat.le_of_ble_eq_true rfl) rfl (Call.toP h rfl fun q2 ν4 h => ?_)
    refine Wp_goto (tgt := 305) dX6_command_233 rfl ?_
    exact Wp_areturn dX6_command_305 rfl (Or.inl ⟨_, rfl⟩) h
  by_cases c3 : z3 = 3
  · replace h := h3 c3
    refine Wp_tableIn (off := 78) (tgt := 236) dX6_command_158 (by rw [c3]; decide) (by rw [c3]; decide) (by rw [c3]; rfl) rfl ?_
    refine Wp_aload_n 0 dX6_command_236 rfl rfl ?_
    refine Wp_aload_n 0 dX6_command_237 rfl rfl ?_
    refine Wp_aload_n 0 dX6_command_238 rfl rfl ?_
    obtain ⟨a4, e4, h⟩ := h
    refine Wg_P 74 q3122 dX6_command_239 rfl sp_74 rfl rfl e4 ?_
    obtain ⟨a5, e5, h⟩ := h
    refine Wg_NP 0 q1460 dX6_command_242 rfl sp_0 rfl rfl e5 ?_
    refine Wp_vown Y_X6_echo (6, 0, r0) [vP (2, 0, a5)] K_X6_echo KI_X6_echo qs51 rfl rfl rfl q3248 dX6_command_245 KS_X6_echo (zlt rfl) (Nat.le_of_ble_eq_true rfl) rfl (Call.toI h rfl fun x3 ν5 h => ?_)
    refine Wp_vown Y_X6_dismissCommand (6, 0, r0) [vI x3] K_X6_dismissCommand KI_X6_dismissCommand qs61 rfl rfl rfl q3411 dX6_command_248 KS_X6_dismissCommand (zlt rfl) (Nat.le_of_ble_eq_true rfl) rfl (Call.toP h rfl fun q3 ν6 h => ?_)
    refine Wp_goto (tgt := 305) dX6_command_251 rfl ?_
    exact Wp_areturn dX6_command_305 rfl (Or.inl ⟨_, rfl⟩) h
  by_cases c4 : z3 = 4
  · replace h := h4 c4
    refine Wp_tableIn (off := 96) (tgt := 254) dX6_command_158 (by rw [c4]; decide) (by rw [c4]; decide) (by rw [c4]; rfl) rfl ?_
    refine Wp_aload_n 0 dX6_command_254 rfl rfl ?_
    refine Wp_aload_n 0 dX6_command_255 rfl rfl ?_
    refine Wp_aload_n 0 dX6_command_256 rfl rfl ?_
    obtain ⟨a6, e6, h⟩ := h
    refine Wg_P 74 q3122 dX6_command_257 rfl sp_74 rfl rfl e6 ?_
    obtain ⟨a7, e7, h⟩ := h
    refine Wg_NP 0 q1460 dX6_command_260 rfl sp_0 rfl rfl e7 ?_
    refine Wp_vown Y_X6_valley (6, 0, r0) [vP (2, 0, a7)] K_X6_valley KI_X6_valley qs49 rfl rfl rfl q3239 dX6_command_263 KS_X6_valley (zlt rfl) (Nat.le_of_ble_eq_true rfl) rfl (Call.toI h rfl fun x4 ν7 h => ?_)
    refine Wp_vown Y_X6_wageCommand (6, 0, r0) [vI x4] K_X6_wageCommand KI_X6_wageCommand qs62 rfl rfl rfl q3421 dX6_command_266 KS_X6_wageCommand (zlt rfl) (Nat.le_of_ble_eq_true rfl) rfl (Call.toP h rfl fun q4 ν8 h => ?_)
    refine Wp_goto (tgt := 305) dX6_command_269 rfl ?_
    exact Wp_areturn dX6_command_305 rfl (Or.inl ⟨_, rfl⟩) h
  by_cases c5 : z3 = 5
  · replace h := h5 c5
    refine Wp_tableIn (off := 114) (tgt := 272) dX6_command_158 (by rw [c5]; decide) (by rw [c5]; decide) (by rw [c5]; rfl) rfl ?_
    refine Wp_aload_n 0 dX6_command_272 rfl rfl ?_
    refine Wp_aload_n 0 dX6_command_273 rfl rfl ?_
    refine Wp_aload_n 0 dX6_command_274 rfl rfl ?_
    obtain ⟨a8, e8, h⟩ := h
    refine Wg_P 74 q3122 dX6_command_275 rfl sp_74 rfl rfl e8 ?_
    obtain ⟨a9, e9, h⟩ := h
    refine Wg_NP 0 q1460 dX6_command_278 rfl sp_0 rfl rfl e9 ?_
    refine Wp_vown Y_X6_valley (6, 0, r0) [vP (2, 0, a9)] K_X6_valley KI_X6_valley qs49 rfl rfl rfl q3239 dX6_command_281 KS_X6_valley (zlt rfl) (Nat.le_of_ble_eq_true rfl) rfl (Call.toI h rfl fun x5 ν9 h => ?_)
    refine Wp_vown Y_X6_fundCommand (6, 0, r0) [vI x5] K_X6_fundCommand KI_X6_fundCommand qs63 rfl rfl rfl q3431 dX6_command_284 KS_X6_fundCommand (zlt rfl) (Nat.le_of_ble_eq_true rfl) rfl (Call.toP h rfl fun q5 ν10 h => ?_)
    refine Wp_goto (tgt := 305) dX6_command_287 rfl ?_
    exact Wp_areturn dX6_command_305 rfl (Or.inl ⟨_, rfl⟩) h
  have t0 : z3.toInt ≠ 0 := fun e => c0 (Int32.toInt_inj.mp (by rw [e]; rfl))
  have t1 : z3.toInt ≠ 1 := fun e => c1 (Int32.toInt_inj.mp (by rw [e]; rfl))
  have t2 : z3.toInt ≠ 2 := fun e => c2 (Int32.toInt_inj.mp (by rw [e]; rfl))
  have t3 : z3.toInt ≠ 3 := fun e => c3 (Int32.toInt_inj.mp (by rw [e]; rfl))
  have t4 : z3.toInt ≠ 4 := fun e => c4 (Int32.toInt_inj.mp (by rw [e]; rfl))
  have t5 : z3.toInt ≠ 5 := fun e => c5 (Int32.toInt_inj.mp (by rw [e]; rfl))
  have ho : z3.toInt < 0 ∨ 5 < z3.toInt := by omega
  replace h := h6 ho
  refine Wp_tableOut (tgt := 290) dX6_command_158 ho rfl ?_
  refine Wp_aload_n 0 dX6_command_290 rfl rfl ?_
  refine Wp_aload_n 0 dX6_command_291 rfl rfl ?_
  refine Wp_aload_n 0 dX6_command_292 rfl rfl ?_
  obtain ⟨a10, e10, h⟩ := h
  refine Wg_P 74 q3122 dX6_command_293 rfl sp_74 rfl rfl e10 ?_
  obtain ⟨a11, e11, h⟩ := h
  refine Wg_NP 0 q1460 dX6_command_296 rfl sp_0 rfl rfl e11 ?_
  refine Wp_vown Y_X6_echo (6, 0, r0) [vP (2, 0, a11)] K_X6_echo KI_X6_echo qs51 rfl rfl rfl q3248 dX6_command_299 KS_X6_echo (zlt rfl) (Nat.le_of_ble_eq_true rfl) rfl (Call.toI h rfl fun x6 ν11 h => ?_)
  refine Wp_vown Y_X6_trainCommand (6, 0, r0) [vI x6] K_X6_trainCommand KI_X6_trainCommand qs64 rfl rfl rfl q3441 dX6_command_302 KS_X6_trainCommand (zlt rfl) (Nat.le_of_ble_eq_true rfl) rfl (Call.toP h rfl fun q6 ν12 h => ?_)
  exact Wp_areturn dX6_command_305 rfl (Or.inl ⟨_, rfl⟩) h
theorem nS_X6_commands {G : ZG} {μ : ZM} {Q : Option ZV → ZM → Prop} {E : ZP → ZM → Prop} {r0 : Nat}
    (h : Wp G Y_X6_commands 8 [(0, vP (6, 0, r0)), (1, vP (206, 31, zsz μ)), (2, vI 0)] [] (zNew μ 206 31 31) Q E) : Call G Y_X6_commands [vP (6, 0, r0)] μ Q E := by
  refine Call.of (Y := Y_X6_commands) rfl (Nat.le_of_ble_eq_true rfl) ?_
  show Wp G Y_X6_commands 0 [(0, vP (6, 0, r0))] [] μ Q E
  refine Wp_bipush dX6_commands_0 (v := 31) rfl ?_
  refine Wg_anewa 206 q3287 dX6_commands_2 rfl rfl q3288 (j := 31) rfl (by decide) ?_
  refine Wp_astore_n [0, 1] (ls' := [(1, vP (206, 31, zsz μ)), (0, vP (6, 0, r0))]) dX6_commands_5 rfl (zlt rfl) rfl ?_
  refine Wp_iconst dX6_commands_6 (v := 0) rfl ?_
  refine Wp_istore_n [0, 1, 2] (ls' := [(2, vI 0), (1, vP (206, 31, zsz μ)), (0, vP (6, 0, r0))]) dX6_commands_7 rfl (zlt rfl) rfl ?_
  exact Wp.lcl [2, 1, 0] rfl h
theorem nB_X6_commands_8 {G : ZG} {μ : ZM} {Q : Option ZV → ZM → Prop} {E : ZP → ZM → Prop} {r0 : Nat} {t1 : Nat} {r1 : Nat} {z2 : Int32}
    (h : ∃ q1, zfr μ 73 r0 = q1 ∧ q1.1 ≠ 251 ∧ (zgS G 2).1 ≠ 251 ∧ (q1 = (zgS G 2) → Q (some (vP (206, t1, r1))) μ) ∧ (¬ q1 = (zgS G 2) → (∃ q2, zfr μ 72 r0 = q2 ∧ zis 23 q2 ∧ Call G Y_X1_isCommand [vP q2] μ (rI fun x1 ν1 => Call G Y_X6_require [vP (6, 0, r0), vI x1, vI 1] ν1 (rV fun ν2 => (¬ z2 < 30 → (Call G Y_X6_require [vP (6, 0, r0), vI 0, vI 4] ν2 (rV fun ν3 => Call G Y_X6_command [vP (6, 0, r0)] ν3 (rP fun q3 ν4 => ∃ j1, zix z2 j1 t1 ∧ zlm q3 ∧ Call G Y_X6_semicolon [vP (6, 0, r0)] (zAr ν4 r1 j1 q3) (rV fun ν5 => Wp G Y_X6_commands 8 [(0, vP (6, 0, r0)), (1, vP (206, t1, r1)), (2, vI (z2 + 1))] [] ν5 Q E) (fun q ν => zkc q.1 = true ∧ E q ν)) (fun q ν => zkc q.1 = true ∧ E q ν)) (fun q ν => zkc q.1 = true ∧ E q ν))) ∧ (z2 < 30 → (Call G Y_X6_require [vP (6, 0, r0), vI 1, vI 4] ν2 (rV fun ν6 => Call G Y_X6_command [vP (6, 0, r0)] ν6 (rP fun q4 ν7 => ∃ j2, zix z2 j2 t1 ∧ zlm q4 ∧ Call G Y_X6_semicolon [vP (6, 0, r0)] (zAr ν7 r1 j2 q4) (rV fun ν8 => Wp G Y_X6_commands 8 [(0, vP (6, 0, r0)), (1, vP (206, t1, r1)), (2, vI (z2 + 1))] [] ν8 Q E) (fun q ν => zkc q.1 = true ∧ E q ν)) (fun q ν => zkc q.1 = true ∧ E q ν)) (fun q ν => zkc q.1 = true ∧ E q ν)))) (fun q ν => zkc q.1 = true ∧ E q ν)) (fun q ν => zkc q.1 = true ∧ E q ν)))) : Wp G Y_X6_commands 8 [(0, vP (6, 0, r0)), (1, vP (206, t1, r1)), (2, vI z2)] [] μ Q E := by
  refine Wp_aload_n 0 dX6_commands_8 rfl rfl ?_
  obtain ⟨q1, e1, h⟩ := h
  refine Wg_P 73 q3121 dX6_commands_9 rfl sp_73 rfl rfl e1 ?_
  refine Wp_getsP 2 rfl q3099 dX6_commands_12 rfl ?_
  obtain ⟨hd1, h⟩ := h
  obtain ⟨hd2, h⟩ := h
  refine Wp_acmp_eq (tgt := 63) dX6_commands_15 rfl hd1 hd2 (fun hc => ?_) (fun hc => ?_)
  · replace h := h.1 hc
    refine Wp_aload_n 1 dX6_commands_63 rfl rfl ?_
    exact Wp_areturn dX6_commands_64 rfl (Or.inr ⟨_, rfl⟩) h
  · replace h := h.2 hc
    refine Wp_aload_n 0 dX6_commands_18 rfl rfl ?_
    refine Wp_aload_n 0 dX6_commands_19 rfl rfl ?_
    obtain ⟨q2, e2, hz_q2, h⟩ := h
    refine Wg_P 72 q3120 dX6_commands_20 rfl sp_72 rfl rfl e2 ?_
    refine Wp_statN Y_X1_isCommand [vP q2] K_X1_isCommand KS_X1_isCommand KT_X1_isCommand rfl q3289 dX6_commands_23 (zlt rfl) (Nat.le_of_ble_eq_true rfl) rfl (Call.toI h rfl fun x1 ν1 h => ?_)
    refine Wp_iconst dX6_commands_26 (v := 1) rfl ?_
    refine Wp_vown Y_X6_require (6, 0, r0) [vI x1, vI 1] K_X6_require KI_X6_require qs38 rfl rfl rfl q3148 dX6_commands_27 KS_X6_require (zlt rfl) (Nat.le_of_ble_eq_true rfl) rfl (Call.toV h rfl fun ν2 h => ?_)
    refine Wp_aload_n 0 dX6_commands_30 rfl rfl ?_
    refine Wp_iload_n 2 dX6_commands_31 rfl rfl ?_
    refine Wp_bipush dX6_commands_32 (v := 30) rfl ?_
    refine Wp_icmp_ge (tgt := 41) dX6_commands_34 rfl (fun hc => ?_) (fun hc => ?_)
    · replace h := h.1 (Int32.not_lt.mpr hc)
      refine Wp_iconst dX6_commands_41 (v := 0) rfl ?_
      refine Wp_iconst dX6_commands_42 (v := 4) rfl ?_
      refine Wp_vown Y_X6_require (6, 0, r0) [vI 0, vI 4] K_X6_require KI_X6_require qs38 rfl rfl rfl q3148 dX6_commands_43 KS_X6_require (zlt rfl) (Nat.le_of_ble_eq_true rfl) rfl (Call.toV h rfl fun ν3 h => ?_)
      refine Wp_aload_n 1 dX6_commands_46 rfl rfl ?_
      refine Wp_iload_n 2 dX6_commands_47 rfl rfl ?_
      refine Wp_aload_n 0 dX6_commands_48 rfl rfl ?_
      refine Wp_vown Y_X6_command (6, 0, r0) [] K_X6_command KI_X6_command qs54 rfl rfl rfl q3301 dX6_commands_49 KS_X6_command (zlt rfl) (Nat.le_of_ble_eq_true rfl) rfl (Call.toP h rfl fun q3 ν4 h => ?_)
      obtain ⟨j1, hj1, h⟩ := h
      obtain ⟨h0, h⟩ := h
      refine Wg_aastL dX6_commands_52 h0 hj1 ?_
      refine Wp_aload_n 0 dX6_commands_53 rfl rfl ?_
      refine Wp_vown Y_X6_semicolon (6, 0, r0) [] K_X6_semicolon KI_X6_semicolon qs41 rfl rfl rfl q3188 dX6_commands_54 KS_X6_semicolon (zlt rfl) (Nat.le_of_ble_eq_true rfl) rfl (Call.toV h rfl fun ν5 h => ?_)
      refine Wp_iinc 2 [0, 1, 2] (ls' := [(2, vI (z2 + 1)), (0, vP (6, 0, r0)), (1, vP (206, t1, r1))]) dX6_commands_57 rfl (v := 1) rfl (zlt rfl) rfl ?_
      refine Wp_goto (tgt := 8) dX6_commands_60 rfl ?_
      exact Wp.lcl [1, 2, 0] rfl h
    · replace h := h.2 (Int32.not_le.mp hc)
      refine Wp_iconst dX6_commands_37 (v := 1) rfl ?_
      refine Wp_goto (tgt := 42) dX6_commands_38 rfl ?_
      refine Wp_iconst dX6_commands_42 (v := 4) rfl ?_
      refine Wp_vown Y_X6_require (6, 0, r0) [vI 1, vI 4] K_X6_require KI_X6_require qs38 rfl rfl rfl q3148 dX6_commands_43 KS_X6_require (zlt rfl) (Nat.le_of_ble_eq_true rfl) rfl (Call.toV h rfl fun ν6 h => ?_)
      refine Wp_aload_n 1 dX6_commands_46 rfl rfl ?_
      refine Wp_iload_n 2 dX6_commands_47 rfl rfl ?_
      refine Wp_aload_n 0 dX6_commands_48 rfl rfl ?_
      refine Wp_vown Y_X6_command (6, 0, r0) [] K_X6_command KI_X6_command qs54 rfl rfl rfl q3301 dX6_commands_49 KS_X6_command (zlt rfl) (Nat.le_of_ble_eq_true rfl) rfl (Call.toP h rfl fun q4 ν7 h => ?_)
      obtain ⟨j2, hj2, h⟩ := h
      obtain ⟨h0, h⟩ := h
      refine Wg_aastL dX6_commands_52 h0 hj2 ?_
      refine Wp_aload_n 0 dX6_commands_53 rfl rfl ?_
      refine Wp_vown Y_X6_semicolon (6, 0, r0) [] K_X6_semicolon KI_X6_semicolon qs41 rfl rfl rfl q3188 dX6_commands_54 KS_X6_semicolon (zlt rfl) (Nat.le_of_ble_eq_true rfl) rfl (Call.toV h rfl fun ν8 h => ?_)
      refine Wp_iinc 2 [0, 1, 2] (ls' := [(2, vI (z2 + 1)), (0, vP (6, 0, r0)), (1, vP (206, t1, r1))]) dX6_commands_57 rfl (v := 1) rfl (zlt rfl) rfl ?_
      refine Wp_goto (tgt := 8) dX6_commands_60 rfl ?_
      exact Wp.lcl [1, 2, 0] rfl h
theorem nS_X1_execute {G : ZG} {μ : ZM} {Q : Option ZV → ZM → Prop} {E : ZP → ZM → Prop} {r0 : Nat} {t1 : Nat} {r1 : Nat}
    (h : Wp G Y_X1_execute 2 [(0, vP (2, 0, r0)), (1, vP (206, t1, r1)), (2, vI 0)] [] μ Q E) : Call G Y_X1_execute [vP (2, 0, r0), vP (206, t1, r1)] μ Q E := by
  refine Call.of (Y := Y_X1_execute) rfl (Nat.le_of_ble_eq_true rfl) ?_
  show Wp G Y_X1_execute 0 [(0, vP (2, 0, r0)), (1, vP (206, t1, r1))] [] μ Q E
  refine Wp_iconst dX1_execute_0 (v := 0) rfl ?_
  refine Wp_istore_n [0, 1, 2] (ls' := [(2, vI 0), (0, vP (2, 0, r0)), (1, vP (206, t1, r1))]) dX1_execute_1 rfl (zlt rfl) rfl ?_
  exact Wp.lcl [1, 2, 0] rfl h
theorem nB_X1_execute_2 {G : ZG} {μ : ZM} {Q : Option ZV → ZM → Prop} {E : ZP → ZM → Prop} {r0 : Nat} {t1 : Nat} {r1 : Nat} {z2 : Int32}
    (h : ∃ j1, zix z2 j1 t1 ∧ ∃ q1, zar μ r1 j1 = q1 ∧ (q1.1 = 0 → Q (some (vI z2)) μ) ∧ (¬ q1.1 = 0 → (CallLam G q1 (2, 0, r0) 15 μ (rI fun x1 ν1 => Wp G Y_X1_execute 2 [(0, vP (2, 0, r0)), (1, vP (206, t1, r1)), (2, vI (z2 + 1))] [] ν1 Q E) (fun q ν => zkc q.1 = true ∧ Wx G Y_X1_execute 12 [(0, vP (2, 0, r0)), (1, vP (206, t1, r1)), (2, vI z2)] q ν Q E)))) : Wp G Y_X1_execute 2 [(0, vP (2, 0, r0)), (1, vP (206, t1, r1)), (2, vI z2)] [] μ Q E := by
  refine Wp_aload_n 1 dX1_execute_2 rfl rfl ?_
  refine Wp_iload_n 2 dX1_execute_3 rfl rfl ?_
  obtain ⟨j1, hj1, h⟩ := h
  obtain ⟨q1, e1, h⟩ := h
  refine Wg_aald dX1_execute_4 rfl hj1 e1 ?_
  refine Wp_ifnull (tgt := 24) dX1_execute_5 rfl (fun hc => ?_) (fun hc => ?_)
  · replace h := h.1 hc
    refine Wp_goto (tgt := 30) dX1_execute_24 rfl ?_
    refine Wp_iload_n 2 dX1_execute_30 rfl rfl ?_
    exact Wp_ireturn dX1_execute_31 rfl rfl h
  · replace h := h.2 hc
    refine Wp_aload_n 1 dX1_execute_8 rfl rfl ?_
    refine Wp_iload_n 2 dX1_execute_9 rfl rfl ?_
    refine Wg_aald dX1_execute_10 rfl hj1 e1 ?_
    refine Wp_aload_n 0 dX1_execute_11 rfl rfl ?_
    refine Wp_apply rfl q2941 dX1_execute_12 (Nat.le_of_ble_eq_true rfl) (CallLam.to h fun x1 ν1 h => ?_)
    refine Wp_istore_n [1, 2, 3] (ls' := [(0, vP (2, 0, r0)), (1, vP (206, t1, r1)), (2, vI z2)]) dX1_execute_17 rfl (zlt rfl) rfl ?_
    refine Wp_iinc 2 [0, 1, 2] (ls' := [(2, vI (z2 + 1)), (0, vP (2, 0, r0)), (1, vP (206, t1, r1))]) dX1_execute_18 rfl (v := 1) rfl (zlt rfl) rfl ?_
    refine Wp_goto (tgt := 2) dX1_execute_21 rfl ?_
    exact Wp.lcl [1, 2, 0] rfl h
theorem nS_X1_perform {G : ZG} {μ : ZM} {Q : Option ZV → ZM → Prop} {E : ZP → ZM → Prop} {r0 : Nat} {p1 : ZP}
    (h : ∃ a1, zfr μ 0 r0 = (2, 0, a1) ∧ Call G Y_X2_copy [vP (2, 0, a1)] μ (rP fun q1 ν1 => ∃ b1, q1 = (2, 0, b1) ∧ CallLam G p1 (2, 0, b1) 15 ν1 (rI fun x1 ν2 => Call G Y_X1_record [vP (1, 0, r0), vP (2, 0, b1)] ν2 (rV fun ν3 => Q (some (vI x1)) ν3) (fun q ν => zkc q.1 = true ∧ E q ν)) (fun q ν => zkc q.1 = true ∧ E q ν)) (fun q ν => zkc q.1 = true ∧ E q ν)) : Call G Y_X1_perform [vP (1, 0, r0), vP p1] μ Q E := by
  refine Call.of (Y := Y_X1_perform) rfl (Nat.le_of_ble_eq_true rfl) ?_
  show Wp G Y_X1_perform 0 [(0, vP (1, 0, r0)), (1, vP p1)] [] μ Q E
  refine Wp_aload_n 0 dX1_perform_0 rfl rfl ?_
  obtain ⟨a1, e1, h⟩ := h
  refine Wg_P 0 q1459 dX1_perform_1 rfl sp_0 rfl rfl e1 ?_
  refine Wp_vown Y_X2_copy (2, 0, a1) [] K_X2_copy KI_X2_copy q2352 rfl rfl rfl q2350 dX1_perform_4 KS_X2_copy (zlt rfl) (Nat.le_of_ble_eq_true rfl) rfl (Call.toP h rfl fun q1 ν1 h => ?_)
  obtain ⟨b1, rfl, h⟩ := h
  refine Wp_astore_n [0, 1, 2] (ls' := [(2, vP (2, 0, b1)), (0, vP (1, 0, r0)), (1, vP p1)]) dX1_perform_7 rfl (zlt rfl) rfl ?_
  refine Wp_aload_n 2 dX1_perform_8 rfl rfl ?_
  refine Wp_aload_n 0 dX1_perform_9 rfl rfl ?_
  refine Wp_apply rfl q2941 dX1_perform_10 (Nat.le_of_ble_eq_true rfl) (CallLam.toE h rfl fun x1 ν2 h => ?_)
  refine Wp_istore_n [0, 1, 2] (ls' := [(3, vI x1), (2, vP (2, 0, b1)), (0, vP (1, 0, r0))]) dX1_perform_15 rfl (zlt rfl) rfl ?_
  refine Wp_aload_n 2 dX1_perform_16 rfl rfl ?_
  refine Wp_aload_n 1 dX1_perform_17 rfl rfl ?_
  refine Wp_vown Y_X1_record (1, 0, r0) [vP (2, 0, b1)] K_X1_record KI_X1_record qs34 rfl rfl rfl q2944 dX1_perform_18 KS_X1_record (zlt rfl) (Nat.le_of_ble_eq_true rfl) rfl (Call.toV h rfl fun ν3 h => ?_)
  refine Wp_iload_n 0 dX1_perform_21 rfl rfl ?_
  exact Wp_ireturn dX1_perform_22 rfl rfl h
theorem nS_X1_passDays {G : ZG} {μ : ZM} {Q : Option ZV → ZM → Prop} {E : ZP → ZM → Prop} {r0 : Nat} {z1 : Int32}
    (h : Call G Y_X1_inRange [vL z1.toInt64, vL 1, vL 60] μ (rI fun x1 ν1 => Call G Y_X1_checkArgument [vI x1] ν1 (rV fun ν2 => Call G Y_X1_perform [vP (1, 0, r0), vP (308, 1, zsz ν2)] (zAi (zNew ν2 308 1 1) (zsz ν2) 0 z1) (rI fun x2 ν3 => Q (some (vI x2)) ν3) (fun q ν => zkc q.1 = true ∧ E q ν)) (fun q ν => zkc q.1 = true ∧ E q ν)) (fun q ν => zkc q.1 = true ∧ E q ν)) : Call G Y_X1_passDays [vP (1, 0, r0), vI z1] μ Q E := by
  refine Call.of (Y := Y_X1_passDays) rfl (Nat.le_of_ble_eq_true rfl) ?_
  show Wp G Y_X1_passDays 0 [(0, vP (1, 0, r0)), (1, vI z1)] [] μ Q E
  refine Wp_iload_n 1 dX1_passDays_0 rfl rfl ?_
  refine Wp_i2l dX1_passDays_1 ?_
  refine Wp_lconst dX1_passDays_2 (v := 1) rfl ?_
  refine Wp_ldc2 rfl q3725 dX1_passDays_3 ?_
  refine Wp_stat Y_X1_inRange [vL z1.toInt64, vL 1, vL 60] K_X1_inRange KS_X1_inRange KT_X1_inRange rfl q1530 dX1_passDays_6 (zlt rfl) (Nat.le_of_ble_eq_true rfl) rfl (Call.toI h rfl fun x1 ν1 h => ?_)
  refine Wp_stat Y_X1_checkArgument [vI x1] K_X1_checkArgument KS_X1_checkArgument KT_X1_checkArgument rfl q3068 dX1_passDays_9 (zlt rfl) (Nat.le_of_ble_eq_true rfl) rfl (Call.toV h rfl fun ν2 h => ?_)
  refine Wp_aload_n 0 dX1_passDays_12 rfl rfl ?_
  refine Wp_iload_n 1 dX1_passDays_13 rfl rfl ?_
  refine Wp_lam1 8 rfl rfl rfl rfl dX1_passDays_14 (Nat.le_of_ble_eq_true rfl) ?_
  refine Wp_vown Y_X1_perform (1, 0, r0) [vP (308, 1, zsz ν2)] K_X1_perform KI_X1_perform qs31 rfl rfl rfl q2346 dX1_passDays_19 KS_X1_perform (zlt rfl) (Nat.le_of_ble_eq_true rfl) rfl (Call.toI h rfl fun x2 ν3 h => ?_)
  exact Wp_ireturn dX1_passDays_22 rfl rfl h
theorem nS_X1_test {G : ZG} {μ : ZM} {Q : Option ZV → ZM → Prop} {E : ZP → ZM → Prop} {r0 : Nat} {z1 : Int32} {z2 : Int32}
    (h : Call G Y_X1_checkPair [vP (1, 0, r0), vI z1, vI z2] μ (rV fun ν1 => Call G Y_X1_perform [vP (1, 0, r0), vP (309, 2, zsz ν1)] (zAi (zAi (zNew ν1 309 2 2) (zsz ν1) 0 z1) (zsz ν1) 1 z2) (rI fun x1 ν2 => Q (some (vI x1)) ν2) (fun q ν => zkc q.1 = true ∧ E q ν)) (fun q ν => zkc q.1 = true ∧ E q ν)) : Call G Y_X1_test [vP (1, 0, r0), vI z1, vI z2] μ Q E := by
  refine Call.of (Y := Y_X1_test) rfl (Nat.le_of_ble_eq_true rfl) ?_
  show Wp G Y_X1_test 0 [(0, vP (1, 0, r0)), (1, vI z1), (2, vI z2)] [] μ Q E
  refine Wp_aload_n 0 dX1_test_0 rfl rfl ?_
  refine Wp_iload_n 1 dX1_test_1 rfl rfl ?_
  refine Wp_iload_n 2 dX1_test_2 rfl rfl ?_
  refine Wp_vown Y_X1_checkPair (1, 0, r0) [vI z1, vI z2] K_X1_checkPair KI_X1_checkPair qs67 rfl rfl rfl q3594 dX1_test_3 KS_X1_checkPair (zlt rfl) (Nat.le_of_ble_eq_true rfl) rfl (Call.toV h rfl fun ν1 h => ?_)
  refine Wp_aload_n 0 dX1_test_6 rfl rfl ?_
  refine Wp_iload_n 1 dX1_test_7 rfl rfl ?_
  refine Wp_iload_n 2 dX1_test_8 rfl rfl ?_
  refine Wp_lam2 9 rfl rfl rfl rfl dX1_test_9 (Nat.le_of_ble_eq_true rfl) ?_
  refine Wp_vown Y_X1_perform (1, 0, r0) [vP (309, 2, zsz ν1)] K_X1_perform KI_X1_perform qs31 rfl rfl rfl q2346 dX1_test_14 KS_X1_perform (zlt rfl) (Nat.le_of_ble_eq_true rfl) rfl (Call.toI h rfl fun x1 ν2 h => ?_)
  exact Wp_ireturn dX1_test_17 rfl rfl h
theorem nS_X1_dismiss {G : ZG} {μ : ZM} {Q : Option ZV → ZM → Prop} {E : ZP → ZM → Prop} {r0 : Nat} {z1 : Int32}
    (h : Call G Y_X1_echoAt [vP (1, 0, r0), vI z1] μ (rP fun q1 ν1 => ∃ b1, q1 = (3, 0, b1) ∧ Call G Y_X1_perform [vP (1, 0, r0), vP (310, 1, zsz ν1)] (zAi (zNew ν1 310 1 1) (zsz ν1) 0 z1) (rI fun x1 ν2 => Q (some (vI x1)) ν2) (fun q ν => zkc q.1 = true ∧ E q ν)) (fun q ν => zkc q.1 = true ∧ E q ν)) : Call G Y_X1_dismiss [vP (1, 0, r0), vI z1] μ Q E := by
  refine Call.of (Y := Y_X1_dismiss) rfl (Nat.le_of_ble_eq_true rfl) ?_
  show Wp G Y_X1_dismiss 0 [(0, vP (1, 0, r0)), (1, vI z1)] [] μ Q E
  refine Wp_aload_n 0 dX1_dismiss_0 rfl rfl ?_
  refine Wp_iload_n 1 dX1_dismiss_1 rfl rfl ?_
  refine Wp_vown Y_X1_echoAt (1, 0, r0) [vI z1] K_X1_echoAt KI_X1_echoAt qs65 rfl rfl rfl q3477 dX1_dismiss_2 KS_X1_echoAt (zlt rfl) (Nat.le_of_ble_eq_true rfl) rfl (Call.toP h rfl fun q1 ν1 h => ?_)
  obtain ⟨b1, rfl, h⟩ := h
  refine Wp_astore_n [1, 2] (ls' := [(0, vP (1, 0, r0)), (1, vI z1)]) dX1_dismiss_5 rfl (zlt rfl) rfl ?_
  refine Wp_aload_n 0 dX1_dismiss_6 rfl rfl ?_
  refine Wp_iload_n 1 dX1_dismiss_7 rfl rfl ?_
  refine Wp_lam1 10 rfl rfl rfl rfl dX1_dismiss_8 (Nat.le_of_ble_eq_true rfl) ?_
  refine Wp_vown Y_X1_perform (1, 0, r0) [vP (310, 1, zsz ν1)] K_X1_perform KI_X1_perform qs31 rfl rfl rfl q2346 dX1_dismiss_13 KS_X1_perform (zlt rfl) (Nat.le_of_ble_eq_true rfl) rfl (Call.toI h rfl fun x1 ν2 h => ?_)
  exact Wp_ireturn dX1_dismiss_16 rfl rfl h
theorem nS_X1_setWage {G : ZG} {μ : ZM} {Q : Option ZV → ZM → Prop} {E : ZP → ZM → Prop} {r0 : Nat} {z1 : Int32} {z2 : Int32}
    (h : Call G Y_X1_valleyAt [vP (1, 0, r0), vI z1] μ (rP fun q1 ν1 => ∃ b1, q1 = (4, 0, b1) ∧ Call G Y_X1_inRange [vL z2.toInt64, vL 1, vL 99] ν1 (rI fun x1 ν2 => Call G Y_X1_checkArgument [vI x1] ν2 (rV fun ν3 => Call G Y_X1_perform [vP (1, 0, r0), vP (311, 2, zsz ν3)] (zAi (zAi (zNew ν3 311 2 2) (zsz ν3) 0 z1) (zsz ν3) 1 z2) (rI fun x2 ν4 => Q (some (vI x2)) ν4) (fun q ν => zkc q.1 = true ∧ E q ν)) (fun q ν => zkc q.1 = true ∧ E q ν)) (fun q ν => zkc q.1 = true ∧ E q ν)) (fun q ν => zkc q.1 = true ∧ E q ν)) : Call G Y_X1_setWage [vP (1, 0, r0), vI z1, vI z2] μ Q E := by
  refine Call.of (Y := Y_X1_setWage) rfl (Nat.le_of_ble_eq_true rfl) ?_
  show Wp G Y_X1_setWage 0 [(0, vP (1, 0, r0)), (1, vI z1), (2, vI z2)] [] μ Q E
  refine Wp_aload_n 0 dX1_setWage_0 rfl rfl ?_
  refine Wp_iload_n 1 dX1_setWage_1 rfl rfl ?_
  refine Wp_vown Y_X1_valleyAt (1, 0, r0) [vI z1] K_X1_valleyAt KI_X1_valleyAt qs66 rfl rfl rfl q3548 dX1_setWage_2 KS_X1_valleyAt (zlt rfl) (Nat.le_of_ble_eq_true rfl) rfl (Call.toP h rfl fun q1 ν1 h => ?_)
  obtain ⟨b1, rfl, h⟩ := h
  refine Wp_astore_n [1, 2, 3] (ls' := [(0, vP (1, 0, r0)), (1, vI z1), (2, vI z2)]) dX1_setWage_5 rfl (zlt rfl) rfl ?_
  refine Wp_iload_n 2 dX1_setWage_6 rfl rfl ?_
  refine Wp_i2l dX1_setWage_7 ?_
  refine Wp_lconst dX1_setWage_8 (v := 1) rfl ?_
  refine Wp_ldc2 rfl q3756 dX1_setWage_9 ?_
  refine Wp_stat Y_X1_inRange [vL z2.toInt64, vL 1, vL 99] K_X1_inRange KS_X1_inRange KT_X1_inRange rfl q1530 dX1_setWage_12 (zlt rfl) (Nat.le_of_ble_eq_true rfl) rfl (Call.toI h rfl fun x1 ν2 h => ?_)
  refine Wp_stat Y_X1_checkArgument [vI x1] K_X1_checkArgument KS_X1_checkArgument KT_X1_checkArgument rfl q3068 dX1_setWage_15 (zlt rfl) (Nat.le_of_ble_eq_true rfl) rfl (Call.toV h rfl fun ν3 h => ?_)
  refine Wp_aload_n 0 dX1_setWage_18 rfl rfl ?_
  refine Wp_iload_n 1 dX1_setWage_19 rfl rfl ?_
  refine Wp_iload_n 2 dX1_setWage_20 rfl rfl ?_
  refine Wp_lam2 11 rfl rfl rfl rfl dX1_setWage_21 (Nat.le_of_ble_eq_true rfl) ?_
  refine Wp_vown Y_X1_perform (1, 0, r0) [vP (311, 2, zsz ν3)] K_X1_perform KI_X1_perform qs31 rfl rfl rfl q2346 dX1_setWage_26 KS_X1_perform (zlt rfl) (Nat.le_of_ble_eq_true rfl) rfl (Call.toI h rfl fun x2 ν4 h => ?_)
  exact Wp_ireturn dX1_setWage_29 rfl rfl h
theorem nS_X1_fund {G : ZG} {μ : ZM} {Q : Option ZV → ZM → Prop} {E : ZP → ZM → Prop} {r0 : Nat} {z1 : Int32} {z2 : Int32}
    (h : Call G Y_X1_valleyAt [vP (1, 0, r0), vI z1] μ (rP fun q1 ν1 => ∃ b1, q1 = (4, 0, b1) ∧ Call G Y_X1_inRange [vL z2.toInt64, vL 1, vL 999] ν1 (rI fun x1 ν2 => Call G Y_X1_checkArgument [vI x1] ν2 (rV fun ν3 => Call G Y_X1_perform [vP (1, 0, r0), vP (312, 2, zsz ν3)] (zAi (zAi (zNew ν3 312 2 2) (zsz ν3) 0 z1) (zsz ν3) 1 z2) (rI fun x2 ν4 => Q (some (vI x2)) ν4) (fun q ν => zkc q.1 = true ∧ E q ν)) (fun q ν => zkc q.1 = true ∧ E q ν)) (fun q ν => zkc q.1 = true ∧ E q ν)) (fun q ν => zkc q.1 = true ∧ E q ν)) : Call G Y_X1_fund [vP (1, 0, r0), vI z1, vI z2] μ Q E := by
  refine Call.of (Y := Y_X1_fund) rfl (Nat.le_of_ble_eq_true rfl) ?_
  show Wp G Y_X1_fund 0 [(0, vP (1, 0, r0)), (1, vI z1), (2, vI z2)] [] μ Q E
  refine Wp_aload_n 0 dX1_fund_0 rfl rfl ?_
  refine Wp_iload_n 1 dX1_fund_1 rfl rfl ?_
  refine Wp_vown Y_X1_valleyAt (1, 0, r0) [vI z1] K_X1_valleyAt KI_X1_valleyAt qs66 rfl rfl rfl q3548 dX1_fund_2 KS_X1_valleyAt (zlt rfl) (Nat.le_of_ble_eq_true rfl) rfl (Call.toP h rfl fun q1 ν1 h => ?_)
  obtain ⟨b1, rfl, h⟩ := h
  refine Wp_astore_n [1, 2, 3] (ls' := [(0, vP (1, 0, r0)), (1, vI z1), (2, vI z2)]) dX1_fund_5 rfl (zlt rfl) rfl ?_
  refine Wp_iload_n 2 dX1_fund_6 rfl rfl ?_
  refine Wp_i2l dX1_fund_7 ?_
  refine Wp_lconst dX1_fund_8 (v := 1) rfl ?_
  refine Wp_ldc2 rfl q3767 dX1_fund_9 ?_
  refine Wp_stat Y_X1_inRange [vL z2.toInt64, vL 1, vL 999] K_X1_inRange KS_X1_inRange KT_X1_inRange rfl q1530 dX1_fund_12 (zlt rfl) (Nat.le_of_ble_eq_true rfl) rfl (Call.toI h rfl fun x1 ν2 h => ?_)
  refine Wp_stat Y_X1_checkArgument [vI x1] K_X1_checkArgument KS_X1_checkArgument KT_X1_checkArgument rfl q3068 dX1_fund_15 (zlt rfl) (Nat.le_of_ble_eq_true rfl) rfl (Call.toV h rfl fun ν3 h => ?_)
  refine Wp_aload_n 0 dX1_fund_18 rfl rfl ?_
  refine Wp_iload_n 1 dX1_fund_19 rfl rfl ?_
  refine Wp_iload_n 2 dX1_fund_20 rfl rfl ?_
  refine Wp_lam2 12 rfl rfl rfl rfl dX1_fund_21 (Nat.le_of_ble_eq_true rfl) ?_
  refine Wp_vown Y_X1_perform (1, 0, r0) [vP (312, 2, zsz ν3)] K_X1_perform KI_X1_perform qs31 rfl rfl rfl q2346 dX1_fund_26 KS_X1_perform (zlt rfl) (Nat.le_of_ble_eq_true rfl) rfl (Call.toI h rfl fun x2 ν4 h => ?_)
  exact Wp_ireturn dX1_fund_29 rfl rfl h
theorem nS_X1_train {G : ZG} {μ : ZM} {Q : Option ZV → ZM → Prop} {E : ZP → ZM → Prop} {r0 : Nat} {z1 : Int32}
    (h : Call G Y_X1_echoAt [vP (1, 0, r0), vI z1] μ (rP fun q1 ν1 => ∃ b1, q1 = (3, 0, b1) ∧ Call G Y_X1_perform [vP (1, 0, r0), vP (313, 1, zsz ν1)] (zAi (zNew ν1 313 1 1) (zsz ν1) 0 z1) (rI fun x1 ν2 => Q (some (vI x1)) ν2) (fun q ν => zkc q.1 = true ∧ E q ν)) (fun q ν => zkc q.1 = true ∧ E q ν)) : Call G Y_X1_train [vP (1, 0, r0), vI z1] μ Q E := by
  refine Call.of (Y := Y_X1_train) rfl (Nat.le_of_ble_eq_true rfl) ?_
  show Wp G Y_X1_train 0 [(0, vP (1, 0, r0)), (1, vI z1)] [] μ Q E
  refine Wp_aload_n 0 dX1_train_0 rfl rfl ?_
  refine Wp_iload_n 1 dX1_train_1 rfl rfl ?_
  refine Wp_vown Y_X1_echoAt (1, 0, r0) [vI z1] K_X1_echoAt KI_X1_echoAt qs65 rfl rfl rfl q3477 dX1_train_2 KS_X1_echoAt (zlt rfl) (Nat.le_of_ble_eq_true rfl) rfl (Call.toP h rfl fun q1 ν1 h => ?_)
  obtain ⟨b1, rfl, h⟩ := h
  refine Wp_astore_n [1, 2] (ls' := [(0, vP (1, 0, r0)), (1, vI z1)]) dX1_train_5 rfl (zlt rfl) rfl ?_
  refine Wp_aload_n 0 dX1_train_6 rfl rfl ?_
  refine Wp_iload_n 1 dX1_train_7 rfl rfl ?_
  refine Wp_lam1 13 rfl rfl rfl rfl dX1_train_8 (Nat.le_of_ble_eq_true rfl) ?_
  refine Wp_vown Y_X1_perform (1, 0, r0) [vP (313, 1, zsz ν1)] K_X1_perform KI_X1_perform qs31 rfl rfl rfl q2346 dX1_train_13 KS_X1_perform (zlt rfl) (Nat.le_of_ble_eq_true rfl) rfl (Call.toI h rfl fun x1 ν2 h => ?_)
  exact Wp_ireturn dX1_train_16 rfl rfl h
theorem nS_X1_holdFair {G : ZG} {μ : ZM} {Q : Option ZV → ZM → Prop} {E : ZP → ZM → Prop} {r0 : Nat}
    (h : ∃ a1, zgS G 200 = (300, 0, a1) ∧ Call G Y_X1_perform [vP (1, 0, r0), vP (300, 0, a1)] μ (rI fun x1 ν1 => Q (some (vI x1)) ν1) (fun q ν => zkc q.1 = true ∧ E q ν)) : Call G Y_X1_holdFair [vP (1, 0, r0)] μ Q E := by
  refine Call.of (Y := Y_X1_holdFair) rfl (Nat.le_of_ble_eq_true rfl) ?_
  show Wp G Y_X1_holdFair 0 [(0, vP (1, 0, r0))] [] μ Q E
  refine Wp_aload_n 0 dX1_holdFair_0 rfl rfl ?_
  obtain ⟨a1, e1, h⟩ := h
  refine Wp_lamK 0 rfl rfl rfl rfl dX1_holdFair_1 e1 (Nat.le_of_ble_eq_true rfl) ?_
  refine Wp_vown Y_X1_perform (1, 0, r0) [vP (300, 0, a1)] K_X1_perform KI_X1_perform qs31 rfl rfl rfl q2346 dX1_holdFair_6 KS_X1_perform (zlt rfl) (Nat.le_of_ble_eq_true rfl) rfl (Call.toI h rfl fun x1 ν1 h => ?_)
  exact Wp_ireturn dX1_holdFair_9 rfl rfl h
